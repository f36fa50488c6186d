/-! BlindCardsModel -/
set_option maxRecDepth 100000
def RX10 : String := "BlindCardsModel"
def TX10 : u_T := fun k => match k with
  | 0 => ("BlindCardsModel", "tape", "[B", true)
  | 1 => ("BlindCardsModel", "text", "[B", true)
  | 2 => ("BlindCardsModel", "taped", "I", false)
  | 3 => ("BlindCardsModel", "size", "I", false)
  | 4 => ("BlindCardsModel", "faultKind", "I", false)
  | 5 => ("BlindCardsModel", "faultPlace", "I", false)
  | 6 => ("BlindCardsModel", "at", "I", false)
  | 7 => ("BlindCardsModel", "end", "I", false)
  | 8 => ("BlindCardsModel", "token", "I", false)
  | 9 => ("BlindCardsModel", "number", "I", false)
  | 10 => ("BlindCardsModel", "name", "J", false)
  | 11 => ("BlindCardsModel", "lastAt", "I", false)
  | 12 => ("BlindCardsModel", "people", "[I", true)
  | 13 => ("BlindCardsModel", "steps", "[I", true)
  | 14 => ("BlindCardsModel", "moves", "[I", true)
  | 15 => ("BlindCardsModel", "opens", "[I", true)
  | 16 => ("BlindCardsModel", "stepOpens", "[I", true)
  | 17 => ("BlindCardsModel", "mixes", "[I", true)
  | 18 => ("BlindCardsModel", "unitsOf", "[I", true)
  | 19 => ("BlindCardsModel", "aTo", "[I", true)
  | 20 => ("BlindCardsModel", "isPeople", "[Z", true)
  | 21 => ("BlindCardsModel", "isAsks", "[Z", true)
  | 22 => ("BlindCardsModel", "type", "[I", true)
  | 23 => ("BlindCardsModel", "one", "[I", true)
  | 24 => ("BlindCardsModel", "two", "[I", true)
  | 25 => ("BlindCardsModel", "three", "[I", true)
  | 26 => ("BlindCardsModel", "many", "[I", true)
  | 27 => ("BlindCardsModel", "list", "[I", true)
  | 28 => ("BlindCardsModel", "goAt", "[I", true)
  | 29 => ("BlindCardsModel", "label", "[J", true)
  | 30 => ("BlindCardsModel", "code", "[I", true)
  | 31 => ("BlindCardsModel", "codeNumber", "[I", true)
  | 32 => ("BlindCardsModel", "eWhat", "[I", true)
  | 33 => ("BlindCardsModel", "eSign", "[I", true)
  | 34 => ("BlindCardsModel", "pile", "[I", true)
  | 35 => ("BlindCardsModel", "bank", "I", false)
  | 36 => ("BlindCardsModel", "rb", "I", false)
  | 37 => ("BlindCardsModel", "codes", "I", false)
  | 38 => ("BlindCardsModel", "within", "I", false)
  | 39 => ("BlindCardsModel", "piled", "I", false)
  | 40 => ("BlindCardsModel", "laidAny", "Z", false)
  | 41 => ("BlindCardsModel", "from", "[I", true)
  | 42 => ("BlindCardsModel", "left", "[I", true)
  | 43 => ("BlindCardsModel", "dist", "[J", true)
  | 44 => ("BlindCardsModel", "down", "[J", true)
  | 45 => ("BlindCardsModel", "pc", "[I", true)
  | 46 => ("BlindCardsModel", "cards", "[I", true)
  | 47 => ("BlindCardsModel", "known", "[I", true)
  | 48 => ("BlindCardsModel", "seen", "[I", true)
  | 49 => ("BlindCardsModel", "kind", "[I", true)
  | 50 => ("BlindCardsModel", "child", "[I", true)
  | 51 => ("BlindCardsModel", "mode", "I", false)
  | 52 => ("BlindCardsModel", "which", "I", false)
  | 53 => ("BlindCardsModel", "colour", "I", false)
  | 54 => ("BlindCardsModel", "endStep", "I", false)
  | 55 => ("BlindCardsModel", "leaves", "I", false)
  | 56 => ("BlindCardsModel", "askedRow", "[I", true)
  | 57 => ("BlindCardsModel", "lookMany", "[I", true)
  | 58 => ("BlindCardsModel", "pLook", "[I", true)
  | 59 => ("BlindCardsModel", "pEnds", "[I", true)
  | 60 => ("BlindCardsModel", "pSays", "[I", true)
  | 61 => ("BlindCardsModel", "pWays", "[J", true)
  | 62 => ("BlindCardsModel", "pDown", "[J", true)
  | 63 => ("BlindCardsModel", "paths", "I", false)
  | 64 => ("BlindCardsModel", "allEnds", "I", false)
  | 65 => ("BlindCardsModel", "isSpent", "Z", false)
  | 66 => ("BlindCardsModel", "isUnlike", "Z", false)
  | 67 => ("BlindCardsModel", "isSecret", "Z", false)
  | 68 => ("BlindCardsModel", "startCards", "I", false)
  | 69 => ("BlindCardsModel", "found", "I", false)
  | 70 => ("BlindCardsModel", "foundOpen", "I", false)
  | 71 => ("BlindCardsModel", "seenBy", "[J", true)
  | 72 => ("BlindCardsModel", "w", "I", false)
  | 73 => ("BlindCardsModel", "gameAnswer", "I", false)
  | 74 => ("BlindCardsModel", "gameSteps", "I", false)
  | 75 => ("BlindCardsModel", "gameRow", "I", false)
  | 76 => ("BlindCardsModel", "gameCards", "I", false)
  | 77 => ("BlindCardsModel", "hasGame", "Z", false)
  | 78 => ("BlindCardsModel", "gameLooks", "[I", true)
  | 79 => ("BlindCardsModel", "lPath", "[I", true)
  | 80 => ("BlindCardsModel", "lTold", "[I", true)
  | 81 => ("BlindCardsModel", "lUntold", "[I", true)
  | 82 => ("BlindCardsModel", "looks", "I", false)
  | 83 => ("BlindCardsModel", "time", "I", false)
  | 84 => ("BlindCardsModel", "boxMany", "[I", true)
  | 85 => ("BlindCardsModel", "boxW", "[I", true)
  | 86 => ("BlindCardsModel", "boxPath", "[I", true)
  | 87 => ("BlindCardsModel", "boxTold", "[I", true)
  | _ => ("BlindCardsModel", "boxUntold", "[I", true)
def tyX10 : Nat → FieldType := fun k => match k with
  | 0 => .array .byte
  | 1 => .array .byte
  | 2 => .int
  | 3 => .int
  | 4 => .int
  | 5 => .int
  | 6 => .int
  | 7 => .int
  | 8 => .int
  | 9 => .int
  | 10 => .long
  | 11 => .int
  | 12 => .array .int
  | 13 => .array .int
  | 14 => .array .int
  | 15 => .array .int
  | 16 => .array .int
  | 17 => .array .int
  | 18 => .array .int
  | 19 => .array .int
  | 20 => .array .boolean
  | 21 => .array .boolean
  | 22 => .array .int
  | 23 => .array .int
  | 24 => .array .int
  | 25 => .array .int
  | 26 => .array .int
  | 27 => .array .int
  | 28 => .array .int
  | 29 => .array .long
  | 30 => .array .int
  | 31 => .array .int
  | 32 => .array .int
  | 33 => .array .int
  | 34 => .array .int
  | 35 => .int
  | 36 => .int
  | 37 => .int
  | 38 => .int
  | 39 => .int
  | 40 => .boolean
  | 41 => .array .int
  | 42 => .array .int
  | 43 => .array .long
  | 44 => .array .long
  | 45 => .array .int
  | 46 => .array .int
  | 47 => .array .int
  | 48 => .array .int
  | 49 => .array .int
  | 50 => .array .int
  | 51 => .int
  | 52 => .int
  | 53 => .int
  | 54 => .int
  | 55 => .int
  | 56 => .array .int
  | 57 => .array .int
  | 58 => .array .int
  | 59 => .array .int
  | 60 => .array .int
  | 61 => .array .long
  | 62 => .array .long
  | 63 => .int
  | 64 => .int
  | 65 => .boolean
  | 66 => .boolean
  | 67 => .boolean
  | 68 => .int
  | 69 => .int
  | 70 => .int
  | 71 => .array .long
  | 72 => .int
  | 73 => .int
  | 74 => .int
  | 75 => .int
  | 76 => .int
  | 77 => .boolean
  | 78 => .array .int
  | 79 => .array .int
  | 80 => .array .int
  | 81 => .array .int
  | 82 => .int
  | 83 => .int
  | 84 => .array .int
  | 85 => .array .int
  | 86 => .array .int
  | 87 => .array .int
  | _ => .array .int
abbrev wsX100 : List Cond := u_ws RX10 TX10 89
set_option maxRecDepth 100000 in
theorem nmX10 : ∀ a, a < 89 → ∀ b, b < 89 → a ≠ b → (TX10 a).2.1 ≠ (TX10 b).2.1 := by decide +kernel
set_option maxRecDepth 100000 in
theorem tyX10_ok : ∀ k, k < 89 → parseFieldDescriptor (TX10 k).2.2.1 = some (tyX10 k) := by decide +kernel
abbrev cX10_init : ByteArray := prog_32_method_1_code
def yX10_init : MethodName := ⟨RX10, "<init>", "()V"⟩
def dkwX10_init_19 : List UInt8 := [180, 0, 162, 27, 2, 79, 132, 1, 1, 167, 255, 241, 177]
abbrev dktX10_init_19 : List UInt8 := dkwX10_init_19 ++ []
def dkwX10_init_18 : List UInt8 := [16, 60, 188, 10, 181, 0, 174, 42, 182, 0, 177, 42, 182, 0, 180, 3, 60, 27, 6, 162, 0, 16, 42]
abbrev dktX10_init_18 : List UInt8 := dkwX10_init_18 ++ dktX10_init_19
def dkwX10_init_17 : List UInt8 := [6, 188, 10, 181, 0, 165, 42, 16, 60, 188, 10, 181, 0, 168, 42, 16, 60, 188, 10, 181, 0, 171, 42]
abbrev dktX10_init_17 : List UInt8 := dkwX10_init_17 ++ dktX10_init_18
def dkwX10_init_16 : List UInt8 := [42, 16, 20, 188, 10, 181, 0, 156, 42, 16, 20, 188, 10, 181, 0, 159, 42, 6, 188, 10, 181, 0, 162, 42]
abbrev dktX10_init_16 : List UInt8 := dkwX10_init_16 ++ dktX10_init_17
def dkwX10_init_15 : List UInt8 := [181, 0, 144, 42, 4, 181, 0, 147, 42, 16, 6, 188, 10, 181, 0, 150, 42, 16, 20, 188, 10, 181, 0, 153]
abbrev dktX10_init_15 : List UInt8 := dkwX10_init_15 ++ dktX10_init_16
def dkwX10_init_14 : List UInt8 := [17, 6, 64, 188, 11, 181, 0, 138, 42, 17, 0, 200, 188, 11, 181, 0, 141, 42, 17, 8, 0, 188, 11]
abbrev dktX10_init_14 : List UInt8 := dkwX10_init_14 ++ dktX10_init_15
def dkwX10_init_13 : List UInt8 := [188, 10, 181, 0, 129, 42, 17, 6, 64, 188, 10, 181, 0, 132, 42, 17, 0, 200, 188, 10, 181, 0, 135, 42]
abbrev dktX10_init_13 : List UInt8 := dkwX10_init_13 ++ dktX10_init_14
def dkwX10_init_12 : List UInt8 := [181, 0, 120, 42, 16, 8, 188, 10, 181, 0, 123, 42, 17, 0, 200, 188, 10, 181, 0, 126, 42, 17, 4, 176]
abbrev dktX10_init_12 : List UInt8 := dkwX10_init_12 ++ dktX10_init_13
def dkwX10_init_11 : List UInt8 := [181, 0, 111, 42, 16, 16, 188, 10, 181, 0, 114, 42, 16, 16, 188, 10, 181, 0, 117, 42, 16, 16, 188, 10]
abbrev dktX10_init_11 : List UInt8 := dkwX10_init_11 ++ dktX10_init_12
def dkwX10_init_10 : List UInt8 := [181, 0, 102, 42, 16, 16, 188, 10, 181, 0, 105, 42, 16, 16, 188, 10, 181, 0, 108, 42, 16, 16, 188, 10]
abbrev dktX10_init_10 : List UInt8 := dkwX10_init_10 ++ dktX10_init_11
def dkwX10_init_9 : List UInt8 := [181, 0, 92, 42, 16, 8, 188, 10, 181, 0, 95, 42, 18, 98, 188, 11, 181, 0, 99, 42, 16, 16, 188, 11]
abbrev dktX10_init_9 : List UInt8 := dkwX10_init_9 ++ dktX10_init_10
def dkwX10_init_8 : List UInt8 := [181, 0, 83, 42, 16, 90, 188, 10, 181, 0, 86, 42, 16, 70, 188, 10, 181, 0, 89, 42, 16, 8, 188, 10]
abbrev dktX10_init_8 : List UInt8 := dkwX10_init_8 ++ dktX10_init_9
def dkwX10_init_7 : List UInt8 := [17, 3, 32, 188, 10, 181, 0, 77, 42, 17, 3, 32, 188, 10, 181, 0, 80, 42, 16, 90, 188, 10]
abbrev dktX10_init_7 : List UInt8 := dkwX10_init_7 ++ dktX10_init_8
def dkwX10_init_6 : List UInt8 := [188, 10, 181, 0, 67, 42, 16, 104, 188, 10, 181, 0, 70, 42, 16, 104, 188, 11, 181, 0, 73, 42]
abbrev dktX10_init_6 : List UInt8 := dkwX10_init_6 ++ dktX10_init_7
def dkwX10_init_5 : List UInt8 := [181, 0, 58, 42, 16, 104, 188, 10, 181, 0, 61, 42, 16, 104, 188, 10, 181, 0, 64, 42, 17, 3, 64]
abbrev dktX10_init_5 : List UInt8 := dkwX10_init_5 ++ dktX10_init_6
def dkwX10_init_4 : List UInt8 := [181, 0, 49, 42, 16, 104, 188, 10, 181, 0, 52, 42, 16, 104, 188, 10, 181, 0, 55, 42, 16, 104, 188, 10]
abbrev dktX10_init_4 : List UInt8 := dkwX10_init_4 ++ dktX10_init_5
def dkwX10_init_3 : List UInt8 := [188, 10, 181, 0, 39, 42, 5, 188, 10, 181, 0, 42, 42, 5, 188, 4, 181, 0, 45, 42, 5, 188, 4]
abbrev dktX10_init_3 : List UInt8 := dkwX10_init_3 ++ dktX10_init_4
def dkwX10_init_2 : List UInt8 := [42, 5, 188, 10, 181, 0, 30, 42, 5, 188, 10, 181, 0, 33, 42, 5, 188, 10, 181, 0, 36, 42, 5]
abbrev dktX10_init_2 : List UInt8 := dkwX10_init_2 ++ dktX10_init_3
def dkwX10_init_1 : List UInt8 := [181, 0, 16, 42, 5, 188, 10, 181, 0, 20, 42, 5, 188, 10, 181, 0, 24, 42, 5, 188, 10, 181, 0, 27]
abbrev dktX10_init_1 : List UInt8 := dkwX10_init_1 ++ dktX10_init_2
def dkwX10_init_0 : List UInt8 := [42, 183, 0, 1, 42, 17, 6, 84, 188, 8, 181, 0, 7, 42, 17, 6, 64, 188, 8, 181, 0, 13, 42, 2]
abbrev dktX10_init_0 : List UInt8 := dkwX10_init_0 ++ dktX10_init_1
theorem dksX10_init_0 : cX10_init.data.toList.drop 0 = dktX10_init_0 := by decide +kernel
theorem dksX10_init_1 : cX10_init.data.toList.drop 24 = dktX10_init_1 := dk_seg dksX10_init_0 24 rfl rfl
theorem dksX10_init_2 : cX10_init.data.toList.drop 48 = dktX10_init_2 := dk_seg dksX10_init_1 24 rfl rfl
theorem dksX10_init_3 : cX10_init.data.toList.drop 71 = dktX10_init_3 := dk_seg dksX10_init_2 23 rfl rfl
theorem dksX10_init_4 : cX10_init.data.toList.drop 94 = dktX10_init_4 := dk_seg dksX10_init_3 23 rfl rfl
theorem dksX10_init_5 : cX10_init.data.toList.drop 118 = dktX10_init_5 := dk_seg dksX10_init_4 24 rfl rfl
theorem dksX10_init_6 : cX10_init.data.toList.drop 141 = dktX10_init_6 := dk_seg dksX10_init_5 23 rfl rfl
theorem dksX10_init_7 : cX10_init.data.toList.drop 163 = dktX10_init_7 := dk_seg dksX10_init_6 22 rfl rfl
theorem dksX10_init_8 : cX10_init.data.toList.drop 185 = dktX10_init_8 := dk_seg dksX10_init_7 22 rfl rfl
theorem dksX10_init_9 : cX10_init.data.toList.drop 209 = dktX10_init_9 := dk_seg dksX10_init_8 24 rfl rfl
theorem dksX10_init_10 : cX10_init.data.toList.drop 233 = dktX10_init_10 := dk_seg dksX10_init_9 24 rfl rfl
theorem dksX10_init_11 : cX10_init.data.toList.drop 257 = dktX10_init_11 := dk_seg dksX10_init_10 24 rfl rfl
theorem dksX10_init_12 : cX10_init.data.toList.drop 281 = dktX10_init_12 := dk_seg dksX10_init_11 24 rfl rfl
theorem dksX10_init_13 : cX10_init.data.toList.drop 305 = dktX10_init_13 := dk_seg dksX10_init_12 24 rfl rfl
theorem dksX10_init_14 : cX10_init.data.toList.drop 329 = dktX10_init_14 := dk_seg dksX10_init_13 24 rfl rfl
theorem dksX10_init_15 : cX10_init.data.toList.drop 352 = dktX10_init_15 := dk_seg dksX10_init_14 23 rfl rfl
theorem dksX10_init_16 : cX10_init.data.toList.drop 376 = dktX10_init_16 := dk_seg dksX10_init_15 24 rfl rfl
theorem dksX10_init_17 : cX10_init.data.toList.drop 400 = dktX10_init_17 := dk_seg dksX10_init_16 24 rfl rfl
theorem dksX10_init_18 : cX10_init.data.toList.drop 423 = dktX10_init_18 := dk_seg dksX10_init_17 23 rfl rfl
theorem dksX10_init_19 : cX10_init.data.toList.drop 446 = dktX10_init_19 := dk_seg dksX10_init_18 23 rfl rfl
theorem dX10_init_0 : decode cX10_init 0 = .ok (.aload_n 0, 1) := dk_42 (dk_at dksX10_init_0 0 rfl rfl)
theorem dX10_init_1 : decode cX10_init 1 = .ok (.invokespecial 1, 3) := dk_183 0 1 (dk_at dksX10_init_0 1 rfl rfl)
theorem dX10_init_4 : decode cX10_init 4 = .ok (.aload_n 0, 1) := dk_42 (dk_at dksX10_init_0 4 rfl rfl)
theorem dX10_init_5 : decode cX10_init 5 = .ok (.sipush 1620, 3) := dk_17 6 84 (dk_at dksX10_init_0 5 rfl rfl)
theorem dX10_init_8 : decode cX10_init 8 = .ok (.newarray .byte, 2) := dk_188_8 (dk_at dksX10_init_0 8 rfl rfl)
theorem dX10_init_10 : decode cX10_init 10 = .ok (.putfield 7, 3) := dk_181 0 7 (dk_at dksX10_init_0 10 rfl rfl)
theorem dX10_init_13 : decode cX10_init 13 = .ok (.aload_n 0, 1) := dk_42 (dk_at dksX10_init_0 13 rfl rfl)
theorem dX10_init_14 : decode cX10_init 14 = .ok (.sipush 1600, 3) := dk_17 6 64 (dk_at dksX10_init_0 14 rfl rfl)
theorem dX10_init_17 : decode cX10_init 17 = .ok (.newarray .byte, 2) := dk_188_8 (dk_at dksX10_init_0 17 rfl rfl)
theorem dX10_init_19 : decode cX10_init 19 = .ok (.putfield 13, 3) := dk_181 0 13 (dk_at dksX10_init_0 19 rfl rfl)
theorem dX10_init_22 : decode cX10_init 22 = .ok (.aload_n 0, 1) := dk_42 (dk_at dksX10_init_0 22 rfl rfl)
theorem dX10_init_23 : decode cX10_init 23 = .ok (.iconst (-1), 1) := dk_2 (dk_at dksX10_init_0 23 rfl rfl)
theorem dX10_init_24 : decode cX10_init 24 = .ok (.putfield 16, 3) := dk_181 0 16 (dk_at dksX10_init_1 0 rfl rfl)
theorem dX10_init_27 : decode cX10_init 27 = .ok (.aload_n 0, 1) := dk_42 (dk_at dksX10_init_1 3 rfl rfl)
theorem dX10_init_28 : decode cX10_init 28 = .ok (.iconst 2, 1) := dk_5 (dk_at dksX10_init_1 4 rfl rfl)
theorem dX10_init_29 : decode cX10_init 29 = .ok (.newarray .int, 2) := dk_188_10 (dk_at dksX10_init_1 5 rfl rfl)
theorem dX10_init_31 : decode cX10_init 31 = .ok (.putfield 20, 3) := dk_181 0 20 (dk_at dksX10_init_1 7 rfl rfl)
theorem dX10_init_34 : decode cX10_init 34 = .ok (.aload_n 0, 1) := dk_42 (dk_at dksX10_init_1 10 rfl rfl)
theorem dX10_init_35 : decode cX10_init 35 = .ok (.iconst 2, 1) := dk_5 (dk_at dksX10_init_1 11 rfl rfl)
theorem dX10_init_36 : decode cX10_init 36 = .ok (.newarray .int, 2) := dk_188_10 (dk_at dksX10_init_1 12 rfl rfl)
theorem dX10_init_38 : decode cX10_init 38 = .ok (.putfield 24, 3) := dk_181 0 24 (dk_at dksX10_init_1 14 rfl rfl)
theorem dX10_init_41 : decode cX10_init 41 = .ok (.aload_n 0, 1) := dk_42 (dk_at dksX10_init_1 17 rfl rfl)
theorem dX10_init_42 : decode cX10_init 42 = .ok (.iconst 2, 1) := dk_5 (dk_at dksX10_init_1 18 rfl rfl)
theorem dX10_init_43 : decode cX10_init 43 = .ok (.newarray .int, 2) := dk_188_10 (dk_at dksX10_init_1 19 rfl rfl)
theorem dX10_init_45 : decode cX10_init 45 = .ok (.putfield 27, 3) := dk_181 0 27 (dk_at dksX10_init_1 21 rfl rfl)
theorem dX10_init_48 : decode cX10_init 48 = .ok (.aload_n 0, 1) := dk_42 (dk_at dksX10_init_2 0 rfl rfl)
theorem dX10_init_49 : decode cX10_init 49 = .ok (.iconst 2, 1) := dk_5 (dk_at dksX10_init_2 1 rfl rfl)
theorem dX10_init_50 : decode cX10_init 50 = .ok (.newarray .int, 2) := dk_188_10 (dk_at dksX10_init_2 2 rfl rfl)
theorem dX10_init_52 : decode cX10_init 52 = .ok (.putfield 30, 3) := dk_181 0 30 (dk_at dksX10_init_2 4 rfl rfl)
theorem dX10_init_55 : decode cX10_init 55 = .ok (.aload_n 0, 1) := dk_42 (dk_at dksX10_init_2 7 rfl rfl)
theorem dX10_init_56 : decode cX10_init 56 = .ok (.iconst 2, 1) := dk_5 (dk_at dksX10_init_2 8 rfl rfl)
theorem dX10_init_57 : decode cX10_init 57 = .ok (.newarray .int, 2) := dk_188_10 (dk_at dksX10_init_2 9 rfl rfl)
theorem dX10_init_59 : decode cX10_init 59 = .ok (.putfield 33, 3) := dk_181 0 33 (dk_at dksX10_init_2 11 rfl rfl)
theorem dX10_init_62 : decode cX10_init 62 = .ok (.aload_n 0, 1) := dk_42 (dk_at dksX10_init_2 14 rfl rfl)
theorem dX10_init_63 : decode cX10_init 63 = .ok (.iconst 2, 1) := dk_5 (dk_at dksX10_init_2 15 rfl rfl)
theorem dX10_init_64 : decode cX10_init 64 = .ok (.newarray .int, 2) := dk_188_10 (dk_at dksX10_init_2 16 rfl rfl)
theorem dX10_init_66 : decode cX10_init 66 = .ok (.putfield 36, 3) := dk_181 0 36 (dk_at dksX10_init_2 18 rfl rfl)
theorem dX10_init_69 : decode cX10_init 69 = .ok (.aload_n 0, 1) := dk_42 (dk_at dksX10_init_2 21 rfl rfl)
theorem dX10_init_70 : decode cX10_init 70 = .ok (.iconst 2, 1) := dk_5 (dk_at dksX10_init_2 22 rfl rfl)
theorem dX10_init_71 : decode cX10_init 71 = .ok (.newarray .int, 2) := dk_188_10 (dk_at dksX10_init_3 0 rfl rfl)
theorem dX10_init_73 : decode cX10_init 73 = .ok (.putfield 39, 3) := dk_181 0 39 (dk_at dksX10_init_3 2 rfl rfl)
theorem dX10_init_76 : decode cX10_init 76 = .ok (.aload_n 0, 1) := dk_42 (dk_at dksX10_init_3 5 rfl rfl)
theorem dX10_init_77 : decode cX10_init 77 = .ok (.iconst 2, 1) := dk_5 (dk_at dksX10_init_3 6 rfl rfl)
theorem dX10_init_78 : decode cX10_init 78 = .ok (.newarray .int, 2) := dk_188_10 (dk_at dksX10_init_3 7 rfl rfl)
theorem dX10_init_80 : decode cX10_init 80 = .ok (.putfield 42, 3) := dk_181 0 42 (dk_at dksX10_init_3 9 rfl rfl)
theorem dX10_init_83 : decode cX10_init 83 = .ok (.aload_n 0, 1) := dk_42 (dk_at dksX10_init_3 12 rfl rfl)
theorem dX10_init_84 : decode cX10_init 84 = .ok (.iconst 2, 1) := dk_5 (dk_at dksX10_init_3 13 rfl rfl)
theorem dX10_init_85 : decode cX10_init 85 = .ok (.newarray .boolean, 2) := dk_188_4 (dk_at dksX10_init_3 14 rfl rfl)
theorem dX10_init_87 : decode cX10_init 87 = .ok (.putfield 45, 3) := dk_181 0 45 (dk_at dksX10_init_3 16 rfl rfl)
theorem dX10_init_90 : decode cX10_init 90 = .ok (.aload_n 0, 1) := dk_42 (dk_at dksX10_init_3 19 rfl rfl)
theorem dX10_init_91 : decode cX10_init 91 = .ok (.iconst 2, 1) := dk_5 (dk_at dksX10_init_3 20 rfl rfl)
theorem dX10_init_92 : decode cX10_init 92 = .ok (.newarray .boolean, 2) := dk_188_4 (dk_at dksX10_init_3 21 rfl rfl)
theorem dX10_init_94 : decode cX10_init 94 = .ok (.putfield 49, 3) := dk_181 0 49 (dk_at dksX10_init_4 0 rfl rfl)
theorem dX10_init_97 : decode cX10_init 97 = .ok (.aload_n 0, 1) := dk_42 (dk_at dksX10_init_4 3 rfl rfl)
theorem dX10_init_98 : decode cX10_init 98 = .ok (.bipush 104, 2) := dk_16 104 (dk_at dksX10_init_4 4 rfl rfl)
theorem dX10_init_100 : decode cX10_init 100 = .ok (.newarray .int, 2) := dk_188_10 (dk_at dksX10_init_4 6 rfl rfl)
theorem dX10_init_102 : decode cX10_init 102 = .ok (.putfield 52, 3) := dk_181 0 52 (dk_at dksX10_init_4 8 rfl rfl)
theorem dX10_init_105 : decode cX10_init 105 = .ok (.aload_n 0, 1) := dk_42 (dk_at dksX10_init_4 11 rfl rfl)
theorem dX10_init_106 : decode cX10_init 106 = .ok (.bipush 104, 2) := dk_16 104 (dk_at dksX10_init_4 12 rfl rfl)
theorem dX10_init_108 : decode cX10_init 108 = .ok (.newarray .int, 2) := dk_188_10 (dk_at dksX10_init_4 14 rfl rfl)
theorem dX10_init_110 : decode cX10_init 110 = .ok (.putfield 55, 3) := dk_181 0 55 (dk_at dksX10_init_4 16 rfl rfl)
theorem dX10_init_113 : decode cX10_init 113 = .ok (.aload_n 0, 1) := dk_42 (dk_at dksX10_init_4 19 rfl rfl)
theorem dX10_init_114 : decode cX10_init 114 = .ok (.bipush 104, 2) := dk_16 104 (dk_at dksX10_init_4 20 rfl rfl)
theorem dX10_init_116 : decode cX10_init 116 = .ok (.newarray .int, 2) := dk_188_10 (dk_at dksX10_init_4 22 rfl rfl)
theorem dX10_init_118 : decode cX10_init 118 = .ok (.putfield 58, 3) := dk_181 0 58 (dk_at dksX10_init_5 0 rfl rfl)
theorem dX10_init_121 : decode cX10_init 121 = .ok (.aload_n 0, 1) := dk_42 (dk_at dksX10_init_5 3 rfl rfl)
theorem dX10_init_122 : decode cX10_init 122 = .ok (.bipush 104, 2) := dk_16 104 (dk_at dksX10_init_5 4 rfl rfl)
theorem dX10_init_124 : decode cX10_init 124 = .ok (.newarray .int, 2) := dk_188_10 (dk_at dksX10_init_5 6 rfl rfl)
theorem dX10_init_126 : decode cX10_init 126 = .ok (.putfield 61, 3) := dk_181 0 61 (dk_at dksX10_init_5 8 rfl rfl)
theorem dX10_init_129 : decode cX10_init 129 = .ok (.aload_n 0, 1) := dk_42 (dk_at dksX10_init_5 11 rfl rfl)
theorem dX10_init_130 : decode cX10_init 130 = .ok (.bipush 104, 2) := dk_16 104 (dk_at dksX10_init_5 12 rfl rfl)
theorem dX10_init_132 : decode cX10_init 132 = .ok (.newarray .int, 2) := dk_188_10 (dk_at dksX10_init_5 14 rfl rfl)
theorem dX10_init_134 : decode cX10_init 134 = .ok (.putfield 64, 3) := dk_181 0 64 (dk_at dksX10_init_5 16 rfl rfl)
theorem dX10_init_137 : decode cX10_init 137 = .ok (.aload_n 0, 1) := dk_42 (dk_at dksX10_init_5 19 rfl rfl)
theorem dX10_init_138 : decode cX10_init 138 = .ok (.sipush 832, 3) := dk_17 3 64 (dk_at dksX10_init_5 20 rfl rfl)
theorem dX10_init_141 : decode cX10_init 141 = .ok (.newarray .int, 2) := dk_188_10 (dk_at dksX10_init_6 0 rfl rfl)
theorem dX10_init_143 : decode cX10_init 143 = .ok (.putfield 67, 3) := dk_181 0 67 (dk_at dksX10_init_6 2 rfl rfl)
theorem dX10_init_146 : decode cX10_init 146 = .ok (.aload_n 0, 1) := dk_42 (dk_at dksX10_init_6 5 rfl rfl)
theorem dX10_init_147 : decode cX10_init 147 = .ok (.bipush 104, 2) := dk_16 104 (dk_at dksX10_init_6 6 rfl rfl)
theorem dX10_init_149 : decode cX10_init 149 = .ok (.newarray .int, 2) := dk_188_10 (dk_at dksX10_init_6 8 rfl rfl)
theorem dX10_init_151 : decode cX10_init 151 = .ok (.putfield 70, 3) := dk_181 0 70 (dk_at dksX10_init_6 10 rfl rfl)
theorem dX10_init_154 : decode cX10_init 154 = .ok (.aload_n 0, 1) := dk_42 (dk_at dksX10_init_6 13 rfl rfl)
theorem dX10_init_155 : decode cX10_init 155 = .ok (.bipush 104, 2) := dk_16 104 (dk_at dksX10_init_6 14 rfl rfl)
theorem dX10_init_157 : decode cX10_init 157 = .ok (.newarray .long, 2) := dk_188_11 (dk_at dksX10_init_6 16 rfl rfl)
theorem dX10_init_159 : decode cX10_init 159 = .ok (.putfield 73, 3) := dk_181 0 73 (dk_at dksX10_init_6 18 rfl rfl)
theorem dX10_init_162 : decode cX10_init 162 = .ok (.aload_n 0, 1) := dk_42 (dk_at dksX10_init_6 21 rfl rfl)
theorem dX10_init_163 : decode cX10_init 163 = .ok (.sipush 800, 3) := dk_17 3 32 (dk_at dksX10_init_7 0 rfl rfl)
theorem dX10_init_166 : decode cX10_init 166 = .ok (.newarray .int, 2) := dk_188_10 (dk_at dksX10_init_7 3 rfl rfl)
theorem dX10_init_168 : decode cX10_init 168 = .ok (.putfield 77, 3) := dk_181 0 77 (dk_at dksX10_init_7 5 rfl rfl)
theorem dX10_init_171 : decode cX10_init 171 = .ok (.aload_n 0, 1) := dk_42 (dk_at dksX10_init_7 8 rfl rfl)
theorem dX10_init_172 : decode cX10_init 172 = .ok (.sipush 800, 3) := dk_17 3 32 (dk_at dksX10_init_7 9 rfl rfl)
theorem dX10_init_175 : decode cX10_init 175 = .ok (.newarray .int, 2) := dk_188_10 (dk_at dksX10_init_7 12 rfl rfl)
theorem dX10_init_177 : decode cX10_init 177 = .ok (.putfield 80, 3) := dk_181 0 80 (dk_at dksX10_init_7 14 rfl rfl)
theorem dX10_init_180 : decode cX10_init 180 = .ok (.aload_n 0, 1) := dk_42 (dk_at dksX10_init_7 17 rfl rfl)
theorem dX10_init_181 : decode cX10_init 181 = .ok (.bipush 90, 2) := dk_16 90 (dk_at dksX10_init_7 18 rfl rfl)
theorem dX10_init_183 : decode cX10_init 183 = .ok (.newarray .int, 2) := dk_188_10 (dk_at dksX10_init_7 20 rfl rfl)
theorem dX10_init_185 : decode cX10_init 185 = .ok (.putfield 83, 3) := dk_181 0 83 (dk_at dksX10_init_8 0 rfl rfl)
theorem dX10_init_188 : decode cX10_init 188 = .ok (.aload_n 0, 1) := dk_42 (dk_at dksX10_init_8 3 rfl rfl)
theorem dX10_init_189 : decode cX10_init 189 = .ok (.bipush 90, 2) := dk_16 90 (dk_at dksX10_init_8 4 rfl rfl)
theorem dX10_init_191 : decode cX10_init 191 = .ok (.newarray .int, 2) := dk_188_10 (dk_at dksX10_init_8 6 rfl rfl)
theorem dX10_init_193 : decode cX10_init 193 = .ok (.putfield 86, 3) := dk_181 0 86 (dk_at dksX10_init_8 8 rfl rfl)
theorem dX10_init_196 : decode cX10_init 196 = .ok (.aload_n 0, 1) := dk_42 (dk_at dksX10_init_8 11 rfl rfl)
theorem dX10_init_197 : decode cX10_init 197 = .ok (.bipush 70, 2) := dk_16 70 (dk_at dksX10_init_8 12 rfl rfl)
theorem dX10_init_199 : decode cX10_init 199 = .ok (.newarray .int, 2) := dk_188_10 (dk_at dksX10_init_8 14 rfl rfl)
theorem dX10_init_201 : decode cX10_init 201 = .ok (.putfield 89, 3) := dk_181 0 89 (dk_at dksX10_init_8 16 rfl rfl)
theorem dX10_init_204 : decode cX10_init 204 = .ok (.aload_n 0, 1) := dk_42 (dk_at dksX10_init_8 19 rfl rfl)
theorem dX10_init_205 : decode cX10_init 205 = .ok (.bipush 8, 2) := dk_16 8 (dk_at dksX10_init_8 20 rfl rfl)
theorem dX10_init_207 : decode cX10_init 207 = .ok (.newarray .int, 2) := dk_188_10 (dk_at dksX10_init_8 22 rfl rfl)
theorem dX10_init_209 : decode cX10_init 209 = .ok (.putfield 92, 3) := dk_181 0 92 (dk_at dksX10_init_9 0 rfl rfl)
theorem dX10_init_212 : decode cX10_init 212 = .ok (.aload_n 0, 1) := dk_42 (dk_at dksX10_init_9 3 rfl rfl)
theorem dX10_init_213 : decode cX10_init 213 = .ok (.bipush 8, 2) := dk_16 8 (dk_at dksX10_init_9 4 rfl rfl)
theorem dX10_init_215 : decode cX10_init 215 = .ok (.newarray .int, 2) := dk_188_10 (dk_at dksX10_init_9 6 rfl rfl)
theorem dX10_init_217 : decode cX10_init 217 = .ok (.putfield 95, 3) := dk_181 0 95 (dk_at dksX10_init_9 8 rfl rfl)
theorem dX10_init_220 : decode cX10_init 220 = .ok (.aload_n 0, 1) := dk_42 (dk_at dksX10_init_9 11 rfl rfl)
theorem dX10_init_221 : decode cX10_init 221 = .ok (.ldc 98, 2) := dk_18 98 (dk_at dksX10_init_9 12 rfl rfl)
theorem dX10_init_223 : decode cX10_init 223 = .ok (.newarray .long, 2) := dk_188_11 (dk_at dksX10_init_9 14 rfl rfl)
theorem dX10_init_225 : decode cX10_init 225 = .ok (.putfield 99, 3) := dk_181 0 99 (dk_at dksX10_init_9 16 rfl rfl)
theorem dX10_init_228 : decode cX10_init 228 = .ok (.aload_n 0, 1) := dk_42 (dk_at dksX10_init_9 19 rfl rfl)
theorem dX10_init_229 : decode cX10_init 229 = .ok (.bipush 16, 2) := dk_16 16 (dk_at dksX10_init_9 20 rfl rfl)
theorem dX10_init_231 : decode cX10_init 231 = .ok (.newarray .long, 2) := dk_188_11 (dk_at dksX10_init_9 22 rfl rfl)
theorem dX10_init_233 : decode cX10_init 233 = .ok (.putfield 102, 3) := dk_181 0 102 (dk_at dksX10_init_10 0 rfl rfl)
theorem dX10_init_236 : decode cX10_init 236 = .ok (.aload_n 0, 1) := dk_42 (dk_at dksX10_init_10 3 rfl rfl)
theorem dX10_init_237 : decode cX10_init 237 = .ok (.bipush 16, 2) := dk_16 16 (dk_at dksX10_init_10 4 rfl rfl)
theorem dX10_init_239 : decode cX10_init 239 = .ok (.newarray .int, 2) := dk_188_10 (dk_at dksX10_init_10 6 rfl rfl)
theorem dX10_init_241 : decode cX10_init 241 = .ok (.putfield 105, 3) := dk_181 0 105 (dk_at dksX10_init_10 8 rfl rfl)
theorem dX10_init_244 : decode cX10_init 244 = .ok (.aload_n 0, 1) := dk_42 (dk_at dksX10_init_10 11 rfl rfl)
theorem dX10_init_245 : decode cX10_init 245 = .ok (.bipush 16, 2) := dk_16 16 (dk_at dksX10_init_10 12 rfl rfl)
theorem dX10_init_247 : decode cX10_init 247 = .ok (.newarray .int, 2) := dk_188_10 (dk_at dksX10_init_10 14 rfl rfl)
theorem dX10_init_249 : decode cX10_init 249 = .ok (.putfield 108, 3) := dk_181 0 108 (dk_at dksX10_init_10 16 rfl rfl)
theorem dX10_init_252 : decode cX10_init 252 = .ok (.aload_n 0, 1) := dk_42 (dk_at dksX10_init_10 19 rfl rfl)
theorem dX10_init_253 : decode cX10_init 253 = .ok (.bipush 16, 2) := dk_16 16 (dk_at dksX10_init_10 20 rfl rfl)
theorem dX10_init_255 : decode cX10_init 255 = .ok (.newarray .int, 2) := dk_188_10 (dk_at dksX10_init_10 22 rfl rfl)
theorem dX10_init_257 : decode cX10_init 257 = .ok (.putfield 111, 3) := dk_181 0 111 (dk_at dksX10_init_11 0 rfl rfl)
theorem dX10_init_260 : decode cX10_init 260 = .ok (.aload_n 0, 1) := dk_42 (dk_at dksX10_init_11 3 rfl rfl)
theorem dX10_init_261 : decode cX10_init 261 = .ok (.bipush 16, 2) := dk_16 16 (dk_at dksX10_init_11 4 rfl rfl)
theorem dX10_init_263 : decode cX10_init 263 = .ok (.newarray .int, 2) := dk_188_10 (dk_at dksX10_init_11 6 rfl rfl)
theorem dX10_init_265 : decode cX10_init 265 = .ok (.putfield 114, 3) := dk_181 0 114 (dk_at dksX10_init_11 8 rfl rfl)
theorem dX10_init_268 : decode cX10_init 268 = .ok (.aload_n 0, 1) := dk_42 (dk_at dksX10_init_11 11 rfl rfl)
theorem dX10_init_269 : decode cX10_init 269 = .ok (.bipush 16, 2) := dk_16 16 (dk_at dksX10_init_11 12 rfl rfl)
theorem dX10_init_271 : decode cX10_init 271 = .ok (.newarray .int, 2) := dk_188_10 (dk_at dksX10_init_11 14 rfl rfl)
theorem dX10_init_273 : decode cX10_init 273 = .ok (.putfield 117, 3) := dk_181 0 117 (dk_at dksX10_init_11 16 rfl rfl)
theorem dX10_init_276 : decode cX10_init 276 = .ok (.aload_n 0, 1) := dk_42 (dk_at dksX10_init_11 19 rfl rfl)
theorem dX10_init_277 : decode cX10_init 277 = .ok (.bipush 16, 2) := dk_16 16 (dk_at dksX10_init_11 20 rfl rfl)
theorem dX10_init_279 : decode cX10_init 279 = .ok (.newarray .int, 2) := dk_188_10 (dk_at dksX10_init_11 22 rfl rfl)
theorem dX10_init_281 : decode cX10_init 281 = .ok (.putfield 120, 3) := dk_181 0 120 (dk_at dksX10_init_12 0 rfl rfl)
theorem dX10_init_284 : decode cX10_init 284 = .ok (.aload_n 0, 1) := dk_42 (dk_at dksX10_init_12 3 rfl rfl)
theorem dX10_init_285 : decode cX10_init 285 = .ok (.bipush 8, 2) := dk_16 8 (dk_at dksX10_init_12 4 rfl rfl)
theorem dX10_init_287 : decode cX10_init 287 = .ok (.newarray .int, 2) := dk_188_10 (dk_at dksX10_init_12 6 rfl rfl)
theorem dX10_init_289 : decode cX10_init 289 = .ok (.putfield 123, 3) := dk_181 0 123 (dk_at dksX10_init_12 8 rfl rfl)
theorem dX10_init_292 : decode cX10_init 292 = .ok (.aload_n 0, 1) := dk_42 (dk_at dksX10_init_12 11 rfl rfl)
theorem dX10_init_293 : decode cX10_init 293 = .ok (.sipush 200, 3) := dk_17 0 200 (dk_at dksX10_init_12 12 rfl rfl)
theorem dX10_init_296 : decode cX10_init 296 = .ok (.newarray .int, 2) := dk_188_10 (dk_at dksX10_init_12 15 rfl rfl)
theorem dX10_init_298 : decode cX10_init 298 = .ok (.putfield 126, 3) := dk_181 0 126 (dk_at dksX10_init_12 17 rfl rfl)
theorem dX10_init_301 : decode cX10_init 301 = .ok (.aload_n 0, 1) := dk_42 (dk_at dksX10_init_12 20 rfl rfl)
theorem dX10_init_302 : decode cX10_init 302 = .ok (.sipush 1200, 3) := dk_17 4 176 (dk_at dksX10_init_12 21 rfl rfl)
theorem dX10_init_305 : decode cX10_init 305 = .ok (.newarray .int, 2) := dk_188_10 (dk_at dksX10_init_13 0 rfl rfl)
theorem dX10_init_307 : decode cX10_init 307 = .ok (.putfield 129, 3) := dk_181 0 129 (dk_at dksX10_init_13 2 rfl rfl)
theorem dX10_init_310 : decode cX10_init 310 = .ok (.aload_n 0, 1) := dk_42 (dk_at dksX10_init_13 5 rfl rfl)
theorem dX10_init_311 : decode cX10_init 311 = .ok (.sipush 1600, 3) := dk_17 6 64 (dk_at dksX10_init_13 6 rfl rfl)
theorem dX10_init_314 : decode cX10_init 314 = .ok (.newarray .int, 2) := dk_188_10 (dk_at dksX10_init_13 9 rfl rfl)
theorem dX10_init_316 : decode cX10_init 316 = .ok (.putfield 132, 3) := dk_181 0 132 (dk_at dksX10_init_13 11 rfl rfl)
theorem dX10_init_319 : decode cX10_init 319 = .ok (.aload_n 0, 1) := dk_42 (dk_at dksX10_init_13 14 rfl rfl)
theorem dX10_init_320 : decode cX10_init 320 = .ok (.sipush 200, 3) := dk_17 0 200 (dk_at dksX10_init_13 15 rfl rfl)
theorem dX10_init_323 : decode cX10_init 323 = .ok (.newarray .int, 2) := dk_188_10 (dk_at dksX10_init_13 18 rfl rfl)
theorem dX10_init_325 : decode cX10_init 325 = .ok (.putfield 135, 3) := dk_181 0 135 (dk_at dksX10_init_13 20 rfl rfl)
theorem dX10_init_328 : decode cX10_init 328 = .ok (.aload_n 0, 1) := dk_42 (dk_at dksX10_init_13 23 rfl rfl)
theorem dX10_init_329 : decode cX10_init 329 = .ok (.sipush 1600, 3) := dk_17 6 64 (dk_at dksX10_init_14 0 rfl rfl)
theorem dX10_init_332 : decode cX10_init 332 = .ok (.newarray .long, 2) := dk_188_11 (dk_at dksX10_init_14 3 rfl rfl)
theorem dX10_init_334 : decode cX10_init 334 = .ok (.putfield 138, 3) := dk_181 0 138 (dk_at dksX10_init_14 5 rfl rfl)
theorem dX10_init_337 : decode cX10_init 337 = .ok (.aload_n 0, 1) := dk_42 (dk_at dksX10_init_14 8 rfl rfl)
theorem dX10_init_338 : decode cX10_init 338 = .ok (.sipush 200, 3) := dk_17 0 200 (dk_at dksX10_init_14 9 rfl rfl)
theorem dX10_init_341 : decode cX10_init 341 = .ok (.newarray .long, 2) := dk_188_11 (dk_at dksX10_init_14 12 rfl rfl)
theorem dX10_init_343 : decode cX10_init 343 = .ok (.putfield 141, 3) := dk_181 0 141 (dk_at dksX10_init_14 14 rfl rfl)
theorem dX10_init_346 : decode cX10_init 346 = .ok (.aload_n 0, 1) := dk_42 (dk_at dksX10_init_14 17 rfl rfl)
theorem dX10_init_347 : decode cX10_init 347 = .ok (.sipush 2048, 3) := dk_17 8 0 (dk_at dksX10_init_14 18 rfl rfl)
theorem dX10_init_350 : decode cX10_init 350 = .ok (.newarray .long, 2) := dk_188_11 (dk_at dksX10_init_14 21 rfl rfl)
theorem dX10_init_352 : decode cX10_init 352 = .ok (.putfield 144, 3) := dk_181 0 144 (dk_at dksX10_init_15 0 rfl rfl)
theorem dX10_init_355 : decode cX10_init 355 = .ok (.aload_n 0, 1) := dk_42 (dk_at dksX10_init_15 3 rfl rfl)
theorem dX10_init_356 : decode cX10_init 356 = .ok (.iconst 1, 1) := dk_4 (dk_at dksX10_init_15 4 rfl rfl)
theorem dX10_init_357 : decode cX10_init 357 = .ok (.putfield 147, 3) := dk_181 0 147 (dk_at dksX10_init_15 5 rfl rfl)
theorem dX10_init_360 : decode cX10_init 360 = .ok (.aload_n 0, 1) := dk_42 (dk_at dksX10_init_15 8 rfl rfl)
theorem dX10_init_361 : decode cX10_init 361 = .ok (.bipush 6, 2) := dk_16 6 (dk_at dksX10_init_15 9 rfl rfl)
theorem dX10_init_363 : decode cX10_init 363 = .ok (.newarray .int, 2) := dk_188_10 (dk_at dksX10_init_15 11 rfl rfl)
theorem dX10_init_365 : decode cX10_init 365 = .ok (.putfield 150, 3) := dk_181 0 150 (dk_at dksX10_init_15 13 rfl rfl)
theorem dX10_init_368 : decode cX10_init 368 = .ok (.aload_n 0, 1) := dk_42 (dk_at dksX10_init_15 16 rfl rfl)
theorem dX10_init_369 : decode cX10_init 369 = .ok (.bipush 20, 2) := dk_16 20 (dk_at dksX10_init_15 17 rfl rfl)
theorem dX10_init_371 : decode cX10_init 371 = .ok (.newarray .int, 2) := dk_188_10 (dk_at dksX10_init_15 19 rfl rfl)
theorem dX10_init_373 : decode cX10_init 373 = .ok (.putfield 153, 3) := dk_181 0 153 (dk_at dksX10_init_15 21 rfl rfl)
theorem dX10_init_376 : decode cX10_init 376 = .ok (.aload_n 0, 1) := dk_42 (dk_at dksX10_init_16 0 rfl rfl)
theorem dX10_init_377 : decode cX10_init 377 = .ok (.bipush 20, 2) := dk_16 20 (dk_at dksX10_init_16 1 rfl rfl)
theorem dX10_init_379 : decode cX10_init 379 = .ok (.newarray .int, 2) := dk_188_10 (dk_at dksX10_init_16 3 rfl rfl)
theorem dX10_init_381 : decode cX10_init 381 = .ok (.putfield 156, 3) := dk_181 0 156 (dk_at dksX10_init_16 5 rfl rfl)
theorem dX10_init_384 : decode cX10_init 384 = .ok (.aload_n 0, 1) := dk_42 (dk_at dksX10_init_16 8 rfl rfl)
theorem dX10_init_385 : decode cX10_init 385 = .ok (.bipush 20, 2) := dk_16 20 (dk_at dksX10_init_16 9 rfl rfl)
theorem dX10_init_387 : decode cX10_init 387 = .ok (.newarray .int, 2) := dk_188_10 (dk_at dksX10_init_16 11 rfl rfl)
theorem dX10_init_389 : decode cX10_init 389 = .ok (.putfield 159, 3) := dk_181 0 159 (dk_at dksX10_init_16 13 rfl rfl)
theorem dX10_init_392 : decode cX10_init 392 = .ok (.aload_n 0, 1) := dk_42 (dk_at dksX10_init_16 16 rfl rfl)
theorem dX10_init_393 : decode cX10_init 393 = .ok (.iconst 3, 1) := dk_6 (dk_at dksX10_init_16 17 rfl rfl)
theorem dX10_init_394 : decode cX10_init 394 = .ok (.newarray .int, 2) := dk_188_10 (dk_at dksX10_init_16 18 rfl rfl)
theorem dX10_init_396 : decode cX10_init 396 = .ok (.putfield 162, 3) := dk_181 0 162 (dk_at dksX10_init_16 20 rfl rfl)
theorem dX10_init_399 : decode cX10_init 399 = .ok (.aload_n 0, 1) := dk_42 (dk_at dksX10_init_16 23 rfl rfl)
theorem dX10_init_400 : decode cX10_init 400 = .ok (.iconst 3, 1) := dk_6 (dk_at dksX10_init_17 0 rfl rfl)
theorem dX10_init_401 : decode cX10_init 401 = .ok (.newarray .int, 2) := dk_188_10 (dk_at dksX10_init_17 1 rfl rfl)
theorem dX10_init_403 : decode cX10_init 403 = .ok (.putfield 165, 3) := dk_181 0 165 (dk_at dksX10_init_17 3 rfl rfl)
theorem dX10_init_406 : decode cX10_init 406 = .ok (.aload_n 0, 1) := dk_42 (dk_at dksX10_init_17 6 rfl rfl)
theorem dX10_init_407 : decode cX10_init 407 = .ok (.bipush 60, 2) := dk_16 60 (dk_at dksX10_init_17 7 rfl rfl)
theorem dX10_init_409 : decode cX10_init 409 = .ok (.newarray .int, 2) := dk_188_10 (dk_at dksX10_init_17 9 rfl rfl)
theorem dX10_init_411 : decode cX10_init 411 = .ok (.putfield 168, 3) := dk_181 0 168 (dk_at dksX10_init_17 11 rfl rfl)
theorem dX10_init_414 : decode cX10_init 414 = .ok (.aload_n 0, 1) := dk_42 (dk_at dksX10_init_17 14 rfl rfl)
theorem dX10_init_415 : decode cX10_init 415 = .ok (.bipush 60, 2) := dk_16 60 (dk_at dksX10_init_17 15 rfl rfl)
theorem dX10_init_417 : decode cX10_init 417 = .ok (.newarray .int, 2) := dk_188_10 (dk_at dksX10_init_17 17 rfl rfl)
theorem dX10_init_419 : decode cX10_init 419 = .ok (.putfield 171, 3) := dk_181 0 171 (dk_at dksX10_init_17 19 rfl rfl)
theorem dX10_init_422 : decode cX10_init 422 = .ok (.aload_n 0, 1) := dk_42 (dk_at dksX10_init_17 22 rfl rfl)
theorem dX10_init_423 : decode cX10_init 423 = .ok (.bipush 60, 2) := dk_16 60 (dk_at dksX10_init_18 0 rfl rfl)
theorem dX10_init_425 : decode cX10_init 425 = .ok (.newarray .int, 2) := dk_188_10 (dk_at dksX10_init_18 2 rfl rfl)
theorem dX10_init_427 : decode cX10_init 427 = .ok (.putfield 174, 3) := dk_181 0 174 (dk_at dksX10_init_18 4 rfl rfl)
theorem dX10_init_430 : decode cX10_init 430 = .ok (.aload_n 0, 1) := dk_42 (dk_at dksX10_init_18 7 rfl rfl)
theorem dX10_init_431 : decode cX10_init 431 = .ok (.invokevirtual 177, 3) := dk_182 0 177 (dk_at dksX10_init_18 8 rfl rfl)
theorem dX10_init_434 : decode cX10_init 434 = .ok (.aload_n 0, 1) := dk_42 (dk_at dksX10_init_18 11 rfl rfl)
theorem dX10_init_435 : decode cX10_init 435 = .ok (.invokevirtual 180, 3) := dk_182 0 180 (dk_at dksX10_init_18 12 rfl rfl)
theorem dX10_init_438 : decode cX10_init 438 = .ok (.iconst 0, 1) := dk_3 (dk_at dksX10_init_18 15 rfl rfl)
theorem dX10_init_439 : decode cX10_init 439 = .ok (.istore_n 1, 1) := dk_60 (dk_at dksX10_init_18 16 rfl rfl)
theorem dX10_init_440 : decode cX10_init 440 = .ok (.iload_n 1, 1) := dk_27 (dk_at dksX10_init_18 17 rfl rfl)
theorem dX10_init_441 : decode cX10_init 441 = .ok (.iconst 3, 1) := dk_6 (dk_at dksX10_init_18 18 rfl rfl)
theorem dX10_init_442 : decode cX10_init 442 = .ok (.if_icmp .ge 16, 3) := dk_162 0 16 (dk_at dksX10_init_18 19 rfl rfl)
theorem dX10_init_445 : decode cX10_init 445 = .ok (.aload_n 0, 1) := dk_42 (dk_at dksX10_init_18 22 rfl rfl)
theorem dX10_init_446 : decode cX10_init 446 = .ok (.getfield 162, 3) := dk_180 0 162 (dk_at dksX10_init_19 0 rfl rfl)
theorem dX10_init_449 : decode cX10_init 449 = .ok (.iload_n 1, 1) := dk_27 (dk_at dksX10_init_19 3 rfl rfl)
theorem dX10_init_450 : decode cX10_init 450 = .ok (.iconst (-1), 1) := dk_2 (dk_at dksX10_init_19 4 rfl rfl)
theorem dX10_init_451 : decode cX10_init 451 = .ok (.iastore, 1) := dk_79 (dk_at dksX10_init_19 5 rfl rfl)
theorem dX10_init_452 : decode cX10_init 452 = .ok (.iinc 1 1, 3) := dk_132 1 1 (dk_at dksX10_init_19 6 rfl rfl)
theorem dX10_init_455 : decode cX10_init 455 = .ok (.goto (-15), 3) := dk_167 255 241 (dk_at dksX10_init_19 9 rfl rfl)
theorem dX10_init_458 : decode cX10_init 458 = .ok (.return_, 1) := dk_177 (dk_at dksX10_init_19 12 rfl rfl)
abbrev cX10_clearBank : ByteArray := prog_32_method_15_code
def yX10_clearBank : MethodName := ⟨RX10, "clearBank", "()V"⟩
def dkwX10_clearBank_5 : List UInt8 := [79, 177]
abbrev dktX10_clearBank_5 : List UInt8 := dkwX10_clearBank_5 ++ []
def dkwX10_clearBank_4 : List UInt8 := [42, 17, 1, 144, 42, 180, 1, 40, 104, 181, 1, 47, 42, 180, 0, 42, 42, 180, 1, 40, 42, 180, 1, 47]
abbrev dktX10_clearBank_4 : List UInt8 := dkwX10_clearBank_4 ++ dktX10_clearBank_5
def dkwX10_clearBank_3 : List UInt8 := [180, 0, 45, 42, 180, 1, 40, 3, 84, 42, 180, 0, 49, 42, 180, 1, 40, 3, 84, 42, 3, 181, 1, 43]
abbrev dktX10_clearBank_3 : List UInt8 := dkwX10_clearBank_3 ++ dktX10_clearBank_4
def dkwX10_clearBank_2 : List UInt8 := [3, 79, 42, 180, 0, 36, 42, 180, 1, 40, 3, 79, 42, 180, 0, 39, 42, 180, 1, 40, 3, 79, 42]
abbrev dktX10_clearBank_2 : List UInt8 := dkwX10_clearBank_2 ++ dktX10_clearBank_3
def dkwX10_clearBank_1 : List UInt8 := [42, 180, 1, 40, 3, 79, 42, 180, 0, 30, 42, 180, 1, 40, 3, 79, 42, 180, 0, 33, 42, 180, 1, 40]
abbrev dktX10_clearBank_1 : List UInt8 := dkwX10_clearBank_1 ++ dktX10_clearBank_2
def dkwX10_clearBank_0 : List UInt8 := [42, 180, 0, 20, 42, 180, 1, 40, 5, 79, 42, 180, 0, 24, 42, 180, 1, 40, 3, 79, 42, 180, 0, 27]
abbrev dktX10_clearBank_0 : List UInt8 := dkwX10_clearBank_0 ++ dktX10_clearBank_1
theorem dksX10_clearBank_0 : cX10_clearBank.data.toList.drop 0 = dktX10_clearBank_0 := by decide +kernel
theorem dksX10_clearBank_1 : cX10_clearBank.data.toList.drop 24 = dktX10_clearBank_1 := dk_seg dksX10_clearBank_0 24 rfl rfl
theorem dksX10_clearBank_2 : cX10_clearBank.data.toList.drop 48 = dktX10_clearBank_2 := dk_seg dksX10_clearBank_1 24 rfl rfl
theorem dksX10_clearBank_3 : cX10_clearBank.data.toList.drop 71 = dktX10_clearBank_3 := dk_seg dksX10_clearBank_2 23 rfl rfl
theorem dksX10_clearBank_4 : cX10_clearBank.data.toList.drop 95 = dktX10_clearBank_4 := dk_seg dksX10_clearBank_3 24 rfl rfl
theorem dksX10_clearBank_5 : cX10_clearBank.data.toList.drop 119 = dktX10_clearBank_5 := dk_seg dksX10_clearBank_4 24 rfl rfl
theorem dX10_clearBank_0 : decode cX10_clearBank 0 = .ok (.aload_n 0, 1) := dk_42 (dk_at dksX10_clearBank_0 0 rfl rfl)
theorem dX10_clearBank_1 : decode cX10_clearBank 1 = .ok (.getfield 20, 3) := dk_180 0 20 (dk_at dksX10_clearBank_0 1 rfl rfl)
theorem dX10_clearBank_4 : decode cX10_clearBank 4 = .ok (.aload_n 0, 1) := dk_42 (dk_at dksX10_clearBank_0 4 rfl rfl)
theorem dX10_clearBank_5 : decode cX10_clearBank 5 = .ok (.getfield 296, 3) := dk_180 1 40 (dk_at dksX10_clearBank_0 5 rfl rfl)
theorem dX10_clearBank_8 : decode cX10_clearBank 8 = .ok (.iconst 2, 1) := dk_5 (dk_at dksX10_clearBank_0 8 rfl rfl)
theorem dX10_clearBank_9 : decode cX10_clearBank 9 = .ok (.iastore, 1) := dk_79 (dk_at dksX10_clearBank_0 9 rfl rfl)
theorem dX10_clearBank_10 : decode cX10_clearBank 10 = .ok (.aload_n 0, 1) := dk_42 (dk_at dksX10_clearBank_0 10 rfl rfl)
theorem dX10_clearBank_11 : decode cX10_clearBank 11 = .ok (.getfield 24, 3) := dk_180 0 24 (dk_at dksX10_clearBank_0 11 rfl rfl)
theorem dX10_clearBank_14 : decode cX10_clearBank 14 = .ok (.aload_n 0, 1) := dk_42 (dk_at dksX10_clearBank_0 14 rfl rfl)
theorem dX10_clearBank_15 : decode cX10_clearBank 15 = .ok (.getfield 296, 3) := dk_180 1 40 (dk_at dksX10_clearBank_0 15 rfl rfl)
theorem dX10_clearBank_18 : decode cX10_clearBank 18 = .ok (.iconst 0, 1) := dk_3 (dk_at dksX10_clearBank_0 18 rfl rfl)
theorem dX10_clearBank_19 : decode cX10_clearBank 19 = .ok (.iastore, 1) := dk_79 (dk_at dksX10_clearBank_0 19 rfl rfl)
theorem dX10_clearBank_20 : decode cX10_clearBank 20 = .ok (.aload_n 0, 1) := dk_42 (dk_at dksX10_clearBank_0 20 rfl rfl)
theorem dX10_clearBank_21 : decode cX10_clearBank 21 = .ok (.getfield 27, 3) := dk_180 0 27 (dk_at dksX10_clearBank_0 21 rfl rfl)
theorem dX10_clearBank_24 : decode cX10_clearBank 24 = .ok (.aload_n 0, 1) := dk_42 (dk_at dksX10_clearBank_1 0 rfl rfl)
theorem dX10_clearBank_25 : decode cX10_clearBank 25 = .ok (.getfield 296, 3) := dk_180 1 40 (dk_at dksX10_clearBank_1 1 rfl rfl)
theorem dX10_clearBank_28 : decode cX10_clearBank 28 = .ok (.iconst 0, 1) := dk_3 (dk_at dksX10_clearBank_1 4 rfl rfl)
theorem dX10_clearBank_29 : decode cX10_clearBank 29 = .ok (.iastore, 1) := dk_79 (dk_at dksX10_clearBank_1 5 rfl rfl)
theorem dX10_clearBank_30 : decode cX10_clearBank 30 = .ok (.aload_n 0, 1) := dk_42 (dk_at dksX10_clearBank_1 6 rfl rfl)
theorem dX10_clearBank_31 : decode cX10_clearBank 31 = .ok (.getfield 30, 3) := dk_180 0 30 (dk_at dksX10_clearBank_1 7 rfl rfl)
theorem dX10_clearBank_34 : decode cX10_clearBank 34 = .ok (.aload_n 0, 1) := dk_42 (dk_at dksX10_clearBank_1 10 rfl rfl)
theorem dX10_clearBank_35 : decode cX10_clearBank 35 = .ok (.getfield 296, 3) := dk_180 1 40 (dk_at dksX10_clearBank_1 11 rfl rfl)
theorem dX10_clearBank_38 : decode cX10_clearBank 38 = .ok (.iconst 0, 1) := dk_3 (dk_at dksX10_clearBank_1 14 rfl rfl)
theorem dX10_clearBank_39 : decode cX10_clearBank 39 = .ok (.iastore, 1) := dk_79 (dk_at dksX10_clearBank_1 15 rfl rfl)
theorem dX10_clearBank_40 : decode cX10_clearBank 40 = .ok (.aload_n 0, 1) := dk_42 (dk_at dksX10_clearBank_1 16 rfl rfl)
theorem dX10_clearBank_41 : decode cX10_clearBank 41 = .ok (.getfield 33, 3) := dk_180 0 33 (dk_at dksX10_clearBank_1 17 rfl rfl)
theorem dX10_clearBank_44 : decode cX10_clearBank 44 = .ok (.aload_n 0, 1) := dk_42 (dk_at dksX10_clearBank_1 20 rfl rfl)
theorem dX10_clearBank_45 : decode cX10_clearBank 45 = .ok (.getfield 296, 3) := dk_180 1 40 (dk_at dksX10_clearBank_1 21 rfl rfl)
theorem dX10_clearBank_48 : decode cX10_clearBank 48 = .ok (.iconst 0, 1) := dk_3 (dk_at dksX10_clearBank_2 0 rfl rfl)
theorem dX10_clearBank_49 : decode cX10_clearBank 49 = .ok (.iastore, 1) := dk_79 (dk_at dksX10_clearBank_2 1 rfl rfl)
theorem dX10_clearBank_50 : decode cX10_clearBank 50 = .ok (.aload_n 0, 1) := dk_42 (dk_at dksX10_clearBank_2 2 rfl rfl)
theorem dX10_clearBank_51 : decode cX10_clearBank 51 = .ok (.getfield 36, 3) := dk_180 0 36 (dk_at dksX10_clearBank_2 3 rfl rfl)
theorem dX10_clearBank_54 : decode cX10_clearBank 54 = .ok (.aload_n 0, 1) := dk_42 (dk_at dksX10_clearBank_2 6 rfl rfl)
theorem dX10_clearBank_55 : decode cX10_clearBank 55 = .ok (.getfield 296, 3) := dk_180 1 40 (dk_at dksX10_clearBank_2 7 rfl rfl)
theorem dX10_clearBank_58 : decode cX10_clearBank 58 = .ok (.iconst 0, 1) := dk_3 (dk_at dksX10_clearBank_2 10 rfl rfl)
theorem dX10_clearBank_59 : decode cX10_clearBank 59 = .ok (.iastore, 1) := dk_79 (dk_at dksX10_clearBank_2 11 rfl rfl)
theorem dX10_clearBank_60 : decode cX10_clearBank 60 = .ok (.aload_n 0, 1) := dk_42 (dk_at dksX10_clearBank_2 12 rfl rfl)
theorem dX10_clearBank_61 : decode cX10_clearBank 61 = .ok (.getfield 39, 3) := dk_180 0 39 (dk_at dksX10_clearBank_2 13 rfl rfl)
theorem dX10_clearBank_64 : decode cX10_clearBank 64 = .ok (.aload_n 0, 1) := dk_42 (dk_at dksX10_clearBank_2 16 rfl rfl)
theorem dX10_clearBank_65 : decode cX10_clearBank 65 = .ok (.getfield 296, 3) := dk_180 1 40 (dk_at dksX10_clearBank_2 17 rfl rfl)
theorem dX10_clearBank_68 : decode cX10_clearBank 68 = .ok (.iconst 0, 1) := dk_3 (dk_at dksX10_clearBank_2 20 rfl rfl)
theorem dX10_clearBank_69 : decode cX10_clearBank 69 = .ok (.iastore, 1) := dk_79 (dk_at dksX10_clearBank_2 21 rfl rfl)
theorem dX10_clearBank_70 : decode cX10_clearBank 70 = .ok (.aload_n 0, 1) := dk_42 (dk_at dksX10_clearBank_2 22 rfl rfl)
theorem dX10_clearBank_71 : decode cX10_clearBank 71 = .ok (.getfield 45, 3) := dk_180 0 45 (dk_at dksX10_clearBank_3 0 rfl rfl)
theorem dX10_clearBank_74 : decode cX10_clearBank 74 = .ok (.aload_n 0, 1) := dk_42 (dk_at dksX10_clearBank_3 3 rfl rfl)
theorem dX10_clearBank_75 : decode cX10_clearBank 75 = .ok (.getfield 296, 3) := dk_180 1 40 (dk_at dksX10_clearBank_3 4 rfl rfl)
theorem dX10_clearBank_78 : decode cX10_clearBank 78 = .ok (.iconst 0, 1) := dk_3 (dk_at dksX10_clearBank_3 7 rfl rfl)
theorem dX10_clearBank_79 : decode cX10_clearBank 79 = .ok (.bastore, 1) := dk_84 (dk_at dksX10_clearBank_3 8 rfl rfl)
theorem dX10_clearBank_80 : decode cX10_clearBank 80 = .ok (.aload_n 0, 1) := dk_42 (dk_at dksX10_clearBank_3 9 rfl rfl)
theorem dX10_clearBank_81 : decode cX10_clearBank 81 = .ok (.getfield 49, 3) := dk_180 0 49 (dk_at dksX10_clearBank_3 10 rfl rfl)
theorem dX10_clearBank_84 : decode cX10_clearBank 84 = .ok (.aload_n 0, 1) := dk_42 (dk_at dksX10_clearBank_3 13 rfl rfl)
theorem dX10_clearBank_85 : decode cX10_clearBank 85 = .ok (.getfield 296, 3) := dk_180 1 40 (dk_at dksX10_clearBank_3 14 rfl rfl)
theorem dX10_clearBank_88 : decode cX10_clearBank 88 = .ok (.iconst 0, 1) := dk_3 (dk_at dksX10_clearBank_3 17 rfl rfl)
theorem dX10_clearBank_89 : decode cX10_clearBank 89 = .ok (.bastore, 1) := dk_84 (dk_at dksX10_clearBank_3 18 rfl rfl)
theorem dX10_clearBank_90 : decode cX10_clearBank 90 = .ok (.aload_n 0, 1) := dk_42 (dk_at dksX10_clearBank_3 19 rfl rfl)
theorem dX10_clearBank_91 : decode cX10_clearBank 91 = .ok (.iconst 0, 1) := dk_3 (dk_at dksX10_clearBank_3 20 rfl rfl)
theorem dX10_clearBank_92 : decode cX10_clearBank 92 = .ok (.putfield 299, 3) := dk_181 1 43 (dk_at dksX10_clearBank_3 21 rfl rfl)
theorem dX10_clearBank_95 : decode cX10_clearBank 95 = .ok (.aload_n 0, 1) := dk_42 (dk_at dksX10_clearBank_4 0 rfl rfl)
theorem dX10_clearBank_96 : decode cX10_clearBank 96 = .ok (.sipush 400, 3) := dk_17 1 144 (dk_at dksX10_clearBank_4 1 rfl rfl)
theorem dX10_clearBank_99 : decode cX10_clearBank 99 = .ok (.aload_n 0, 1) := dk_42 (dk_at dksX10_clearBank_4 4 rfl rfl)
theorem dX10_clearBank_100 : decode cX10_clearBank 100 = .ok (.getfield 296, 3) := dk_180 1 40 (dk_at dksX10_clearBank_4 5 rfl rfl)
theorem dX10_clearBank_103 : decode cX10_clearBank 103 = .ok (.imul, 1) := dk_104 (dk_at dksX10_clearBank_4 8 rfl rfl)
theorem dX10_clearBank_104 : decode cX10_clearBank 104 = .ok (.putfield 303, 3) := dk_181 1 47 (dk_at dksX10_clearBank_4 9 rfl rfl)
theorem dX10_clearBank_107 : decode cX10_clearBank 107 = .ok (.aload_n 0, 1) := dk_42 (dk_at dksX10_clearBank_4 12 rfl rfl)
theorem dX10_clearBank_108 : decode cX10_clearBank 108 = .ok (.getfield 42, 3) := dk_180 0 42 (dk_at dksX10_clearBank_4 13 rfl rfl)
theorem dX10_clearBank_111 : decode cX10_clearBank 111 = .ok (.aload_n 0, 1) := dk_42 (dk_at dksX10_clearBank_4 16 rfl rfl)
theorem dX10_clearBank_112 : decode cX10_clearBank 112 = .ok (.getfield 296, 3) := dk_180 1 40 (dk_at dksX10_clearBank_4 17 rfl rfl)
theorem dX10_clearBank_115 : decode cX10_clearBank 115 = .ok (.aload_n 0, 1) := dk_42 (dk_at dksX10_clearBank_4 20 rfl rfl)
theorem dX10_clearBank_116 : decode cX10_clearBank 116 = .ok (.getfield 303, 3) := dk_180 1 47 (dk_at dksX10_clearBank_4 21 rfl rfl)
theorem dX10_clearBank_119 : decode cX10_clearBank 119 = .ok (.iastore, 1) := dk_79 (dk_at dksX10_clearBank_5 0 rfl rfl)
theorem dX10_clearBank_120 : decode cX10_clearBank 120 = .ok (.return_, 1) := dk_177 (dk_at dksX10_clearBank_5 1 rfl rfl)
abbrev cX10_layPaths : ByteArray := prog_32_method_75_code
def yX10_layPaths : MethodName := ⟨RX10, "layPaths", "()V"⟩
def dkwX10_layPaths_1 : List UInt8 := [180, 2, 28, 153, 0, 7, 3, 167, 0, 7, 42, 180, 1, 244, 181, 2, 31, 177]
abbrev dktX10_layPaths_1 : List UInt8 := dkwX10_layPaths_1 ++ []
def dkwX10_layPaths_0 : List UInt8 := [42, 42, 3, 3, 17, 0, 200, 182, 2, 25, 154, 0, 7, 4, 167, 0, 4, 3, 181, 2, 28, 42, 42]
abbrev dktX10_layPaths_0 : List UInt8 := dkwX10_layPaths_0 ++ dktX10_layPaths_1
theorem dksX10_layPaths_0 : cX10_layPaths.data.toList.drop 0 = dktX10_layPaths_0 := by decide +kernel
theorem dksX10_layPaths_1 : cX10_layPaths.data.toList.drop 23 = dktX10_layPaths_1 := dk_seg dksX10_layPaths_0 23 rfl rfl
theorem dX10_layPaths_0 : decode cX10_layPaths 0 = .ok (.aload_n 0, 1) := dk_42 (dk_at dksX10_layPaths_0 0 rfl rfl)
theorem dX10_layPaths_1 : decode cX10_layPaths 1 = .ok (.aload_n 0, 1) := dk_42 (dk_at dksX10_layPaths_0 1 rfl rfl)
theorem dX10_layPaths_2 : decode cX10_layPaths 2 = .ok (.iconst 0, 1) := dk_3 (dk_at dksX10_layPaths_0 2 rfl rfl)
theorem dX10_layPaths_3 : decode cX10_layPaths 3 = .ok (.iconst 0, 1) := dk_3 (dk_at dksX10_layPaths_0 3 rfl rfl)
theorem dX10_layPaths_4 : decode cX10_layPaths 4 = .ok (.sipush 200, 3) := dk_17 0 200 (dk_at dksX10_layPaths_0 4 rfl rfl)
theorem dX10_layPaths_7 : decode cX10_layPaths 7 = .ok (.invokevirtual 537, 3) := dk_182 2 25 (dk_at dksX10_layPaths_0 7 rfl rfl)
theorem dX10_layPaths_10 : decode cX10_layPaths 10 = .ok (.ifCond .ne 7, 3) := dk_154 0 7 (dk_at dksX10_layPaths_0 10 rfl rfl)
theorem dX10_layPaths_13 : decode cX10_layPaths 13 = .ok (.iconst 1, 1) := dk_4 (dk_at dksX10_layPaths_0 13 rfl rfl)
theorem dX10_layPaths_14 : decode cX10_layPaths 14 = .ok (.goto 4, 3) := dk_167 0 4 (dk_at dksX10_layPaths_0 14 rfl rfl)
theorem dX10_layPaths_17 : decode cX10_layPaths 17 = .ok (.iconst 0, 1) := dk_3 (dk_at dksX10_layPaths_0 17 rfl rfl)
theorem dX10_layPaths_18 : decode cX10_layPaths 18 = .ok (.putfield 540, 3) := dk_181 2 28 (dk_at dksX10_layPaths_0 18 rfl rfl)
theorem dX10_layPaths_21 : decode cX10_layPaths 21 = .ok (.aload_n 0, 1) := dk_42 (dk_at dksX10_layPaths_0 21 rfl rfl)
theorem dX10_layPaths_22 : decode cX10_layPaths 22 = .ok (.aload_n 0, 1) := dk_42 (dk_at dksX10_layPaths_0 22 rfl rfl)
theorem dX10_layPaths_23 : decode cX10_layPaths 23 = .ok (.getfield 540, 3) := dk_180 2 28 (dk_at dksX10_layPaths_1 0 rfl rfl)
theorem dX10_layPaths_26 : decode cX10_layPaths 26 = .ok (.ifCond .eq 7, 3) := dk_153 0 7 (dk_at dksX10_layPaths_1 3 rfl rfl)
theorem dX10_layPaths_29 : decode cX10_layPaths 29 = .ok (.iconst 0, 1) := dk_3 (dk_at dksX10_layPaths_1 6 rfl rfl)
theorem dX10_layPaths_30 : decode cX10_layPaths 30 = .ok (.goto 7, 3) := dk_167 0 7 (dk_at dksX10_layPaths_1 7 rfl rfl)
theorem dX10_layPaths_33 : decode cX10_layPaths 33 = .ok (.aload_n 0, 1) := dk_42 (dk_at dksX10_layPaths_1 10 rfl rfl)
theorem dX10_layPaths_34 : decode cX10_layPaths 34 = .ok (.getfield 500, 3) := dk_180 1 244 (dk_at dksX10_layPaths_1 11 rfl rfl)
theorem dX10_layPaths_37 : decode cX10_layPaths 37 = .ok (.putfield 543, 3) := dk_181 2 31 (dk_at dksX10_layPaths_1 14 rfl rfl)
theorem dX10_layPaths_40 : decode cX10_layPaths 40 = .ok (.return_, 1) := dk_177 (dk_at dksX10_layPaths_1 17 rfl rfl)
abbrev cX10_explore : ByteArray := prog_32_method_70_code
def yX10_explore : MethodName := ⟨RX10, "explore", "(III)Z"⟩
def dkwX10_explore_7 : List UInt8 := [167, 255, 118, 4, 172]
abbrev dktX10_explore_7 : List UInt8 := dkwX10_explore_7 ++ []
def dkwX10_explore_6 : List UInt8 := [21, 4, 92, 46, 4, 96, 79, 21, 4, 21, 5, 153, 0, 7, 4, 167, 0, 4, 3, 96, 54, 4]
abbrev dktX10_explore_6 : List UInt8 := dkwX10_explore_6 ++ dktX10_explore_7
def dkwX10_explore_5 : List UInt8 := [182, 2, 0, 160, 0, 9, 132, 4, 255, 167, 255, 155, 42, 21, 4, 182, 2, 3, 54, 5, 42, 180, 0, 120]
abbrev dktX10_explore_5 : List UInt8 := dkwX10_explore_5 ++ dktX10_explore_6
def dkwX10_explore_4 : List UInt8 := [54, 5, 42, 180, 0, 117, 21, 4, 46, 6, 160, 0, 19, 42, 180, 0, 120, 21, 4, 46, 42, 21, 4]
abbrev dktX10_explore_4 : List UInt8 := dkwX10_explore_4 ++ dktX10_explore_5
def dkwX10_explore_3 : List UInt8 := [29, 160, 0, 5, 3, 172, 42, 21, 4, 182, 1, 253, 42, 89, 180, 1, 244, 4, 96, 181, 1, 244, 3]
abbrev dktX10_explore_3 : List UInt8 := dkwX10_explore_3 ++ dktX10_explore_4
def dkwX10_explore_2 : List UInt8 := [79, 42, 180, 0, 120, 21, 4, 3, 79, 42, 180, 0, 117, 21, 4, 46, 6, 159, 0, 29, 42, 180, 1, 244]
abbrev dktX10_explore_2 : List UInt8 := dkwX10_explore_2 ++ dktX10_explore_3
def dkwX10_explore_1 : List UInt8 := [54, 5, 21, 4, 155, 0, 139, 21, 5, 153, 0, 61, 42, 180, 0, 117, 21, 4, 42, 21, 4, 182, 1, 250]
abbrev dktX10_explore_1 : List UInt8 := dkwX10_explore_1 ++ dktX10_explore_2
def dkwX10_explore_0 : List UInt8 := [42, 27, 181, 1, 201, 42, 28, 181, 1, 204, 42, 3, 181, 1, 244, 42, 182, 1, 247, 3, 54, 4, 4]
abbrev dktX10_explore_0 : List UInt8 := dkwX10_explore_0 ++ dktX10_explore_1
theorem dksX10_explore_0 : cX10_explore.data.toList.drop 0 = dktX10_explore_0 := by decide +kernel
theorem dksX10_explore_1 : cX10_explore.data.toList.drop 23 = dktX10_explore_1 := dk_seg dksX10_explore_0 23 rfl rfl
theorem dksX10_explore_2 : cX10_explore.data.toList.drop 47 = dktX10_explore_2 := dk_seg dksX10_explore_1 24 rfl rfl
theorem dksX10_explore_3 : cX10_explore.data.toList.drop 71 = dktX10_explore_3 := dk_seg dksX10_explore_2 24 rfl rfl
theorem dksX10_explore_4 : cX10_explore.data.toList.drop 94 = dktX10_explore_4 := dk_seg dksX10_explore_3 23 rfl rfl
theorem dksX10_explore_5 : cX10_explore.data.toList.drop 117 = dktX10_explore_5 := dk_seg dksX10_explore_4 23 rfl rfl
theorem dksX10_explore_6 : cX10_explore.data.toList.drop 141 = dktX10_explore_6 := dk_seg dksX10_explore_5 24 rfl rfl
theorem dksX10_explore_7 : cX10_explore.data.toList.drop 163 = dktX10_explore_7 := dk_seg dksX10_explore_6 22 rfl rfl
theorem dX10_explore_0 : decode cX10_explore 0 = .ok (.aload_n 0, 1) := dk_42 (dk_at dksX10_explore_0 0 rfl rfl)
theorem dX10_explore_1 : decode cX10_explore 1 = .ok (.iload_n 1, 1) := dk_27 (dk_at dksX10_explore_0 1 rfl rfl)
theorem dX10_explore_2 : decode cX10_explore 2 = .ok (.putfield 457, 3) := dk_181 1 201 (dk_at dksX10_explore_0 2 rfl rfl)
theorem dX10_explore_5 : decode cX10_explore 5 = .ok (.aload_n 0, 1) := dk_42 (dk_at dksX10_explore_0 5 rfl rfl)
theorem dX10_explore_6 : decode cX10_explore 6 = .ok (.iload_n 2, 1) := dk_28 (dk_at dksX10_explore_0 6 rfl rfl)
theorem dX10_explore_7 : decode cX10_explore 7 = .ok (.putfield 460, 3) := dk_181 1 204 (dk_at dksX10_explore_0 7 rfl rfl)
theorem dX10_explore_10 : decode cX10_explore 10 = .ok (.aload_n 0, 1) := dk_42 (dk_at dksX10_explore_0 10 rfl rfl)
theorem dX10_explore_11 : decode cX10_explore 11 = .ok (.iconst 0, 1) := dk_3 (dk_at dksX10_explore_0 11 rfl rfl)
theorem dX10_explore_12 : decode cX10_explore 12 = .ok (.putfield 500, 3) := dk_181 1 244 (dk_at dksX10_explore_0 12 rfl rfl)
theorem dX10_explore_15 : decode cX10_explore 15 = .ok (.aload_n 0, 1) := dk_42 (dk_at dksX10_explore_0 15 rfl rfl)
theorem dX10_explore_16 : decode cX10_explore 16 = .ok (.invokevirtual 503, 3) := dk_182 1 247 (dk_at dksX10_explore_0 16 rfl rfl)
theorem dX10_explore_19 : decode cX10_explore 19 = .ok (.iconst 0, 1) := dk_3 (dk_at dksX10_explore_0 19 rfl rfl)
theorem dX10_explore_20 : decode cX10_explore 20 = .ok (.istore 4, 2) := dk_54 4 (dk_at dksX10_explore_0 20 rfl rfl)
theorem dX10_explore_22 : decode cX10_explore 22 = .ok (.iconst 1, 1) := dk_4 (dk_at dksX10_explore_0 22 rfl rfl)
theorem dX10_explore_23 : decode cX10_explore 23 = .ok (.istore 5, 2) := dk_54 5 (dk_at dksX10_explore_1 0 rfl rfl)
theorem dX10_explore_25 : decode cX10_explore 25 = .ok (.iload 4, 2) := dk_21 4 (dk_at dksX10_explore_1 2 rfl rfl)
theorem dX10_explore_27 : decode cX10_explore 27 = .ok (.ifCond .lt 139, 3) := dk_155 0 139 (dk_at dksX10_explore_1 4 rfl rfl)
theorem dX10_explore_30 : decode cX10_explore 30 = .ok (.iload 5, 2) := dk_21 5 (dk_at dksX10_explore_1 7 rfl rfl)
theorem dX10_explore_32 : decode cX10_explore 32 = .ok (.ifCond .eq 61, 3) := dk_153 0 61 (dk_at dksX10_explore_1 9 rfl rfl)
theorem dX10_explore_35 : decode cX10_explore 35 = .ok (.aload_n 0, 1) := dk_42 (dk_at dksX10_explore_1 12 rfl rfl)
theorem dX10_explore_36 : decode cX10_explore 36 = .ok (.getfield 117, 3) := dk_180 0 117 (dk_at dksX10_explore_1 13 rfl rfl)
theorem dX10_explore_39 : decode cX10_explore 39 = .ok (.iload 4, 2) := dk_21 4 (dk_at dksX10_explore_1 16 rfl rfl)
theorem dX10_explore_41 : decode cX10_explore 41 = .ok (.aload_n 0, 1) := dk_42 (dk_at dksX10_explore_1 18 rfl rfl)
theorem dX10_explore_42 : decode cX10_explore 42 = .ok (.iload 4, 2) := dk_21 4 (dk_at dksX10_explore_1 19 rfl rfl)
theorem dX10_explore_44 : decode cX10_explore 44 = .ok (.invokevirtual 506, 3) := dk_182 1 250 (dk_at dksX10_explore_1 21 rfl rfl)
theorem dX10_explore_47 : decode cX10_explore 47 = .ok (.iastore, 1) := dk_79 (dk_at dksX10_explore_2 0 rfl rfl)
theorem dX10_explore_48 : decode cX10_explore 48 = .ok (.aload_n 0, 1) := dk_42 (dk_at dksX10_explore_2 1 rfl rfl)
theorem dX10_explore_49 : decode cX10_explore 49 = .ok (.getfield 120, 3) := dk_180 0 120 (dk_at dksX10_explore_2 2 rfl rfl)
theorem dX10_explore_52 : decode cX10_explore 52 = .ok (.iload 4, 2) := dk_21 4 (dk_at dksX10_explore_2 5 rfl rfl)
theorem dX10_explore_54 : decode cX10_explore 54 = .ok (.iconst 0, 1) := dk_3 (dk_at dksX10_explore_2 7 rfl rfl)
theorem dX10_explore_55 : decode cX10_explore 55 = .ok (.iastore, 1) := dk_79 (dk_at dksX10_explore_2 8 rfl rfl)
theorem dX10_explore_56 : decode cX10_explore 56 = .ok (.aload_n 0, 1) := dk_42 (dk_at dksX10_explore_2 9 rfl rfl)
theorem dX10_explore_57 : decode cX10_explore 57 = .ok (.getfield 117, 3) := dk_180 0 117 (dk_at dksX10_explore_2 10 rfl rfl)
theorem dX10_explore_60 : decode cX10_explore 60 = .ok (.iload 4, 2) := dk_21 4 (dk_at dksX10_explore_2 13 rfl rfl)
theorem dX10_explore_62 : decode cX10_explore 62 = .ok (.iaload, 1) := dk_46 (dk_at dksX10_explore_2 15 rfl rfl)
theorem dX10_explore_63 : decode cX10_explore 63 = .ok (.iconst 3, 1) := dk_6 (dk_at dksX10_explore_2 16 rfl rfl)
theorem dX10_explore_64 : decode cX10_explore 64 = .ok (.if_icmp .eq 29, 3) := dk_159 0 29 (dk_at dksX10_explore_2 17 rfl rfl)
theorem dX10_explore_67 : decode cX10_explore 67 = .ok (.aload_n 0, 1) := dk_42 (dk_at dksX10_explore_2 20 rfl rfl)
theorem dX10_explore_68 : decode cX10_explore 68 = .ok (.getfield 500, 3) := dk_180 1 244 (dk_at dksX10_explore_2 21 rfl rfl)
theorem dX10_explore_71 : decode cX10_explore 71 = .ok (.iload_n 3, 1) := dk_29 (dk_at dksX10_explore_3 0 rfl rfl)
theorem dX10_explore_72 : decode cX10_explore 72 = .ok (.if_icmp .ne 5, 3) := dk_160 0 5 (dk_at dksX10_explore_3 1 rfl rfl)
theorem dX10_explore_75 : decode cX10_explore 75 = .ok (.iconst 0, 1) := dk_3 (dk_at dksX10_explore_3 4 rfl rfl)
theorem dX10_explore_76 : decode cX10_explore 76 = .ok (.ireturn, 1) := dk_172 (dk_at dksX10_explore_3 5 rfl rfl)
theorem dX10_explore_77 : decode cX10_explore 77 = .ok (.aload_n 0, 1) := dk_42 (dk_at dksX10_explore_3 6 rfl rfl)
theorem dX10_explore_78 : decode cX10_explore 78 = .ok (.iload 4, 2) := dk_21 4 (dk_at dksX10_explore_3 7 rfl rfl)
theorem dX10_explore_80 : decode cX10_explore 80 = .ok (.invokevirtual 509, 3) := dk_182 1 253 (dk_at dksX10_explore_3 9 rfl rfl)
theorem dX10_explore_83 : decode cX10_explore 83 = .ok (.aload_n 0, 1) := dk_42 (dk_at dksX10_explore_3 12 rfl rfl)
theorem dX10_explore_84 : decode cX10_explore 84 = .ok (.dup, 1) := dk_89 (dk_at dksX10_explore_3 13 rfl rfl)
theorem dX10_explore_85 : decode cX10_explore 85 = .ok (.getfield 500, 3) := dk_180 1 244 (dk_at dksX10_explore_3 14 rfl rfl)
theorem dX10_explore_88 : decode cX10_explore 88 = .ok (.iconst 1, 1) := dk_4 (dk_at dksX10_explore_3 17 rfl rfl)
theorem dX10_explore_89 : decode cX10_explore 89 = .ok (.iadd, 1) := dk_96 (dk_at dksX10_explore_3 18 rfl rfl)
theorem dX10_explore_90 : decode cX10_explore 90 = .ok (.putfield 500, 3) := dk_181 1 244 (dk_at dksX10_explore_3 19 rfl rfl)
theorem dX10_explore_93 : decode cX10_explore 93 = .ok (.iconst 0, 1) := dk_3 (dk_at dksX10_explore_3 22 rfl rfl)
theorem dX10_explore_94 : decode cX10_explore 94 = .ok (.istore 5, 2) := dk_54 5 (dk_at dksX10_explore_4 0 rfl rfl)
theorem dX10_explore_96 : decode cX10_explore 96 = .ok (.aload_n 0, 1) := dk_42 (dk_at dksX10_explore_4 2 rfl rfl)
theorem dX10_explore_97 : decode cX10_explore 97 = .ok (.getfield 117, 3) := dk_180 0 117 (dk_at dksX10_explore_4 3 rfl rfl)
theorem dX10_explore_100 : decode cX10_explore 100 = .ok (.iload 4, 2) := dk_21 4 (dk_at dksX10_explore_4 6 rfl rfl)
theorem dX10_explore_102 : decode cX10_explore 102 = .ok (.iaload, 1) := dk_46 (dk_at dksX10_explore_4 8 rfl rfl)
theorem dX10_explore_103 : decode cX10_explore 103 = .ok (.iconst 3, 1) := dk_6 (dk_at dksX10_explore_4 9 rfl rfl)
theorem dX10_explore_104 : decode cX10_explore 104 = .ok (.if_icmp .ne 19, 3) := dk_160 0 19 (dk_at dksX10_explore_4 10 rfl rfl)
theorem dX10_explore_107 : decode cX10_explore 107 = .ok (.aload_n 0, 1) := dk_42 (dk_at dksX10_explore_4 13 rfl rfl)
theorem dX10_explore_108 : decode cX10_explore 108 = .ok (.getfield 120, 3) := dk_180 0 120 (dk_at dksX10_explore_4 14 rfl rfl)
theorem dX10_explore_111 : decode cX10_explore 111 = .ok (.iload 4, 2) := dk_21 4 (dk_at dksX10_explore_4 17 rfl rfl)
theorem dX10_explore_113 : decode cX10_explore 113 = .ok (.iaload, 1) := dk_46 (dk_at dksX10_explore_4 19 rfl rfl)
theorem dX10_explore_114 : decode cX10_explore 114 = .ok (.aload_n 0, 1) := dk_42 (dk_at dksX10_explore_4 20 rfl rfl)
theorem dX10_explore_115 : decode cX10_explore 115 = .ok (.iload 4, 2) := dk_21 4 (dk_at dksX10_explore_4 21 rfl rfl)
theorem dX10_explore_117 : decode cX10_explore 117 = .ok (.invokevirtual 512, 3) := dk_182 2 0 (dk_at dksX10_explore_5 0 rfl rfl)
theorem dX10_explore_120 : decode cX10_explore 120 = .ok (.if_icmp .ne 9, 3) := dk_160 0 9 (dk_at dksX10_explore_5 3 rfl rfl)
theorem dX10_explore_123 : decode cX10_explore 123 = .ok (.iinc 4 (-1), 3) := dk_132 4 255 (dk_at dksX10_explore_5 6 rfl rfl)
theorem dX10_explore_126 : decode cX10_explore 126 = .ok (.goto (-101), 3) := dk_167 255 155 (dk_at dksX10_explore_5 9 rfl rfl)
theorem dX10_explore_129 : decode cX10_explore 129 = .ok (.aload_n 0, 1) := dk_42 (dk_at dksX10_explore_5 12 rfl rfl)
theorem dX10_explore_130 : decode cX10_explore 130 = .ok (.iload 4, 2) := dk_21 4 (dk_at dksX10_explore_5 13 rfl rfl)
theorem dX10_explore_132 : decode cX10_explore 132 = .ok (.invokevirtual 515, 3) := dk_182 2 3 (dk_at dksX10_explore_5 15 rfl rfl)
theorem dX10_explore_135 : decode cX10_explore 135 = .ok (.istore 5, 2) := dk_54 5 (dk_at dksX10_explore_5 18 rfl rfl)
theorem dX10_explore_137 : decode cX10_explore 137 = .ok (.aload_n 0, 1) := dk_42 (dk_at dksX10_explore_5 20 rfl rfl)
theorem dX10_explore_138 : decode cX10_explore 138 = .ok (.getfield 120, 3) := dk_180 0 120 (dk_at dksX10_explore_5 21 rfl rfl)
theorem dX10_explore_141 : decode cX10_explore 141 = .ok (.iload 4, 2) := dk_21 4 (dk_at dksX10_explore_6 0 rfl rfl)
theorem dX10_explore_143 : decode cX10_explore 143 = .ok (.dup2, 1) := dk_92 (dk_at dksX10_explore_6 2 rfl rfl)
theorem dX10_explore_144 : decode cX10_explore 144 = .ok (.iaload, 1) := dk_46 (dk_at dksX10_explore_6 3 rfl rfl)
theorem dX10_explore_145 : decode cX10_explore 145 = .ok (.iconst 1, 1) := dk_4 (dk_at dksX10_explore_6 4 rfl rfl)
theorem dX10_explore_146 : decode cX10_explore 146 = .ok (.iadd, 1) := dk_96 (dk_at dksX10_explore_6 5 rfl rfl)
theorem dX10_explore_147 : decode cX10_explore 147 = .ok (.iastore, 1) := dk_79 (dk_at dksX10_explore_6 6 rfl rfl)
theorem dX10_explore_148 : decode cX10_explore 148 = .ok (.iload 4, 2) := dk_21 4 (dk_at dksX10_explore_6 7 rfl rfl)
theorem dX10_explore_150 : decode cX10_explore 150 = .ok (.iload 5, 2) := dk_21 5 (dk_at dksX10_explore_6 9 rfl rfl)
theorem dX10_explore_152 : decode cX10_explore 152 = .ok (.ifCond .eq 7, 3) := dk_153 0 7 (dk_at dksX10_explore_6 11 rfl rfl)
theorem dX10_explore_155 : decode cX10_explore 155 = .ok (.iconst 1, 1) := dk_4 (dk_at dksX10_explore_6 14 rfl rfl)
theorem dX10_explore_156 : decode cX10_explore 156 = .ok (.goto 4, 3) := dk_167 0 4 (dk_at dksX10_explore_6 15 rfl rfl)
theorem dX10_explore_159 : decode cX10_explore 159 = .ok (.iconst 0, 1) := dk_3 (dk_at dksX10_explore_6 18 rfl rfl)
theorem dX10_explore_160 : decode cX10_explore 160 = .ok (.iadd, 1) := dk_96 (dk_at dksX10_explore_6 19 rfl rfl)
theorem dX10_explore_161 : decode cX10_explore 161 = .ok (.istore 4, 2) := dk_54 4 (dk_at dksX10_explore_6 20 rfl rfl)
theorem dX10_explore_163 : decode cX10_explore 163 = .ok (.goto (-138), 3) := dk_167 255 118 (dk_at dksX10_explore_7 0 rfl rfl)
theorem dX10_explore_166 : decode cX10_explore 166 = .ok (.iconst 1, 1) := dk_4 (dk_at dksX10_explore_7 3 rfl rfl)
theorem dX10_explore_167 : decode cX10_explore 167 = .ok (.ireturn, 1) := dk_172 (dk_at dksX10_explore_7 4 rfl rfl)
abbrev cX10_begin : ByteArray := prog_32_method_69_code
def yX10_begin : MethodName := ⟨RX10, "begin", "()V"⟩
def dkwX10_begin_3 : List UInt8 := [180, 0, 102, 3, 10, 80, 177]
abbrev dktX10_begin_3 : List UInt8 := dkwX10_begin_3 ++ []
def dkwX10_begin_2 : List UInt8 := [3, 79, 42, 180, 0, 108, 3, 3, 79, 42, 180, 0, 111, 3, 2, 79, 42, 180, 0, 114, 3, 3, 79, 42]
abbrev dktX10_begin_2 : List UInt8 := dkwX10_begin_2 ++ dktX10_begin_3
def dkwX10_begin_1 : List UInt8 := [10, 80, 42, 180, 0, 123, 27, 42, 27, 182, 1, 171, 79, 132, 1, 1, 167, 255, 223, 42, 180, 0, 105, 3]
abbrev dktX10_begin_1 : List UInt8 := dkwX10_begin_1 ++ dktX10_begin_2
def dkwX10_begin_0 : List UInt8 := [42, 3, 182, 1, 182, 3, 60, 27, 42, 182, 1, 161, 162, 0, 31, 42, 180, 0, 99, 17, 1, 0, 27, 104]
abbrev dktX10_begin_0 : List UInt8 := dkwX10_begin_0 ++ dktX10_begin_1
theorem dksX10_begin_0 : cX10_begin.data.toList.drop 0 = dktX10_begin_0 := by decide +kernel
theorem dksX10_begin_1 : cX10_begin.data.toList.drop 24 = dktX10_begin_1 := dk_seg dksX10_begin_0 24 rfl rfl
theorem dksX10_begin_2 : cX10_begin.data.toList.drop 48 = dktX10_begin_2 := dk_seg dksX10_begin_1 24 rfl rfl
theorem dksX10_begin_3 : cX10_begin.data.toList.drop 72 = dktX10_begin_3 := dk_seg dksX10_begin_2 24 rfl rfl
theorem dX10_begin_0 : decode cX10_begin 0 = .ok (.aload_n 0, 1) := dk_42 (dk_at dksX10_begin_0 0 rfl rfl)
theorem dX10_begin_1 : decode cX10_begin 1 = .ok (.iconst 0, 1) := dk_3 (dk_at dksX10_begin_0 1 rfl rfl)
theorem dX10_begin_2 : decode cX10_begin 2 = .ok (.invokevirtual 438, 3) := dk_182 1 182 (dk_at dksX10_begin_0 2 rfl rfl)
theorem dX10_begin_5 : decode cX10_begin 5 = .ok (.iconst 0, 1) := dk_3 (dk_at dksX10_begin_0 5 rfl rfl)
theorem dX10_begin_6 : decode cX10_begin 6 = .ok (.istore_n 1, 1) := dk_60 (dk_at dksX10_begin_0 6 rfl rfl)
theorem dX10_begin_7 : decode cX10_begin 7 = .ok (.iload_n 1, 1) := dk_27 (dk_at dksX10_begin_0 7 rfl rfl)
theorem dX10_begin_8 : decode cX10_begin 8 = .ok (.aload_n 0, 1) := dk_42 (dk_at dksX10_begin_0 8 rfl rfl)
theorem dX10_begin_9 : decode cX10_begin 9 = .ok (.invokevirtual 417, 3) := dk_182 1 161 (dk_at dksX10_begin_0 9 rfl rfl)
theorem dX10_begin_12 : decode cX10_begin 12 = .ok (.if_icmp .ge 31, 3) := dk_162 0 31 (dk_at dksX10_begin_0 12 rfl rfl)
theorem dX10_begin_15 : decode cX10_begin 15 = .ok (.aload_n 0, 1) := dk_42 (dk_at dksX10_begin_0 15 rfl rfl)
theorem dX10_begin_16 : decode cX10_begin 16 = .ok (.getfield 99, 3) := dk_180 0 99 (dk_at dksX10_begin_0 16 rfl rfl)
theorem dX10_begin_19 : decode cX10_begin 19 = .ok (.sipush 256, 3) := dk_17 1 0 (dk_at dksX10_begin_0 19 rfl rfl)
theorem dX10_begin_22 : decode cX10_begin 22 = .ok (.iload_n 1, 1) := dk_27 (dk_at dksX10_begin_0 22 rfl rfl)
theorem dX10_begin_23 : decode cX10_begin 23 = .ok (.imul, 1) := dk_104 (dk_at dksX10_begin_0 23 rfl rfl)
theorem dX10_begin_24 : decode cX10_begin 24 = .ok (.lconst 1, 1) := dk_10 (dk_at dksX10_begin_1 0 rfl rfl)
theorem dX10_begin_25 : decode cX10_begin 25 = .ok (.lastore, 1) := dk_80 (dk_at dksX10_begin_1 1 rfl rfl)
theorem dX10_begin_26 : decode cX10_begin 26 = .ok (.aload_n 0, 1) := dk_42 (dk_at dksX10_begin_1 2 rfl rfl)
theorem dX10_begin_27 : decode cX10_begin 27 = .ok (.getfield 123, 3) := dk_180 0 123 (dk_at dksX10_begin_1 3 rfl rfl)
theorem dX10_begin_30 : decode cX10_begin 30 = .ok (.iload_n 1, 1) := dk_27 (dk_at dksX10_begin_1 6 rfl rfl)
theorem dX10_begin_31 : decode cX10_begin 31 = .ok (.aload_n 0, 1) := dk_42 (dk_at dksX10_begin_1 7 rfl rfl)
theorem dX10_begin_32 : decode cX10_begin 32 = .ok (.iload_n 1, 1) := dk_27 (dk_at dksX10_begin_1 8 rfl rfl)
theorem dX10_begin_33 : decode cX10_begin 33 = .ok (.invokevirtual 427, 3) := dk_182 1 171 (dk_at dksX10_begin_1 9 rfl rfl)
theorem dX10_begin_36 : decode cX10_begin 36 = .ok (.iastore, 1) := dk_79 (dk_at dksX10_begin_1 12 rfl rfl)
theorem dX10_begin_37 : decode cX10_begin 37 = .ok (.iinc 1 1, 3) := dk_132 1 1 (dk_at dksX10_begin_1 13 rfl rfl)
theorem dX10_begin_40 : decode cX10_begin 40 = .ok (.goto (-33), 3) := dk_167 255 223 (dk_at dksX10_begin_1 16 rfl rfl)
theorem dX10_begin_43 : decode cX10_begin 43 = .ok (.aload_n 0, 1) := dk_42 (dk_at dksX10_begin_1 19 rfl rfl)
theorem dX10_begin_44 : decode cX10_begin 44 = .ok (.getfield 105, 3) := dk_180 0 105 (dk_at dksX10_begin_1 20 rfl rfl)
theorem dX10_begin_47 : decode cX10_begin 47 = .ok (.iconst 0, 1) := dk_3 (dk_at dksX10_begin_1 23 rfl rfl)
theorem dX10_begin_48 : decode cX10_begin 48 = .ok (.iconst 0, 1) := dk_3 (dk_at dksX10_begin_2 0 rfl rfl)
theorem dX10_begin_49 : decode cX10_begin 49 = .ok (.iastore, 1) := dk_79 (dk_at dksX10_begin_2 1 rfl rfl)
theorem dX10_begin_50 : decode cX10_begin 50 = .ok (.aload_n 0, 1) := dk_42 (dk_at dksX10_begin_2 2 rfl rfl)
theorem dX10_begin_51 : decode cX10_begin 51 = .ok (.getfield 108, 3) := dk_180 0 108 (dk_at dksX10_begin_2 3 rfl rfl)
theorem dX10_begin_54 : decode cX10_begin 54 = .ok (.iconst 0, 1) := dk_3 (dk_at dksX10_begin_2 6 rfl rfl)
theorem dX10_begin_55 : decode cX10_begin 55 = .ok (.iconst 0, 1) := dk_3 (dk_at dksX10_begin_2 7 rfl rfl)
theorem dX10_begin_56 : decode cX10_begin 56 = .ok (.iastore, 1) := dk_79 (dk_at dksX10_begin_2 8 rfl rfl)
theorem dX10_begin_57 : decode cX10_begin 57 = .ok (.aload_n 0, 1) := dk_42 (dk_at dksX10_begin_2 9 rfl rfl)
theorem dX10_begin_58 : decode cX10_begin 58 = .ok (.getfield 111, 3) := dk_180 0 111 (dk_at dksX10_begin_2 10 rfl rfl)
theorem dX10_begin_61 : decode cX10_begin 61 = .ok (.iconst 0, 1) := dk_3 (dk_at dksX10_begin_2 13 rfl rfl)
theorem dX10_begin_62 : decode cX10_begin 62 = .ok (.iconst (-1), 1) := dk_2 (dk_at dksX10_begin_2 14 rfl rfl)
theorem dX10_begin_63 : decode cX10_begin 63 = .ok (.iastore, 1) := dk_79 (dk_at dksX10_begin_2 15 rfl rfl)
theorem dX10_begin_64 : decode cX10_begin 64 = .ok (.aload_n 0, 1) := dk_42 (dk_at dksX10_begin_2 16 rfl rfl)
theorem dX10_begin_65 : decode cX10_begin 65 = .ok (.getfield 114, 3) := dk_180 0 114 (dk_at dksX10_begin_2 17 rfl rfl)
theorem dX10_begin_68 : decode cX10_begin 68 = .ok (.iconst 0, 1) := dk_3 (dk_at dksX10_begin_2 20 rfl rfl)
theorem dX10_begin_69 : decode cX10_begin 69 = .ok (.iconst 0, 1) := dk_3 (dk_at dksX10_begin_2 21 rfl rfl)
theorem dX10_begin_70 : decode cX10_begin 70 = .ok (.iastore, 1) := dk_79 (dk_at dksX10_begin_2 22 rfl rfl)
theorem dX10_begin_71 : decode cX10_begin 71 = .ok (.aload_n 0, 1) := dk_42 (dk_at dksX10_begin_2 23 rfl rfl)
theorem dX10_begin_72 : decode cX10_begin 72 = .ok (.getfield 102, 3) := dk_180 0 102 (dk_at dksX10_begin_3 0 rfl rfl)
theorem dX10_begin_75 : decode cX10_begin 75 = .ok (.iconst 0, 1) := dk_3 (dk_at dksX10_begin_3 3 rfl rfl)
theorem dX10_begin_76 : decode cX10_begin 76 = .ok (.lconst 1, 1) := dk_10 (dk_at dksX10_begin_3 4 rfl rfl)
theorem dX10_begin_77 : decode cX10_begin 77 = .ok (.lastore, 1) := dk_80 (dk_at dksX10_begin_3 5 rfl rfl)
theorem dX10_begin_78 : decode cX10_begin 78 = .ok (.return_, 1) := dk_177 (dk_at dksX10_begin_3 6 rfl rfl)
abbrev cX10_clearDist : ByteArray := prog_32_method_54_code
def yX10_clearDist : MethodName := ⟨RX10, "clearDist", "(I)V"⟩
def dkwX10_clearDist_1 : List UInt8 := [9, 80, 132, 2, 1, 167, 255, 233, 177]
abbrev dktX10_clearDist_1 : List UInt8 := dkwX10_clearDist_1 ++ []
def dkwX10_clearDist_0 : List UInt8 := [17, 8, 0, 27, 104, 61, 28, 17, 8, 0, 27, 104, 17, 8, 0, 96, 162, 0, 16, 42, 180, 0, 99, 28]
abbrev dktX10_clearDist_0 : List UInt8 := dkwX10_clearDist_0 ++ dktX10_clearDist_1
theorem dksX10_clearDist_0 : cX10_clearDist.data.toList.drop 0 = dktX10_clearDist_0 := by decide +kernel
theorem dksX10_clearDist_1 : cX10_clearDist.data.toList.drop 24 = dktX10_clearDist_1 := dk_seg dksX10_clearDist_0 24 rfl rfl
theorem dX10_clearDist_0 : decode cX10_clearDist 0 = .ok (.sipush 2048, 3) := dk_17 8 0 (dk_at dksX10_clearDist_0 0 rfl rfl)
theorem dX10_clearDist_3 : decode cX10_clearDist 3 = .ok (.iload_n 1, 1) := dk_27 (dk_at dksX10_clearDist_0 3 rfl rfl)
theorem dX10_clearDist_4 : decode cX10_clearDist 4 = .ok (.imul, 1) := dk_104 (dk_at dksX10_clearDist_0 4 rfl rfl)
theorem dX10_clearDist_5 : decode cX10_clearDist 5 = .ok (.istore_n 2, 1) := dk_61 (dk_at dksX10_clearDist_0 5 rfl rfl)
theorem dX10_clearDist_6 : decode cX10_clearDist 6 = .ok (.iload_n 2, 1) := dk_28 (dk_at dksX10_clearDist_0 6 rfl rfl)
theorem dX10_clearDist_7 : decode cX10_clearDist 7 = .ok (.sipush 2048, 3) := dk_17 8 0 (dk_at dksX10_clearDist_0 7 rfl rfl)
theorem dX10_clearDist_10 : decode cX10_clearDist 10 = .ok (.iload_n 1, 1) := dk_27 (dk_at dksX10_clearDist_0 10 rfl rfl)
theorem dX10_clearDist_11 : decode cX10_clearDist 11 = .ok (.imul, 1) := dk_104 (dk_at dksX10_clearDist_0 11 rfl rfl)
theorem dX10_clearDist_12 : decode cX10_clearDist 12 = .ok (.sipush 2048, 3) := dk_17 8 0 (dk_at dksX10_clearDist_0 12 rfl rfl)
theorem dX10_clearDist_15 : decode cX10_clearDist 15 = .ok (.iadd, 1) := dk_96 (dk_at dksX10_clearDist_0 15 rfl rfl)
theorem dX10_clearDist_16 : decode cX10_clearDist 16 = .ok (.if_icmp .ge 16, 3) := dk_162 0 16 (dk_at dksX10_clearDist_0 16 rfl rfl)
theorem dX10_clearDist_19 : decode cX10_clearDist 19 = .ok (.aload_n 0, 1) := dk_42 (dk_at dksX10_clearDist_0 19 rfl rfl)
theorem dX10_clearDist_20 : decode cX10_clearDist 20 = .ok (.getfield 99, 3) := dk_180 0 99 (dk_at dksX10_clearDist_0 20 rfl rfl)
theorem dX10_clearDist_23 : decode cX10_clearDist 23 = .ok (.iload_n 2, 1) := dk_28 (dk_at dksX10_clearDist_0 23 rfl rfl)
theorem dX10_clearDist_24 : decode cX10_clearDist 24 = .ok (.lconst 0, 1) := dk_9 (dk_at dksX10_clearDist_1 0 rfl rfl)
theorem dX10_clearDist_25 : decode cX10_clearDist 25 = .ok (.lastore, 1) := dk_80 (dk_at dksX10_clearDist_1 1 rfl rfl)
theorem dX10_clearDist_26 : decode cX10_clearDist 26 = .ok (.iinc 2 1, 3) := dk_132 2 1 (dk_at dksX10_clearDist_1 2 rfl rfl)
theorem dX10_clearDist_29 : decode cX10_clearDist 29 = .ok (.goto (-23), 3) := dk_167 255 233 (dk_at dksX10_clearDist_1 5 rfl rfl)
theorem dX10_clearDist_32 : decode cX10_clearDist 32 = .ok (.return_, 1) := dk_177 (dk_at dksX10_clearDist_1 8 rfl rfl)
abbrev cX10_inputs : ByteArray := prog_32_method_45_code
def yX10_inputs : MethodName := ⟨RX10, "inputs", "()I"⟩
def dkwX10_inputs_0 : List UInt8 := [4, 42, 180, 0, 20, 42, 180, 1, 53, 46, 120, 172]
abbrev dktX10_inputs_0 : List UInt8 := dkwX10_inputs_0 ++ []
theorem dksX10_inputs_0 : cX10_inputs.data.toList.drop 0 = dktX10_inputs_0 := by decide +kernel
theorem dX10_inputs_0 : decode cX10_inputs 0 = .ok (.iconst 1, 1) := dk_4 (dk_at dksX10_inputs_0 0 rfl rfl)
theorem dX10_inputs_1 : decode cX10_inputs 1 = .ok (.aload_n 0, 1) := dk_42 (dk_at dksX10_inputs_0 1 rfl rfl)
theorem dX10_inputs_2 : decode cX10_inputs 2 = .ok (.getfield 20, 3) := dk_180 0 20 (dk_at dksX10_inputs_0 2 rfl rfl)
theorem dX10_inputs_5 : decode cX10_inputs 5 = .ok (.aload_n 0, 1) := dk_42 (dk_at dksX10_inputs_0 5 rfl rfl)
theorem dX10_inputs_6 : decode cX10_inputs 6 = .ok (.getfield 309, 3) := dk_180 1 53 (dk_at dksX10_inputs_0 6 rfl rfl)
theorem dX10_inputs_9 : decode cX10_inputs 9 = .ok (.iaload, 1) := dk_46 (dk_at dksX10_inputs_0 9 rfl rfl)
theorem dX10_inputs_10 : decode cX10_inputs 10 = .ok (.ishl, 1) := dk_120 (dk_at dksX10_inputs_0 10 rfl rfl)
theorem dX10_inputs_11 : decode cX10_inputs 11 = .ok (.ireturn, 1) := dk_172 (dk_at dksX10_inputs_0 11 rfl rfl)
abbrev cX10_askedOf : ByteArray := prog_32_method_42_code
def yX10_askedOf : MethodName := ⟨RX10, "askedOf", "(I)I"⟩
def dkwX10_askedOf_7 : List UInt8 := [180, 1, 53, 51, 153, 0, 12, 42, 180, 0, 89, 3, 46, 167, 0, 4, 3, 172]
abbrev dktX10_askedOf_7 : List UInt8 := dkwX10_askedOf_7 ++ []
def dkwX10_askedOf_6 : List UInt8 := [4, 100, 46, 42, 180, 0, 89, 28, 46, 184, 1, 157, 79, 132, 3, 1, 167, 255, 108, 42, 180, 0, 49, 42]
abbrev dktX10_askedOf_6 : List UInt8 := dkwX10_askedOf_6 ++ dktX10_askedOf_7
def dkwX10_askedOf_5 : List UInt8 := [79, 132, 2, 1, 167, 0, 33, 132, 2, 255, 42, 180, 0, 89, 28, 4, 100, 21, 4, 42, 180, 0, 89, 28]
abbrev dktX10_askedOf_5 : List UInt8 := dkwX10_askedOf_5 ++ dktX10_askedOf_6
def dkwX10_askedOf_4 : List UInt8 := [21, 4, 16, 97, 160, 0, 10, 27, 184, 1, 154, 167, 0, 13, 27, 42, 180, 0, 80, 29, 46, 122, 4, 126]
abbrev dktX10_askedOf_4 : List UInt8 := dkwX10_askedOf_4 ++ dktX10_askedOf_5
def dkwX10_askedOf_3 : List UInt8 := [153, 0, 55, 42, 180, 0, 89, 28, 21, 4, 16, 110, 160, 0, 12, 42, 180, 0, 80, 29, 46, 167, 0, 27]
abbrev dktX10_askedOf_3 : List UInt8 := dkwX10_askedOf_3 ++ dktX10_askedOf_4
def dkwX10_askedOf_2 : List UInt8 := [180, 0, 89, 28, 4, 100, 46, 154, 0, 7, 4, 167, 0, 4, 3, 79, 167, 0, 93, 21, 4, 184, 1, 2]
abbrev dktX10_askedOf_2 : List UInt8 := dkwX10_askedOf_2 ++ dktX10_askedOf_3
def dkwX10_askedOf_1 : List UInt8 := [42, 180, 0, 77, 29, 46, 54, 4, 21, 4, 16, 126, 160, 0, 30, 42, 180, 0, 89, 28, 4, 100, 42]
abbrev dktX10_askedOf_1 : List UInt8 := dkwX10_askedOf_1 ++ dktX10_askedOf_2
def dkwX10_askedOf_0 : List UInt8 := [3, 61, 17, 1, 144, 42, 180, 1, 53, 104, 62, 29, 42, 180, 0, 42, 42, 180, 1, 53, 46, 162, 0, 141]
abbrev dktX10_askedOf_0 : List UInt8 := dkwX10_askedOf_0 ++ dktX10_askedOf_1
theorem dksX10_askedOf_0 : cX10_askedOf.data.toList.drop 0 = dktX10_askedOf_0 := by decide +kernel
theorem dksX10_askedOf_1 : cX10_askedOf.data.toList.drop 24 = dktX10_askedOf_1 := dk_seg dksX10_askedOf_0 24 rfl rfl
theorem dksX10_askedOf_2 : cX10_askedOf.data.toList.drop 47 = dktX10_askedOf_2 := dk_seg dksX10_askedOf_1 23 rfl rfl
theorem dksX10_askedOf_3 : cX10_askedOf.data.toList.drop 71 = dktX10_askedOf_3 := dk_seg dksX10_askedOf_2 24 rfl rfl
theorem dksX10_askedOf_4 : cX10_askedOf.data.toList.drop 95 = dktX10_askedOf_4 := dk_seg dksX10_askedOf_3 24 rfl rfl
theorem dksX10_askedOf_5 : cX10_askedOf.data.toList.drop 119 = dktX10_askedOf_5 := dk_seg dksX10_askedOf_4 24 rfl rfl
theorem dksX10_askedOf_6 : cX10_askedOf.data.toList.drop 143 = dktX10_askedOf_6 := dk_seg dksX10_askedOf_5 24 rfl rfl
theorem dksX10_askedOf_7 : cX10_askedOf.data.toList.drop 167 = dktX10_askedOf_7 := dk_seg dksX10_askedOf_6 24 rfl rfl
theorem dX10_askedOf_0 : decode cX10_askedOf 0 = .ok (.iconst 0, 1) := dk_3 (dk_at dksX10_askedOf_0 0 rfl rfl)
theorem dX10_askedOf_1 : decode cX10_askedOf 1 = .ok (.istore_n 2, 1) := dk_61 (dk_at dksX10_askedOf_0 1 rfl rfl)
theorem dX10_askedOf_2 : decode cX10_askedOf 2 = .ok (.sipush 400, 3) := dk_17 1 144 (dk_at dksX10_askedOf_0 2 rfl rfl)
theorem dX10_askedOf_5 : decode cX10_askedOf 5 = .ok (.aload_n 0, 1) := dk_42 (dk_at dksX10_askedOf_0 5 rfl rfl)
theorem dX10_askedOf_6 : decode cX10_askedOf 6 = .ok (.getfield 309, 3) := dk_180 1 53 (dk_at dksX10_askedOf_0 6 rfl rfl)
theorem dX10_askedOf_9 : decode cX10_askedOf 9 = .ok (.imul, 1) := dk_104 (dk_at dksX10_askedOf_0 9 rfl rfl)
theorem dX10_askedOf_10 : decode cX10_askedOf 10 = .ok (.istore_n 3, 1) := dk_62 (dk_at dksX10_askedOf_0 10 rfl rfl)
theorem dX10_askedOf_11 : decode cX10_askedOf 11 = .ok (.iload_n 3, 1) := dk_29 (dk_at dksX10_askedOf_0 11 rfl rfl)
theorem dX10_askedOf_12 : decode cX10_askedOf 12 = .ok (.aload_n 0, 1) := dk_42 (dk_at dksX10_askedOf_0 12 rfl rfl)
theorem dX10_askedOf_13 : decode cX10_askedOf 13 = .ok (.getfield 42, 3) := dk_180 0 42 (dk_at dksX10_askedOf_0 13 rfl rfl)
theorem dX10_askedOf_16 : decode cX10_askedOf 16 = .ok (.aload_n 0, 1) := dk_42 (dk_at dksX10_askedOf_0 16 rfl rfl)
theorem dX10_askedOf_17 : decode cX10_askedOf 17 = .ok (.getfield 309, 3) := dk_180 1 53 (dk_at dksX10_askedOf_0 17 rfl rfl)
theorem dX10_askedOf_20 : decode cX10_askedOf 20 = .ok (.iaload, 1) := dk_46 (dk_at dksX10_askedOf_0 20 rfl rfl)
theorem dX10_askedOf_21 : decode cX10_askedOf 21 = .ok (.if_icmp .ge 141, 3) := dk_162 0 141 (dk_at dksX10_askedOf_0 21 rfl rfl)
theorem dX10_askedOf_24 : decode cX10_askedOf 24 = .ok (.aload_n 0, 1) := dk_42 (dk_at dksX10_askedOf_1 0 rfl rfl)
theorem dX10_askedOf_25 : decode cX10_askedOf 25 = .ok (.getfield 77, 3) := dk_180 0 77 (dk_at dksX10_askedOf_1 1 rfl rfl)
theorem dX10_askedOf_28 : decode cX10_askedOf 28 = .ok (.iload_n 3, 1) := dk_29 (dk_at dksX10_askedOf_1 4 rfl rfl)
theorem dX10_askedOf_29 : decode cX10_askedOf 29 = .ok (.iaload, 1) := dk_46 (dk_at dksX10_askedOf_1 5 rfl rfl)
theorem dX10_askedOf_30 : decode cX10_askedOf 30 = .ok (.istore 4, 2) := dk_54 4 (dk_at dksX10_askedOf_1 6 rfl rfl)
theorem dX10_askedOf_32 : decode cX10_askedOf 32 = .ok (.iload 4, 2) := dk_21 4 (dk_at dksX10_askedOf_1 8 rfl rfl)
theorem dX10_askedOf_34 : decode cX10_askedOf 34 = .ok (.bipush 126, 2) := dk_16 126 (dk_at dksX10_askedOf_1 10 rfl rfl)
theorem dX10_askedOf_36 : decode cX10_askedOf 36 = .ok (.if_icmp .ne 30, 3) := dk_160 0 30 (dk_at dksX10_askedOf_1 12 rfl rfl)
theorem dX10_askedOf_39 : decode cX10_askedOf 39 = .ok (.aload_n 0, 1) := dk_42 (dk_at dksX10_askedOf_1 15 rfl rfl)
theorem dX10_askedOf_40 : decode cX10_askedOf 40 = .ok (.getfield 89, 3) := dk_180 0 89 (dk_at dksX10_askedOf_1 16 rfl rfl)
theorem dX10_askedOf_43 : decode cX10_askedOf 43 = .ok (.iload_n 2, 1) := dk_28 (dk_at dksX10_askedOf_1 19 rfl rfl)
theorem dX10_askedOf_44 : decode cX10_askedOf 44 = .ok (.iconst 1, 1) := dk_4 (dk_at dksX10_askedOf_1 20 rfl rfl)
theorem dX10_askedOf_45 : decode cX10_askedOf 45 = .ok (.isub, 1) := dk_100 (dk_at dksX10_askedOf_1 21 rfl rfl)
theorem dX10_askedOf_46 : decode cX10_askedOf 46 = .ok (.aload_n 0, 1) := dk_42 (dk_at dksX10_askedOf_1 22 rfl rfl)
theorem dX10_askedOf_47 : decode cX10_askedOf 47 = .ok (.getfield 89, 3) := dk_180 0 89 (dk_at dksX10_askedOf_2 0 rfl rfl)
theorem dX10_askedOf_50 : decode cX10_askedOf 50 = .ok (.iload_n 2, 1) := dk_28 (dk_at dksX10_askedOf_2 3 rfl rfl)
theorem dX10_askedOf_51 : decode cX10_askedOf 51 = .ok (.iconst 1, 1) := dk_4 (dk_at dksX10_askedOf_2 4 rfl rfl)
theorem dX10_askedOf_52 : decode cX10_askedOf 52 = .ok (.isub, 1) := dk_100 (dk_at dksX10_askedOf_2 5 rfl rfl)
theorem dX10_askedOf_53 : decode cX10_askedOf 53 = .ok (.iaload, 1) := dk_46 (dk_at dksX10_askedOf_2 6 rfl rfl)
theorem dX10_askedOf_54 : decode cX10_askedOf 54 = .ok (.ifCond .ne 7, 3) := dk_154 0 7 (dk_at dksX10_askedOf_2 7 rfl rfl)
theorem dX10_askedOf_57 : decode cX10_askedOf 57 = .ok (.iconst 1, 1) := dk_4 (dk_at dksX10_askedOf_2 10 rfl rfl)
theorem dX10_askedOf_58 : decode cX10_askedOf 58 = .ok (.goto 4, 3) := dk_167 0 4 (dk_at dksX10_askedOf_2 11 rfl rfl)
theorem dX10_askedOf_61 : decode cX10_askedOf 61 = .ok (.iconst 0, 1) := dk_3 (dk_at dksX10_askedOf_2 14 rfl rfl)
theorem dX10_askedOf_62 : decode cX10_askedOf 62 = .ok (.iastore, 1) := dk_79 (dk_at dksX10_askedOf_2 15 rfl rfl)
theorem dX10_askedOf_63 : decode cX10_askedOf 63 = .ok (.goto 93, 3) := dk_167 0 93 (dk_at dksX10_askedOf_2 16 rfl rfl)
theorem dX10_askedOf_66 : decode cX10_askedOf 66 = .ok (.iload 4, 2) := dk_21 4 (dk_at dksX10_askedOf_2 19 rfl rfl)
theorem dX10_askedOf_68 : decode cX10_askedOf 68 = .ok (.invokestatic 258, 3) := dk_184 1 2 (dk_at dksX10_askedOf_2 21 rfl rfl)
theorem dX10_askedOf_71 : decode cX10_askedOf 71 = .ok (.ifCond .eq 55, 3) := dk_153 0 55 (dk_at dksX10_askedOf_3 0 rfl rfl)
theorem dX10_askedOf_74 : decode cX10_askedOf 74 = .ok (.aload_n 0, 1) := dk_42 (dk_at dksX10_askedOf_3 3 rfl rfl)
theorem dX10_askedOf_75 : decode cX10_askedOf 75 = .ok (.getfield 89, 3) := dk_180 0 89 (dk_at dksX10_askedOf_3 4 rfl rfl)
theorem dX10_askedOf_78 : decode cX10_askedOf 78 = .ok (.iload_n 2, 1) := dk_28 (dk_at dksX10_askedOf_3 7 rfl rfl)
theorem dX10_askedOf_79 : decode cX10_askedOf 79 = .ok (.iload 4, 2) := dk_21 4 (dk_at dksX10_askedOf_3 8 rfl rfl)
theorem dX10_askedOf_81 : decode cX10_askedOf 81 = .ok (.bipush 110, 2) := dk_16 110 (dk_at dksX10_askedOf_3 10 rfl rfl)
theorem dX10_askedOf_83 : decode cX10_askedOf 83 = .ok (.if_icmp .ne 12, 3) := dk_160 0 12 (dk_at dksX10_askedOf_3 12 rfl rfl)
theorem dX10_askedOf_86 : decode cX10_askedOf 86 = .ok (.aload_n 0, 1) := dk_42 (dk_at dksX10_askedOf_3 15 rfl rfl)
theorem dX10_askedOf_87 : decode cX10_askedOf 87 = .ok (.getfield 80, 3) := dk_180 0 80 (dk_at dksX10_askedOf_3 16 rfl rfl)
theorem dX10_askedOf_90 : decode cX10_askedOf 90 = .ok (.iload_n 3, 1) := dk_29 (dk_at dksX10_askedOf_3 19 rfl rfl)
theorem dX10_askedOf_91 : decode cX10_askedOf 91 = .ok (.iaload, 1) := dk_46 (dk_at dksX10_askedOf_3 20 rfl rfl)
theorem dX10_askedOf_92 : decode cX10_askedOf 92 = .ok (.goto 27, 3) := dk_167 0 27 (dk_at dksX10_askedOf_3 21 rfl rfl)
theorem dX10_askedOf_95 : decode cX10_askedOf 95 = .ok (.iload 4, 2) := dk_21 4 (dk_at dksX10_askedOf_4 0 rfl rfl)
theorem dX10_askedOf_97 : decode cX10_askedOf 97 = .ok (.bipush 97, 2) := dk_16 97 (dk_at dksX10_askedOf_4 2 rfl rfl)
theorem dX10_askedOf_99 : decode cX10_askedOf 99 = .ok (.if_icmp .ne 10, 3) := dk_160 0 10 (dk_at dksX10_askedOf_4 4 rfl rfl)
theorem dX10_askedOf_102 : decode cX10_askedOf 102 = .ok (.iload_n 1, 1) := dk_27 (dk_at dksX10_askedOf_4 7 rfl rfl)
theorem dX10_askedOf_103 : decode cX10_askedOf 103 = .ok (.invokestatic 410, 3) := dk_184 1 154 (dk_at dksX10_askedOf_4 8 rfl rfl)
theorem dX10_askedOf_106 : decode cX10_askedOf 106 = .ok (.goto 13, 3) := dk_167 0 13 (dk_at dksX10_askedOf_4 11 rfl rfl)
theorem dX10_askedOf_109 : decode cX10_askedOf 109 = .ok (.iload_n 1, 1) := dk_27 (dk_at dksX10_askedOf_4 14 rfl rfl)
theorem dX10_askedOf_110 : decode cX10_askedOf 110 = .ok (.aload_n 0, 1) := dk_42 (dk_at dksX10_askedOf_4 15 rfl rfl)
theorem dX10_askedOf_111 : decode cX10_askedOf 111 = .ok (.getfield 80, 3) := dk_180 0 80 (dk_at dksX10_askedOf_4 16 rfl rfl)
theorem dX10_askedOf_114 : decode cX10_askedOf 114 = .ok (.iload_n 3, 1) := dk_29 (dk_at dksX10_askedOf_4 19 rfl rfl)
theorem dX10_askedOf_115 : decode cX10_askedOf 115 = .ok (.iaload, 1) := dk_46 (dk_at dksX10_askedOf_4 20 rfl rfl)
theorem dX10_askedOf_116 : decode cX10_askedOf 116 = .ok (.ishr, 1) := dk_122 (dk_at dksX10_askedOf_4 21 rfl rfl)
theorem dX10_askedOf_117 : decode cX10_askedOf 117 = .ok (.iconst 1, 1) := dk_4 (dk_at dksX10_askedOf_4 22 rfl rfl)
theorem dX10_askedOf_118 : decode cX10_askedOf 118 = .ok (.iand, 1) := dk_126 (dk_at dksX10_askedOf_4 23 rfl rfl)
theorem dX10_askedOf_119 : decode cX10_askedOf 119 = .ok (.iastore, 1) := dk_79 (dk_at dksX10_askedOf_5 0 rfl rfl)
theorem dX10_askedOf_120 : decode cX10_askedOf 120 = .ok (.iinc 2 1, 3) := dk_132 2 1 (dk_at dksX10_askedOf_5 1 rfl rfl)
theorem dX10_askedOf_123 : decode cX10_askedOf 123 = .ok (.goto 33, 3) := dk_167 0 33 (dk_at dksX10_askedOf_5 4 rfl rfl)
theorem dX10_askedOf_126 : decode cX10_askedOf 126 = .ok (.iinc 2 (-1), 3) := dk_132 2 255 (dk_at dksX10_askedOf_5 7 rfl rfl)
theorem dX10_askedOf_129 : decode cX10_askedOf 129 = .ok (.aload_n 0, 1) := dk_42 (dk_at dksX10_askedOf_5 10 rfl rfl)
theorem dX10_askedOf_130 : decode cX10_askedOf 130 = .ok (.getfield 89, 3) := dk_180 0 89 (dk_at dksX10_askedOf_5 11 rfl rfl)
theorem dX10_askedOf_133 : decode cX10_askedOf 133 = .ok (.iload_n 2, 1) := dk_28 (dk_at dksX10_askedOf_5 14 rfl rfl)
theorem dX10_askedOf_134 : decode cX10_askedOf 134 = .ok (.iconst 1, 1) := dk_4 (dk_at dksX10_askedOf_5 15 rfl rfl)
theorem dX10_askedOf_135 : decode cX10_askedOf 135 = .ok (.isub, 1) := dk_100 (dk_at dksX10_askedOf_5 16 rfl rfl)
theorem dX10_askedOf_136 : decode cX10_askedOf 136 = .ok (.iload 4, 2) := dk_21 4 (dk_at dksX10_askedOf_5 17 rfl rfl)
theorem dX10_askedOf_138 : decode cX10_askedOf 138 = .ok (.aload_n 0, 1) := dk_42 (dk_at dksX10_askedOf_5 19 rfl rfl)
theorem dX10_askedOf_139 : decode cX10_askedOf 139 = .ok (.getfield 89, 3) := dk_180 0 89 (dk_at dksX10_askedOf_5 20 rfl rfl)
theorem dX10_askedOf_142 : decode cX10_askedOf 142 = .ok (.iload_n 2, 1) := dk_28 (dk_at dksX10_askedOf_5 23 rfl rfl)
theorem dX10_askedOf_143 : decode cX10_askedOf 143 = .ok (.iconst 1, 1) := dk_4 (dk_at dksX10_askedOf_6 0 rfl rfl)
theorem dX10_askedOf_144 : decode cX10_askedOf 144 = .ok (.isub, 1) := dk_100 (dk_at dksX10_askedOf_6 1 rfl rfl)
theorem dX10_askedOf_145 : decode cX10_askedOf 145 = .ok (.iaload, 1) := dk_46 (dk_at dksX10_askedOf_6 2 rfl rfl)
theorem dX10_askedOf_146 : decode cX10_askedOf 146 = .ok (.aload_n 0, 1) := dk_42 (dk_at dksX10_askedOf_6 3 rfl rfl)
theorem dX10_askedOf_147 : decode cX10_askedOf 147 = .ok (.getfield 89, 3) := dk_180 0 89 (dk_at dksX10_askedOf_6 4 rfl rfl)
theorem dX10_askedOf_150 : decode cX10_askedOf 150 = .ok (.iload_n 2, 1) := dk_28 (dk_at dksX10_askedOf_6 7 rfl rfl)
theorem dX10_askedOf_151 : decode cX10_askedOf 151 = .ok (.iaload, 1) := dk_46 (dk_at dksX10_askedOf_6 8 rfl rfl)
theorem dX10_askedOf_152 : decode cX10_askedOf 152 = .ok (.invokestatic 413, 3) := dk_184 1 157 (dk_at dksX10_askedOf_6 9 rfl rfl)
theorem dX10_askedOf_155 : decode cX10_askedOf 155 = .ok (.iastore, 1) := dk_79 (dk_at dksX10_askedOf_6 12 rfl rfl)
theorem dX10_askedOf_156 : decode cX10_askedOf 156 = .ok (.iinc 3 1, 3) := dk_132 3 1 (dk_at dksX10_askedOf_6 13 rfl rfl)
theorem dX10_askedOf_159 : decode cX10_askedOf 159 = .ok (.goto (-148), 3) := dk_167 255 108 (dk_at dksX10_askedOf_6 16 rfl rfl)
theorem dX10_askedOf_162 : decode cX10_askedOf 162 = .ok (.aload_n 0, 1) := dk_42 (dk_at dksX10_askedOf_6 19 rfl rfl)
theorem dX10_askedOf_163 : decode cX10_askedOf 163 = .ok (.getfield 49, 3) := dk_180 0 49 (dk_at dksX10_askedOf_6 20 rfl rfl)
theorem dX10_askedOf_166 : decode cX10_askedOf 166 = .ok (.aload_n 0, 1) := dk_42 (dk_at dksX10_askedOf_6 23 rfl rfl)
theorem dX10_askedOf_167 : decode cX10_askedOf 167 = .ok (.getfield 309, 3) := dk_180 1 53 (dk_at dksX10_askedOf_7 0 rfl rfl)
theorem dX10_askedOf_170 : decode cX10_askedOf 170 = .ok (.baload, 1) := dk_51 (dk_at dksX10_askedOf_7 3 rfl rfl)
theorem dX10_askedOf_171 : decode cX10_askedOf 171 = .ok (.ifCond .eq 12, 3) := dk_153 0 12 (dk_at dksX10_askedOf_7 4 rfl rfl)
theorem dX10_askedOf_174 : decode cX10_askedOf 174 = .ok (.aload_n 0, 1) := dk_42 (dk_at dksX10_askedOf_7 7 rfl rfl)
theorem dX10_askedOf_175 : decode cX10_askedOf 175 = .ok (.getfield 89, 3) := dk_180 0 89 (dk_at dksX10_askedOf_7 8 rfl rfl)
theorem dX10_askedOf_178 : decode cX10_askedOf 178 = .ok (.iconst 0, 1) := dk_3 (dk_at dksX10_askedOf_7 11 rfl rfl)
theorem dX10_askedOf_179 : decode cX10_askedOf 179 = .ok (.iaload, 1) := dk_46 (dk_at dksX10_askedOf_7 12 rfl rfl)
theorem dX10_askedOf_180 : decode cX10_askedOf 180 = .ok (.goto 4, 3) := dk_167 0 4 (dk_at dksX10_askedOf_7 13 rfl rfl)
theorem dX10_askedOf_183 : decode cX10_askedOf 183 = .ok (.iconst 0, 1) := dk_3 (dk_at dksX10_askedOf_7 16 rfl rfl)
theorem dX10_askedOf_184 : decode cX10_askedOf 184 = .ok (.ireturn, 1) := dk_172 (dk_at dksX10_askedOf_7 17 rfl rfl)
abbrev cX10_isLetter : ByteArray := prog_32_method_3_code
def yX10_isLetter : MethodName := ⟨RX10, "isLetter", "(I)Z"⟩
def dkwX10_isLetter_0 : List UInt8 := [26, 16, 97, 161, 0, 13, 26, 16, 122, 163, 0, 7, 4, 167, 0, 4, 3, 172]
abbrev dktX10_isLetter_0 : List UInt8 := dkwX10_isLetter_0 ++ []
theorem dksX10_isLetter_0 : cX10_isLetter.data.toList.drop 0 = dktX10_isLetter_0 := by decide +kernel
theorem dX10_isLetter_0 : decode cX10_isLetter 0 = .ok (.iload_n 0, 1) := dk_26 (dk_at dksX10_isLetter_0 0 rfl rfl)
theorem dX10_isLetter_1 : decode cX10_isLetter 1 = .ok (.bipush 97, 2) := dk_16 97 (dk_at dksX10_isLetter_0 1 rfl rfl)
theorem dX10_isLetter_3 : decode cX10_isLetter 3 = .ok (.if_icmp .lt 13, 3) := dk_161 0 13 (dk_at dksX10_isLetter_0 3 rfl rfl)
theorem dX10_isLetter_6 : decode cX10_isLetter 6 = .ok (.iload_n 0, 1) := dk_26 (dk_at dksX10_isLetter_0 6 rfl rfl)
theorem dX10_isLetter_7 : decode cX10_isLetter 7 = .ok (.bipush 122, 2) := dk_16 122 (dk_at dksX10_isLetter_0 7 rfl rfl)
theorem dX10_isLetter_9 : decode cX10_isLetter 9 = .ok (.if_icmp .gt 7, 3) := dk_163 0 7 (dk_at dksX10_isLetter_0 9 rfl rfl)
theorem dX10_isLetter_12 : decode cX10_isLetter 12 = .ok (.iconst 1, 1) := dk_4 (dk_at dksX10_isLetter_0 12 rfl rfl)
theorem dX10_isLetter_13 : decode cX10_isLetter 13 = .ok (.goto 4, 3) := dk_167 0 4 (dk_at dksX10_isLetter_0 13 rfl rfl)
theorem dX10_isLetter_16 : decode cX10_isLetter 16 = .ok (.iconst 0, 1) := dk_3 (dk_at dksX10_isLetter_0 16 rfl rfl)
theorem dX10_isLetter_17 : decode cX10_isLetter 17 = .ok (.ireturn, 1) := dk_172 (dk_at dksX10_isLetter_0 17 rfl rfl)
abbrev cX10_bitsOf : ByteArray := prog_32_method_41_code
def yX10_bitsOf : MethodName := ⟨RX10, "bitsOf", "(I)I"⟩
def dkwX10_bitsOf_1 : List UInt8 := [27, 172]
abbrev dktX10_bitsOf_1 : List UInt8 := dkwX10_bitsOf_1 ++ []
def dkwX10_bitsOf_0 : List UInt8 := [3, 60, 3, 61, 28, 16, 31, 162, 0, 17, 27, 26, 28, 122, 4, 126, 96, 60, 132, 2, 1, 167, 255, 239]
abbrev dktX10_bitsOf_0 : List UInt8 := dkwX10_bitsOf_0 ++ dktX10_bitsOf_1
theorem dksX10_bitsOf_0 : cX10_bitsOf.data.toList.drop 0 = dktX10_bitsOf_0 := by decide +kernel
theorem dksX10_bitsOf_1 : cX10_bitsOf.data.toList.drop 24 = dktX10_bitsOf_1 := dk_seg dksX10_bitsOf_0 24 rfl rfl
theorem dX10_bitsOf_0 : decode cX10_bitsOf 0 = .ok (.iconst 0, 1) := dk_3 (dk_at dksX10_bitsOf_0 0 rfl rfl)
theorem dX10_bitsOf_1 : decode cX10_bitsOf 1 = .ok (.istore_n 1, 1) := dk_60 (dk_at dksX10_bitsOf_0 1 rfl rfl)
theorem dX10_bitsOf_2 : decode cX10_bitsOf 2 = .ok (.iconst 0, 1) := dk_3 (dk_at dksX10_bitsOf_0 2 rfl rfl)
theorem dX10_bitsOf_3 : decode cX10_bitsOf 3 = .ok (.istore_n 2, 1) := dk_61 (dk_at dksX10_bitsOf_0 3 rfl rfl)
theorem dX10_bitsOf_4 : decode cX10_bitsOf 4 = .ok (.iload_n 2, 1) := dk_28 (dk_at dksX10_bitsOf_0 4 rfl rfl)
theorem dX10_bitsOf_5 : decode cX10_bitsOf 5 = .ok (.bipush 31, 2) := dk_16 31 (dk_at dksX10_bitsOf_0 5 rfl rfl)
theorem dX10_bitsOf_7 : decode cX10_bitsOf 7 = .ok (.if_icmp .ge 17, 3) := dk_162 0 17 (dk_at dksX10_bitsOf_0 7 rfl rfl)
theorem dX10_bitsOf_10 : decode cX10_bitsOf 10 = .ok (.iload_n 1, 1) := dk_27 (dk_at dksX10_bitsOf_0 10 rfl rfl)
theorem dX10_bitsOf_11 : decode cX10_bitsOf 11 = .ok (.iload_n 0, 1) := dk_26 (dk_at dksX10_bitsOf_0 11 rfl rfl)
theorem dX10_bitsOf_12 : decode cX10_bitsOf 12 = .ok (.iload_n 2, 1) := dk_28 (dk_at dksX10_bitsOf_0 12 rfl rfl)
theorem dX10_bitsOf_13 : decode cX10_bitsOf 13 = .ok (.ishr, 1) := dk_122 (dk_at dksX10_bitsOf_0 13 rfl rfl)
theorem dX10_bitsOf_14 : decode cX10_bitsOf 14 = .ok (.iconst 1, 1) := dk_4 (dk_at dksX10_bitsOf_0 14 rfl rfl)
theorem dX10_bitsOf_15 : decode cX10_bitsOf 15 = .ok (.iand, 1) := dk_126 (dk_at dksX10_bitsOf_0 15 rfl rfl)
theorem dX10_bitsOf_16 : decode cX10_bitsOf 16 = .ok (.iadd, 1) := dk_96 (dk_at dksX10_bitsOf_0 16 rfl rfl)
theorem dX10_bitsOf_17 : decode cX10_bitsOf 17 = .ok (.istore_n 1, 1) := dk_60 (dk_at dksX10_bitsOf_0 17 rfl rfl)
theorem dX10_bitsOf_18 : decode cX10_bitsOf 18 = .ok (.iinc 2 1, 3) := dk_132 2 1 (dk_at dksX10_bitsOf_0 18 rfl rfl)
theorem dX10_bitsOf_21 : decode cX10_bitsOf 21 = .ok (.goto (-17), 3) := dk_167 255 239 (dk_at dksX10_bitsOf_0 21 rfl rfl)
theorem dX10_bitsOf_24 : decode cX10_bitsOf 24 = .ok (.iload_n 1, 1) := dk_27 (dk_at dksX10_bitsOf_1 0 rfl rfl)
theorem dX10_bitsOf_25 : decode cX10_bitsOf 25 = .ok (.ireturn, 1) := dk_172 (dk_at dksX10_bitsOf_1 1 rfl rfl)
abbrev cX10_come : ByteArray := prog_32_method_40_code
def yX10_come : MethodName := ⟨RX10, "come", "(III)I"⟩
def dkwX10_come_5 : List UInt8 := [167, 0, 4, 3, 172]
abbrev dktX10_come_5 : List UInt8 := dkwX10_come_5 ++ []
def dkwX10_come_4 : List UInt8 := [153, 0, 11, 28, 153, 0, 7, 4, 167, 0, 4, 3, 172, 27, 154, 0, 7, 28, 153, 0, 7, 4]
abbrev dktX10_come_4 : List UInt8 := dkwX10_come_4 ++ dktX10_come_5
def dkwX10_come_3 : List UInt8 := [28, 164, 0, 7, 4, 167, 0, 4, 3, 172, 27, 28, 160, 0, 7, 4, 167, 0, 4, 3, 172, 27]
abbrev dktX10_come_3 : List UInt8 := dkwX10_come_3 ++ dktX10_come_4
def dkwX10_come_2 : List UInt8 := [27, 28, 96, 172, 27, 28, 100, 172, 27, 28, 104, 172, 27, 28, 162, 0, 7, 4, 167, 0, 4, 3, 172, 27]
abbrev dktX10_come_2 : List UInt8 := dkwX10_come_2 ++ dktX10_come_3
def dkwX10_come_1 : List UInt8 := [170, 0, 0, 0, 0, 0, 174, 0, 0, 0, 38, 0, 0, 0, 62, 0, 0, 0, 160, 0, 0, 0, 174, 0, 0, 0, 174, 0, 0, 0, 174, 0, 0, 0, 123, 0, 0, 0, 115, 0, 0, 0, 174, 0, 0, 0, 119, 0, 0, 0, 174, 0, 0, 0, 174, 0, 0, 0, 174, 0, 0, 0, 174, 0, 0, 0, 174, 0, 0, 0, 174, 0, 0, 0, 174, 0, 0, 0, 174, 0, 0, 0, 174, 0, 0, 0, 174, 0, 0, 0, 174, 0, 0, 0, 174, 0, 0, 0, 174, 0, 0, 0, 174, 0, 0, 0, 127, 0, 0, 0, 149, 0, 0, 0, 138]
abbrev dktX10_come_1 : List UInt8 := dkwX10_come_1 ++ dktX10_come_2
def dkwX10_come_0 : List UInt8 := [26]
abbrev dktX10_come_0 : List UInt8 := dkwX10_come_0 ++ dktX10_come_1
theorem dksX10_come_0 : cX10_come.data.toList.drop 0 = dktX10_come_0 := by decide +kernel
theorem dksX10_come_1 : cX10_come.data.toList.drop 1 = dktX10_come_1 := dk_seg dksX10_come_0 1 rfl rfl
theorem dksX10_come_2 : cX10_come.data.toList.drop 116 = dktX10_come_2 := dk_seg dksX10_come_1 115 rfl rfl
theorem dksX10_come_3 : cX10_come.data.toList.drop 140 = dktX10_come_3 := dk_seg dksX10_come_2 24 rfl rfl
theorem dksX10_come_4 : cX10_come.data.toList.drop 162 = dktX10_come_4 := dk_seg dksX10_come_3 22 rfl rfl
theorem dksX10_come_5 : cX10_come.data.toList.drop 184 = dktX10_come_5 := dk_seg dksX10_come_4 22 rfl rfl
theorem dX10_come_0 : decode cX10_come 0 = .ok (.iload_n 0, 1) := dk_26 (dk_at dksX10_come_0 0 rfl rfl)
theorem dX10_come_1 : decode cX10_come 1 = .ok (.tableswitch 174 38 62 #[160, 174, 174, 174, 123, 115, 174, 119, 174, 174, 174, 174, 174, 174, 174, 174, 174, 174, 174, 174, 174, 174, 127, 149, 138], 115) := by decide +kernel
theorem dX10_come_116 : decode cX10_come 116 = .ok (.iload_n 1, 1) := dk_27 (dk_at dksX10_come_2 0 rfl rfl)
theorem dX10_come_117 : decode cX10_come 117 = .ok (.iload_n 2, 1) := dk_28 (dk_at dksX10_come_2 1 rfl rfl)
theorem dX10_come_118 : decode cX10_come 118 = .ok (.iadd, 1) := dk_96 (dk_at dksX10_come_2 2 rfl rfl)
theorem dX10_come_119 : decode cX10_come 119 = .ok (.ireturn, 1) := dk_172 (dk_at dksX10_come_2 3 rfl rfl)
theorem dX10_come_120 : decode cX10_come 120 = .ok (.iload_n 1, 1) := dk_27 (dk_at dksX10_come_2 4 rfl rfl)
theorem dX10_come_121 : decode cX10_come 121 = .ok (.iload_n 2, 1) := dk_28 (dk_at dksX10_come_2 5 rfl rfl)
theorem dX10_come_122 : decode cX10_come 122 = .ok (.isub, 1) := dk_100 (dk_at dksX10_come_2 6 rfl rfl)
theorem dX10_come_123 : decode cX10_come 123 = .ok (.ireturn, 1) := dk_172 (dk_at dksX10_come_2 7 rfl rfl)
theorem dX10_come_124 : decode cX10_come 124 = .ok (.iload_n 1, 1) := dk_27 (dk_at dksX10_come_2 8 rfl rfl)
theorem dX10_come_125 : decode cX10_come 125 = .ok (.iload_n 2, 1) := dk_28 (dk_at dksX10_come_2 9 rfl rfl)
theorem dX10_come_126 : decode cX10_come 126 = .ok (.imul, 1) := dk_104 (dk_at dksX10_come_2 10 rfl rfl)
theorem dX10_come_127 : decode cX10_come 127 = .ok (.ireturn, 1) := dk_172 (dk_at dksX10_come_2 11 rfl rfl)
theorem dX10_come_128 : decode cX10_come 128 = .ok (.iload_n 1, 1) := dk_27 (dk_at dksX10_come_2 12 rfl rfl)
theorem dX10_come_129 : decode cX10_come 129 = .ok (.iload_n 2, 1) := dk_28 (dk_at dksX10_come_2 13 rfl rfl)
theorem dX10_come_130 : decode cX10_come 130 = .ok (.if_icmp .ge 7, 3) := dk_162 0 7 (dk_at dksX10_come_2 14 rfl rfl)
theorem dX10_come_133 : decode cX10_come 133 = .ok (.iconst 1, 1) := dk_4 (dk_at dksX10_come_2 17 rfl rfl)
theorem dX10_come_134 : decode cX10_come 134 = .ok (.goto 4, 3) := dk_167 0 4 (dk_at dksX10_come_2 18 rfl rfl)
theorem dX10_come_137 : decode cX10_come 137 = .ok (.iconst 0, 1) := dk_3 (dk_at dksX10_come_2 21 rfl rfl)
theorem dX10_come_138 : decode cX10_come 138 = .ok (.ireturn, 1) := dk_172 (dk_at dksX10_come_2 22 rfl rfl)
theorem dX10_come_139 : decode cX10_come 139 = .ok (.iload_n 1, 1) := dk_27 (dk_at dksX10_come_2 23 rfl rfl)
theorem dX10_come_140 : decode cX10_come 140 = .ok (.iload_n 2, 1) := dk_28 (dk_at dksX10_come_3 0 rfl rfl)
theorem dX10_come_141 : decode cX10_come 141 = .ok (.if_icmp .le 7, 3) := dk_164 0 7 (dk_at dksX10_come_3 1 rfl rfl)
theorem dX10_come_144 : decode cX10_come 144 = .ok (.iconst 1, 1) := dk_4 (dk_at dksX10_come_3 4 rfl rfl)
theorem dX10_come_145 : decode cX10_come 145 = .ok (.goto 4, 3) := dk_167 0 4 (dk_at dksX10_come_3 5 rfl rfl)
theorem dX10_come_148 : decode cX10_come 148 = .ok (.iconst 0, 1) := dk_3 (dk_at dksX10_come_3 8 rfl rfl)
theorem dX10_come_149 : decode cX10_come 149 = .ok (.ireturn, 1) := dk_172 (dk_at dksX10_come_3 9 rfl rfl)
theorem dX10_come_150 : decode cX10_come 150 = .ok (.iload_n 1, 1) := dk_27 (dk_at dksX10_come_3 10 rfl rfl)
theorem dX10_come_151 : decode cX10_come 151 = .ok (.iload_n 2, 1) := dk_28 (dk_at dksX10_come_3 11 rfl rfl)
theorem dX10_come_152 : decode cX10_come 152 = .ok (.if_icmp .ne 7, 3) := dk_160 0 7 (dk_at dksX10_come_3 12 rfl rfl)
theorem dX10_come_155 : decode cX10_come 155 = .ok (.iconst 1, 1) := dk_4 (dk_at dksX10_come_3 15 rfl rfl)
theorem dX10_come_156 : decode cX10_come 156 = .ok (.goto 4, 3) := dk_167 0 4 (dk_at dksX10_come_3 16 rfl rfl)
theorem dX10_come_159 : decode cX10_come 159 = .ok (.iconst 0, 1) := dk_3 (dk_at dksX10_come_3 19 rfl rfl)
theorem dX10_come_160 : decode cX10_come 160 = .ok (.ireturn, 1) := dk_172 (dk_at dksX10_come_3 20 rfl rfl)
theorem dX10_come_161 : decode cX10_come 161 = .ok (.iload_n 1, 1) := dk_27 (dk_at dksX10_come_3 21 rfl rfl)
theorem dX10_come_162 : decode cX10_come 162 = .ok (.ifCond .eq 11, 3) := dk_153 0 11 (dk_at dksX10_come_4 0 rfl rfl)
theorem dX10_come_165 : decode cX10_come 165 = .ok (.iload_n 2, 1) := dk_28 (dk_at dksX10_come_4 3 rfl rfl)
theorem dX10_come_166 : decode cX10_come 166 = .ok (.ifCond .eq 7, 3) := dk_153 0 7 (dk_at dksX10_come_4 4 rfl rfl)
theorem dX10_come_169 : decode cX10_come 169 = .ok (.iconst 1, 1) := dk_4 (dk_at dksX10_come_4 7 rfl rfl)
theorem dX10_come_170 : decode cX10_come 170 = .ok (.goto 4, 3) := dk_167 0 4 (dk_at dksX10_come_4 8 rfl rfl)
theorem dX10_come_173 : decode cX10_come 173 = .ok (.iconst 0, 1) := dk_3 (dk_at dksX10_come_4 11 rfl rfl)
theorem dX10_come_174 : decode cX10_come 174 = .ok (.ireturn, 1) := dk_172 (dk_at dksX10_come_4 12 rfl rfl)
theorem dX10_come_175 : decode cX10_come 175 = .ok (.iload_n 1, 1) := dk_27 (dk_at dksX10_come_4 13 rfl rfl)
theorem dX10_come_176 : decode cX10_come 176 = .ok (.ifCond .ne 7, 3) := dk_154 0 7 (dk_at dksX10_come_4 14 rfl rfl)
theorem dX10_come_179 : decode cX10_come 179 = .ok (.iload_n 2, 1) := dk_28 (dk_at dksX10_come_4 17 rfl rfl)
theorem dX10_come_180 : decode cX10_come 180 = .ok (.ifCond .eq 7, 3) := dk_153 0 7 (dk_at dksX10_come_4 18 rfl rfl)
theorem dX10_come_183 : decode cX10_come 183 = .ok (.iconst 1, 1) := dk_4 (dk_at dksX10_come_4 21 rfl rfl)
theorem dX10_come_184 : decode cX10_come 184 = .ok (.goto 4, 3) := dk_167 0 4 (dk_at dksX10_come_5 0 rfl rfl)
theorem dX10_come_187 : decode cX10_come 187 = .ok (.iconst 0, 1) := dk_3 (dk_at dksX10_come_5 3 rfl rfl)
theorem dX10_come_188 : decode cX10_come 188 = .ok (.ireturn, 1) := dk_172 (dk_at dksX10_come_5 4 rfl rfl)
abbrev cX10_advance : ByteArray := prog_32_method_61_code
def yX10_advance : MethodName := ⟨RX10, "advance", "(I)I"⟩
def dkwX10_advance_12 : List UInt8 := [3, 172]
abbrev dktX10_advance_12 : List UInt8 := dkwX10_advance_12 ++ []
def dkwX10_advance_11 : List UInt8 := [180, 0, 105, 27, 42, 180, 0, 61, 28, 46, 79, 42, 180, 0, 105, 27, 92, 46, 4, 96, 79, 167, 254, 231]
abbrev dktX10_advance_11 : List UInt8 := dkwX10_advance_11 ++ dktX10_advance_12
def dkwX10_advance_10 : List UInt8 := [46, 5, 42, 180, 0, 55, 28, 46, 104, 122, 6, 126, 42, 180, 0, 58, 28, 46, 4, 96, 160, 0, 15, 42]
abbrev dktX10_advance_10 : List UInt8 := dkwX10_advance_10 ++ dktX10_advance_11
def dkwX10_advance_9 : List UInt8 := [167, 0, 4, 3, 172, 29, 16, 12, 160, 0, 5, 5, 172, 29, 16, 9, 160, 0, 43, 42, 180, 0, 114, 27]
abbrev dktX10_advance_9 : List UInt8 := dkwX10_advance_9 ++ dktX10_advance_10
def dkwX10_advance_8 : List UInt8 := [167, 0, 83, 29, 16, 11, 160, 0, 23, 42, 28, 42, 180, 0, 108, 27, 46, 182, 1, 219, 153, 0, 7, 4]
abbrev dktX10_advance_8 : List UInt8 := dkwX10_advance_8 ++ dktX10_advance_9
def dkwX10_advance_7 : List UInt8 := [180, 0, 111, 27, 46, 155, 0, 102, 42, 180, 0, 111, 27, 42, 42, 180, 0, 111, 27, 46, 182, 1, 229, 79]
abbrev dktX10_advance_7 : List UInt8 := dkwX10_advance_7 ++ dktX10_advance_8
def dkwX10_advance_6 : List UInt8 := [6, 172, 42, 27, 28, 182, 1, 226, 42, 180, 0, 102, 27, 92, 47, 42, 28, 182, 1, 185, 133, 105, 80, 42]
abbrev dktX10_advance_6 : List UInt8 := dkwX10_advance_6 ++ dktX10_advance_7
def dkwX10_advance_5 : List UInt8 := [46, 182, 1, 219, 154, 0, 5, 3, 172, 29, 16, 8, 159, 0, 12, 42, 27, 28, 182, 1, 223, 153, 0, 5]
abbrev dktX10_advance_5 : List UInt8 := dkwX10_advance_5 ++ dktX10_advance_6
def dkwX10_advance_4 : List UInt8 := [182, 1, 215, 167, 0, 176, 29, 5, 161, 0, 91, 29, 16, 8, 163, 0, 85, 42, 28, 42, 180, 0, 108, 27]
abbrev dktX10_advance_4 : List UInt8 := dkwX10_advance_4 ++ dktX10_advance_5
def dkwX10_advance_3 : List UInt8 := [16, 8, 164, 0, 5, 3, 172, 42, 27, 28, 4, 182, 1, 215, 29, 154, 0, 186, 42, 27, 28, 3]
abbrev dktX10_advance_3 : List UInt8 := dkwX10_advance_3 ++ dktX10_advance_4
def dkwX10_advance_2 : List UInt8 := [153, 0, 8, 29, 4, 160, 0, 47, 42, 180, 0, 108, 27, 46, 29, 154, 0, 7, 5, 167, 0, 4, 4, 96]
abbrev dktX10_advance_2 : List UInt8 := dkwX10_advance_2 ++ dktX10_advance_3
def dkwX10_advance_1 : List UInt8 := [104, 42, 180, 0, 105, 27, 46, 96, 61, 42, 180, 0, 52, 28, 46, 62, 42, 28, 181, 1, 212, 29]
abbrev dktX10_advance_1 : List UInt8 := dkwX10_advance_1 ++ dktX10_advance_2
def dkwX10_advance_0 : List UInt8 := [42, 180, 0, 105, 27, 46, 42, 180, 0, 24, 42, 180, 1, 53, 46, 162, 1, 13, 16, 52, 42, 180, 1, 53]
abbrev dktX10_advance_0 : List UInt8 := dkwX10_advance_0 ++ dktX10_advance_1
theorem dksX10_advance_0 : cX10_advance.data.toList.drop 0 = dktX10_advance_0 := by decide +kernel
theorem dksX10_advance_1 : cX10_advance.data.toList.drop 24 = dktX10_advance_1 := dk_seg dksX10_advance_0 24 rfl rfl
theorem dksX10_advance_2 : cX10_advance.data.toList.drop 46 = dktX10_advance_2 := dk_seg dksX10_advance_1 22 rfl rfl
theorem dksX10_advance_3 : cX10_advance.data.toList.drop 70 = dktX10_advance_3 := dk_seg dksX10_advance_2 24 rfl rfl
theorem dksX10_advance_4 : cX10_advance.data.toList.drop 92 = dktX10_advance_4 := dk_seg dksX10_advance_3 22 rfl rfl
theorem dksX10_advance_5 : cX10_advance.data.toList.drop 116 = dktX10_advance_5 := dk_seg dksX10_advance_4 24 rfl rfl
theorem dksX10_advance_6 : cX10_advance.data.toList.drop 140 = dktX10_advance_6 := dk_seg dksX10_advance_5 24 rfl rfl
theorem dksX10_advance_7 : cX10_advance.data.toList.drop 164 = dktX10_advance_7 := dk_seg dksX10_advance_6 24 rfl rfl
theorem dksX10_advance_8 : cX10_advance.data.toList.drop 188 = dktX10_advance_8 := dk_seg dksX10_advance_7 24 rfl rfl
theorem dksX10_advance_9 : cX10_advance.data.toList.drop 212 = dktX10_advance_9 := dk_seg dksX10_advance_8 24 rfl rfl
theorem dksX10_advance_10 : cX10_advance.data.toList.drop 236 = dktX10_advance_10 := dk_seg dksX10_advance_9 24 rfl rfl
theorem dksX10_advance_11 : cX10_advance.data.toList.drop 260 = dktX10_advance_11 := dk_seg dksX10_advance_10 24 rfl rfl
theorem dksX10_advance_12 : cX10_advance.data.toList.drop 284 = dktX10_advance_12 := dk_seg dksX10_advance_11 24 rfl rfl
theorem dX10_advance_0 : decode cX10_advance 0 = .ok (.aload_n 0, 1) := dk_42 (dk_at dksX10_advance_0 0 rfl rfl)
theorem dX10_advance_1 : decode cX10_advance 1 = .ok (.getfield 105, 3) := dk_180 0 105 (dk_at dksX10_advance_0 1 rfl rfl)
theorem dX10_advance_4 : decode cX10_advance 4 = .ok (.iload_n 1, 1) := dk_27 (dk_at dksX10_advance_0 4 rfl rfl)
theorem dX10_advance_5 : decode cX10_advance 5 = .ok (.iaload, 1) := dk_46 (dk_at dksX10_advance_0 5 rfl rfl)
theorem dX10_advance_6 : decode cX10_advance 6 = .ok (.aload_n 0, 1) := dk_42 (dk_at dksX10_advance_0 6 rfl rfl)
theorem dX10_advance_7 : decode cX10_advance 7 = .ok (.getfield 24, 3) := dk_180 0 24 (dk_at dksX10_advance_0 7 rfl rfl)
theorem dX10_advance_10 : decode cX10_advance 10 = .ok (.aload_n 0, 1) := dk_42 (dk_at dksX10_advance_0 10 rfl rfl)
theorem dX10_advance_11 : decode cX10_advance 11 = .ok (.getfield 309, 3) := dk_180 1 53 (dk_at dksX10_advance_0 11 rfl rfl)
theorem dX10_advance_14 : decode cX10_advance 14 = .ok (.iaload, 1) := dk_46 (dk_at dksX10_advance_0 14 rfl rfl)
theorem dX10_advance_15 : decode cX10_advance 15 = .ok (.if_icmp .ge 269, 3) := dk_162 1 13 (dk_at dksX10_advance_0 15 rfl rfl)
theorem dX10_advance_18 : decode cX10_advance 18 = .ok (.bipush 52, 2) := dk_16 52 (dk_at dksX10_advance_0 18 rfl rfl)
theorem dX10_advance_20 : decode cX10_advance 20 = .ok (.aload_n 0, 1) := dk_42 (dk_at dksX10_advance_0 20 rfl rfl)
theorem dX10_advance_21 : decode cX10_advance 21 = .ok (.getfield 309, 3) := dk_180 1 53 (dk_at dksX10_advance_0 21 rfl rfl)
theorem dX10_advance_24 : decode cX10_advance 24 = .ok (.imul, 1) := dk_104 (dk_at dksX10_advance_1 0 rfl rfl)
theorem dX10_advance_25 : decode cX10_advance 25 = .ok (.aload_n 0, 1) := dk_42 (dk_at dksX10_advance_1 1 rfl rfl)
theorem dX10_advance_26 : decode cX10_advance 26 = .ok (.getfield 105, 3) := dk_180 0 105 (dk_at dksX10_advance_1 2 rfl rfl)
theorem dX10_advance_29 : decode cX10_advance 29 = .ok (.iload_n 1, 1) := dk_27 (dk_at dksX10_advance_1 5 rfl rfl)
theorem dX10_advance_30 : decode cX10_advance 30 = .ok (.iaload, 1) := dk_46 (dk_at dksX10_advance_1 6 rfl rfl)
theorem dX10_advance_31 : decode cX10_advance 31 = .ok (.iadd, 1) := dk_96 (dk_at dksX10_advance_1 7 rfl rfl)
theorem dX10_advance_32 : decode cX10_advance 32 = .ok (.istore_n 2, 1) := dk_61 (dk_at dksX10_advance_1 8 rfl rfl)
theorem dX10_advance_33 : decode cX10_advance 33 = .ok (.aload_n 0, 1) := dk_42 (dk_at dksX10_advance_1 9 rfl rfl)
theorem dX10_advance_34 : decode cX10_advance 34 = .ok (.getfield 52, 3) := dk_180 0 52 (dk_at dksX10_advance_1 10 rfl rfl)
theorem dX10_advance_37 : decode cX10_advance 37 = .ok (.iload_n 2, 1) := dk_28 (dk_at dksX10_advance_1 13 rfl rfl)
theorem dX10_advance_38 : decode cX10_advance 38 = .ok (.iaload, 1) := dk_46 (dk_at dksX10_advance_1 14 rfl rfl)
theorem dX10_advance_39 : decode cX10_advance 39 = .ok (.istore_n 3, 1) := dk_62 (dk_at dksX10_advance_1 15 rfl rfl)
theorem dX10_advance_40 : decode cX10_advance 40 = .ok (.aload_n 0, 1) := dk_42 (dk_at dksX10_advance_1 16 rfl rfl)
theorem dX10_advance_41 : decode cX10_advance 41 = .ok (.iload_n 2, 1) := dk_28 (dk_at dksX10_advance_1 17 rfl rfl)
theorem dX10_advance_42 : decode cX10_advance 42 = .ok (.putfield 468, 3) := dk_181 1 212 (dk_at dksX10_advance_1 18 rfl rfl)
theorem dX10_advance_45 : decode cX10_advance 45 = .ok (.iload_n 3, 1) := dk_29 (dk_at dksX10_advance_1 21 rfl rfl)
theorem dX10_advance_46 : decode cX10_advance 46 = .ok (.ifCond .eq 8, 3) := dk_153 0 8 (dk_at dksX10_advance_2 0 rfl rfl)
theorem dX10_advance_49 : decode cX10_advance 49 = .ok (.iload_n 3, 1) := dk_29 (dk_at dksX10_advance_2 3 rfl rfl)
theorem dX10_advance_50 : decode cX10_advance 50 = .ok (.iconst 1, 1) := dk_4 (dk_at dksX10_advance_2 4 rfl rfl)
theorem dX10_advance_51 : decode cX10_advance 51 = .ok (.if_icmp .ne 47, 3) := dk_160 0 47 (dk_at dksX10_advance_2 5 rfl rfl)
theorem dX10_advance_54 : decode cX10_advance 54 = .ok (.aload_n 0, 1) := dk_42 (dk_at dksX10_advance_2 8 rfl rfl)
theorem dX10_advance_55 : decode cX10_advance 55 = .ok (.getfield 108, 3) := dk_180 0 108 (dk_at dksX10_advance_2 9 rfl rfl)
theorem dX10_advance_58 : decode cX10_advance 58 = .ok (.iload_n 1, 1) := dk_27 (dk_at dksX10_advance_2 12 rfl rfl)
theorem dX10_advance_59 : decode cX10_advance 59 = .ok (.iaload, 1) := dk_46 (dk_at dksX10_advance_2 13 rfl rfl)
theorem dX10_advance_60 : decode cX10_advance 60 = .ok (.iload_n 3, 1) := dk_29 (dk_at dksX10_advance_2 14 rfl rfl)
theorem dX10_advance_61 : decode cX10_advance 61 = .ok (.ifCond .ne 7, 3) := dk_154 0 7 (dk_at dksX10_advance_2 15 rfl rfl)
theorem dX10_advance_64 : decode cX10_advance 64 = .ok (.iconst 2, 1) := dk_5 (dk_at dksX10_advance_2 18 rfl rfl)
theorem dX10_advance_65 : decode cX10_advance 65 = .ok (.goto 4, 3) := dk_167 0 4 (dk_at dksX10_advance_2 19 rfl rfl)
theorem dX10_advance_68 : decode cX10_advance 68 = .ok (.iconst 1, 1) := dk_4 (dk_at dksX10_advance_2 22 rfl rfl)
theorem dX10_advance_69 : decode cX10_advance 69 = .ok (.iadd, 1) := dk_96 (dk_at dksX10_advance_2 23 rfl rfl)
theorem dX10_advance_70 : decode cX10_advance 70 = .ok (.bipush 8, 2) := dk_16 8 (dk_at dksX10_advance_3 0 rfl rfl)
theorem dX10_advance_72 : decode cX10_advance 72 = .ok (.if_icmp .le 5, 3) := dk_164 0 5 (dk_at dksX10_advance_3 2 rfl rfl)
theorem dX10_advance_75 : decode cX10_advance 75 = .ok (.iconst 0, 1) := dk_3 (dk_at dksX10_advance_3 5 rfl rfl)
theorem dX10_advance_76 : decode cX10_advance 76 = .ok (.ireturn, 1) := dk_172 (dk_at dksX10_advance_3 6 rfl rfl)
theorem dX10_advance_77 : decode cX10_advance 77 = .ok (.aload_n 0, 1) := dk_42 (dk_at dksX10_advance_3 7 rfl rfl)
theorem dX10_advance_78 : decode cX10_advance 78 = .ok (.iload_n 1, 1) := dk_27 (dk_at dksX10_advance_3 8 rfl rfl)
theorem dX10_advance_79 : decode cX10_advance 79 = .ok (.iload_n 2, 1) := dk_28 (dk_at dksX10_advance_3 9 rfl rfl)
theorem dX10_advance_80 : decode cX10_advance 80 = .ok (.iconst 1, 1) := dk_4 (dk_at dksX10_advance_3 10 rfl rfl)
theorem dX10_advance_81 : decode cX10_advance 81 = .ok (.invokevirtual 471, 3) := dk_182 1 215 (dk_at dksX10_advance_3 11 rfl rfl)
theorem dX10_advance_84 : decode cX10_advance 84 = .ok (.iload_n 3, 1) := dk_29 (dk_at dksX10_advance_3 14 rfl rfl)
theorem dX10_advance_85 : decode cX10_advance 85 = .ok (.ifCond .ne 186, 3) := dk_154 0 186 (dk_at dksX10_advance_3 15 rfl rfl)
theorem dX10_advance_88 : decode cX10_advance 88 = .ok (.aload_n 0, 1) := dk_42 (dk_at dksX10_advance_3 18 rfl rfl)
theorem dX10_advance_89 : decode cX10_advance 89 = .ok (.iload_n 1, 1) := dk_27 (dk_at dksX10_advance_3 19 rfl rfl)
theorem dX10_advance_90 : decode cX10_advance 90 = .ok (.iload_n 2, 1) := dk_28 (dk_at dksX10_advance_3 20 rfl rfl)
theorem dX10_advance_91 : decode cX10_advance 91 = .ok (.iconst 0, 1) := dk_3 (dk_at dksX10_advance_3 21 rfl rfl)
theorem dX10_advance_92 : decode cX10_advance 92 = .ok (.invokevirtual 471, 3) := dk_182 1 215 (dk_at dksX10_advance_4 0 rfl rfl)
theorem dX10_advance_95 : decode cX10_advance 95 = .ok (.goto 176, 3) := dk_167 0 176 (dk_at dksX10_advance_4 3 rfl rfl)
theorem dX10_advance_98 : decode cX10_advance 98 = .ok (.iload_n 3, 1) := dk_29 (dk_at dksX10_advance_4 6 rfl rfl)
theorem dX10_advance_99 : decode cX10_advance 99 = .ok (.iconst 2, 1) := dk_5 (dk_at dksX10_advance_4 7 rfl rfl)
theorem dX10_advance_100 : decode cX10_advance 100 = .ok (.if_icmp .lt 91, 3) := dk_161 0 91 (dk_at dksX10_advance_4 8 rfl rfl)
theorem dX10_advance_103 : decode cX10_advance 103 = .ok (.iload_n 3, 1) := dk_29 (dk_at dksX10_advance_4 11 rfl rfl)
theorem dX10_advance_104 : decode cX10_advance 104 = .ok (.bipush 8, 2) := dk_16 8 (dk_at dksX10_advance_4 12 rfl rfl)
theorem dX10_advance_106 : decode cX10_advance 106 = .ok (.if_icmp .gt 85, 3) := dk_163 0 85 (dk_at dksX10_advance_4 14 rfl rfl)
theorem dX10_advance_109 : decode cX10_advance 109 = .ok (.aload_n 0, 1) := dk_42 (dk_at dksX10_advance_4 17 rfl rfl)
theorem dX10_advance_110 : decode cX10_advance 110 = .ok (.iload_n 2, 1) := dk_28 (dk_at dksX10_advance_4 18 rfl rfl)
theorem dX10_advance_111 : decode cX10_advance 111 = .ok (.aload_n 0, 1) := dk_42 (dk_at dksX10_advance_4 19 rfl rfl)
theorem dX10_advance_112 : decode cX10_advance 112 = .ok (.getfield 108, 3) := dk_180 0 108 (dk_at dksX10_advance_4 20 rfl rfl)
theorem dX10_advance_115 : decode cX10_advance 115 = .ok (.iload_n 1, 1) := dk_27 (dk_at dksX10_advance_4 23 rfl rfl)
theorem dX10_advance_116 : decode cX10_advance 116 = .ok (.iaload, 1) := dk_46 (dk_at dksX10_advance_5 0 rfl rfl)
theorem dX10_advance_117 : decode cX10_advance 117 = .ok (.invokevirtual 475, 3) := dk_182 1 219 (dk_at dksX10_advance_5 1 rfl rfl)
theorem dX10_advance_120 : decode cX10_advance 120 = .ok (.ifCond .ne 5, 3) := dk_154 0 5 (dk_at dksX10_advance_5 4 rfl rfl)
theorem dX10_advance_123 : decode cX10_advance 123 = .ok (.iconst 0, 1) := dk_3 (dk_at dksX10_advance_5 7 rfl rfl)
theorem dX10_advance_124 : decode cX10_advance 124 = .ok (.ireturn, 1) := dk_172 (dk_at dksX10_advance_5 8 rfl rfl)
theorem dX10_advance_125 : decode cX10_advance 125 = .ok (.iload_n 3, 1) := dk_29 (dk_at dksX10_advance_5 9 rfl rfl)
theorem dX10_advance_126 : decode cX10_advance 126 = .ok (.bipush 8, 2) := dk_16 8 (dk_at dksX10_advance_5 10 rfl rfl)
theorem dX10_advance_128 : decode cX10_advance 128 = .ok (.if_icmp .eq 12, 3) := dk_159 0 12 (dk_at dksX10_advance_5 12 rfl rfl)
theorem dX10_advance_131 : decode cX10_advance 131 = .ok (.aload_n 0, 1) := dk_42 (dk_at dksX10_advance_5 15 rfl rfl)
theorem dX10_advance_132 : decode cX10_advance 132 = .ok (.iload_n 1, 1) := dk_27 (dk_at dksX10_advance_5 16 rfl rfl)
theorem dX10_advance_133 : decode cX10_advance 133 = .ok (.iload_n 2, 1) := dk_28 (dk_at dksX10_advance_5 17 rfl rfl)
theorem dX10_advance_134 : decode cX10_advance 134 = .ok (.invokevirtual 479, 3) := dk_182 1 223 (dk_at dksX10_advance_5 18 rfl rfl)
theorem dX10_advance_137 : decode cX10_advance 137 = .ok (.ifCond .eq 5, 3) := dk_153 0 5 (dk_at dksX10_advance_5 21 rfl rfl)
theorem dX10_advance_140 : decode cX10_advance 140 = .ok (.iconst 3, 1) := dk_6 (dk_at dksX10_advance_6 0 rfl rfl)
theorem dX10_advance_141 : decode cX10_advance 141 = .ok (.ireturn, 1) := dk_172 (dk_at dksX10_advance_6 1 rfl rfl)
theorem dX10_advance_142 : decode cX10_advance 142 = .ok (.aload_n 0, 1) := dk_42 (dk_at dksX10_advance_6 2 rfl rfl)
theorem dX10_advance_143 : decode cX10_advance 143 = .ok (.iload_n 1, 1) := dk_27 (dk_at dksX10_advance_6 3 rfl rfl)
theorem dX10_advance_144 : decode cX10_advance 144 = .ok (.iload_n 2, 1) := dk_28 (dk_at dksX10_advance_6 4 rfl rfl)
theorem dX10_advance_145 : decode cX10_advance 145 = .ok (.invokevirtual 482, 3) := dk_182 1 226 (dk_at dksX10_advance_6 5 rfl rfl)
theorem dX10_advance_148 : decode cX10_advance 148 = .ok (.aload_n 0, 1) := dk_42 (dk_at dksX10_advance_6 8 rfl rfl)
theorem dX10_advance_149 : decode cX10_advance 149 = .ok (.getfield 102, 3) := dk_180 0 102 (dk_at dksX10_advance_6 9 rfl rfl)
theorem dX10_advance_152 : decode cX10_advance 152 = .ok (.iload_n 1, 1) := dk_27 (dk_at dksX10_advance_6 12 rfl rfl)
theorem dX10_advance_153 : decode cX10_advance 153 = .ok (.dup2, 1) := dk_92 (dk_at dksX10_advance_6 13 rfl rfl)
theorem dX10_advance_154 : decode cX10_advance 154 = .ok (.laload, 1) := dk_47 (dk_at dksX10_advance_6 14 rfl rfl)
theorem dX10_advance_155 : decode cX10_advance 155 = .ok (.aload_n 0, 1) := dk_42 (dk_at dksX10_advance_6 15 rfl rfl)
theorem dX10_advance_156 : decode cX10_advance 156 = .ok (.iload_n 2, 1) := dk_28 (dk_at dksX10_advance_6 16 rfl rfl)
theorem dX10_advance_157 : decode cX10_advance 157 = .ok (.invokevirtual 441, 3) := dk_182 1 185 (dk_at dksX10_advance_6 17 rfl rfl)
theorem dX10_advance_160 : decode cX10_advance 160 = .ok (.i2l, 1) := dk_133 (dk_at dksX10_advance_6 20 rfl rfl)
theorem dX10_advance_161 : decode cX10_advance 161 = .ok (.lmul, 1) := dk_105 (dk_at dksX10_advance_6 21 rfl rfl)
theorem dX10_advance_162 : decode cX10_advance 162 = .ok (.lastore, 1) := dk_80 (dk_at dksX10_advance_6 22 rfl rfl)
theorem dX10_advance_163 : decode cX10_advance 163 = .ok (.aload_n 0, 1) := dk_42 (dk_at dksX10_advance_6 23 rfl rfl)
theorem dX10_advance_164 : decode cX10_advance 164 = .ok (.getfield 111, 3) := dk_180 0 111 (dk_at dksX10_advance_7 0 rfl rfl)
theorem dX10_advance_167 : decode cX10_advance 167 = .ok (.iload_n 1, 1) := dk_27 (dk_at dksX10_advance_7 3 rfl rfl)
theorem dX10_advance_168 : decode cX10_advance 168 = .ok (.iaload, 1) := dk_46 (dk_at dksX10_advance_7 4 rfl rfl)
theorem dX10_advance_169 : decode cX10_advance 169 = .ok (.ifCond .lt 102, 3) := dk_155 0 102 (dk_at dksX10_advance_7 5 rfl rfl)
theorem dX10_advance_172 : decode cX10_advance 172 = .ok (.aload_n 0, 1) := dk_42 (dk_at dksX10_advance_7 8 rfl rfl)
theorem dX10_advance_173 : decode cX10_advance 173 = .ok (.getfield 111, 3) := dk_180 0 111 (dk_at dksX10_advance_7 9 rfl rfl)
theorem dX10_advance_176 : decode cX10_advance 176 = .ok (.iload_n 1, 1) := dk_27 (dk_at dksX10_advance_7 12 rfl rfl)
theorem dX10_advance_177 : decode cX10_advance 177 = .ok (.aload_n 0, 1) := dk_42 (dk_at dksX10_advance_7 13 rfl rfl)
theorem dX10_advance_178 : decode cX10_advance 178 = .ok (.aload_n 0, 1) := dk_42 (dk_at dksX10_advance_7 14 rfl rfl)
theorem dX10_advance_179 : decode cX10_advance 179 = .ok (.getfield 111, 3) := dk_180 0 111 (dk_at dksX10_advance_7 15 rfl rfl)
theorem dX10_advance_182 : decode cX10_advance 182 = .ok (.iload_n 1, 1) := dk_27 (dk_at dksX10_advance_7 18 rfl rfl)
theorem dX10_advance_183 : decode cX10_advance 183 = .ok (.iaload, 1) := dk_46 (dk_at dksX10_advance_7 19 rfl rfl)
theorem dX10_advance_184 : decode cX10_advance 184 = .ok (.invokevirtual 485, 3) := dk_182 1 229 (dk_at dksX10_advance_7 20 rfl rfl)
theorem dX10_advance_187 : decode cX10_advance 187 = .ok (.iastore, 1) := dk_79 (dk_at dksX10_advance_7 23 rfl rfl)
theorem dX10_advance_188 : decode cX10_advance 188 = .ok (.goto 83, 3) := dk_167 0 83 (dk_at dksX10_advance_8 0 rfl rfl)
theorem dX10_advance_191 : decode cX10_advance 191 = .ok (.iload_n 3, 1) := dk_29 (dk_at dksX10_advance_8 3 rfl rfl)
theorem dX10_advance_192 : decode cX10_advance 192 = .ok (.bipush 11, 2) := dk_16 11 (dk_at dksX10_advance_8 4 rfl rfl)
theorem dX10_advance_194 : decode cX10_advance 194 = .ok (.if_icmp .ne 23, 3) := dk_160 0 23 (dk_at dksX10_advance_8 6 rfl rfl)
theorem dX10_advance_197 : decode cX10_advance 197 = .ok (.aload_n 0, 1) := dk_42 (dk_at dksX10_advance_8 9 rfl rfl)
theorem dX10_advance_198 : decode cX10_advance 198 = .ok (.iload_n 2, 1) := dk_28 (dk_at dksX10_advance_8 10 rfl rfl)
theorem dX10_advance_199 : decode cX10_advance 199 = .ok (.aload_n 0, 1) := dk_42 (dk_at dksX10_advance_8 11 rfl rfl)
theorem dX10_advance_200 : decode cX10_advance 200 = .ok (.getfield 108, 3) := dk_180 0 108 (dk_at dksX10_advance_8 12 rfl rfl)
theorem dX10_advance_203 : decode cX10_advance 203 = .ok (.iload_n 1, 1) := dk_27 (dk_at dksX10_advance_8 15 rfl rfl)
theorem dX10_advance_204 : decode cX10_advance 204 = .ok (.iaload, 1) := dk_46 (dk_at dksX10_advance_8 16 rfl rfl)
theorem dX10_advance_205 : decode cX10_advance 205 = .ok (.invokevirtual 475, 3) := dk_182 1 219 (dk_at dksX10_advance_8 17 rfl rfl)
theorem dX10_advance_208 : decode cX10_advance 208 = .ok (.ifCond .eq 7, 3) := dk_153 0 7 (dk_at dksX10_advance_8 20 rfl rfl)
theorem dX10_advance_211 : decode cX10_advance 211 = .ok (.iconst 1, 1) := dk_4 (dk_at dksX10_advance_8 23 rfl rfl)
theorem dX10_advance_212 : decode cX10_advance 212 = .ok (.goto 4, 3) := dk_167 0 4 (dk_at dksX10_advance_9 0 rfl rfl)
theorem dX10_advance_215 : decode cX10_advance 215 = .ok (.iconst 0, 1) := dk_3 (dk_at dksX10_advance_9 3 rfl rfl)
theorem dX10_advance_216 : decode cX10_advance 216 = .ok (.ireturn, 1) := dk_172 (dk_at dksX10_advance_9 4 rfl rfl)
theorem dX10_advance_217 : decode cX10_advance 217 = .ok (.iload_n 3, 1) := dk_29 (dk_at dksX10_advance_9 5 rfl rfl)
theorem dX10_advance_218 : decode cX10_advance 218 = .ok (.bipush 12, 2) := dk_16 12 (dk_at dksX10_advance_9 6 rfl rfl)
theorem dX10_advance_220 : decode cX10_advance 220 = .ok (.if_icmp .ne 5, 3) := dk_160 0 5 (dk_at dksX10_advance_9 8 rfl rfl)
theorem dX10_advance_223 : decode cX10_advance 223 = .ok (.iconst 2, 1) := dk_5 (dk_at dksX10_advance_9 11 rfl rfl)
theorem dX10_advance_224 : decode cX10_advance 224 = .ok (.ireturn, 1) := dk_172 (dk_at dksX10_advance_9 12 rfl rfl)
theorem dX10_advance_225 : decode cX10_advance 225 = .ok (.iload_n 3, 1) := dk_29 (dk_at dksX10_advance_9 13 rfl rfl)
theorem dX10_advance_226 : decode cX10_advance 226 = .ok (.bipush 9, 2) := dk_16 9 (dk_at dksX10_advance_9 14 rfl rfl)
theorem dX10_advance_228 : decode cX10_advance 228 = .ok (.if_icmp .ne 43, 3) := dk_160 0 43 (dk_at dksX10_advance_9 16 rfl rfl)
theorem dX10_advance_231 : decode cX10_advance 231 = .ok (.aload_n 0, 1) := dk_42 (dk_at dksX10_advance_9 19 rfl rfl)
theorem dX10_advance_232 : decode cX10_advance 232 = .ok (.getfield 114, 3) := dk_180 0 114 (dk_at dksX10_advance_9 20 rfl rfl)
theorem dX10_advance_235 : decode cX10_advance 235 = .ok (.iload_n 1, 1) := dk_27 (dk_at dksX10_advance_9 23 rfl rfl)
theorem dX10_advance_236 : decode cX10_advance 236 = .ok (.iaload, 1) := dk_46 (dk_at dksX10_advance_10 0 rfl rfl)
theorem dX10_advance_237 : decode cX10_advance 237 = .ok (.iconst 2, 1) := dk_5 (dk_at dksX10_advance_10 1 rfl rfl)
theorem dX10_advance_238 : decode cX10_advance 238 = .ok (.aload_n 0, 1) := dk_42 (dk_at dksX10_advance_10 2 rfl rfl)
theorem dX10_advance_239 : decode cX10_advance 239 = .ok (.getfield 55, 3) := dk_180 0 55 (dk_at dksX10_advance_10 3 rfl rfl)
theorem dX10_advance_242 : decode cX10_advance 242 = .ok (.iload_n 2, 1) := dk_28 (dk_at dksX10_advance_10 6 rfl rfl)
theorem dX10_advance_243 : decode cX10_advance 243 = .ok (.iaload, 1) := dk_46 (dk_at dksX10_advance_10 7 rfl rfl)
theorem dX10_advance_244 : decode cX10_advance 244 = .ok (.imul, 1) := dk_104 (dk_at dksX10_advance_10 8 rfl rfl)
theorem dX10_advance_245 : decode cX10_advance 245 = .ok (.ishr, 1) := dk_122 (dk_at dksX10_advance_10 9 rfl rfl)
theorem dX10_advance_246 : decode cX10_advance 246 = .ok (.iconst 3, 1) := dk_6 (dk_at dksX10_advance_10 10 rfl rfl)
theorem dX10_advance_247 : decode cX10_advance 247 = .ok (.iand, 1) := dk_126 (dk_at dksX10_advance_10 11 rfl rfl)
theorem dX10_advance_248 : decode cX10_advance 248 = .ok (.aload_n 0, 1) := dk_42 (dk_at dksX10_advance_10 12 rfl rfl)
theorem dX10_advance_249 : decode cX10_advance 249 = .ok (.getfield 58, 3) := dk_180 0 58 (dk_at dksX10_advance_10 13 rfl rfl)
theorem dX10_advance_252 : decode cX10_advance 252 = .ok (.iload_n 2, 1) := dk_28 (dk_at dksX10_advance_10 16 rfl rfl)
theorem dX10_advance_253 : decode cX10_advance 253 = .ok (.iaload, 1) := dk_46 (dk_at dksX10_advance_10 17 rfl rfl)
theorem dX10_advance_254 : decode cX10_advance 254 = .ok (.iconst 1, 1) := dk_4 (dk_at dksX10_advance_10 18 rfl rfl)
theorem dX10_advance_255 : decode cX10_advance 255 = .ok (.iadd, 1) := dk_96 (dk_at dksX10_advance_10 19 rfl rfl)
theorem dX10_advance_256 : decode cX10_advance 256 = .ok (.if_icmp .ne 15, 3) := dk_160 0 15 (dk_at dksX10_advance_10 20 rfl rfl)
theorem dX10_advance_259 : decode cX10_advance 259 = .ok (.aload_n 0, 1) := dk_42 (dk_at dksX10_advance_10 23 rfl rfl)
theorem dX10_advance_260 : decode cX10_advance 260 = .ok (.getfield 105, 3) := dk_180 0 105 (dk_at dksX10_advance_11 0 rfl rfl)
theorem dX10_advance_263 : decode cX10_advance 263 = .ok (.iload_n 1, 1) := dk_27 (dk_at dksX10_advance_11 3 rfl rfl)
theorem dX10_advance_264 : decode cX10_advance 264 = .ok (.aload_n 0, 1) := dk_42 (dk_at dksX10_advance_11 4 rfl rfl)
theorem dX10_advance_265 : decode cX10_advance 265 = .ok (.getfield 61, 3) := dk_180 0 61 (dk_at dksX10_advance_11 5 rfl rfl)
theorem dX10_advance_268 : decode cX10_advance 268 = .ok (.iload_n 2, 1) := dk_28 (dk_at dksX10_advance_11 8 rfl rfl)
theorem dX10_advance_269 : decode cX10_advance 269 = .ok (.iaload, 1) := dk_46 (dk_at dksX10_advance_11 9 rfl rfl)
theorem dX10_advance_270 : decode cX10_advance 270 = .ok (.iastore, 1) := dk_79 (dk_at dksX10_advance_11 10 rfl rfl)
theorem dX10_advance_271 : decode cX10_advance 271 = .ok (.aload_n 0, 1) := dk_42 (dk_at dksX10_advance_11 11 rfl rfl)
theorem dX10_advance_272 : decode cX10_advance 272 = .ok (.getfield 105, 3) := dk_180 0 105 (dk_at dksX10_advance_11 12 rfl rfl)
theorem dX10_advance_275 : decode cX10_advance 275 = .ok (.iload_n 1, 1) := dk_27 (dk_at dksX10_advance_11 15 rfl rfl)
theorem dX10_advance_276 : decode cX10_advance 276 = .ok (.dup2, 1) := dk_92 (dk_at dksX10_advance_11 16 rfl rfl)
theorem dX10_advance_277 : decode cX10_advance 277 = .ok (.iaload, 1) := dk_46 (dk_at dksX10_advance_11 17 rfl rfl)
theorem dX10_advance_278 : decode cX10_advance 278 = .ok (.iconst 1, 1) := dk_4 (dk_at dksX10_advance_11 18 rfl rfl)
theorem dX10_advance_279 : decode cX10_advance 279 = .ok (.iadd, 1) := dk_96 (dk_at dksX10_advance_11 19 rfl rfl)
theorem dX10_advance_280 : decode cX10_advance 280 = .ok (.iastore, 1) := dk_79 (dk_at dksX10_advance_11 20 rfl rfl)
theorem dX10_advance_281 : decode cX10_advance 281 = .ok (.goto (-281), 3) := dk_167 254 231 (dk_at dksX10_advance_11 21 rfl rfl)
theorem dX10_advance_284 : decode cX10_advance 284 = .ok (.iconst 0, 1) := dk_3 (dk_at dksX10_advance_12 0 rfl rfl)
theorem dX10_advance_285 : decode cX10_advance 285 = .ok (.ireturn, 1) := dk_172 (dk_at dksX10_advance_12 1 rfl rfl)
abbrev cX10_lays : ByteArray := prog_32_method_60_code
def yX10_lays : MethodName := ⟨RX10, "lays", "(IIZ)V"⟩
def dkwX10_lays_7 : List UInt8 := [79, 177]
abbrev dktX10_lays_7 : List UInt8 := dkwX10_lays_7 ++ []
def dkwX10_lays_6 : List UInt8 := [160, 0, 15, 42, 180, 0, 111, 27, 42, 180, 0, 108, 27, 46, 79, 42, 180, 0, 108, 27, 92, 46, 4, 96]
abbrev dktX10_lays_6 : List UInt8 := dkwX10_lays_6 ++ dktX10_lays_7
def dkwX10_lays_5 : List UInt8 := [132, 4, 1, 167, 255, 139, 42, 180, 1, 201, 4, 160, 0, 28, 42, 180, 0, 108, 27, 46, 42, 180, 1, 204]
abbrev dktX10_lays_5 : List UInt8 := dkwX10_lays_5 ++ dktX10_lays_6
def dkwX10_lays_4 : List UInt8 := [29, 153, 0, 8, 21, 5, 167, 0, 7, 4, 21, 5, 100, 54, 7, 42, 27, 21, 4, 21, 7, 182, 1, 209]
abbrev dktX10_lays_4 : List UInt8 := dkwX10_lays_4 ++ dktX10_lays_5
def dkwX10_lays_3 : List UInt8 := [160, 0, 12, 42, 180, 0, 55, 28, 46, 167, 0, 28, 21, 6, 153, 0, 10, 42, 180, 1, 207, 167, 0, 16]
abbrev dktX10_lays_3 : List UInt8 := dkwX10_lays_3 ++ dktX10_lays_4
def dkwX10_lays_2 : List UInt8 := [46, 42, 180, 1, 204, 160, 0, 7, 4, 167, 0, 4, 3, 54, 6, 42, 180, 0, 52, 28, 46, 4]
abbrev dktX10_lays_2 : List UInt8 := dkwX10_lays_2 ++ dktX10_lays_3
def dkwX10_lays_1 : List UInt8 := [54, 5, 42, 180, 1, 201, 6, 160, 0, 29, 42, 180, 0, 52, 28, 46, 154, 0, 20, 42, 180, 0, 55, 28]
abbrev dktX10_lays_1 : List UInt8 := dkwX10_lays_1 ++ dktX10_lays_2
def dkwX10_lays_0 : List UInt8 := [3, 54, 4, 21, 4, 42, 182, 1, 161, 162, 0, 114, 21, 4, 42, 180, 0, 55, 28, 46, 122, 4, 126]
abbrev dktX10_lays_0 : List UInt8 := dkwX10_lays_0 ++ dktX10_lays_1
theorem dksX10_lays_0 : cX10_lays.data.toList.drop 0 = dktX10_lays_0 := by decide +kernel
theorem dksX10_lays_1 : cX10_lays.data.toList.drop 23 = dktX10_lays_1 := dk_seg dksX10_lays_0 23 rfl rfl
theorem dksX10_lays_2 : cX10_lays.data.toList.drop 47 = dktX10_lays_2 := dk_seg dksX10_lays_1 24 rfl rfl
theorem dksX10_lays_3 : cX10_lays.data.toList.drop 69 = dktX10_lays_3 := dk_seg dksX10_lays_2 22 rfl rfl
theorem dksX10_lays_4 : cX10_lays.data.toList.drop 93 = dktX10_lays_4 := dk_seg dksX10_lays_3 24 rfl rfl
theorem dksX10_lays_5 : cX10_lays.data.toList.drop 117 = dktX10_lays_5 := dk_seg dksX10_lays_4 24 rfl rfl
theorem dksX10_lays_6 : cX10_lays.data.toList.drop 141 = dktX10_lays_6 := dk_seg dksX10_lays_5 24 rfl rfl
theorem dksX10_lays_7 : cX10_lays.data.toList.drop 165 = dktX10_lays_7 := dk_seg dksX10_lays_6 24 rfl rfl
theorem dX10_lays_0 : decode cX10_lays 0 = .ok (.iconst 0, 1) := dk_3 (dk_at dksX10_lays_0 0 rfl rfl)
theorem dX10_lays_1 : decode cX10_lays 1 = .ok (.istore 4, 2) := dk_54 4 (dk_at dksX10_lays_0 1 rfl rfl)
theorem dX10_lays_3 : decode cX10_lays 3 = .ok (.iload 4, 2) := dk_21 4 (dk_at dksX10_lays_0 3 rfl rfl)
theorem dX10_lays_5 : decode cX10_lays 5 = .ok (.aload_n 0, 1) := dk_42 (dk_at dksX10_lays_0 5 rfl rfl)
theorem dX10_lays_6 : decode cX10_lays 6 = .ok (.invokevirtual 417, 3) := dk_182 1 161 (dk_at dksX10_lays_0 6 rfl rfl)
theorem dX10_lays_9 : decode cX10_lays 9 = .ok (.if_icmp .ge 114, 3) := dk_162 0 114 (dk_at dksX10_lays_0 9 rfl rfl)
theorem dX10_lays_12 : decode cX10_lays 12 = .ok (.iload 4, 2) := dk_21 4 (dk_at dksX10_lays_0 12 rfl rfl)
theorem dX10_lays_14 : decode cX10_lays 14 = .ok (.aload_n 0, 1) := dk_42 (dk_at dksX10_lays_0 14 rfl rfl)
theorem dX10_lays_15 : decode cX10_lays 15 = .ok (.getfield 55, 3) := dk_180 0 55 (dk_at dksX10_lays_0 15 rfl rfl)
theorem dX10_lays_18 : decode cX10_lays 18 = .ok (.iload_n 2, 1) := dk_28 (dk_at dksX10_lays_0 18 rfl rfl)
theorem dX10_lays_19 : decode cX10_lays 19 = .ok (.iaload, 1) := dk_46 (dk_at dksX10_lays_0 19 rfl rfl)
theorem dX10_lays_20 : decode cX10_lays 20 = .ok (.ishr, 1) := dk_122 (dk_at dksX10_lays_0 20 rfl rfl)
theorem dX10_lays_21 : decode cX10_lays 21 = .ok (.iconst 1, 1) := dk_4 (dk_at dksX10_lays_0 21 rfl rfl)
theorem dX10_lays_22 : decode cX10_lays 22 = .ok (.iand, 1) := dk_126 (dk_at dksX10_lays_0 22 rfl rfl)
theorem dX10_lays_23 : decode cX10_lays 23 = .ok (.istore 5, 2) := dk_54 5 (dk_at dksX10_lays_1 0 rfl rfl)
theorem dX10_lays_25 : decode cX10_lays 25 = .ok (.aload_n 0, 1) := dk_42 (dk_at dksX10_lays_1 2 rfl rfl)
theorem dX10_lays_26 : decode cX10_lays 26 = .ok (.getfield 457, 3) := dk_180 1 201 (dk_at dksX10_lays_1 3 rfl rfl)
theorem dX10_lays_29 : decode cX10_lays 29 = .ok (.iconst 3, 1) := dk_6 (dk_at dksX10_lays_1 6 rfl rfl)
theorem dX10_lays_30 : decode cX10_lays 30 = .ok (.if_icmp .ne 29, 3) := dk_160 0 29 (dk_at dksX10_lays_1 7 rfl rfl)
theorem dX10_lays_33 : decode cX10_lays 33 = .ok (.aload_n 0, 1) := dk_42 (dk_at dksX10_lays_1 10 rfl rfl)
theorem dX10_lays_34 : decode cX10_lays 34 = .ok (.getfield 52, 3) := dk_180 0 52 (dk_at dksX10_lays_1 11 rfl rfl)
theorem dX10_lays_37 : decode cX10_lays 37 = .ok (.iload_n 2, 1) := dk_28 (dk_at dksX10_lays_1 14 rfl rfl)
theorem dX10_lays_38 : decode cX10_lays 38 = .ok (.iaload, 1) := dk_46 (dk_at dksX10_lays_1 15 rfl rfl)
theorem dX10_lays_39 : decode cX10_lays 39 = .ok (.ifCond .ne 20, 3) := dk_154 0 20 (dk_at dksX10_lays_1 16 rfl rfl)
theorem dX10_lays_42 : decode cX10_lays 42 = .ok (.aload_n 0, 1) := dk_42 (dk_at dksX10_lays_1 19 rfl rfl)
theorem dX10_lays_43 : decode cX10_lays 43 = .ok (.getfield 55, 3) := dk_180 0 55 (dk_at dksX10_lays_1 20 rfl rfl)
theorem dX10_lays_46 : decode cX10_lays 46 = .ok (.iload_n 2, 1) := dk_28 (dk_at dksX10_lays_1 23 rfl rfl)
theorem dX10_lays_47 : decode cX10_lays 47 = .ok (.iaload, 1) := dk_46 (dk_at dksX10_lays_2 0 rfl rfl)
theorem dX10_lays_48 : decode cX10_lays 48 = .ok (.aload_n 0, 1) := dk_42 (dk_at dksX10_lays_2 1 rfl rfl)
theorem dX10_lays_49 : decode cX10_lays 49 = .ok (.getfield 460, 3) := dk_180 1 204 (dk_at dksX10_lays_2 2 rfl rfl)
theorem dX10_lays_52 : decode cX10_lays 52 = .ok (.if_icmp .ne 7, 3) := dk_160 0 7 (dk_at dksX10_lays_2 5 rfl rfl)
theorem dX10_lays_55 : decode cX10_lays 55 = .ok (.iconst 1, 1) := dk_4 (dk_at dksX10_lays_2 8 rfl rfl)
theorem dX10_lays_56 : decode cX10_lays 56 = .ok (.goto 4, 3) := dk_167 0 4 (dk_at dksX10_lays_2 9 rfl rfl)
theorem dX10_lays_59 : decode cX10_lays 59 = .ok (.iconst 0, 1) := dk_3 (dk_at dksX10_lays_2 12 rfl rfl)
theorem dX10_lays_60 : decode cX10_lays 60 = .ok (.istore 6, 2) := dk_54 6 (dk_at dksX10_lays_2 13 rfl rfl)
theorem dX10_lays_62 : decode cX10_lays 62 = .ok (.aload_n 0, 1) := dk_42 (dk_at dksX10_lays_2 15 rfl rfl)
theorem dX10_lays_63 : decode cX10_lays 63 = .ok (.getfield 52, 3) := dk_180 0 52 (dk_at dksX10_lays_2 16 rfl rfl)
theorem dX10_lays_66 : decode cX10_lays 66 = .ok (.iload_n 2, 1) := dk_28 (dk_at dksX10_lays_2 19 rfl rfl)
theorem dX10_lays_67 : decode cX10_lays 67 = .ok (.iaload, 1) := dk_46 (dk_at dksX10_lays_2 20 rfl rfl)
theorem dX10_lays_68 : decode cX10_lays 68 = .ok (.iconst 1, 1) := dk_4 (dk_at dksX10_lays_2 21 rfl rfl)
theorem dX10_lays_69 : decode cX10_lays 69 = .ok (.if_icmp .ne 12, 3) := dk_160 0 12 (dk_at dksX10_lays_3 0 rfl rfl)
theorem dX10_lays_72 : decode cX10_lays 72 = .ok (.aload_n 0, 1) := dk_42 (dk_at dksX10_lays_3 3 rfl rfl)
theorem dX10_lays_73 : decode cX10_lays 73 = .ok (.getfield 55, 3) := dk_180 0 55 (dk_at dksX10_lays_3 4 rfl rfl)
theorem dX10_lays_76 : decode cX10_lays 76 = .ok (.iload_n 2, 1) := dk_28 (dk_at dksX10_lays_3 7 rfl rfl)
theorem dX10_lays_77 : decode cX10_lays 77 = .ok (.iaload, 1) := dk_46 (dk_at dksX10_lays_3 8 rfl rfl)
theorem dX10_lays_78 : decode cX10_lays 78 = .ok (.goto 28, 3) := dk_167 0 28 (dk_at dksX10_lays_3 9 rfl rfl)
theorem dX10_lays_81 : decode cX10_lays 81 = .ok (.iload 6, 2) := dk_21 6 (dk_at dksX10_lays_3 12 rfl rfl)
theorem dX10_lays_83 : decode cX10_lays 83 = .ok (.ifCond .eq 10, 3) := dk_153 0 10 (dk_at dksX10_lays_3 14 rfl rfl)
theorem dX10_lays_86 : decode cX10_lays 86 = .ok (.aload_n 0, 1) := dk_42 (dk_at dksX10_lays_3 17 rfl rfl)
theorem dX10_lays_87 : decode cX10_lays 87 = .ok (.getfield 463, 3) := dk_180 1 207 (dk_at dksX10_lays_3 18 rfl rfl)
theorem dX10_lays_90 : decode cX10_lays 90 = .ok (.goto 16, 3) := dk_167 0 16 (dk_at dksX10_lays_3 21 rfl rfl)
theorem dX10_lays_93 : decode cX10_lays 93 = .ok (.iload_n 3, 1) := dk_29 (dk_at dksX10_lays_4 0 rfl rfl)
theorem dX10_lays_94 : decode cX10_lays 94 = .ok (.ifCond .eq 8, 3) := dk_153 0 8 (dk_at dksX10_lays_4 1 rfl rfl)
theorem dX10_lays_97 : decode cX10_lays 97 = .ok (.iload 5, 2) := dk_21 5 (dk_at dksX10_lays_4 4 rfl rfl)
theorem dX10_lays_99 : decode cX10_lays 99 = .ok (.goto 7, 3) := dk_167 0 7 (dk_at dksX10_lays_4 6 rfl rfl)
theorem dX10_lays_102 : decode cX10_lays 102 = .ok (.iconst 1, 1) := dk_4 (dk_at dksX10_lays_4 9 rfl rfl)
theorem dX10_lays_103 : decode cX10_lays 103 = .ok (.iload 5, 2) := dk_21 5 (dk_at dksX10_lays_4 10 rfl rfl)
theorem dX10_lays_105 : decode cX10_lays 105 = .ok (.isub, 1) := dk_100 (dk_at dksX10_lays_4 12 rfl rfl)
theorem dX10_lays_106 : decode cX10_lays 106 = .ok (.istore 7, 2) := dk_54 7 (dk_at dksX10_lays_4 13 rfl rfl)
theorem dX10_lays_108 : decode cX10_lays 108 = .ok (.aload_n 0, 1) := dk_42 (dk_at dksX10_lays_4 15 rfl rfl)
theorem dX10_lays_109 : decode cX10_lays 109 = .ok (.iload_n 1, 1) := dk_27 (dk_at dksX10_lays_4 16 rfl rfl)
theorem dX10_lays_110 : decode cX10_lays 110 = .ok (.iload 4, 2) := dk_21 4 (dk_at dksX10_lays_4 17 rfl rfl)
theorem dX10_lays_112 : decode cX10_lays 112 = .ok (.iload 7, 2) := dk_21 7 (dk_at dksX10_lays_4 19 rfl rfl)
theorem dX10_lays_114 : decode cX10_lays 114 = .ok (.invokevirtual 465, 3) := dk_182 1 209 (dk_at dksX10_lays_4 21 rfl rfl)
theorem dX10_lays_117 : decode cX10_lays 117 = .ok (.iinc 4 1, 3) := dk_132 4 1 (dk_at dksX10_lays_5 0 rfl rfl)
theorem dX10_lays_120 : decode cX10_lays 120 = .ok (.goto (-117), 3) := dk_167 255 139 (dk_at dksX10_lays_5 3 rfl rfl)
theorem dX10_lays_123 : decode cX10_lays 123 = .ok (.aload_n 0, 1) := dk_42 (dk_at dksX10_lays_5 6 rfl rfl)
theorem dX10_lays_124 : decode cX10_lays 124 = .ok (.getfield 457, 3) := dk_180 1 201 (dk_at dksX10_lays_5 7 rfl rfl)
theorem dX10_lays_127 : decode cX10_lays 127 = .ok (.iconst 1, 1) := dk_4 (dk_at dksX10_lays_5 10 rfl rfl)
theorem dX10_lays_128 : decode cX10_lays 128 = .ok (.if_icmp .ne 28, 3) := dk_160 0 28 (dk_at dksX10_lays_5 11 rfl rfl)
theorem dX10_lays_131 : decode cX10_lays 131 = .ok (.aload_n 0, 1) := dk_42 (dk_at dksX10_lays_5 14 rfl rfl)
theorem dX10_lays_132 : decode cX10_lays 132 = .ok (.getfield 108, 3) := dk_180 0 108 (dk_at dksX10_lays_5 15 rfl rfl)
theorem dX10_lays_135 : decode cX10_lays 135 = .ok (.iload_n 1, 1) := dk_27 (dk_at dksX10_lays_5 18 rfl rfl)
theorem dX10_lays_136 : decode cX10_lays 136 = .ok (.iaload, 1) := dk_46 (dk_at dksX10_lays_5 19 rfl rfl)
theorem dX10_lays_137 : decode cX10_lays 137 = .ok (.aload_n 0, 1) := dk_42 (dk_at dksX10_lays_5 20 rfl rfl)
theorem dX10_lays_138 : decode cX10_lays 138 = .ok (.getfield 460, 3) := dk_180 1 204 (dk_at dksX10_lays_5 21 rfl rfl)
theorem dX10_lays_141 : decode cX10_lays 141 = .ok (.if_icmp .ne 15, 3) := dk_160 0 15 (dk_at dksX10_lays_6 0 rfl rfl)
theorem dX10_lays_144 : decode cX10_lays 144 = .ok (.aload_n 0, 1) := dk_42 (dk_at dksX10_lays_6 3 rfl rfl)
theorem dX10_lays_145 : decode cX10_lays 145 = .ok (.getfield 111, 3) := dk_180 0 111 (dk_at dksX10_lays_6 4 rfl rfl)
theorem dX10_lays_148 : decode cX10_lays 148 = .ok (.iload_n 1, 1) := dk_27 (dk_at dksX10_lays_6 7 rfl rfl)
theorem dX10_lays_149 : decode cX10_lays 149 = .ok (.aload_n 0, 1) := dk_42 (dk_at dksX10_lays_6 8 rfl rfl)
theorem dX10_lays_150 : decode cX10_lays 150 = .ok (.getfield 108, 3) := dk_180 0 108 (dk_at dksX10_lays_6 9 rfl rfl)
theorem dX10_lays_153 : decode cX10_lays 153 = .ok (.iload_n 1, 1) := dk_27 (dk_at dksX10_lays_6 12 rfl rfl)
theorem dX10_lays_154 : decode cX10_lays 154 = .ok (.iaload, 1) := dk_46 (dk_at dksX10_lays_6 13 rfl rfl)
theorem dX10_lays_155 : decode cX10_lays 155 = .ok (.iastore, 1) := dk_79 (dk_at dksX10_lays_6 14 rfl rfl)
theorem dX10_lays_156 : decode cX10_lays 156 = .ok (.aload_n 0, 1) := dk_42 (dk_at dksX10_lays_6 15 rfl rfl)
theorem dX10_lays_157 : decode cX10_lays 157 = .ok (.getfield 108, 3) := dk_180 0 108 (dk_at dksX10_lays_6 16 rfl rfl)
theorem dX10_lays_160 : decode cX10_lays 160 = .ok (.iload_n 1, 1) := dk_27 (dk_at dksX10_lays_6 19 rfl rfl)
theorem dX10_lays_161 : decode cX10_lays 161 = .ok (.dup2, 1) := dk_92 (dk_at dksX10_lays_6 20 rfl rfl)
theorem dX10_lays_162 : decode cX10_lays 162 = .ok (.iaload, 1) := dk_46 (dk_at dksX10_lays_6 21 rfl rfl)
theorem dX10_lays_163 : decode cX10_lays 163 = .ok (.iconst 1, 1) := dk_4 (dk_at dksX10_lays_6 22 rfl rfl)
theorem dX10_lays_164 : decode cX10_lays 164 = .ok (.iadd, 1) := dk_96 (dk_at dksX10_lays_6 23 rfl rfl)
theorem dX10_lays_165 : decode cX10_lays 165 = .ok (.iastore, 1) := dk_79 (dk_at dksX10_lays_7 0 rfl rfl)
theorem dX10_lays_166 : decode cX10_lays 166 = .ok (.return_, 1) := dk_177 (dk_at dksX10_lays_7 1 rfl rfl)
abbrev cX10_addCard : ByteArray := prog_32_method_58_code
def yX10_addCard : MethodName := ⟨RX10, "addCard", "(III)V"⟩
def dkwX10_addCard_3 : List UInt8 := [47, 22, 5, 97, 80, 132, 4, 1, 167, 255, 186, 177]
abbrev dktX10_addCard_3 : List UInt8 := dkwX10_addCard_3 ++ []
def dkwX10_addCard_2 : List UInt8 := [17, 8, 0, 27, 104, 17, 1, 0, 28, 104, 96, 21, 4, 29, 42, 180, 0, 108, 27, 46, 120, 128, 96, 92]
abbrev dktX10_addCard_2 : List UInt8 := dkwX10_addCard_2 ++ dktX10_addCard_3
def dkwX10_addCard_1 : List UInt8 := [17, 1, 0, 28, 104, 96, 21, 4, 96, 47, 55, 5, 22, 5, 9, 148, 153, 0, 36, 42, 180, 0, 99]
abbrev dktX10_addCard_1 : List UInt8 := dkwX10_addCard_1 ++ dktX10_addCard_2
def dkwX10_addCard_0 : List UInt8 := [42, 27, 28, 182, 1, 197, 3, 54, 4, 21, 4, 17, 1, 0, 162, 0, 68, 42, 180, 0, 99, 19, 1, 200]
abbrev dktX10_addCard_0 : List UInt8 := dkwX10_addCard_0 ++ dktX10_addCard_1
theorem dksX10_addCard_0 : cX10_addCard.data.toList.drop 0 = dktX10_addCard_0 := by decide +kernel
theorem dksX10_addCard_1 : cX10_addCard.data.toList.drop 24 = dktX10_addCard_1 := dk_seg dksX10_addCard_0 24 rfl rfl
theorem dksX10_addCard_2 : cX10_addCard.data.toList.drop 47 = dktX10_addCard_2 := dk_seg dksX10_addCard_1 23 rfl rfl
theorem dksX10_addCard_3 : cX10_addCard.data.toList.drop 71 = dktX10_addCard_3 := dk_seg dksX10_addCard_2 24 rfl rfl
theorem dX10_addCard_0 : decode cX10_addCard 0 = .ok (.aload_n 0, 1) := dk_42 (dk_at dksX10_addCard_0 0 rfl rfl)
theorem dX10_addCard_1 : decode cX10_addCard 1 = .ok (.iload_n 1, 1) := dk_27 (dk_at dksX10_addCard_0 1 rfl rfl)
theorem dX10_addCard_2 : decode cX10_addCard 2 = .ok (.iload_n 2, 1) := dk_28 (dk_at dksX10_addCard_0 2 rfl rfl)
theorem dX10_addCard_3 : decode cX10_addCard 3 = .ok (.invokevirtual 453, 3) := dk_182 1 197 (dk_at dksX10_addCard_0 3 rfl rfl)
theorem dX10_addCard_6 : decode cX10_addCard 6 = .ok (.iconst 0, 1) := dk_3 (dk_at dksX10_addCard_0 6 rfl rfl)
theorem dX10_addCard_7 : decode cX10_addCard 7 = .ok (.istore 4, 2) := dk_54 4 (dk_at dksX10_addCard_0 7 rfl rfl)
theorem dX10_addCard_9 : decode cX10_addCard 9 = .ok (.iload 4, 2) := dk_21 4 (dk_at dksX10_addCard_0 9 rfl rfl)
theorem dX10_addCard_11 : decode cX10_addCard 11 = .ok (.sipush 256, 3) := dk_17 1 0 (dk_at dksX10_addCard_0 11 rfl rfl)
theorem dX10_addCard_14 : decode cX10_addCard 14 = .ok (.if_icmp .ge 68, 3) := dk_162 0 68 (dk_at dksX10_addCard_0 14 rfl rfl)
theorem dX10_addCard_17 : decode cX10_addCard 17 = .ok (.aload_n 0, 1) := dk_42 (dk_at dksX10_addCard_0 17 rfl rfl)
theorem dX10_addCard_18 : decode cX10_addCard 18 = .ok (.getfield 99, 3) := dk_180 0 99 (dk_at dksX10_addCard_0 18 rfl rfl)
theorem dX10_addCard_21 : decode cX10_addCard 21 = .ok (.ldc_w 456, 3) := dk_19 1 200 (dk_at dksX10_addCard_0 21 rfl rfl)
theorem dX10_addCard_24 : decode cX10_addCard 24 = .ok (.sipush 256, 3) := dk_17 1 0 (dk_at dksX10_addCard_1 0 rfl rfl)
theorem dX10_addCard_27 : decode cX10_addCard 27 = .ok (.iload_n 2, 1) := dk_28 (dk_at dksX10_addCard_1 3 rfl rfl)
theorem dX10_addCard_28 : decode cX10_addCard 28 = .ok (.imul, 1) := dk_104 (dk_at dksX10_addCard_1 4 rfl rfl)
theorem dX10_addCard_29 : decode cX10_addCard 29 = .ok (.iadd, 1) := dk_96 (dk_at dksX10_addCard_1 5 rfl rfl)
theorem dX10_addCard_30 : decode cX10_addCard 30 = .ok (.iload 4, 2) := dk_21 4 (dk_at dksX10_addCard_1 6 rfl rfl)
theorem dX10_addCard_32 : decode cX10_addCard 32 = .ok (.iadd, 1) := dk_96 (dk_at dksX10_addCard_1 8 rfl rfl)
theorem dX10_addCard_33 : decode cX10_addCard 33 = .ok (.laload, 1) := dk_47 (dk_at dksX10_addCard_1 9 rfl rfl)
theorem dX10_addCard_34 : decode cX10_addCard 34 = .ok (.lstore 5, 2) := dk_55 5 (dk_at dksX10_addCard_1 10 rfl rfl)
theorem dX10_addCard_36 : decode cX10_addCard 36 = .ok (.lload 5, 2) := dk_22 5 (dk_at dksX10_addCard_1 12 rfl rfl)
theorem dX10_addCard_38 : decode cX10_addCard 38 = .ok (.lconst 0, 1) := dk_9 (dk_at dksX10_addCard_1 14 rfl rfl)
theorem dX10_addCard_39 : decode cX10_addCard 39 = .ok (.lcmp, 1) := dk_148 (dk_at dksX10_addCard_1 15 rfl rfl)
theorem dX10_addCard_40 : decode cX10_addCard 40 = .ok (.ifCond .eq 36, 3) := dk_153 0 36 (dk_at dksX10_addCard_1 16 rfl rfl)
theorem dX10_addCard_43 : decode cX10_addCard 43 = .ok (.aload_n 0, 1) := dk_42 (dk_at dksX10_addCard_1 19 rfl rfl)
theorem dX10_addCard_44 : decode cX10_addCard 44 = .ok (.getfield 99, 3) := dk_180 0 99 (dk_at dksX10_addCard_1 20 rfl rfl)
theorem dX10_addCard_47 : decode cX10_addCard 47 = .ok (.sipush 2048, 3) := dk_17 8 0 (dk_at dksX10_addCard_2 0 rfl rfl)
theorem dX10_addCard_50 : decode cX10_addCard 50 = .ok (.iload_n 1, 1) := dk_27 (dk_at dksX10_addCard_2 3 rfl rfl)
theorem dX10_addCard_51 : decode cX10_addCard 51 = .ok (.imul, 1) := dk_104 (dk_at dksX10_addCard_2 4 rfl rfl)
theorem dX10_addCard_52 : decode cX10_addCard 52 = .ok (.sipush 256, 3) := dk_17 1 0 (dk_at dksX10_addCard_2 5 rfl rfl)
theorem dX10_addCard_55 : decode cX10_addCard 55 = .ok (.iload_n 2, 1) := dk_28 (dk_at dksX10_addCard_2 8 rfl rfl)
theorem dX10_addCard_56 : decode cX10_addCard 56 = .ok (.imul, 1) := dk_104 (dk_at dksX10_addCard_2 9 rfl rfl)
theorem dX10_addCard_57 : decode cX10_addCard 57 = .ok (.iadd, 1) := dk_96 (dk_at dksX10_addCard_2 10 rfl rfl)
theorem dX10_addCard_58 : decode cX10_addCard 58 = .ok (.iload 4, 2) := dk_21 4 (dk_at dksX10_addCard_2 11 rfl rfl)
theorem dX10_addCard_60 : decode cX10_addCard 60 = .ok (.iload_n 3, 1) := dk_29 (dk_at dksX10_addCard_2 13 rfl rfl)
theorem dX10_addCard_61 : decode cX10_addCard 61 = .ok (.aload_n 0, 1) := dk_42 (dk_at dksX10_addCard_2 14 rfl rfl)
theorem dX10_addCard_62 : decode cX10_addCard 62 = .ok (.getfield 108, 3) := dk_180 0 108 (dk_at dksX10_addCard_2 15 rfl rfl)
theorem dX10_addCard_65 : decode cX10_addCard 65 = .ok (.iload_n 1, 1) := dk_27 (dk_at dksX10_addCard_2 18 rfl rfl)
theorem dX10_addCard_66 : decode cX10_addCard 66 = .ok (.iaload, 1) := dk_46 (dk_at dksX10_addCard_2 19 rfl rfl)
theorem dX10_addCard_67 : decode cX10_addCard 67 = .ok (.ishl, 1) := dk_120 (dk_at dksX10_addCard_2 20 rfl rfl)
theorem dX10_addCard_68 : decode cX10_addCard 68 = .ok (.ior, 1) := dk_128 (dk_at dksX10_addCard_2 21 rfl rfl)
theorem dX10_addCard_69 : decode cX10_addCard 69 = .ok (.iadd, 1) := dk_96 (dk_at dksX10_addCard_2 22 rfl rfl)
theorem dX10_addCard_70 : decode cX10_addCard 70 = .ok (.dup2, 1) := dk_92 (dk_at dksX10_addCard_2 23 rfl rfl)
theorem dX10_addCard_71 : decode cX10_addCard 71 = .ok (.laload, 1) := dk_47 (dk_at dksX10_addCard_3 0 rfl rfl)
theorem dX10_addCard_72 : decode cX10_addCard 72 = .ok (.lload 5, 2) := dk_22 5 (dk_at dksX10_addCard_3 1 rfl rfl)
theorem dX10_addCard_74 : decode cX10_addCard 74 = .ok (.ladd, 1) := dk_97 (dk_at dksX10_addCard_3 3 rfl rfl)
theorem dX10_addCard_75 : decode cX10_addCard 75 = .ok (.lastore, 1) := dk_80 (dk_at dksX10_addCard_3 4 rfl rfl)
theorem dX10_addCard_76 : decode cX10_addCard 76 = .ok (.iinc 4 1, 3) := dk_132 4 1 (dk_at dksX10_addCard_3 5 rfl rfl)
theorem dX10_addCard_79 : decode cX10_addCard 79 = .ok (.goto (-70), 3) := dk_167 255 186 (dk_at dksX10_addCard_3 8 rfl rfl)
theorem dX10_addCard_82 : decode cX10_addCard 82 = .ok (.return_, 1) := dk_177 (dk_at dksX10_addCard_3 11 rfl rfl)
abbrev cX10_clearPart : ByteArray := prog_32_method_59_code
def yX10_clearPart : MethodName := ⟨RX10, "clearPart", "(II)V"⟩
def dkwX10_clearPart_2 : List UInt8 := [17, 8, 0, 27, 104, 17, 1, 0, 28, 104, 96, 29, 96, 9, 80, 132, 3, 1, 167, 255, 193, 177]
abbrev dktX10_clearPart_2 : List UInt8 := dkwX10_clearPart_2 ++ []
def dkwX10_clearPart_1 : List UInt8 := [42, 180, 0, 99, 17, 8, 0, 27, 104, 17, 1, 0, 28, 104, 96, 29, 96, 47, 80, 42, 180, 0, 99]
abbrev dktX10_clearPart_1 : List UInt8 := dkwX10_clearPart_1 ++ dktX10_clearPart_2
def dkwX10_clearPart_0 : List UInt8 := [3, 62, 29, 17, 1, 0, 162, 0, 62, 42, 180, 0, 99, 19, 1, 200, 17, 1, 0, 28, 104, 96, 29, 96]
abbrev dktX10_clearPart_0 : List UInt8 := dkwX10_clearPart_0 ++ dktX10_clearPart_1
theorem dksX10_clearPart_0 : cX10_clearPart.data.toList.drop 0 = dktX10_clearPart_0 := by decide +kernel
theorem dksX10_clearPart_1 : cX10_clearPart.data.toList.drop 24 = dktX10_clearPart_1 := dk_seg dksX10_clearPart_0 24 rfl rfl
theorem dksX10_clearPart_2 : cX10_clearPart.data.toList.drop 47 = dktX10_clearPart_2 := dk_seg dksX10_clearPart_1 23 rfl rfl
theorem dX10_clearPart_0 : decode cX10_clearPart 0 = .ok (.iconst 0, 1) := dk_3 (dk_at dksX10_clearPart_0 0 rfl rfl)
theorem dX10_clearPart_1 : decode cX10_clearPart 1 = .ok (.istore_n 3, 1) := dk_62 (dk_at dksX10_clearPart_0 1 rfl rfl)
theorem dX10_clearPart_2 : decode cX10_clearPart 2 = .ok (.iload_n 3, 1) := dk_29 (dk_at dksX10_clearPart_0 2 rfl rfl)
theorem dX10_clearPart_3 : decode cX10_clearPart 3 = .ok (.sipush 256, 3) := dk_17 1 0 (dk_at dksX10_clearPart_0 3 rfl rfl)
theorem dX10_clearPart_6 : decode cX10_clearPart 6 = .ok (.if_icmp .ge 62, 3) := dk_162 0 62 (dk_at dksX10_clearPart_0 6 rfl rfl)
theorem dX10_clearPart_9 : decode cX10_clearPart 9 = .ok (.aload_n 0, 1) := dk_42 (dk_at dksX10_clearPart_0 9 rfl rfl)
theorem dX10_clearPart_10 : decode cX10_clearPart 10 = .ok (.getfield 99, 3) := dk_180 0 99 (dk_at dksX10_clearPart_0 10 rfl rfl)
theorem dX10_clearPart_13 : decode cX10_clearPart 13 = .ok (.ldc_w 456, 3) := dk_19 1 200 (dk_at dksX10_clearPart_0 13 rfl rfl)
theorem dX10_clearPart_16 : decode cX10_clearPart 16 = .ok (.sipush 256, 3) := dk_17 1 0 (dk_at dksX10_clearPart_0 16 rfl rfl)
theorem dX10_clearPart_19 : decode cX10_clearPart 19 = .ok (.iload_n 2, 1) := dk_28 (dk_at dksX10_clearPart_0 19 rfl rfl)
theorem dX10_clearPart_20 : decode cX10_clearPart 20 = .ok (.imul, 1) := dk_104 (dk_at dksX10_clearPart_0 20 rfl rfl)
theorem dX10_clearPart_21 : decode cX10_clearPart 21 = .ok (.iadd, 1) := dk_96 (dk_at dksX10_clearPart_0 21 rfl rfl)
theorem dX10_clearPart_22 : decode cX10_clearPart 22 = .ok (.iload_n 3, 1) := dk_29 (dk_at dksX10_clearPart_0 22 rfl rfl)
theorem dX10_clearPart_23 : decode cX10_clearPart 23 = .ok (.iadd, 1) := dk_96 (dk_at dksX10_clearPart_0 23 rfl rfl)
theorem dX10_clearPart_24 : decode cX10_clearPart 24 = .ok (.aload_n 0, 1) := dk_42 (dk_at dksX10_clearPart_1 0 rfl rfl)
theorem dX10_clearPart_25 : decode cX10_clearPart 25 = .ok (.getfield 99, 3) := dk_180 0 99 (dk_at dksX10_clearPart_1 1 rfl rfl)
theorem dX10_clearPart_28 : decode cX10_clearPart 28 = .ok (.sipush 2048, 3) := dk_17 8 0 (dk_at dksX10_clearPart_1 4 rfl rfl)
theorem dX10_clearPart_31 : decode cX10_clearPart 31 = .ok (.iload_n 1, 1) := dk_27 (dk_at dksX10_clearPart_1 7 rfl rfl)
theorem dX10_clearPart_32 : decode cX10_clearPart 32 = .ok (.imul, 1) := dk_104 (dk_at dksX10_clearPart_1 8 rfl rfl)
theorem dX10_clearPart_33 : decode cX10_clearPart 33 = .ok (.sipush 256, 3) := dk_17 1 0 (dk_at dksX10_clearPart_1 9 rfl rfl)
theorem dX10_clearPart_36 : decode cX10_clearPart 36 = .ok (.iload_n 2, 1) := dk_28 (dk_at dksX10_clearPart_1 12 rfl rfl)
theorem dX10_clearPart_37 : decode cX10_clearPart 37 = .ok (.imul, 1) := dk_104 (dk_at dksX10_clearPart_1 13 rfl rfl)
theorem dX10_clearPart_38 : decode cX10_clearPart 38 = .ok (.iadd, 1) := dk_96 (dk_at dksX10_clearPart_1 14 rfl rfl)
theorem dX10_clearPart_39 : decode cX10_clearPart 39 = .ok (.iload_n 3, 1) := dk_29 (dk_at dksX10_clearPart_1 15 rfl rfl)
theorem dX10_clearPart_40 : decode cX10_clearPart 40 = .ok (.iadd, 1) := dk_96 (dk_at dksX10_clearPart_1 16 rfl rfl)
theorem dX10_clearPart_41 : decode cX10_clearPart 41 = .ok (.laload, 1) := dk_47 (dk_at dksX10_clearPart_1 17 rfl rfl)
theorem dX10_clearPart_42 : decode cX10_clearPart 42 = .ok (.lastore, 1) := dk_80 (dk_at dksX10_clearPart_1 18 rfl rfl)
theorem dX10_clearPart_43 : decode cX10_clearPart 43 = .ok (.aload_n 0, 1) := dk_42 (dk_at dksX10_clearPart_1 19 rfl rfl)
theorem dX10_clearPart_44 : decode cX10_clearPart 44 = .ok (.getfield 99, 3) := dk_180 0 99 (dk_at dksX10_clearPart_1 20 rfl rfl)
theorem dX10_clearPart_47 : decode cX10_clearPart 47 = .ok (.sipush 2048, 3) := dk_17 8 0 (dk_at dksX10_clearPart_2 0 rfl rfl)
theorem dX10_clearPart_50 : decode cX10_clearPart 50 = .ok (.iload_n 1, 1) := dk_27 (dk_at dksX10_clearPart_2 3 rfl rfl)
theorem dX10_clearPart_51 : decode cX10_clearPart 51 = .ok (.imul, 1) := dk_104 (dk_at dksX10_clearPart_2 4 rfl rfl)
theorem dX10_clearPart_52 : decode cX10_clearPart 52 = .ok (.sipush 256, 3) := dk_17 1 0 (dk_at dksX10_clearPart_2 5 rfl rfl)
theorem dX10_clearPart_55 : decode cX10_clearPart 55 = .ok (.iload_n 2, 1) := dk_28 (dk_at dksX10_clearPart_2 8 rfl rfl)
theorem dX10_clearPart_56 : decode cX10_clearPart 56 = .ok (.imul, 1) := dk_104 (dk_at dksX10_clearPart_2 9 rfl rfl)
theorem dX10_clearPart_57 : decode cX10_clearPart 57 = .ok (.iadd, 1) := dk_96 (dk_at dksX10_clearPart_2 10 rfl rfl)
theorem dX10_clearPart_58 : decode cX10_clearPart 58 = .ok (.iload_n 3, 1) := dk_29 (dk_at dksX10_clearPart_2 11 rfl rfl)
theorem dX10_clearPart_59 : decode cX10_clearPart 59 = .ok (.iadd, 1) := dk_96 (dk_at dksX10_clearPart_2 12 rfl rfl)
theorem dX10_clearPart_60 : decode cX10_clearPart 60 = .ok (.lconst 0, 1) := dk_9 (dk_at dksX10_clearPart_2 13 rfl rfl)
theorem dX10_clearPart_61 : decode cX10_clearPart 61 = .ok (.lastore, 1) := dk_80 (dk_at dksX10_clearPart_2 14 rfl rfl)
theorem dX10_clearPart_62 : decode cX10_clearPart 62 = .ok (.iinc 3 1, 3) := dk_132 3 1 (dk_at dksX10_clearPart_2 15 rfl rfl)
theorem dX10_clearPart_65 : decode cX10_clearPart 65 = .ok (.goto (-63), 3) := dk_167 255 193 (dk_at dksX10_clearPart_2 18 rfl rfl)
theorem dX10_clearPart_68 : decode cX10_clearPart 68 = .ok (.return_, 1) := dk_177 (dk_at dksX10_clearPart_2 21 rfl rfl)
abbrev cX10_fits : ByteArray := prog_32_method_49_code
def yX10_fits : MethodName := ⟨RX10, "fits", "(II)Z"⟩
def dkwX10_fits_4 : List UInt8 := [167, 0, 18, 42, 180, 0, 58, 27, 46, 28, 162, 0, 7, 4, 167, 0, 4, 3, 172]
abbrev dktX10_fits_4 : List UInt8 := dkwX10_fits_4 ++ []
def dkwX10_fits_3 : List UInt8 := [180, 0, 55, 27, 46, 28, 162, 0, 17, 42, 180, 0, 58, 27, 46, 28, 162, 0, 7, 4, 167, 0, 22, 3]
abbrev dktX10_fits_3 : List UInt8 := dkwX10_fits_3 ++ dktX10_fits_4
def dkwX10_fits_2 : List UInt8 := [3, 172, 132, 4, 1, 167, 255, 224, 4, 172, 29, 5, 159, 0, 9, 29, 16, 11, 160, 0, 31, 42]
abbrev dktX10_fits_2 : List UInt8 := dkwX10_fits_2 ++ dktX10_fits_3
def dkwX10_fits_1 : List UInt8 := [180, 0, 64, 27, 46, 162, 0, 27, 42, 180, 0, 67, 16, 8, 27, 104, 21, 4, 96, 46, 28, 161, 0, 5]
abbrev dktX10_fits_1 : List UInt8 := dkwX10_fits_1 ++ dktX10_fits_2
def dkwX10_fits_0 : List UInt8 := [42, 180, 0, 52, 27, 46, 62, 29, 6, 159, 0, 9, 29, 16, 8, 160, 0, 43, 3, 54, 4, 21, 4, 42]
abbrev dktX10_fits_0 : List UInt8 := dkwX10_fits_0 ++ dktX10_fits_1
theorem dksX10_fits_0 : cX10_fits.data.toList.drop 0 = dktX10_fits_0 := by decide +kernel
theorem dksX10_fits_1 : cX10_fits.data.toList.drop 24 = dktX10_fits_1 := dk_seg dksX10_fits_0 24 rfl rfl
theorem dksX10_fits_2 : cX10_fits.data.toList.drop 48 = dktX10_fits_2 := dk_seg dksX10_fits_1 24 rfl rfl
theorem dksX10_fits_3 : cX10_fits.data.toList.drop 70 = dktX10_fits_3 := dk_seg dksX10_fits_2 22 rfl rfl
theorem dksX10_fits_4 : cX10_fits.data.toList.drop 94 = dktX10_fits_4 := dk_seg dksX10_fits_3 24 rfl rfl
theorem dX10_fits_0 : decode cX10_fits 0 = .ok (.aload_n 0, 1) := dk_42 (dk_at dksX10_fits_0 0 rfl rfl)
theorem dX10_fits_1 : decode cX10_fits 1 = .ok (.getfield 52, 3) := dk_180 0 52 (dk_at dksX10_fits_0 1 rfl rfl)
theorem dX10_fits_4 : decode cX10_fits 4 = .ok (.iload_n 1, 1) := dk_27 (dk_at dksX10_fits_0 4 rfl rfl)
theorem dX10_fits_5 : decode cX10_fits 5 = .ok (.iaload, 1) := dk_46 (dk_at dksX10_fits_0 5 rfl rfl)
theorem dX10_fits_6 : decode cX10_fits 6 = .ok (.istore_n 3, 1) := dk_62 (dk_at dksX10_fits_0 6 rfl rfl)
theorem dX10_fits_7 : decode cX10_fits 7 = .ok (.iload_n 3, 1) := dk_29 (dk_at dksX10_fits_0 7 rfl rfl)
theorem dX10_fits_8 : decode cX10_fits 8 = .ok (.iconst 3, 1) := dk_6 (dk_at dksX10_fits_0 8 rfl rfl)
theorem dX10_fits_9 : decode cX10_fits 9 = .ok (.if_icmp .eq 9, 3) := dk_159 0 9 (dk_at dksX10_fits_0 9 rfl rfl)
theorem dX10_fits_12 : decode cX10_fits 12 = .ok (.iload_n 3, 1) := dk_29 (dk_at dksX10_fits_0 12 rfl rfl)
theorem dX10_fits_13 : decode cX10_fits 13 = .ok (.bipush 8, 2) := dk_16 8 (dk_at dksX10_fits_0 13 rfl rfl)
theorem dX10_fits_15 : decode cX10_fits 15 = .ok (.if_icmp .ne 43, 3) := dk_160 0 43 (dk_at dksX10_fits_0 15 rfl rfl)
theorem dX10_fits_18 : decode cX10_fits 18 = .ok (.iconst 0, 1) := dk_3 (dk_at dksX10_fits_0 18 rfl rfl)
theorem dX10_fits_19 : decode cX10_fits 19 = .ok (.istore 4, 2) := dk_54 4 (dk_at dksX10_fits_0 19 rfl rfl)
theorem dX10_fits_21 : decode cX10_fits 21 = .ok (.iload 4, 2) := dk_21 4 (dk_at dksX10_fits_0 21 rfl rfl)
theorem dX10_fits_23 : decode cX10_fits 23 = .ok (.aload_n 0, 1) := dk_42 (dk_at dksX10_fits_0 23 rfl rfl)
theorem dX10_fits_24 : decode cX10_fits 24 = .ok (.getfield 64, 3) := dk_180 0 64 (dk_at dksX10_fits_1 0 rfl rfl)
theorem dX10_fits_27 : decode cX10_fits 27 = .ok (.iload_n 1, 1) := dk_27 (dk_at dksX10_fits_1 3 rfl rfl)
theorem dX10_fits_28 : decode cX10_fits 28 = .ok (.iaload, 1) := dk_46 (dk_at dksX10_fits_1 4 rfl rfl)
theorem dX10_fits_29 : decode cX10_fits 29 = .ok (.if_icmp .ge 27, 3) := dk_162 0 27 (dk_at dksX10_fits_1 5 rfl rfl)
theorem dX10_fits_32 : decode cX10_fits 32 = .ok (.aload_n 0, 1) := dk_42 (dk_at dksX10_fits_1 8 rfl rfl)
theorem dX10_fits_33 : decode cX10_fits 33 = .ok (.getfield 67, 3) := dk_180 0 67 (dk_at dksX10_fits_1 9 rfl rfl)
theorem dX10_fits_36 : decode cX10_fits 36 = .ok (.bipush 8, 2) := dk_16 8 (dk_at dksX10_fits_1 12 rfl rfl)
theorem dX10_fits_38 : decode cX10_fits 38 = .ok (.iload_n 1, 1) := dk_27 (dk_at dksX10_fits_1 14 rfl rfl)
theorem dX10_fits_39 : decode cX10_fits 39 = .ok (.imul, 1) := dk_104 (dk_at dksX10_fits_1 15 rfl rfl)
theorem dX10_fits_40 : decode cX10_fits 40 = .ok (.iload 4, 2) := dk_21 4 (dk_at dksX10_fits_1 16 rfl rfl)
theorem dX10_fits_42 : decode cX10_fits 42 = .ok (.iadd, 1) := dk_96 (dk_at dksX10_fits_1 18 rfl rfl)
theorem dX10_fits_43 : decode cX10_fits 43 = .ok (.iaload, 1) := dk_46 (dk_at dksX10_fits_1 19 rfl rfl)
theorem dX10_fits_44 : decode cX10_fits 44 = .ok (.iload_n 2, 1) := dk_28 (dk_at dksX10_fits_1 20 rfl rfl)
theorem dX10_fits_45 : decode cX10_fits 45 = .ok (.if_icmp .lt 5, 3) := dk_161 0 5 (dk_at dksX10_fits_1 21 rfl rfl)
theorem dX10_fits_48 : decode cX10_fits 48 = .ok (.iconst 0, 1) := dk_3 (dk_at dksX10_fits_2 0 rfl rfl)
theorem dX10_fits_49 : decode cX10_fits 49 = .ok (.ireturn, 1) := dk_172 (dk_at dksX10_fits_2 1 rfl rfl)
theorem dX10_fits_50 : decode cX10_fits 50 = .ok (.iinc 4 1, 3) := dk_132 4 1 (dk_at dksX10_fits_2 2 rfl rfl)
theorem dX10_fits_53 : decode cX10_fits 53 = .ok (.goto (-32), 3) := dk_167 255 224 (dk_at dksX10_fits_2 5 rfl rfl)
theorem dX10_fits_56 : decode cX10_fits 56 = .ok (.iconst 1, 1) := dk_4 (dk_at dksX10_fits_2 8 rfl rfl)
theorem dX10_fits_57 : decode cX10_fits 57 = .ok (.ireturn, 1) := dk_172 (dk_at dksX10_fits_2 9 rfl rfl)
theorem dX10_fits_58 : decode cX10_fits 58 = .ok (.iload_n 3, 1) := dk_29 (dk_at dksX10_fits_2 10 rfl rfl)
theorem dX10_fits_59 : decode cX10_fits 59 = .ok (.iconst 2, 1) := dk_5 (dk_at dksX10_fits_2 11 rfl rfl)
theorem dX10_fits_60 : decode cX10_fits 60 = .ok (.if_icmp .eq 9, 3) := dk_159 0 9 (dk_at dksX10_fits_2 12 rfl rfl)
theorem dX10_fits_63 : decode cX10_fits 63 = .ok (.iload_n 3, 1) := dk_29 (dk_at dksX10_fits_2 15 rfl rfl)
theorem dX10_fits_64 : decode cX10_fits 64 = .ok (.bipush 11, 2) := dk_16 11 (dk_at dksX10_fits_2 16 rfl rfl)
theorem dX10_fits_66 : decode cX10_fits 66 = .ok (.if_icmp .ne 31, 3) := dk_160 0 31 (dk_at dksX10_fits_2 18 rfl rfl)
theorem dX10_fits_69 : decode cX10_fits 69 = .ok (.aload_n 0, 1) := dk_42 (dk_at dksX10_fits_2 21 rfl rfl)
theorem dX10_fits_70 : decode cX10_fits 70 = .ok (.getfield 55, 3) := dk_180 0 55 (dk_at dksX10_fits_3 0 rfl rfl)
theorem dX10_fits_73 : decode cX10_fits 73 = .ok (.iload_n 1, 1) := dk_27 (dk_at dksX10_fits_3 3 rfl rfl)
theorem dX10_fits_74 : decode cX10_fits 74 = .ok (.iaload, 1) := dk_46 (dk_at dksX10_fits_3 4 rfl rfl)
theorem dX10_fits_75 : decode cX10_fits 75 = .ok (.iload_n 2, 1) := dk_28 (dk_at dksX10_fits_3 5 rfl rfl)
theorem dX10_fits_76 : decode cX10_fits 76 = .ok (.if_icmp .ge 17, 3) := dk_162 0 17 (dk_at dksX10_fits_3 6 rfl rfl)
theorem dX10_fits_79 : decode cX10_fits 79 = .ok (.aload_n 0, 1) := dk_42 (dk_at dksX10_fits_3 9 rfl rfl)
theorem dX10_fits_80 : decode cX10_fits 80 = .ok (.getfield 58, 3) := dk_180 0 58 (dk_at dksX10_fits_3 10 rfl rfl)
theorem dX10_fits_83 : decode cX10_fits 83 = .ok (.iload_n 1, 1) := dk_27 (dk_at dksX10_fits_3 13 rfl rfl)
theorem dX10_fits_84 : decode cX10_fits 84 = .ok (.iaload, 1) := dk_46 (dk_at dksX10_fits_3 14 rfl rfl)
theorem dX10_fits_85 : decode cX10_fits 85 = .ok (.iload_n 2, 1) := dk_28 (dk_at dksX10_fits_3 15 rfl rfl)
theorem dX10_fits_86 : decode cX10_fits 86 = .ok (.if_icmp .ge 7, 3) := dk_162 0 7 (dk_at dksX10_fits_3 16 rfl rfl)
theorem dX10_fits_89 : decode cX10_fits 89 = .ok (.iconst 1, 1) := dk_4 (dk_at dksX10_fits_3 19 rfl rfl)
theorem dX10_fits_90 : decode cX10_fits 90 = .ok (.goto 22, 3) := dk_167 0 22 (dk_at dksX10_fits_3 20 rfl rfl)
theorem dX10_fits_93 : decode cX10_fits 93 = .ok (.iconst 0, 1) := dk_3 (dk_at dksX10_fits_3 23 rfl rfl)
theorem dX10_fits_94 : decode cX10_fits 94 = .ok (.goto 18, 3) := dk_167 0 18 (dk_at dksX10_fits_4 0 rfl rfl)
theorem dX10_fits_97 : decode cX10_fits 97 = .ok (.aload_n 0, 1) := dk_42 (dk_at dksX10_fits_4 3 rfl rfl)
theorem dX10_fits_98 : decode cX10_fits 98 = .ok (.getfield 58, 3) := dk_180 0 58 (dk_at dksX10_fits_4 4 rfl rfl)
theorem dX10_fits_101 : decode cX10_fits 101 = .ok (.iload_n 1, 1) := dk_27 (dk_at dksX10_fits_4 7 rfl rfl)
theorem dX10_fits_102 : decode cX10_fits 102 = .ok (.iaload, 1) := dk_46 (dk_at dksX10_fits_4 8 rfl rfl)
theorem dX10_fits_103 : decode cX10_fits 103 = .ok (.iload_n 2, 1) := dk_28 (dk_at dksX10_fits_4 9 rfl rfl)
theorem dX10_fits_104 : decode cX10_fits 104 = .ok (.if_icmp .ge 7, 3) := dk_162 0 7 (dk_at dksX10_fits_4 10 rfl rfl)
theorem dX10_fits_107 : decode cX10_fits 107 = .ok (.iconst 1, 1) := dk_4 (dk_at dksX10_fits_4 13 rfl rfl)
theorem dX10_fits_108 : decode cX10_fits 108 = .ok (.goto 4, 3) := dk_167 0 4 (dk_at dksX10_fits_4 14 rfl rfl)
theorem dX10_fits_111 : decode cX10_fits 111 = .ok (.iconst 0, 1) := dk_3 (dk_at dksX10_fits_4 17 rfl rfl)
theorem dX10_fits_112 : decode cX10_fits 112 = .ok (.ireturn, 1) := dk_172 (dk_at dksX10_fits_4 18 rfl rfl)
abbrev cX10_isSeen : ByteArray := prog_32_method_62_code
def yX10_isSeen : MethodName := ⟨RX10, "isSeen", "(II)Z"⟩
def dkwX10_isSeen_2 : List UInt8 := [180, 0, 111, 27, 46, 155, 0, 7, 4, 167, 0, 4, 3, 172]
abbrev dktX10_isSeen_2 : List UInt8 := dkwX10_isSeen_2 ++ []
def dkwX10_isSeen_1 : List UInt8 := [42, 180, 1, 204, 160, 0, 7, 4, 167, 0, 4, 3, 172, 42, 180, 1, 201, 4, 160, 0, 16, 42]
abbrev dktX10_isSeen_1 : List UInt8 := dkwX10_isSeen_1 ++ dktX10_isSeen_2
def dkwX10_isSeen_0 : List UInt8 := [42, 28, 182, 1, 185, 4, 160, 0, 5, 3, 172, 42, 180, 1, 201, 5, 160, 0, 21, 42, 28, 182, 1, 232]
abbrev dktX10_isSeen_0 : List UInt8 := dkwX10_isSeen_0 ++ dktX10_isSeen_1
theorem dksX10_isSeen_0 : cX10_isSeen.data.toList.drop 0 = dktX10_isSeen_0 := by decide +kernel
theorem dksX10_isSeen_1 : cX10_isSeen.data.toList.drop 24 = dktX10_isSeen_1 := dk_seg dksX10_isSeen_0 24 rfl rfl
theorem dksX10_isSeen_2 : cX10_isSeen.data.toList.drop 46 = dktX10_isSeen_2 := dk_seg dksX10_isSeen_1 22 rfl rfl
theorem dX10_isSeen_0 : decode cX10_isSeen 0 = .ok (.aload_n 0, 1) := dk_42 (dk_at dksX10_isSeen_0 0 rfl rfl)
theorem dX10_isSeen_1 : decode cX10_isSeen 1 = .ok (.iload_n 2, 1) := dk_28 (dk_at dksX10_isSeen_0 1 rfl rfl)
theorem dX10_isSeen_2 : decode cX10_isSeen 2 = .ok (.invokevirtual 441, 3) := dk_182 1 185 (dk_at dksX10_isSeen_0 2 rfl rfl)
theorem dX10_isSeen_5 : decode cX10_isSeen 5 = .ok (.iconst 1, 1) := dk_4 (dk_at dksX10_isSeen_0 5 rfl rfl)
theorem dX10_isSeen_6 : decode cX10_isSeen 6 = .ok (.if_icmp .ne 5, 3) := dk_160 0 5 (dk_at dksX10_isSeen_0 6 rfl rfl)
theorem dX10_isSeen_9 : decode cX10_isSeen 9 = .ok (.iconst 0, 1) := dk_3 (dk_at dksX10_isSeen_0 9 rfl rfl)
theorem dX10_isSeen_10 : decode cX10_isSeen 10 = .ok (.ireturn, 1) := dk_172 (dk_at dksX10_isSeen_0 10 rfl rfl)
theorem dX10_isSeen_11 : decode cX10_isSeen 11 = .ok (.aload_n 0, 1) := dk_42 (dk_at dksX10_isSeen_0 11 rfl rfl)
theorem dX10_isSeen_12 : decode cX10_isSeen 12 = .ok (.getfield 457, 3) := dk_180 1 201 (dk_at dksX10_isSeen_0 12 rfl rfl)
theorem dX10_isSeen_15 : decode cX10_isSeen 15 = .ok (.iconst 2, 1) := dk_5 (dk_at dksX10_isSeen_0 15 rfl rfl)
theorem dX10_isSeen_16 : decode cX10_isSeen 16 = .ok (.if_icmp .ne 21, 3) := dk_160 0 21 (dk_at dksX10_isSeen_0 16 rfl rfl)
theorem dX10_isSeen_19 : decode cX10_isSeen 19 = .ok (.aload_n 0, 1) := dk_42 (dk_at dksX10_isSeen_0 19 rfl rfl)
theorem dX10_isSeen_20 : decode cX10_isSeen 20 = .ok (.iload_n 2, 1) := dk_28 (dk_at dksX10_isSeen_0 20 rfl rfl)
theorem dX10_isSeen_21 : decode cX10_isSeen 21 = .ok (.invokevirtual 488, 3) := dk_182 1 232 (dk_at dksX10_isSeen_0 21 rfl rfl)
theorem dX10_isSeen_24 : decode cX10_isSeen 24 = .ok (.aload_n 0, 1) := dk_42 (dk_at dksX10_isSeen_1 0 rfl rfl)
theorem dX10_isSeen_25 : decode cX10_isSeen 25 = .ok (.getfield 460, 3) := dk_180 1 204 (dk_at dksX10_isSeen_1 1 rfl rfl)
theorem dX10_isSeen_28 : decode cX10_isSeen 28 = .ok (.if_icmp .ne 7, 3) := dk_160 0 7 (dk_at dksX10_isSeen_1 4 rfl rfl)
theorem dX10_isSeen_31 : decode cX10_isSeen 31 = .ok (.iconst 1, 1) := dk_4 (dk_at dksX10_isSeen_1 7 rfl rfl)
theorem dX10_isSeen_32 : decode cX10_isSeen 32 = .ok (.goto 4, 3) := dk_167 0 4 (dk_at dksX10_isSeen_1 8 rfl rfl)
theorem dX10_isSeen_35 : decode cX10_isSeen 35 = .ok (.iconst 0, 1) := dk_3 (dk_at dksX10_isSeen_1 11 rfl rfl)
theorem dX10_isSeen_36 : decode cX10_isSeen 36 = .ok (.ireturn, 1) := dk_172 (dk_at dksX10_isSeen_1 12 rfl rfl)
theorem dX10_isSeen_37 : decode cX10_isSeen 37 = .ok (.aload_n 0, 1) := dk_42 (dk_at dksX10_isSeen_1 13 rfl rfl)
theorem dX10_isSeen_38 : decode cX10_isSeen 38 = .ok (.getfield 457, 3) := dk_180 1 201 (dk_at dksX10_isSeen_1 14 rfl rfl)
theorem dX10_isSeen_41 : decode cX10_isSeen 41 = .ok (.iconst 1, 1) := dk_4 (dk_at dksX10_isSeen_1 17 rfl rfl)
theorem dX10_isSeen_42 : decode cX10_isSeen 42 = .ok (.if_icmp .ne 16, 3) := dk_160 0 16 (dk_at dksX10_isSeen_1 18 rfl rfl)
theorem dX10_isSeen_45 : decode cX10_isSeen 45 = .ok (.aload_n 0, 1) := dk_42 (dk_at dksX10_isSeen_1 21 rfl rfl)
theorem dX10_isSeen_46 : decode cX10_isSeen 46 = .ok (.getfield 111, 3) := dk_180 0 111 (dk_at dksX10_isSeen_2 0 rfl rfl)
theorem dX10_isSeen_49 : decode cX10_isSeen 49 = .ok (.iload_n 1, 1) := dk_27 (dk_at dksX10_isSeen_2 3 rfl rfl)
theorem dX10_isSeen_50 : decode cX10_isSeen 50 = .ok (.iaload, 1) := dk_46 (dk_at dksX10_isSeen_2 4 rfl rfl)
theorem dX10_isSeen_51 : decode cX10_isSeen 51 = .ok (.ifCond .lt 7, 3) := dk_155 0 7 (dk_at dksX10_isSeen_2 5 rfl rfl)
theorem dX10_isSeen_54 : decode cX10_isSeen 54 = .ok (.iconst 1, 1) := dk_4 (dk_at dksX10_isSeen_2 8 rfl rfl)
theorem dX10_isSeen_55 : decode cX10_isSeen 55 = .ok (.goto 4, 3) := dk_167 0 4 (dk_at dksX10_isSeen_2 9 rfl rfl)
theorem dX10_isSeen_58 : decode cX10_isSeen 58 = .ok (.iconst 0, 1) := dk_3 (dk_at dksX10_isSeen_2 12 rfl rfl)
theorem dX10_isSeen_59 : decode cX10_isSeen 59 = .ok (.ireturn, 1) := dk_172 (dk_at dksX10_isSeen_2 13 rfl rfl)
abbrev cX10_ways : ByteArray := prog_32_method_48_code
def yX10_ways : MethodName := ⟨RX10, "ways", "(I)I"⟩
def dkwX10_ways_4 : List UInt8 := [16, 24, 172]
abbrev dktX10_ways_4 : List UInt8 := dkwX10_ways_4 ++ []
def dkwX10_ways_3 : List UInt8 := [159, 0, 5, 4, 172, 28, 5, 160, 0, 7, 5, 167, 0, 15, 28, 6, 160, 0, 8, 16, 6, 167, 0, 5]
abbrev dktX10_ways_3 : List UInt8 := dkwX10_ways_3 ++ dktX10_ways_4
def dkwX10_ways_2 : List UInt8 := [16, 6, 160, 0, 12, 28, 42, 180, 0, 61, 27, 46, 108, 172, 42, 180, 0, 52, 27, 46, 16, 7]
abbrev dktX10_ways_2 : List UInt8 := dkwX10_ways_2 ++ dktX10_ways_3
def dkwX10_ways_1 : List UInt8 := [160, 0, 5, 28, 172, 42, 180, 0, 52, 27, 46, 8, 160, 0, 5, 5, 172, 42, 180, 0, 52, 27, 46]
abbrev dktX10_ways_1 : List UInt8 := dkwX10_ways_1 ++ dktX10_ways_2
def dkwX10_ways_0 : List UInt8 := [42, 180, 0, 58, 27, 46, 42, 180, 0, 55, 27, 46, 100, 4, 96, 61, 42, 180, 0, 52, 27, 46, 7]
abbrev dktX10_ways_0 : List UInt8 := dkwX10_ways_0 ++ dktX10_ways_1
theorem dksX10_ways_0 : cX10_ways.data.toList.drop 0 = dktX10_ways_0 := by decide +kernel
theorem dksX10_ways_1 : cX10_ways.data.toList.drop 23 = dktX10_ways_1 := dk_seg dksX10_ways_0 23 rfl rfl
theorem dksX10_ways_2 : cX10_ways.data.toList.drop 46 = dktX10_ways_2 := dk_seg dksX10_ways_1 23 rfl rfl
theorem dksX10_ways_3 : cX10_ways.data.toList.drop 68 = dktX10_ways_3 := dk_seg dksX10_ways_2 22 rfl rfl
theorem dksX10_ways_4 : cX10_ways.data.toList.drop 92 = dktX10_ways_4 := dk_seg dksX10_ways_3 24 rfl rfl
theorem dX10_ways_0 : decode cX10_ways 0 = .ok (.aload_n 0, 1) := dk_42 (dk_at dksX10_ways_0 0 rfl rfl)
theorem dX10_ways_1 : decode cX10_ways 1 = .ok (.getfield 58, 3) := dk_180 0 58 (dk_at dksX10_ways_0 1 rfl rfl)
theorem dX10_ways_4 : decode cX10_ways 4 = .ok (.iload_n 1, 1) := dk_27 (dk_at dksX10_ways_0 4 rfl rfl)
theorem dX10_ways_5 : decode cX10_ways 5 = .ok (.iaload, 1) := dk_46 (dk_at dksX10_ways_0 5 rfl rfl)
theorem dX10_ways_6 : decode cX10_ways 6 = .ok (.aload_n 0, 1) := dk_42 (dk_at dksX10_ways_0 6 rfl rfl)
theorem dX10_ways_7 : decode cX10_ways 7 = .ok (.getfield 55, 3) := dk_180 0 55 (dk_at dksX10_ways_0 7 rfl rfl)
theorem dX10_ways_10 : decode cX10_ways 10 = .ok (.iload_n 1, 1) := dk_27 (dk_at dksX10_ways_0 10 rfl rfl)
theorem dX10_ways_11 : decode cX10_ways 11 = .ok (.iaload, 1) := dk_46 (dk_at dksX10_ways_0 11 rfl rfl)
theorem dX10_ways_12 : decode cX10_ways 12 = .ok (.isub, 1) := dk_100 (dk_at dksX10_ways_0 12 rfl rfl)
theorem dX10_ways_13 : decode cX10_ways 13 = .ok (.iconst 1, 1) := dk_4 (dk_at dksX10_ways_0 13 rfl rfl)
theorem dX10_ways_14 : decode cX10_ways 14 = .ok (.iadd, 1) := dk_96 (dk_at dksX10_ways_0 14 rfl rfl)
theorem dX10_ways_15 : decode cX10_ways 15 = .ok (.istore_n 2, 1) := dk_61 (dk_at dksX10_ways_0 15 rfl rfl)
theorem dX10_ways_16 : decode cX10_ways 16 = .ok (.aload_n 0, 1) := dk_42 (dk_at dksX10_ways_0 16 rfl rfl)
theorem dX10_ways_17 : decode cX10_ways 17 = .ok (.getfield 52, 3) := dk_180 0 52 (dk_at dksX10_ways_0 17 rfl rfl)
theorem dX10_ways_20 : decode cX10_ways 20 = .ok (.iload_n 1, 1) := dk_27 (dk_at dksX10_ways_0 20 rfl rfl)
theorem dX10_ways_21 : decode cX10_ways 21 = .ok (.iaload, 1) := dk_46 (dk_at dksX10_ways_0 21 rfl rfl)
theorem dX10_ways_22 : decode cX10_ways 22 = .ok (.iconst 4, 1) := dk_7 (dk_at dksX10_ways_0 22 rfl rfl)
theorem dX10_ways_23 : decode cX10_ways 23 = .ok (.if_icmp .ne 5, 3) := dk_160 0 5 (dk_at dksX10_ways_1 0 rfl rfl)
theorem dX10_ways_26 : decode cX10_ways 26 = .ok (.iload_n 2, 1) := dk_28 (dk_at dksX10_ways_1 3 rfl rfl)
theorem dX10_ways_27 : decode cX10_ways 27 = .ok (.ireturn, 1) := dk_172 (dk_at dksX10_ways_1 4 rfl rfl)
theorem dX10_ways_28 : decode cX10_ways 28 = .ok (.aload_n 0, 1) := dk_42 (dk_at dksX10_ways_1 5 rfl rfl)
theorem dX10_ways_29 : decode cX10_ways 29 = .ok (.getfield 52, 3) := dk_180 0 52 (dk_at dksX10_ways_1 6 rfl rfl)
theorem dX10_ways_32 : decode cX10_ways 32 = .ok (.iload_n 1, 1) := dk_27 (dk_at dksX10_ways_1 9 rfl rfl)
theorem dX10_ways_33 : decode cX10_ways 33 = .ok (.iaload, 1) := dk_46 (dk_at dksX10_ways_1 10 rfl rfl)
theorem dX10_ways_34 : decode cX10_ways 34 = .ok (.iconst 5, 1) := dk_8 (dk_at dksX10_ways_1 11 rfl rfl)
theorem dX10_ways_35 : decode cX10_ways 35 = .ok (.if_icmp .ne 5, 3) := dk_160 0 5 (dk_at dksX10_ways_1 12 rfl rfl)
theorem dX10_ways_38 : decode cX10_ways 38 = .ok (.iconst 2, 1) := dk_5 (dk_at dksX10_ways_1 15 rfl rfl)
theorem dX10_ways_39 : decode cX10_ways 39 = .ok (.ireturn, 1) := dk_172 (dk_at dksX10_ways_1 16 rfl rfl)
theorem dX10_ways_40 : decode cX10_ways 40 = .ok (.aload_n 0, 1) := dk_42 (dk_at dksX10_ways_1 17 rfl rfl)
theorem dX10_ways_41 : decode cX10_ways 41 = .ok (.getfield 52, 3) := dk_180 0 52 (dk_at dksX10_ways_1 18 rfl rfl)
theorem dX10_ways_44 : decode cX10_ways 44 = .ok (.iload_n 1, 1) := dk_27 (dk_at dksX10_ways_1 21 rfl rfl)
theorem dX10_ways_45 : decode cX10_ways 45 = .ok (.iaload, 1) := dk_46 (dk_at dksX10_ways_1 22 rfl rfl)
theorem dX10_ways_46 : decode cX10_ways 46 = .ok (.bipush 6, 2) := dk_16 6 (dk_at dksX10_ways_2 0 rfl rfl)
theorem dX10_ways_48 : decode cX10_ways 48 = .ok (.if_icmp .ne 12, 3) := dk_160 0 12 (dk_at dksX10_ways_2 2 rfl rfl)
theorem dX10_ways_51 : decode cX10_ways 51 = .ok (.iload_n 2, 1) := dk_28 (dk_at dksX10_ways_2 5 rfl rfl)
theorem dX10_ways_52 : decode cX10_ways 52 = .ok (.aload_n 0, 1) := dk_42 (dk_at dksX10_ways_2 6 rfl rfl)
theorem dX10_ways_53 : decode cX10_ways 53 = .ok (.getfield 61, 3) := dk_180 0 61 (dk_at dksX10_ways_2 7 rfl rfl)
theorem dX10_ways_56 : decode cX10_ways 56 = .ok (.iload_n 1, 1) := dk_27 (dk_at dksX10_ways_2 10 rfl rfl)
theorem dX10_ways_57 : decode cX10_ways 57 = .ok (.iaload, 1) := dk_46 (dk_at dksX10_ways_2 11 rfl rfl)
theorem dX10_ways_58 : decode cX10_ways 58 = .ok (.idiv, 1) := dk_108 (dk_at dksX10_ways_2 12 rfl rfl)
theorem dX10_ways_59 : decode cX10_ways 59 = .ok (.ireturn, 1) := dk_172 (dk_at dksX10_ways_2 13 rfl rfl)
theorem dX10_ways_60 : decode cX10_ways 60 = .ok (.aload_n 0, 1) := dk_42 (dk_at dksX10_ways_2 14 rfl rfl)
theorem dX10_ways_61 : decode cX10_ways 61 = .ok (.getfield 52, 3) := dk_180 0 52 (dk_at dksX10_ways_2 15 rfl rfl)
theorem dX10_ways_64 : decode cX10_ways 64 = .ok (.iload_n 1, 1) := dk_27 (dk_at dksX10_ways_2 18 rfl rfl)
theorem dX10_ways_65 : decode cX10_ways 65 = .ok (.iaload, 1) := dk_46 (dk_at dksX10_ways_2 19 rfl rfl)
theorem dX10_ways_66 : decode cX10_ways 66 = .ok (.bipush 7, 2) := dk_16 7 (dk_at dksX10_ways_2 20 rfl rfl)
theorem dX10_ways_68 : decode cX10_ways 68 = .ok (.if_icmp .eq 5, 3) := dk_159 0 5 (dk_at dksX10_ways_3 0 rfl rfl)
theorem dX10_ways_71 : decode cX10_ways 71 = .ok (.iconst 1, 1) := dk_4 (dk_at dksX10_ways_3 3 rfl rfl)
theorem dX10_ways_72 : decode cX10_ways 72 = .ok (.ireturn, 1) := dk_172 (dk_at dksX10_ways_3 4 rfl rfl)
theorem dX10_ways_73 : decode cX10_ways 73 = .ok (.iload_n 2, 1) := dk_28 (dk_at dksX10_ways_3 5 rfl rfl)
theorem dX10_ways_74 : decode cX10_ways 74 = .ok (.iconst 2, 1) := dk_5 (dk_at dksX10_ways_3 6 rfl rfl)
theorem dX10_ways_75 : decode cX10_ways 75 = .ok (.if_icmp .ne 7, 3) := dk_160 0 7 (dk_at dksX10_ways_3 7 rfl rfl)
theorem dX10_ways_78 : decode cX10_ways 78 = .ok (.iconst 2, 1) := dk_5 (dk_at dksX10_ways_3 10 rfl rfl)
theorem dX10_ways_79 : decode cX10_ways 79 = .ok (.goto 15, 3) := dk_167 0 15 (dk_at dksX10_ways_3 11 rfl rfl)
theorem dX10_ways_82 : decode cX10_ways 82 = .ok (.iload_n 2, 1) := dk_28 (dk_at dksX10_ways_3 14 rfl rfl)
theorem dX10_ways_83 : decode cX10_ways 83 = .ok (.iconst 3, 1) := dk_6 (dk_at dksX10_ways_3 15 rfl rfl)
theorem dX10_ways_84 : decode cX10_ways 84 = .ok (.if_icmp .ne 8, 3) := dk_160 0 8 (dk_at dksX10_ways_3 16 rfl rfl)
theorem dX10_ways_87 : decode cX10_ways 87 = .ok (.bipush 6, 2) := dk_16 6 (dk_at dksX10_ways_3 19 rfl rfl)
theorem dX10_ways_89 : decode cX10_ways 89 = .ok (.goto 5, 3) := dk_167 0 5 (dk_at dksX10_ways_3 21 rfl rfl)
theorem dX10_ways_92 : decode cX10_ways 92 = .ok (.bipush 24, 2) := dk_16 24 (dk_at dksX10_ways_4 0 rfl rfl)
theorem dX10_ways_94 : decode cX10_ways 94 = .ok (.ireturn, 1) := dk_172 (dk_at dksX10_ways_4 2 rfl rfl)
abbrev cX10_mixNumber : ByteArray := prog_32_method_63_code
def yX10_mixNumber : MethodName := ⟨RX10, "mixNumber", "(I)I"⟩
def dkwX10_mixNumber_2 : List UInt8 := [167, 255, 219, 28, 172]
abbrev dktX10_mixNumber_2 : List UInt8 := dkwX10_mixNumber_2 ++ []
def dkwX10_mixNumber_1 : List UInt8 := [161, 0, 18, 42, 180, 0, 52, 29, 46, 16, 7, 163, 0, 7, 4, 167, 0, 4, 3, 96, 61, 132, 3, 1]
abbrev dktX10_mixNumber_1 : List UInt8 := dkwX10_mixNumber_1 ++ dktX10_mixNumber_2
def dkwX10_mixNumber_0 : List UInt8 := [3, 61, 16, 52, 42, 180, 1, 53, 104, 62, 29, 27, 162, 0, 38, 28, 42, 180, 0, 52, 29, 46, 7]
abbrev dktX10_mixNumber_0 : List UInt8 := dkwX10_mixNumber_0 ++ dktX10_mixNumber_1
theorem dksX10_mixNumber_0 : cX10_mixNumber.data.toList.drop 0 = dktX10_mixNumber_0 := by decide +kernel
theorem dksX10_mixNumber_1 : cX10_mixNumber.data.toList.drop 23 = dktX10_mixNumber_1 := dk_seg dksX10_mixNumber_0 23 rfl rfl
theorem dksX10_mixNumber_2 : cX10_mixNumber.data.toList.drop 47 = dktX10_mixNumber_2 := dk_seg dksX10_mixNumber_1 24 rfl rfl
theorem dX10_mixNumber_0 : decode cX10_mixNumber 0 = .ok (.iconst 0, 1) := dk_3 (dk_at dksX10_mixNumber_0 0 rfl rfl)
theorem dX10_mixNumber_1 : decode cX10_mixNumber 1 = .ok (.istore_n 2, 1) := dk_61 (dk_at dksX10_mixNumber_0 1 rfl rfl)
theorem dX10_mixNumber_2 : decode cX10_mixNumber 2 = .ok (.bipush 52, 2) := dk_16 52 (dk_at dksX10_mixNumber_0 2 rfl rfl)
theorem dX10_mixNumber_4 : decode cX10_mixNumber 4 = .ok (.aload_n 0, 1) := dk_42 (dk_at dksX10_mixNumber_0 4 rfl rfl)
theorem dX10_mixNumber_5 : decode cX10_mixNumber 5 = .ok (.getfield 309, 3) := dk_180 1 53 (dk_at dksX10_mixNumber_0 5 rfl rfl)
theorem dX10_mixNumber_8 : decode cX10_mixNumber 8 = .ok (.imul, 1) := dk_104 (dk_at dksX10_mixNumber_0 8 rfl rfl)
theorem dX10_mixNumber_9 : decode cX10_mixNumber 9 = .ok (.istore_n 3, 1) := dk_62 (dk_at dksX10_mixNumber_0 9 rfl rfl)
theorem dX10_mixNumber_10 : decode cX10_mixNumber 10 = .ok (.iload_n 3, 1) := dk_29 (dk_at dksX10_mixNumber_0 10 rfl rfl)
theorem dX10_mixNumber_11 : decode cX10_mixNumber 11 = .ok (.iload_n 1, 1) := dk_27 (dk_at dksX10_mixNumber_0 11 rfl rfl)
theorem dX10_mixNumber_12 : decode cX10_mixNumber 12 = .ok (.if_icmp .ge 38, 3) := dk_162 0 38 (dk_at dksX10_mixNumber_0 12 rfl rfl)
theorem dX10_mixNumber_15 : decode cX10_mixNumber 15 = .ok (.iload_n 2, 1) := dk_28 (dk_at dksX10_mixNumber_0 15 rfl rfl)
theorem dX10_mixNumber_16 : decode cX10_mixNumber 16 = .ok (.aload_n 0, 1) := dk_42 (dk_at dksX10_mixNumber_0 16 rfl rfl)
theorem dX10_mixNumber_17 : decode cX10_mixNumber 17 = .ok (.getfield 52, 3) := dk_180 0 52 (dk_at dksX10_mixNumber_0 17 rfl rfl)
theorem dX10_mixNumber_20 : decode cX10_mixNumber 20 = .ok (.iload_n 3, 1) := dk_29 (dk_at dksX10_mixNumber_0 20 rfl rfl)
theorem dX10_mixNumber_21 : decode cX10_mixNumber 21 = .ok (.iaload, 1) := dk_46 (dk_at dksX10_mixNumber_0 21 rfl rfl)
theorem dX10_mixNumber_22 : decode cX10_mixNumber 22 = .ok (.iconst 4, 1) := dk_7 (dk_at dksX10_mixNumber_0 22 rfl rfl)
theorem dX10_mixNumber_23 : decode cX10_mixNumber 23 = .ok (.if_icmp .lt 18, 3) := dk_161 0 18 (dk_at dksX10_mixNumber_1 0 rfl rfl)
theorem dX10_mixNumber_26 : decode cX10_mixNumber 26 = .ok (.aload_n 0, 1) := dk_42 (dk_at dksX10_mixNumber_1 3 rfl rfl)
theorem dX10_mixNumber_27 : decode cX10_mixNumber 27 = .ok (.getfield 52, 3) := dk_180 0 52 (dk_at dksX10_mixNumber_1 4 rfl rfl)
theorem dX10_mixNumber_30 : decode cX10_mixNumber 30 = .ok (.iload_n 3, 1) := dk_29 (dk_at dksX10_mixNumber_1 7 rfl rfl)
theorem dX10_mixNumber_31 : decode cX10_mixNumber 31 = .ok (.iaload, 1) := dk_46 (dk_at dksX10_mixNumber_1 8 rfl rfl)
theorem dX10_mixNumber_32 : decode cX10_mixNumber 32 = .ok (.bipush 7, 2) := dk_16 7 (dk_at dksX10_mixNumber_1 9 rfl rfl)
theorem dX10_mixNumber_34 : decode cX10_mixNumber 34 = .ok (.if_icmp .gt 7, 3) := dk_163 0 7 (dk_at dksX10_mixNumber_1 11 rfl rfl)
theorem dX10_mixNumber_37 : decode cX10_mixNumber 37 = .ok (.iconst 1, 1) := dk_4 (dk_at dksX10_mixNumber_1 14 rfl rfl)
theorem dX10_mixNumber_38 : decode cX10_mixNumber 38 = .ok (.goto 4, 3) := dk_167 0 4 (dk_at dksX10_mixNumber_1 15 rfl rfl)
theorem dX10_mixNumber_41 : decode cX10_mixNumber 41 = .ok (.iconst 0, 1) := dk_3 (dk_at dksX10_mixNumber_1 18 rfl rfl)
theorem dX10_mixNumber_42 : decode cX10_mixNumber 42 = .ok (.iadd, 1) := dk_96 (dk_at dksX10_mixNumber_1 19 rfl rfl)
theorem dX10_mixNumber_43 : decode cX10_mixNumber 43 = .ok (.istore_n 2, 1) := dk_61 (dk_at dksX10_mixNumber_1 20 rfl rfl)
theorem dX10_mixNumber_44 : decode cX10_mixNumber 44 = .ok (.iinc 3 1, 3) := dk_132 3 1 (dk_at dksX10_mixNumber_1 21 rfl rfl)
theorem dX10_mixNumber_47 : decode cX10_mixNumber 47 = .ok (.goto (-37), 3) := dk_167 255 219 (dk_at dksX10_mixNumber_2 0 rfl rfl)
theorem dX10_mixNumber_50 : decode cX10_mixNumber 50 = .ok (.iload_n 2, 1) := dk_28 (dk_at dksX10_mixNumber_2 3 rfl rfl)
theorem dX10_mixNumber_51 : decode cX10_mixNumber 51 = .ok (.ireturn, 1) := dk_172 (dk_at dksX10_mixNumber_2 4 rfl rfl)
abbrev cX10_moveAll : ByteArray := prog_32_method_57_code
def yX10_moveAll : MethodName := ⟨RX10, "moveAll", "(II)V"⟩
def dkwX10_moveAll_1 : List UInt8 := [27, 16, 16, 182, 1, 191, 132, 3, 1, 167, 255, 231, 42, 16, 16, 27, 182, 1, 194, 177]
abbrev dktX10_moveAll_1 : List UInt8 := dkwX10_moveAll_1 ++ []
def dkwX10_moveAll_0 : List UInt8 := [42, 16, 16, 182, 1, 182, 3, 62, 29, 42, 28, 182, 1, 185, 162, 0, 22, 42, 28, 29, 182, 1, 188, 42]
abbrev dktX10_moveAll_0 : List UInt8 := dkwX10_moveAll_0 ++ dktX10_moveAll_1
theorem dksX10_moveAll_0 : cX10_moveAll.data.toList.drop 0 = dktX10_moveAll_0 := by decide +kernel
theorem dksX10_moveAll_1 : cX10_moveAll.data.toList.drop 24 = dktX10_moveAll_1 := dk_seg dksX10_moveAll_0 24 rfl rfl
theorem dX10_moveAll_0 : decode cX10_moveAll 0 = .ok (.aload_n 0, 1) := dk_42 (dk_at dksX10_moveAll_0 0 rfl rfl)
theorem dX10_moveAll_1 : decode cX10_moveAll 1 = .ok (.bipush 16, 2) := dk_16 16 (dk_at dksX10_moveAll_0 1 rfl rfl)
theorem dX10_moveAll_3 : decode cX10_moveAll 3 = .ok (.invokevirtual 438, 3) := dk_182 1 182 (dk_at dksX10_moveAll_0 3 rfl rfl)
theorem dX10_moveAll_6 : decode cX10_moveAll 6 = .ok (.iconst 0, 1) := dk_3 (dk_at dksX10_moveAll_0 6 rfl rfl)
theorem dX10_moveAll_7 : decode cX10_moveAll 7 = .ok (.istore_n 3, 1) := dk_62 (dk_at dksX10_moveAll_0 7 rfl rfl)
theorem dX10_moveAll_8 : decode cX10_moveAll 8 = .ok (.iload_n 3, 1) := dk_29 (dk_at dksX10_moveAll_0 8 rfl rfl)
theorem dX10_moveAll_9 : decode cX10_moveAll 9 = .ok (.aload_n 0, 1) := dk_42 (dk_at dksX10_moveAll_0 9 rfl rfl)
theorem dX10_moveAll_10 : decode cX10_moveAll 10 = .ok (.iload_n 2, 1) := dk_28 (dk_at dksX10_moveAll_0 10 rfl rfl)
theorem dX10_moveAll_11 : decode cX10_moveAll 11 = .ok (.invokevirtual 441, 3) := dk_182 1 185 (dk_at dksX10_moveAll_0 11 rfl rfl)
theorem dX10_moveAll_14 : decode cX10_moveAll 14 = .ok (.if_icmp .ge 22, 3) := dk_162 0 22 (dk_at dksX10_moveAll_0 14 rfl rfl)
theorem dX10_moveAll_17 : decode cX10_moveAll 17 = .ok (.aload_n 0, 1) := dk_42 (dk_at dksX10_moveAll_0 17 rfl rfl)
theorem dX10_moveAll_18 : decode cX10_moveAll 18 = .ok (.iload_n 2, 1) := dk_28 (dk_at dksX10_moveAll_0 18 rfl rfl)
theorem dX10_moveAll_19 : decode cX10_moveAll 19 = .ok (.iload_n 3, 1) := dk_29 (dk_at dksX10_moveAll_0 19 rfl rfl)
theorem dX10_moveAll_20 : decode cX10_moveAll 20 = .ok (.invokevirtual 444, 3) := dk_182 1 188 (dk_at dksX10_moveAll_0 20 rfl rfl)
theorem dX10_moveAll_23 : decode cX10_moveAll 23 = .ok (.aload_n 0, 1) := dk_42 (dk_at dksX10_moveAll_0 23 rfl rfl)
theorem dX10_moveAll_24 : decode cX10_moveAll 24 = .ok (.iload_n 1, 1) := dk_27 (dk_at dksX10_moveAll_1 0 rfl rfl)
theorem dX10_moveAll_25 : decode cX10_moveAll 25 = .ok (.bipush 16, 2) := dk_16 16 (dk_at dksX10_moveAll_1 1 rfl rfl)
theorem dX10_moveAll_27 : decode cX10_moveAll 27 = .ok (.invokevirtual 447, 3) := dk_182 1 191 (dk_at dksX10_moveAll_1 3 rfl rfl)
theorem dX10_moveAll_30 : decode cX10_moveAll 30 = .ok (.iinc 3 1, 3) := dk_132 3 1 (dk_at dksX10_moveAll_1 6 rfl rfl)
theorem dX10_moveAll_33 : decode cX10_moveAll 33 = .ok (.goto (-25), 3) := dk_167 255 231 (dk_at dksX10_moveAll_1 9 rfl rfl)
theorem dX10_moveAll_36 : decode cX10_moveAll 36 = .ok (.aload_n 0, 1) := dk_42 (dk_at dksX10_moveAll_1 12 rfl rfl)
theorem dX10_moveAll_37 : decode cX10_moveAll 37 = .ok (.bipush 16, 2) := dk_16 16 (dk_at dksX10_moveAll_1 13 rfl rfl)
theorem dX10_moveAll_39 : decode cX10_moveAll 39 = .ok (.iload_n 1, 1) := dk_27 (dk_at dksX10_moveAll_1 15 rfl rfl)
theorem dX10_moveAll_40 : decode cX10_moveAll 40 = .ok (.invokevirtual 450, 3) := dk_182 1 194 (dk_at dksX10_moveAll_1 16 rfl rfl)
theorem dX10_moveAll_43 : decode cX10_moveAll 43 = .ok (.return_, 1) := dk_177 (dk_at dksX10_moveAll_1 19 rfl rfl)
abbrev cX10_layMove : ByteArray := prog_32_method_50_code
def yX10_layMove : MethodName := ⟨RX10, "layMove", "(II)V"⟩
def dkwX10_layMove_9 : List UInt8 := [96, 21, 4, 112, 96, 29, 21, 6, 96, 79, 132, 6, 1, 167, 255, 227, 177]
abbrev dktX10_layMove_9 : List UInt8 := dkwX10_layMove_9 ++ []
def dkwX10_layMove_8 : List UInt8 := [27, 46, 104, 54, 5, 3, 54, 6, 21, 6, 21, 4, 162, 0, 28, 42, 180, 0, 92, 29, 21, 6, 21, 5]
abbrev dktX10_layMove_8 : List UInt8 := dkwX10_layMove_8 ++ dktX10_layMove_9
def dkwX10_layMove_7 : List UInt8 := [42, 180, 0, 52, 27, 46, 8, 160, 0, 12, 28, 21, 4, 104, 5, 108, 167, 0, 11, 28, 42, 180, 0, 61]
abbrev dktX10_layMove_7 : List UInt8 := dkwX10_layMove_7 ++ dktX10_layMove_8
def dkwX10_layMove_6 : List UInt8 := [29, 21, 4, 28, 182, 1, 175, 167, 0, 81, 42, 180, 0, 52, 27, 46, 7, 160, 0, 7, 28, 167, 0, 30]
abbrev dktX10_layMove_6 : List UInt8 := dkwX10_layMove_6 ++ dktX10_layMove_7
def dkwX10_layMove_5 : List UInt8 := [96, 46, 79, 132, 5, 1, 167, 255, 223, 167, 0, 103, 42, 180, 0, 52, 27, 46, 16, 7, 160, 0, 14, 42]
abbrev dktX10_layMove_5 : List UInt8 := dkwX10_layMove_5 ++ dktX10_layMove_6
def dkwX10_layMove_4 : List UInt8 := [180, 0, 64, 27, 46, 162, 0, 28, 42, 180, 0, 92, 21, 5, 42, 180, 0, 67, 16, 8, 27, 104, 21, 5]
abbrev dktX10_layMove_4 : List UInt8 := dkwX10_layMove_4 ++ dktX10_layMove_5
def dkwX10_layMove_3 : List UInt8 := [27, 46, 29, 79, 167, 0, 155, 42, 180, 0, 52, 27, 46, 6, 160, 0, 45, 3, 54, 5, 21, 5, 42]
abbrev dktX10_layMove_3 : List UInt8 := dkwX10_layMove_3 ++ dktX10_layMove_4
def dkwX10_layMove_2 : List UInt8 := [5, 160, 0, 30, 42, 180, 0, 92, 29, 42, 180, 0, 58, 27, 46, 79, 42, 180, 0, 92, 42, 180, 0, 58]
abbrev dktX10_layMove_2 : List UInt8 := dkwX10_layMove_2 ++ dktX10_layMove_3
def dkwX10_layMove_1 : List UInt8 := [180, 0, 55, 27, 46, 62, 42, 180, 0, 58, 27, 46, 29, 100, 4, 96, 54, 4, 42, 180, 0, 52, 27, 46]
abbrev dktX10_layMove_1 : List UInt8 := dkwX10_layMove_1 ++ dktX10_layMove_2
def dkwX10_layMove_0 : List UInt8 := [3, 62, 29, 16, 8, 162, 0, 16, 42, 180, 0, 92, 29, 29, 79, 132, 3, 1, 167, 255, 240, 42]
abbrev dktX10_layMove_0 : List UInt8 := dkwX10_layMove_0 ++ dktX10_layMove_1
theorem dksX10_layMove_0 : cX10_layMove.data.toList.drop 0 = dktX10_layMove_0 := by decide +kernel
theorem dksX10_layMove_1 : cX10_layMove.data.toList.drop 22 = dktX10_layMove_1 := dk_seg dksX10_layMove_0 22 rfl rfl
theorem dksX10_layMove_2 : cX10_layMove.data.toList.drop 46 = dktX10_layMove_2 := dk_seg dksX10_layMove_1 24 rfl rfl
theorem dksX10_layMove_3 : cX10_layMove.data.toList.drop 70 = dktX10_layMove_3 := dk_seg dksX10_layMove_2 24 rfl rfl
theorem dksX10_layMove_4 : cX10_layMove.data.toList.drop 93 = dktX10_layMove_4 := dk_seg dksX10_layMove_3 23 rfl rfl
theorem dksX10_layMove_5 : cX10_layMove.data.toList.drop 117 = dktX10_layMove_5 := dk_seg dksX10_layMove_4 24 rfl rfl
theorem dksX10_layMove_6 : cX10_layMove.data.toList.drop 141 = dktX10_layMove_6 := dk_seg dksX10_layMove_5 24 rfl rfl
theorem dksX10_layMove_7 : cX10_layMove.data.toList.drop 165 = dktX10_layMove_7 := dk_seg dksX10_layMove_6 24 rfl rfl
theorem dksX10_layMove_8 : cX10_layMove.data.toList.drop 189 = dktX10_layMove_8 := dk_seg dksX10_layMove_7 24 rfl rfl
theorem dksX10_layMove_9 : cX10_layMove.data.toList.drop 213 = dktX10_layMove_9 := dk_seg dksX10_layMove_8 24 rfl rfl
theorem dX10_layMove_0 : decode cX10_layMove 0 = .ok (.iconst 0, 1) := dk_3 (dk_at dksX10_layMove_0 0 rfl rfl)
theorem dX10_layMove_1 : decode cX10_layMove 1 = .ok (.istore_n 3, 1) := dk_62 (dk_at dksX10_layMove_0 1 rfl rfl)
theorem dX10_layMove_2 : decode cX10_layMove 2 = .ok (.iload_n 3, 1) := dk_29 (dk_at dksX10_layMove_0 2 rfl rfl)
theorem dX10_layMove_3 : decode cX10_layMove 3 = .ok (.bipush 8, 2) := dk_16 8 (dk_at dksX10_layMove_0 3 rfl rfl)
theorem dX10_layMove_5 : decode cX10_layMove 5 = .ok (.if_icmp .ge 16, 3) := dk_162 0 16 (dk_at dksX10_layMove_0 5 rfl rfl)
theorem dX10_layMove_8 : decode cX10_layMove 8 = .ok (.aload_n 0, 1) := dk_42 (dk_at dksX10_layMove_0 8 rfl rfl)
theorem dX10_layMove_9 : decode cX10_layMove 9 = .ok (.getfield 92, 3) := dk_180 0 92 (dk_at dksX10_layMove_0 9 rfl rfl)
theorem dX10_layMove_12 : decode cX10_layMove 12 = .ok (.iload_n 3, 1) := dk_29 (dk_at dksX10_layMove_0 12 rfl rfl)
theorem dX10_layMove_13 : decode cX10_layMove 13 = .ok (.iload_n 3, 1) := dk_29 (dk_at dksX10_layMove_0 13 rfl rfl)
theorem dX10_layMove_14 : decode cX10_layMove 14 = .ok (.iastore, 1) := dk_79 (dk_at dksX10_layMove_0 14 rfl rfl)
theorem dX10_layMove_15 : decode cX10_layMove 15 = .ok (.iinc 3 1, 3) := dk_132 3 1 (dk_at dksX10_layMove_0 15 rfl rfl)
theorem dX10_layMove_18 : decode cX10_layMove 18 = .ok (.goto (-16), 3) := dk_167 255 240 (dk_at dksX10_layMove_0 18 rfl rfl)
theorem dX10_layMove_21 : decode cX10_layMove 21 = .ok (.aload_n 0, 1) := dk_42 (dk_at dksX10_layMove_0 21 rfl rfl)
theorem dX10_layMove_22 : decode cX10_layMove 22 = .ok (.getfield 55, 3) := dk_180 0 55 (dk_at dksX10_layMove_1 0 rfl rfl)
theorem dX10_layMove_25 : decode cX10_layMove 25 = .ok (.iload_n 1, 1) := dk_27 (dk_at dksX10_layMove_1 3 rfl rfl)
theorem dX10_layMove_26 : decode cX10_layMove 26 = .ok (.iaload, 1) := dk_46 (dk_at dksX10_layMove_1 4 rfl rfl)
theorem dX10_layMove_27 : decode cX10_layMove 27 = .ok (.istore_n 3, 1) := dk_62 (dk_at dksX10_layMove_1 5 rfl rfl)
theorem dX10_layMove_28 : decode cX10_layMove 28 = .ok (.aload_n 0, 1) := dk_42 (dk_at dksX10_layMove_1 6 rfl rfl)
theorem dX10_layMove_29 : decode cX10_layMove 29 = .ok (.getfield 58, 3) := dk_180 0 58 (dk_at dksX10_layMove_1 7 rfl rfl)
theorem dX10_layMove_32 : decode cX10_layMove 32 = .ok (.iload_n 1, 1) := dk_27 (dk_at dksX10_layMove_1 10 rfl rfl)
theorem dX10_layMove_33 : decode cX10_layMove 33 = .ok (.iaload, 1) := dk_46 (dk_at dksX10_layMove_1 11 rfl rfl)
theorem dX10_layMove_34 : decode cX10_layMove 34 = .ok (.iload_n 3, 1) := dk_29 (dk_at dksX10_layMove_1 12 rfl rfl)
theorem dX10_layMove_35 : decode cX10_layMove 35 = .ok (.isub, 1) := dk_100 (dk_at dksX10_layMove_1 13 rfl rfl)
theorem dX10_layMove_36 : decode cX10_layMove 36 = .ok (.iconst 1, 1) := dk_4 (dk_at dksX10_layMove_1 14 rfl rfl)
theorem dX10_layMove_37 : decode cX10_layMove 37 = .ok (.iadd, 1) := dk_96 (dk_at dksX10_layMove_1 15 rfl rfl)
theorem dX10_layMove_38 : decode cX10_layMove 38 = .ok (.istore 4, 2) := dk_54 4 (dk_at dksX10_layMove_1 16 rfl rfl)
theorem dX10_layMove_40 : decode cX10_layMove 40 = .ok (.aload_n 0, 1) := dk_42 (dk_at dksX10_layMove_1 18 rfl rfl)
theorem dX10_layMove_41 : decode cX10_layMove 41 = .ok (.getfield 52, 3) := dk_180 0 52 (dk_at dksX10_layMove_1 19 rfl rfl)
theorem dX10_layMove_44 : decode cX10_layMove 44 = .ok (.iload_n 1, 1) := dk_27 (dk_at dksX10_layMove_1 22 rfl rfl)
theorem dX10_layMove_45 : decode cX10_layMove 45 = .ok (.iaload, 1) := dk_46 (dk_at dksX10_layMove_1 23 rfl rfl)
theorem dX10_layMove_46 : decode cX10_layMove 46 = .ok (.iconst 2, 1) := dk_5 (dk_at dksX10_layMove_2 0 rfl rfl)
theorem dX10_layMove_47 : decode cX10_layMove 47 = .ok (.if_icmp .ne 30, 3) := dk_160 0 30 (dk_at dksX10_layMove_2 1 rfl rfl)
theorem dX10_layMove_50 : decode cX10_layMove 50 = .ok (.aload_n 0, 1) := dk_42 (dk_at dksX10_layMove_2 4 rfl rfl)
theorem dX10_layMove_51 : decode cX10_layMove 51 = .ok (.getfield 92, 3) := dk_180 0 92 (dk_at dksX10_layMove_2 5 rfl rfl)
theorem dX10_layMove_54 : decode cX10_layMove 54 = .ok (.iload_n 3, 1) := dk_29 (dk_at dksX10_layMove_2 8 rfl rfl)
theorem dX10_layMove_55 : decode cX10_layMove 55 = .ok (.aload_n 0, 1) := dk_42 (dk_at dksX10_layMove_2 9 rfl rfl)
theorem dX10_layMove_56 : decode cX10_layMove 56 = .ok (.getfield 58, 3) := dk_180 0 58 (dk_at dksX10_layMove_2 10 rfl rfl)
theorem dX10_layMove_59 : decode cX10_layMove 59 = .ok (.iload_n 1, 1) := dk_27 (dk_at dksX10_layMove_2 13 rfl rfl)
theorem dX10_layMove_60 : decode cX10_layMove 60 = .ok (.iaload, 1) := dk_46 (dk_at dksX10_layMove_2 14 rfl rfl)
theorem dX10_layMove_61 : decode cX10_layMove 61 = .ok (.iastore, 1) := dk_79 (dk_at dksX10_layMove_2 15 rfl rfl)
theorem dX10_layMove_62 : decode cX10_layMove 62 = .ok (.aload_n 0, 1) := dk_42 (dk_at dksX10_layMove_2 16 rfl rfl)
theorem dX10_layMove_63 : decode cX10_layMove 63 = .ok (.getfield 92, 3) := dk_180 0 92 (dk_at dksX10_layMove_2 17 rfl rfl)
theorem dX10_layMove_66 : decode cX10_layMove 66 = .ok (.aload_n 0, 1) := dk_42 (dk_at dksX10_layMove_2 20 rfl rfl)
theorem dX10_layMove_67 : decode cX10_layMove 67 = .ok (.getfield 58, 3) := dk_180 0 58 (dk_at dksX10_layMove_2 21 rfl rfl)
theorem dX10_layMove_70 : decode cX10_layMove 70 = .ok (.iload_n 1, 1) := dk_27 (dk_at dksX10_layMove_3 0 rfl rfl)
theorem dX10_layMove_71 : decode cX10_layMove 71 = .ok (.iaload, 1) := dk_46 (dk_at dksX10_layMove_3 1 rfl rfl)
theorem dX10_layMove_72 : decode cX10_layMove 72 = .ok (.iload_n 3, 1) := dk_29 (dk_at dksX10_layMove_3 2 rfl rfl)
theorem dX10_layMove_73 : decode cX10_layMove 73 = .ok (.iastore, 1) := dk_79 (dk_at dksX10_layMove_3 3 rfl rfl)
theorem dX10_layMove_74 : decode cX10_layMove 74 = .ok (.goto 155, 3) := dk_167 0 155 (dk_at dksX10_layMove_3 4 rfl rfl)
theorem dX10_layMove_77 : decode cX10_layMove 77 = .ok (.aload_n 0, 1) := dk_42 (dk_at dksX10_layMove_3 7 rfl rfl)
theorem dX10_layMove_78 : decode cX10_layMove 78 = .ok (.getfield 52, 3) := dk_180 0 52 (dk_at dksX10_layMove_3 8 rfl rfl)
theorem dX10_layMove_81 : decode cX10_layMove 81 = .ok (.iload_n 1, 1) := dk_27 (dk_at dksX10_layMove_3 11 rfl rfl)
theorem dX10_layMove_82 : decode cX10_layMove 82 = .ok (.iaload, 1) := dk_46 (dk_at dksX10_layMove_3 12 rfl rfl)
theorem dX10_layMove_83 : decode cX10_layMove 83 = .ok (.iconst 3, 1) := dk_6 (dk_at dksX10_layMove_3 13 rfl rfl)
theorem dX10_layMove_84 : decode cX10_layMove 84 = .ok (.if_icmp .ne 45, 3) := dk_160 0 45 (dk_at dksX10_layMove_3 14 rfl rfl)
theorem dX10_layMove_87 : decode cX10_layMove 87 = .ok (.iconst 0, 1) := dk_3 (dk_at dksX10_layMove_3 17 rfl rfl)
theorem dX10_layMove_88 : decode cX10_layMove 88 = .ok (.istore 5, 2) := dk_54 5 (dk_at dksX10_layMove_3 18 rfl rfl)
theorem dX10_layMove_90 : decode cX10_layMove 90 = .ok (.iload 5, 2) := dk_21 5 (dk_at dksX10_layMove_3 20 rfl rfl)
theorem dX10_layMove_92 : decode cX10_layMove 92 = .ok (.aload_n 0, 1) := dk_42 (dk_at dksX10_layMove_3 22 rfl rfl)
theorem dX10_layMove_93 : decode cX10_layMove 93 = .ok (.getfield 64, 3) := dk_180 0 64 (dk_at dksX10_layMove_4 0 rfl rfl)
theorem dX10_layMove_96 : decode cX10_layMove 96 = .ok (.iload_n 1, 1) := dk_27 (dk_at dksX10_layMove_4 3 rfl rfl)
theorem dX10_layMove_97 : decode cX10_layMove 97 = .ok (.iaload, 1) := dk_46 (dk_at dksX10_layMove_4 4 rfl rfl)
theorem dX10_layMove_98 : decode cX10_layMove 98 = .ok (.if_icmp .ge 28, 3) := dk_162 0 28 (dk_at dksX10_layMove_4 5 rfl rfl)
theorem dX10_layMove_101 : decode cX10_layMove 101 = .ok (.aload_n 0, 1) := dk_42 (dk_at dksX10_layMove_4 8 rfl rfl)
theorem dX10_layMove_102 : decode cX10_layMove 102 = .ok (.getfield 92, 3) := dk_180 0 92 (dk_at dksX10_layMove_4 9 rfl rfl)
theorem dX10_layMove_105 : decode cX10_layMove 105 = .ok (.iload 5, 2) := dk_21 5 (dk_at dksX10_layMove_4 12 rfl rfl)
theorem dX10_layMove_107 : decode cX10_layMove 107 = .ok (.aload_n 0, 1) := dk_42 (dk_at dksX10_layMove_4 14 rfl rfl)
theorem dX10_layMove_108 : decode cX10_layMove 108 = .ok (.getfield 67, 3) := dk_180 0 67 (dk_at dksX10_layMove_4 15 rfl rfl)
theorem dX10_layMove_111 : decode cX10_layMove 111 = .ok (.bipush 8, 2) := dk_16 8 (dk_at dksX10_layMove_4 18 rfl rfl)
theorem dX10_layMove_113 : decode cX10_layMove 113 = .ok (.iload_n 1, 1) := dk_27 (dk_at dksX10_layMove_4 20 rfl rfl)
theorem dX10_layMove_114 : decode cX10_layMove 114 = .ok (.imul, 1) := dk_104 (dk_at dksX10_layMove_4 21 rfl rfl)
theorem dX10_layMove_115 : decode cX10_layMove 115 = .ok (.iload 5, 2) := dk_21 5 (dk_at dksX10_layMove_4 22 rfl rfl)
theorem dX10_layMove_117 : decode cX10_layMove 117 = .ok (.iadd, 1) := dk_96 (dk_at dksX10_layMove_5 0 rfl rfl)
theorem dX10_layMove_118 : decode cX10_layMove 118 = .ok (.iaload, 1) := dk_46 (dk_at dksX10_layMove_5 1 rfl rfl)
theorem dX10_layMove_119 : decode cX10_layMove 119 = .ok (.iastore, 1) := dk_79 (dk_at dksX10_layMove_5 2 rfl rfl)
theorem dX10_layMove_120 : decode cX10_layMove 120 = .ok (.iinc 5 1, 3) := dk_132 5 1 (dk_at dksX10_layMove_5 3 rfl rfl)
theorem dX10_layMove_123 : decode cX10_layMove 123 = .ok (.goto (-33), 3) := dk_167 255 223 (dk_at dksX10_layMove_5 6 rfl rfl)
theorem dX10_layMove_126 : decode cX10_layMove 126 = .ok (.goto 103, 3) := dk_167 0 103 (dk_at dksX10_layMove_5 9 rfl rfl)
theorem dX10_layMove_129 : decode cX10_layMove 129 = .ok (.aload_n 0, 1) := dk_42 (dk_at dksX10_layMove_5 12 rfl rfl)
theorem dX10_layMove_130 : decode cX10_layMove 130 = .ok (.getfield 52, 3) := dk_180 0 52 (dk_at dksX10_layMove_5 13 rfl rfl)
theorem dX10_layMove_133 : decode cX10_layMove 133 = .ok (.iload_n 1, 1) := dk_27 (dk_at dksX10_layMove_5 16 rfl rfl)
theorem dX10_layMove_134 : decode cX10_layMove 134 = .ok (.iaload, 1) := dk_46 (dk_at dksX10_layMove_5 17 rfl rfl)
theorem dX10_layMove_135 : decode cX10_layMove 135 = .ok (.bipush 7, 2) := dk_16 7 (dk_at dksX10_layMove_5 18 rfl rfl)
theorem dX10_layMove_137 : decode cX10_layMove 137 = .ok (.if_icmp .ne 14, 3) := dk_160 0 14 (dk_at dksX10_layMove_5 20 rfl rfl)
theorem dX10_layMove_140 : decode cX10_layMove 140 = .ok (.aload_n 0, 1) := dk_42 (dk_at dksX10_layMove_5 23 rfl rfl)
theorem dX10_layMove_141 : decode cX10_layMove 141 = .ok (.iload_n 3, 1) := dk_29 (dk_at dksX10_layMove_6 0 rfl rfl)
theorem dX10_layMove_142 : decode cX10_layMove 142 = .ok (.iload 4, 2) := dk_21 4 (dk_at dksX10_layMove_6 1 rfl rfl)
theorem dX10_layMove_144 : decode cX10_layMove 144 = .ok (.iload_n 2, 1) := dk_28 (dk_at dksX10_layMove_6 3 rfl rfl)
theorem dX10_layMove_145 : decode cX10_layMove 145 = .ok (.invokevirtual 431, 3) := dk_182 1 175 (dk_at dksX10_layMove_6 4 rfl rfl)
theorem dX10_layMove_148 : decode cX10_layMove 148 = .ok (.goto 81, 3) := dk_167 0 81 (dk_at dksX10_layMove_6 7 rfl rfl)
theorem dX10_layMove_151 : decode cX10_layMove 151 = .ok (.aload_n 0, 1) := dk_42 (dk_at dksX10_layMove_6 10 rfl rfl)
theorem dX10_layMove_152 : decode cX10_layMove 152 = .ok (.getfield 52, 3) := dk_180 0 52 (dk_at dksX10_layMove_6 11 rfl rfl)
theorem dX10_layMove_155 : decode cX10_layMove 155 = .ok (.iload_n 1, 1) := dk_27 (dk_at dksX10_layMove_6 14 rfl rfl)
theorem dX10_layMove_156 : decode cX10_layMove 156 = .ok (.iaload, 1) := dk_46 (dk_at dksX10_layMove_6 15 rfl rfl)
theorem dX10_layMove_157 : decode cX10_layMove 157 = .ok (.iconst 4, 1) := dk_7 (dk_at dksX10_layMove_6 16 rfl rfl)
theorem dX10_layMove_158 : decode cX10_layMove 158 = .ok (.if_icmp .ne 7, 3) := dk_160 0 7 (dk_at dksX10_layMove_6 17 rfl rfl)
theorem dX10_layMove_161 : decode cX10_layMove 161 = .ok (.iload_n 2, 1) := dk_28 (dk_at dksX10_layMove_6 20 rfl rfl)
theorem dX10_layMove_162 : decode cX10_layMove 162 = .ok (.goto 30, 3) := dk_167 0 30 (dk_at dksX10_layMove_6 21 rfl rfl)
theorem dX10_layMove_165 : decode cX10_layMove 165 = .ok (.aload_n 0, 1) := dk_42 (dk_at dksX10_layMove_7 0 rfl rfl)
theorem dX10_layMove_166 : decode cX10_layMove 166 = .ok (.getfield 52, 3) := dk_180 0 52 (dk_at dksX10_layMove_7 1 rfl rfl)
theorem dX10_layMove_169 : decode cX10_layMove 169 = .ok (.iload_n 1, 1) := dk_27 (dk_at dksX10_layMove_7 4 rfl rfl)
theorem dX10_layMove_170 : decode cX10_layMove 170 = .ok (.iaload, 1) := dk_46 (dk_at dksX10_layMove_7 5 rfl rfl)
theorem dX10_layMove_171 : decode cX10_layMove 171 = .ok (.iconst 5, 1) := dk_8 (dk_at dksX10_layMove_7 6 rfl rfl)
theorem dX10_layMove_172 : decode cX10_layMove 172 = .ok (.if_icmp .ne 12, 3) := dk_160 0 12 (dk_at dksX10_layMove_7 7 rfl rfl)
theorem dX10_layMove_175 : decode cX10_layMove 175 = .ok (.iload_n 2, 1) := dk_28 (dk_at dksX10_layMove_7 10 rfl rfl)
theorem dX10_layMove_176 : decode cX10_layMove 176 = .ok (.iload 4, 2) := dk_21 4 (dk_at dksX10_layMove_7 11 rfl rfl)
theorem dX10_layMove_178 : decode cX10_layMove 178 = .ok (.imul, 1) := dk_104 (dk_at dksX10_layMove_7 13 rfl rfl)
theorem dX10_layMove_179 : decode cX10_layMove 179 = .ok (.iconst 2, 1) := dk_5 (dk_at dksX10_layMove_7 14 rfl rfl)
theorem dX10_layMove_180 : decode cX10_layMove 180 = .ok (.idiv, 1) := dk_108 (dk_at dksX10_layMove_7 15 rfl rfl)
theorem dX10_layMove_181 : decode cX10_layMove 181 = .ok (.goto 11, 3) := dk_167 0 11 (dk_at dksX10_layMove_7 16 rfl rfl)
theorem dX10_layMove_184 : decode cX10_layMove 184 = .ok (.iload_n 2, 1) := dk_28 (dk_at dksX10_layMove_7 19 rfl rfl)
theorem dX10_layMove_185 : decode cX10_layMove 185 = .ok (.aload_n 0, 1) := dk_42 (dk_at dksX10_layMove_7 20 rfl rfl)
theorem dX10_layMove_186 : decode cX10_layMove 186 = .ok (.getfield 61, 3) := dk_180 0 61 (dk_at dksX10_layMove_7 21 rfl rfl)
theorem dX10_layMove_189 : decode cX10_layMove 189 = .ok (.iload_n 1, 1) := dk_27 (dk_at dksX10_layMove_8 0 rfl rfl)
theorem dX10_layMove_190 : decode cX10_layMove 190 = .ok (.iaload, 1) := dk_46 (dk_at dksX10_layMove_8 1 rfl rfl)
theorem dX10_layMove_191 : decode cX10_layMove 191 = .ok (.imul, 1) := dk_104 (dk_at dksX10_layMove_8 2 rfl rfl)
theorem dX10_layMove_192 : decode cX10_layMove 192 = .ok (.istore 5, 2) := dk_54 5 (dk_at dksX10_layMove_8 3 rfl rfl)
theorem dX10_layMove_194 : decode cX10_layMove 194 = .ok (.iconst 0, 1) := dk_3 (dk_at dksX10_layMove_8 5 rfl rfl)
theorem dX10_layMove_195 : decode cX10_layMove 195 = .ok (.istore 6, 2) := dk_54 6 (dk_at dksX10_layMove_8 6 rfl rfl)
theorem dX10_layMove_197 : decode cX10_layMove 197 = .ok (.iload 6, 2) := dk_21 6 (dk_at dksX10_layMove_8 8 rfl rfl)
theorem dX10_layMove_199 : decode cX10_layMove 199 = .ok (.iload 4, 2) := dk_21 4 (dk_at dksX10_layMove_8 10 rfl rfl)
theorem dX10_layMove_201 : decode cX10_layMove 201 = .ok (.if_icmp .ge 28, 3) := dk_162 0 28 (dk_at dksX10_layMove_8 12 rfl rfl)
theorem dX10_layMove_204 : decode cX10_layMove 204 = .ok (.aload_n 0, 1) := dk_42 (dk_at dksX10_layMove_8 15 rfl rfl)
theorem dX10_layMove_205 : decode cX10_layMove 205 = .ok (.getfield 92, 3) := dk_180 0 92 (dk_at dksX10_layMove_8 16 rfl rfl)
theorem dX10_layMove_208 : decode cX10_layMove 208 = .ok (.iload_n 3, 1) := dk_29 (dk_at dksX10_layMove_8 19 rfl rfl)
theorem dX10_layMove_209 : decode cX10_layMove 209 = .ok (.iload 6, 2) := dk_21 6 (dk_at dksX10_layMove_8 20 rfl rfl)
theorem dX10_layMove_211 : decode cX10_layMove 211 = .ok (.iload 5, 2) := dk_21 5 (dk_at dksX10_layMove_8 22 rfl rfl)
theorem dX10_layMove_213 : decode cX10_layMove 213 = .ok (.iadd, 1) := dk_96 (dk_at dksX10_layMove_9 0 rfl rfl)
theorem dX10_layMove_214 : decode cX10_layMove 214 = .ok (.iload 4, 2) := dk_21 4 (dk_at dksX10_layMove_9 1 rfl rfl)
theorem dX10_layMove_216 : decode cX10_layMove 216 = .ok (.irem, 1) := dk_112 (dk_at dksX10_layMove_9 3 rfl rfl)
theorem dX10_layMove_217 : decode cX10_layMove 217 = .ok (.iadd, 1) := dk_96 (dk_at dksX10_layMove_9 4 rfl rfl)
theorem dX10_layMove_218 : decode cX10_layMove 218 = .ok (.iload_n 3, 1) := dk_29 (dk_at dksX10_layMove_9 5 rfl rfl)
theorem dX10_layMove_219 : decode cX10_layMove 219 = .ok (.iload 6, 2) := dk_21 6 (dk_at dksX10_layMove_9 6 rfl rfl)
theorem dX10_layMove_221 : decode cX10_layMove 221 = .ok (.iadd, 1) := dk_96 (dk_at dksX10_layMove_9 8 rfl rfl)
theorem dX10_layMove_222 : decode cX10_layMove 222 = .ok (.iastore, 1) := dk_79 (dk_at dksX10_layMove_9 9 rfl rfl)
theorem dX10_layMove_223 : decode cX10_layMove 223 = .ok (.iinc 6 1, 3) := dk_132 6 1 (dk_at dksX10_layMove_9 10 rfl rfl)
theorem dX10_layMove_226 : decode cX10_layMove 226 = .ok (.goto (-29), 3) := dk_167 255 227 (dk_at dksX10_layMove_9 13 rfl rfl)
theorem dX10_layMove_229 : decode cX10_layMove 229 = .ok (.return_, 1) := dk_177 (dk_at dksX10_layMove_9 16 rfl rfl)
abbrev cX10_layMix : ByteArray := prog_32_method_51_code
def yX10_layMix : MethodName := ⟨RX10, "layMix", "(III)V"⟩
def dkwX10_layMix_6 : List UInt8 := [167, 255, 171, 177]
abbrev dktX10_layMix_6 : List UInt8 := dkwX10_layMix_6 ++ []
def dkwX10_layMix_5 : List UInt8 := [180, 0, 95, 21, 8, 42, 180, 0, 95, 21, 8, 4, 96, 46, 79, 132, 8, 1, 167, 255, 226, 132, 6, 1]
abbrev dktX10_layMix_5 : List UInt8 := dkwX10_layMix_5 ++ dktX10_layMix_6
def dkwX10_layMix_4 : List UInt8 := [180, 0, 95, 21, 7, 46, 79, 21, 7, 54, 8, 21, 8, 4, 96, 28, 21, 6, 100, 162, 0, 25, 42]
abbrev dktX10_layMix_4 : List UInt8 := dkwX10_layMix_4 ++ dktX10_layMix_5
def dkwX10_layMix_3 : List UInt8 := [21, 4, 21, 5, 108, 54, 7, 21, 4, 21, 5, 112, 54, 4, 42, 180, 0, 92, 27, 21, 6, 96, 42]
abbrev dktX10_layMix_3 : List UInt8 := dkwX10_layMix_3 ++ dktX10_layMix_4
def dkwX10_layMix_2 : List UInt8 := [132, 6, 1, 167, 255, 236, 3, 54, 6, 21, 6, 28, 162, 0, 85, 21, 5, 28, 21, 6, 100, 108, 54, 5]
abbrev dktX10_layMix_2 : List UInt8 := dkwX10_layMix_2 ++ dktX10_layMix_3
def dkwX10_layMix_1 : List UInt8 := [54, 5, 3, 54, 6, 21, 6, 28, 162, 0, 20, 42, 180, 0, 95, 21, 6, 27, 21, 6, 96, 79]
abbrev dktX10_layMix_1 : List UInt8 := dkwX10_layMix_1 ++ dktX10_layMix_2
def dkwX10_layMix_0 : List UInt8 := [29, 54, 4, 28, 5, 160, 0, 7, 5, 167, 0, 15, 28, 6, 160, 0, 8, 16, 6, 167, 0, 5, 16, 24]
abbrev dktX10_layMix_0 : List UInt8 := dkwX10_layMix_0 ++ dktX10_layMix_1
theorem dksX10_layMix_0 : cX10_layMix.data.toList.drop 0 = dktX10_layMix_0 := by decide +kernel
theorem dksX10_layMix_1 : cX10_layMix.data.toList.drop 24 = dktX10_layMix_1 := dk_seg dksX10_layMix_0 24 rfl rfl
theorem dksX10_layMix_2 : cX10_layMix.data.toList.drop 46 = dktX10_layMix_2 := dk_seg dksX10_layMix_1 22 rfl rfl
theorem dksX10_layMix_3 : cX10_layMix.data.toList.drop 70 = dktX10_layMix_3 := dk_seg dksX10_layMix_2 24 rfl rfl
theorem dksX10_layMix_4 : cX10_layMix.data.toList.drop 93 = dktX10_layMix_4 := dk_seg dksX10_layMix_3 23 rfl rfl
theorem dksX10_layMix_5 : cX10_layMix.data.toList.drop 116 = dktX10_layMix_5 := dk_seg dksX10_layMix_4 23 rfl rfl
theorem dksX10_layMix_6 : cX10_layMix.data.toList.drop 140 = dktX10_layMix_6 := dk_seg dksX10_layMix_5 24 rfl rfl
theorem dX10_layMix_0 : decode cX10_layMix 0 = .ok (.iload_n 3, 1) := dk_29 (dk_at dksX10_layMix_0 0 rfl rfl)
theorem dX10_layMix_1 : decode cX10_layMix 1 = .ok (.istore 4, 2) := dk_54 4 (dk_at dksX10_layMix_0 1 rfl rfl)
theorem dX10_layMix_3 : decode cX10_layMix 3 = .ok (.iload_n 2, 1) := dk_28 (dk_at dksX10_layMix_0 3 rfl rfl)
theorem dX10_layMix_4 : decode cX10_layMix 4 = .ok (.iconst 2, 1) := dk_5 (dk_at dksX10_layMix_0 4 rfl rfl)
theorem dX10_layMix_5 : decode cX10_layMix 5 = .ok (.if_icmp .ne 7, 3) := dk_160 0 7 (dk_at dksX10_layMix_0 5 rfl rfl)
theorem dX10_layMix_8 : decode cX10_layMix 8 = .ok (.iconst 2, 1) := dk_5 (dk_at dksX10_layMix_0 8 rfl rfl)
theorem dX10_layMix_9 : decode cX10_layMix 9 = .ok (.goto 15, 3) := dk_167 0 15 (dk_at dksX10_layMix_0 9 rfl rfl)
theorem dX10_layMix_12 : decode cX10_layMix 12 = .ok (.iload_n 2, 1) := dk_28 (dk_at dksX10_layMix_0 12 rfl rfl)
theorem dX10_layMix_13 : decode cX10_layMix 13 = .ok (.iconst 3, 1) := dk_6 (dk_at dksX10_layMix_0 13 rfl rfl)
theorem dX10_layMix_14 : decode cX10_layMix 14 = .ok (.if_icmp .ne 8, 3) := dk_160 0 8 (dk_at dksX10_layMix_0 14 rfl rfl)
theorem dX10_layMix_17 : decode cX10_layMix 17 = .ok (.bipush 6, 2) := dk_16 6 (dk_at dksX10_layMix_0 17 rfl rfl)
theorem dX10_layMix_19 : decode cX10_layMix 19 = .ok (.goto 5, 3) := dk_167 0 5 (dk_at dksX10_layMix_0 19 rfl rfl)
theorem dX10_layMix_22 : decode cX10_layMix 22 = .ok (.bipush 24, 2) := dk_16 24 (dk_at dksX10_layMix_0 22 rfl rfl)
theorem dX10_layMix_24 : decode cX10_layMix 24 = .ok (.istore 5, 2) := dk_54 5 (dk_at dksX10_layMix_1 0 rfl rfl)
theorem dX10_layMix_26 : decode cX10_layMix 26 = .ok (.iconst 0, 1) := dk_3 (dk_at dksX10_layMix_1 2 rfl rfl)
theorem dX10_layMix_27 : decode cX10_layMix 27 = .ok (.istore 6, 2) := dk_54 6 (dk_at dksX10_layMix_1 3 rfl rfl)
theorem dX10_layMix_29 : decode cX10_layMix 29 = .ok (.iload 6, 2) := dk_21 6 (dk_at dksX10_layMix_1 5 rfl rfl)
theorem dX10_layMix_31 : decode cX10_layMix 31 = .ok (.iload_n 2, 1) := dk_28 (dk_at dksX10_layMix_1 7 rfl rfl)
theorem dX10_layMix_32 : decode cX10_layMix 32 = .ok (.if_icmp .ge 20, 3) := dk_162 0 20 (dk_at dksX10_layMix_1 8 rfl rfl)
theorem dX10_layMix_35 : decode cX10_layMix 35 = .ok (.aload_n 0, 1) := dk_42 (dk_at dksX10_layMix_1 11 rfl rfl)
theorem dX10_layMix_36 : decode cX10_layMix 36 = .ok (.getfield 95, 3) := dk_180 0 95 (dk_at dksX10_layMix_1 12 rfl rfl)
theorem dX10_layMix_39 : decode cX10_layMix 39 = .ok (.iload 6, 2) := dk_21 6 (dk_at dksX10_layMix_1 15 rfl rfl)
theorem dX10_layMix_41 : decode cX10_layMix 41 = .ok (.iload_n 1, 1) := dk_27 (dk_at dksX10_layMix_1 17 rfl rfl)
theorem dX10_layMix_42 : decode cX10_layMix 42 = .ok (.iload 6, 2) := dk_21 6 (dk_at dksX10_layMix_1 18 rfl rfl)
theorem dX10_layMix_44 : decode cX10_layMix 44 = .ok (.iadd, 1) := dk_96 (dk_at dksX10_layMix_1 20 rfl rfl)
theorem dX10_layMix_45 : decode cX10_layMix 45 = .ok (.iastore, 1) := dk_79 (dk_at dksX10_layMix_1 21 rfl rfl)
theorem dX10_layMix_46 : decode cX10_layMix 46 = .ok (.iinc 6 1, 3) := dk_132 6 1 (dk_at dksX10_layMix_2 0 rfl rfl)
theorem dX10_layMix_49 : decode cX10_layMix 49 = .ok (.goto (-20), 3) := dk_167 255 236 (dk_at dksX10_layMix_2 3 rfl rfl)
theorem dX10_layMix_52 : decode cX10_layMix 52 = .ok (.iconst 0, 1) := dk_3 (dk_at dksX10_layMix_2 6 rfl rfl)
theorem dX10_layMix_53 : decode cX10_layMix 53 = .ok (.istore 6, 2) := dk_54 6 (dk_at dksX10_layMix_2 7 rfl rfl)
theorem dX10_layMix_55 : decode cX10_layMix 55 = .ok (.iload 6, 2) := dk_21 6 (dk_at dksX10_layMix_2 9 rfl rfl)
theorem dX10_layMix_57 : decode cX10_layMix 57 = .ok (.iload_n 2, 1) := dk_28 (dk_at dksX10_layMix_2 11 rfl rfl)
theorem dX10_layMix_58 : decode cX10_layMix 58 = .ok (.if_icmp .ge 85, 3) := dk_162 0 85 (dk_at dksX10_layMix_2 12 rfl rfl)
theorem dX10_layMix_61 : decode cX10_layMix 61 = .ok (.iload 5, 2) := dk_21 5 (dk_at dksX10_layMix_2 15 rfl rfl)
theorem dX10_layMix_63 : decode cX10_layMix 63 = .ok (.iload_n 2, 1) := dk_28 (dk_at dksX10_layMix_2 17 rfl rfl)
theorem dX10_layMix_64 : decode cX10_layMix 64 = .ok (.iload 6, 2) := dk_21 6 (dk_at dksX10_layMix_2 18 rfl rfl)
theorem dX10_layMix_66 : decode cX10_layMix 66 = .ok (.isub, 1) := dk_100 (dk_at dksX10_layMix_2 20 rfl rfl)
theorem dX10_layMix_67 : decode cX10_layMix 67 = .ok (.idiv, 1) := dk_108 (dk_at dksX10_layMix_2 21 rfl rfl)
theorem dX10_layMix_68 : decode cX10_layMix 68 = .ok (.istore 5, 2) := dk_54 5 (dk_at dksX10_layMix_2 22 rfl rfl)
theorem dX10_layMix_70 : decode cX10_layMix 70 = .ok (.iload 4, 2) := dk_21 4 (dk_at dksX10_layMix_3 0 rfl rfl)
theorem dX10_layMix_72 : decode cX10_layMix 72 = .ok (.iload 5, 2) := dk_21 5 (dk_at dksX10_layMix_3 2 rfl rfl)
theorem dX10_layMix_74 : decode cX10_layMix 74 = .ok (.idiv, 1) := dk_108 (dk_at dksX10_layMix_3 4 rfl rfl)
theorem dX10_layMix_75 : decode cX10_layMix 75 = .ok (.istore 7, 2) := dk_54 7 (dk_at dksX10_layMix_3 5 rfl rfl)
theorem dX10_layMix_77 : decode cX10_layMix 77 = .ok (.iload 4, 2) := dk_21 4 (dk_at dksX10_layMix_3 7 rfl rfl)
theorem dX10_layMix_79 : decode cX10_layMix 79 = .ok (.iload 5, 2) := dk_21 5 (dk_at dksX10_layMix_3 9 rfl rfl)
theorem dX10_layMix_81 : decode cX10_layMix 81 = .ok (.irem, 1) := dk_112 (dk_at dksX10_layMix_3 11 rfl rfl)
theorem dX10_layMix_82 : decode cX10_layMix 82 = .ok (.istore 4, 2) := dk_54 4 (dk_at dksX10_layMix_3 12 rfl rfl)
theorem dX10_layMix_84 : decode cX10_layMix 84 = .ok (.aload_n 0, 1) := dk_42 (dk_at dksX10_layMix_3 14 rfl rfl)
theorem dX10_layMix_85 : decode cX10_layMix 85 = .ok (.getfield 92, 3) := dk_180 0 92 (dk_at dksX10_layMix_3 15 rfl rfl)
theorem dX10_layMix_88 : decode cX10_layMix 88 = .ok (.iload_n 1, 1) := dk_27 (dk_at dksX10_layMix_3 18 rfl rfl)
theorem dX10_layMix_89 : decode cX10_layMix 89 = .ok (.iload 6, 2) := dk_21 6 (dk_at dksX10_layMix_3 19 rfl rfl)
theorem dX10_layMix_91 : decode cX10_layMix 91 = .ok (.iadd, 1) := dk_96 (dk_at dksX10_layMix_3 21 rfl rfl)
theorem dX10_layMix_92 : decode cX10_layMix 92 = .ok (.aload_n 0, 1) := dk_42 (dk_at dksX10_layMix_3 22 rfl rfl)
theorem dX10_layMix_93 : decode cX10_layMix 93 = .ok (.getfield 95, 3) := dk_180 0 95 (dk_at dksX10_layMix_4 0 rfl rfl)
theorem dX10_layMix_96 : decode cX10_layMix 96 = .ok (.iload 7, 2) := dk_21 7 (dk_at dksX10_layMix_4 3 rfl rfl)
theorem dX10_layMix_98 : decode cX10_layMix 98 = .ok (.iaload, 1) := dk_46 (dk_at dksX10_layMix_4 5 rfl rfl)
theorem dX10_layMix_99 : decode cX10_layMix 99 = .ok (.iastore, 1) := dk_79 (dk_at dksX10_layMix_4 6 rfl rfl)
theorem dX10_layMix_100 : decode cX10_layMix 100 = .ok (.iload 7, 2) := dk_21 7 (dk_at dksX10_layMix_4 7 rfl rfl)
theorem dX10_layMix_102 : decode cX10_layMix 102 = .ok (.istore 8, 2) := dk_54 8 (dk_at dksX10_layMix_4 9 rfl rfl)
theorem dX10_layMix_104 : decode cX10_layMix 104 = .ok (.iload 8, 2) := dk_21 8 (dk_at dksX10_layMix_4 11 rfl rfl)
theorem dX10_layMix_106 : decode cX10_layMix 106 = .ok (.iconst 1, 1) := dk_4 (dk_at dksX10_layMix_4 13 rfl rfl)
theorem dX10_layMix_107 : decode cX10_layMix 107 = .ok (.iadd, 1) := dk_96 (dk_at dksX10_layMix_4 14 rfl rfl)
theorem dX10_layMix_108 : decode cX10_layMix 108 = .ok (.iload_n 2, 1) := dk_28 (dk_at dksX10_layMix_4 15 rfl rfl)
theorem dX10_layMix_109 : decode cX10_layMix 109 = .ok (.iload 6, 2) := dk_21 6 (dk_at dksX10_layMix_4 16 rfl rfl)
theorem dX10_layMix_111 : decode cX10_layMix 111 = .ok (.isub, 1) := dk_100 (dk_at dksX10_layMix_4 18 rfl rfl)
theorem dX10_layMix_112 : decode cX10_layMix 112 = .ok (.if_icmp .ge 25, 3) := dk_162 0 25 (dk_at dksX10_layMix_4 19 rfl rfl)
theorem dX10_layMix_115 : decode cX10_layMix 115 = .ok (.aload_n 0, 1) := dk_42 (dk_at dksX10_layMix_4 22 rfl rfl)
theorem dX10_layMix_116 : decode cX10_layMix 116 = .ok (.getfield 95, 3) := dk_180 0 95 (dk_at dksX10_layMix_5 0 rfl rfl)
theorem dX10_layMix_119 : decode cX10_layMix 119 = .ok (.iload 8, 2) := dk_21 8 (dk_at dksX10_layMix_5 3 rfl rfl)
theorem dX10_layMix_121 : decode cX10_layMix 121 = .ok (.aload_n 0, 1) := dk_42 (dk_at dksX10_layMix_5 5 rfl rfl)
theorem dX10_layMix_122 : decode cX10_layMix 122 = .ok (.getfield 95, 3) := dk_180 0 95 (dk_at dksX10_layMix_5 6 rfl rfl)
theorem dX10_layMix_125 : decode cX10_layMix 125 = .ok (.iload 8, 2) := dk_21 8 (dk_at dksX10_layMix_5 9 rfl rfl)
theorem dX10_layMix_127 : decode cX10_layMix 127 = .ok (.iconst 1, 1) := dk_4 (dk_at dksX10_layMix_5 11 rfl rfl)
theorem dX10_layMix_128 : decode cX10_layMix 128 = .ok (.iadd, 1) := dk_96 (dk_at dksX10_layMix_5 12 rfl rfl)
theorem dX10_layMix_129 : decode cX10_layMix 129 = .ok (.iaload, 1) := dk_46 (dk_at dksX10_layMix_5 13 rfl rfl)
theorem dX10_layMix_130 : decode cX10_layMix 130 = .ok (.iastore, 1) := dk_79 (dk_at dksX10_layMix_5 14 rfl rfl)
theorem dX10_layMix_131 : decode cX10_layMix 131 = .ok (.iinc 8 1, 3) := dk_132 8 1 (dk_at dksX10_layMix_5 15 rfl rfl)
theorem dX10_layMix_134 : decode cX10_layMix 134 = .ok (.goto (-30), 3) := dk_167 255 226 (dk_at dksX10_layMix_5 18 rfl rfl)
theorem dX10_layMix_137 : decode cX10_layMix 137 = .ok (.iinc 6 1, 3) := dk_132 6 1 (dk_at dksX10_layMix_5 21 rfl rfl)
theorem dX10_layMix_140 : decode cX10_layMix 140 = .ok (.goto (-85), 3) := dk_167 255 171 (dk_at dksX10_layMix_6 0 rfl rfl)
theorem dX10_layMix_143 : decode cX10_layMix 143 = .ok (.return_, 1) := dk_177 (dk_at dksX10_layMix_6 3 rfl rfl)
abbrev cX10_sendAll : ByteArray := prog_32_method_55_code
def yX10_sendAll : MethodName := ⟨RX10, "sendAll", "(II)V"⟩
def dkwX10_sendAll_3 : List UInt8 := [96, 92, 47, 22, 5, 97, 80, 132, 4, 1, 167, 255, 189, 132, 3, 1, 167, 255, 172, 177]
abbrev dktX10_sendAll_3 : List UInt8 := dkwX10_sendAll_3 ++ []
def dkwX10_sendAll_2 : List UInt8 := [153, 0, 31, 42, 180, 0, 99, 17, 8, 0, 28, 104, 17, 1, 0, 29, 104, 96, 42, 21, 4, 182, 1, 179]
abbrev dktX10_sendAll_2 : List UInt8 := dkwX10_sendAll_2 ++ dktX10_sendAll_3
def dkwX10_sendAll_1 : List UInt8 := [180, 0, 99, 17, 8, 0, 27, 104, 17, 1, 0, 29, 104, 96, 21, 4, 96, 47, 55, 5, 22, 5, 9, 148]
abbrev dktX10_sendAll_1 : List UInt8 := dkwX10_sendAll_1 ++ dktX10_sendAll_2
def dkwX10_sendAll_0 : List UInt8 := [3, 62, 29, 42, 182, 1, 161, 162, 0, 82, 3, 54, 4, 21, 4, 17, 1, 0, 162, 0, 65, 42]
abbrev dktX10_sendAll_0 : List UInt8 := dkwX10_sendAll_0 ++ dktX10_sendAll_1
theorem dksX10_sendAll_0 : cX10_sendAll.data.toList.drop 0 = dktX10_sendAll_0 := by decide +kernel
theorem dksX10_sendAll_1 : cX10_sendAll.data.toList.drop 22 = dktX10_sendAll_1 := dk_seg dksX10_sendAll_0 22 rfl rfl
theorem dksX10_sendAll_2 : cX10_sendAll.data.toList.drop 46 = dktX10_sendAll_2 := dk_seg dksX10_sendAll_1 24 rfl rfl
theorem dksX10_sendAll_3 : cX10_sendAll.data.toList.drop 70 = dktX10_sendAll_3 := dk_seg dksX10_sendAll_2 24 rfl rfl
theorem dX10_sendAll_0 : decode cX10_sendAll 0 = .ok (.iconst 0, 1) := dk_3 (dk_at dksX10_sendAll_0 0 rfl rfl)
theorem dX10_sendAll_1 : decode cX10_sendAll 1 = .ok (.istore_n 3, 1) := dk_62 (dk_at dksX10_sendAll_0 1 rfl rfl)
theorem dX10_sendAll_2 : decode cX10_sendAll 2 = .ok (.iload_n 3, 1) := dk_29 (dk_at dksX10_sendAll_0 2 rfl rfl)
theorem dX10_sendAll_3 : decode cX10_sendAll 3 = .ok (.aload_n 0, 1) := dk_42 (dk_at dksX10_sendAll_0 3 rfl rfl)
theorem dX10_sendAll_4 : decode cX10_sendAll 4 = .ok (.invokevirtual 417, 3) := dk_182 1 161 (dk_at dksX10_sendAll_0 4 rfl rfl)
theorem dX10_sendAll_7 : decode cX10_sendAll 7 = .ok (.if_icmp .ge 82, 3) := dk_162 0 82 (dk_at dksX10_sendAll_0 7 rfl rfl)
theorem dX10_sendAll_10 : decode cX10_sendAll 10 = .ok (.iconst 0, 1) := dk_3 (dk_at dksX10_sendAll_0 10 rfl rfl)
theorem dX10_sendAll_11 : decode cX10_sendAll 11 = .ok (.istore 4, 2) := dk_54 4 (dk_at dksX10_sendAll_0 11 rfl rfl)
theorem dX10_sendAll_13 : decode cX10_sendAll 13 = .ok (.iload 4, 2) := dk_21 4 (dk_at dksX10_sendAll_0 13 rfl rfl)
theorem dX10_sendAll_15 : decode cX10_sendAll 15 = .ok (.sipush 256, 3) := dk_17 1 0 (dk_at dksX10_sendAll_0 15 rfl rfl)
theorem dX10_sendAll_18 : decode cX10_sendAll 18 = .ok (.if_icmp .ge 65, 3) := dk_162 0 65 (dk_at dksX10_sendAll_0 18 rfl rfl)
theorem dX10_sendAll_21 : decode cX10_sendAll 21 = .ok (.aload_n 0, 1) := dk_42 (dk_at dksX10_sendAll_0 21 rfl rfl)
theorem dX10_sendAll_22 : decode cX10_sendAll 22 = .ok (.getfield 99, 3) := dk_180 0 99 (dk_at dksX10_sendAll_1 0 rfl rfl)
theorem dX10_sendAll_25 : decode cX10_sendAll 25 = .ok (.sipush 2048, 3) := dk_17 8 0 (dk_at dksX10_sendAll_1 3 rfl rfl)
theorem dX10_sendAll_28 : decode cX10_sendAll 28 = .ok (.iload_n 1, 1) := dk_27 (dk_at dksX10_sendAll_1 6 rfl rfl)
theorem dX10_sendAll_29 : decode cX10_sendAll 29 = .ok (.imul, 1) := dk_104 (dk_at dksX10_sendAll_1 7 rfl rfl)
theorem dX10_sendAll_30 : decode cX10_sendAll 30 = .ok (.sipush 256, 3) := dk_17 1 0 (dk_at dksX10_sendAll_1 8 rfl rfl)
theorem dX10_sendAll_33 : decode cX10_sendAll 33 = .ok (.iload_n 3, 1) := dk_29 (dk_at dksX10_sendAll_1 11 rfl rfl)
theorem dX10_sendAll_34 : decode cX10_sendAll 34 = .ok (.imul, 1) := dk_104 (dk_at dksX10_sendAll_1 12 rfl rfl)
theorem dX10_sendAll_35 : decode cX10_sendAll 35 = .ok (.iadd, 1) := dk_96 (dk_at dksX10_sendAll_1 13 rfl rfl)
theorem dX10_sendAll_36 : decode cX10_sendAll 36 = .ok (.iload 4, 2) := dk_21 4 (dk_at dksX10_sendAll_1 14 rfl rfl)
theorem dX10_sendAll_38 : decode cX10_sendAll 38 = .ok (.iadd, 1) := dk_96 (dk_at dksX10_sendAll_1 16 rfl rfl)
theorem dX10_sendAll_39 : decode cX10_sendAll 39 = .ok (.laload, 1) := dk_47 (dk_at dksX10_sendAll_1 17 rfl rfl)
theorem dX10_sendAll_40 : decode cX10_sendAll 40 = .ok (.lstore 5, 2) := dk_55 5 (dk_at dksX10_sendAll_1 18 rfl rfl)
theorem dX10_sendAll_42 : decode cX10_sendAll 42 = .ok (.lload 5, 2) := dk_22 5 (dk_at dksX10_sendAll_1 20 rfl rfl)
theorem dX10_sendAll_44 : decode cX10_sendAll 44 = .ok (.lconst 0, 1) := dk_9 (dk_at dksX10_sendAll_1 22 rfl rfl)
theorem dX10_sendAll_45 : decode cX10_sendAll 45 = .ok (.lcmp, 1) := dk_148 (dk_at dksX10_sendAll_1 23 rfl rfl)
theorem dX10_sendAll_46 : decode cX10_sendAll 46 = .ok (.ifCond .eq 31, 3) := dk_153 0 31 (dk_at dksX10_sendAll_2 0 rfl rfl)
theorem dX10_sendAll_49 : decode cX10_sendAll 49 = .ok (.aload_n 0, 1) := dk_42 (dk_at dksX10_sendAll_2 3 rfl rfl)
theorem dX10_sendAll_50 : decode cX10_sendAll 50 = .ok (.getfield 99, 3) := dk_180 0 99 (dk_at dksX10_sendAll_2 4 rfl rfl)
theorem dX10_sendAll_53 : decode cX10_sendAll 53 = .ok (.sipush 2048, 3) := dk_17 8 0 (dk_at dksX10_sendAll_2 7 rfl rfl)
theorem dX10_sendAll_56 : decode cX10_sendAll 56 = .ok (.iload_n 2, 1) := dk_28 (dk_at dksX10_sendAll_2 10 rfl rfl)
theorem dX10_sendAll_57 : decode cX10_sendAll 57 = .ok (.imul, 1) := dk_104 (dk_at dksX10_sendAll_2 11 rfl rfl)
theorem dX10_sendAll_58 : decode cX10_sendAll 58 = .ok (.sipush 256, 3) := dk_17 1 0 (dk_at dksX10_sendAll_2 12 rfl rfl)
theorem dX10_sendAll_61 : decode cX10_sendAll 61 = .ok (.iload_n 3, 1) := dk_29 (dk_at dksX10_sendAll_2 15 rfl rfl)
theorem dX10_sendAll_62 : decode cX10_sendAll 62 = .ok (.imul, 1) := dk_104 (dk_at dksX10_sendAll_2 16 rfl rfl)
theorem dX10_sendAll_63 : decode cX10_sendAll 63 = .ok (.iadd, 1) := dk_96 (dk_at dksX10_sendAll_2 17 rfl rfl)
theorem dX10_sendAll_64 : decode cX10_sendAll 64 = .ok (.aload_n 0, 1) := dk_42 (dk_at dksX10_sendAll_2 18 rfl rfl)
theorem dX10_sendAll_65 : decode cX10_sendAll 65 = .ok (.iload 4, 2) := dk_21 4 (dk_at dksX10_sendAll_2 19 rfl rfl)
theorem dX10_sendAll_67 : decode cX10_sendAll 67 = .ok (.invokevirtual 435, 3) := dk_182 1 179 (dk_at dksX10_sendAll_2 21 rfl rfl)
theorem dX10_sendAll_70 : decode cX10_sendAll 70 = .ok (.iadd, 1) := dk_96 (dk_at dksX10_sendAll_3 0 rfl rfl)
theorem dX10_sendAll_71 : decode cX10_sendAll 71 = .ok (.dup2, 1) := dk_92 (dk_at dksX10_sendAll_3 1 rfl rfl)
theorem dX10_sendAll_72 : decode cX10_sendAll 72 = .ok (.laload, 1) := dk_47 (dk_at dksX10_sendAll_3 2 rfl rfl)
theorem dX10_sendAll_73 : decode cX10_sendAll 73 = .ok (.lload 5, 2) := dk_22 5 (dk_at dksX10_sendAll_3 3 rfl rfl)
theorem dX10_sendAll_75 : decode cX10_sendAll 75 = .ok (.ladd, 1) := dk_97 (dk_at dksX10_sendAll_3 5 rfl rfl)
theorem dX10_sendAll_76 : decode cX10_sendAll 76 = .ok (.lastore, 1) := dk_80 (dk_at dksX10_sendAll_3 6 rfl rfl)
theorem dX10_sendAll_77 : decode cX10_sendAll 77 = .ok (.iinc 4 1, 3) := dk_132 4 1 (dk_at dksX10_sendAll_3 7 rfl rfl)
theorem dX10_sendAll_80 : decode cX10_sendAll 80 = .ok (.goto (-67), 3) := dk_167 255 189 (dk_at dksX10_sendAll_3 10 rfl rfl)
theorem dX10_sendAll_83 : decode cX10_sendAll 83 = .ok (.iinc 3 1, 3) := dk_132 3 1 (dk_at dksX10_sendAll_3 13 rfl rfl)
theorem dX10_sendAll_86 : decode cX10_sendAll 86 = .ok (.goto (-84), 3) := dk_167 255 172 (dk_at dksX10_sendAll_3 16 rfl rfl)
theorem dX10_sendAll_89 : decode cX10_sendAll 89 = .ok (.return_, 1) := dk_177 (dk_at dksX10_sendAll_3 19 rfl rfl)
abbrev cX10_moved : ByteArray := prog_32_method_52_code
def yX10_moved : MethodName := ⟨RX10, "moved", "(I)I"⟩
def dkwX10_moved_1 : List UInt8 := [61, 132, 3, 1, 167, 255, 232, 28, 172]
abbrev dktX10_moved_1 : List UInt8 := dkwX10_moved_1 ++ []
def dkwX10_moved_0 : List UInt8 := [3, 61, 3, 62, 29, 16, 8, 162, 0, 24, 28, 27, 42, 180, 0, 92, 29, 46, 122, 4, 126, 29, 120, 128]
abbrev dktX10_moved_0 : List UInt8 := dkwX10_moved_0 ++ dktX10_moved_1
theorem dksX10_moved_0 : cX10_moved.data.toList.drop 0 = dktX10_moved_0 := by decide +kernel
theorem dksX10_moved_1 : cX10_moved.data.toList.drop 24 = dktX10_moved_1 := dk_seg dksX10_moved_0 24 rfl rfl
theorem dX10_moved_0 : decode cX10_moved 0 = .ok (.iconst 0, 1) := dk_3 (dk_at dksX10_moved_0 0 rfl rfl)
theorem dX10_moved_1 : decode cX10_moved 1 = .ok (.istore_n 2, 1) := dk_61 (dk_at dksX10_moved_0 1 rfl rfl)
theorem dX10_moved_2 : decode cX10_moved 2 = .ok (.iconst 0, 1) := dk_3 (dk_at dksX10_moved_0 2 rfl rfl)
theorem dX10_moved_3 : decode cX10_moved 3 = .ok (.istore_n 3, 1) := dk_62 (dk_at dksX10_moved_0 3 rfl rfl)
theorem dX10_moved_4 : decode cX10_moved 4 = .ok (.iload_n 3, 1) := dk_29 (dk_at dksX10_moved_0 4 rfl rfl)
theorem dX10_moved_5 : decode cX10_moved 5 = .ok (.bipush 8, 2) := dk_16 8 (dk_at dksX10_moved_0 5 rfl rfl)
theorem dX10_moved_7 : decode cX10_moved 7 = .ok (.if_icmp .ge 24, 3) := dk_162 0 24 (dk_at dksX10_moved_0 7 rfl rfl)
theorem dX10_moved_10 : decode cX10_moved 10 = .ok (.iload_n 2, 1) := dk_28 (dk_at dksX10_moved_0 10 rfl rfl)
theorem dX10_moved_11 : decode cX10_moved 11 = .ok (.iload_n 1, 1) := dk_27 (dk_at dksX10_moved_0 11 rfl rfl)
theorem dX10_moved_12 : decode cX10_moved 12 = .ok (.aload_n 0, 1) := dk_42 (dk_at dksX10_moved_0 12 rfl rfl)
theorem dX10_moved_13 : decode cX10_moved 13 = .ok (.getfield 92, 3) := dk_180 0 92 (dk_at dksX10_moved_0 13 rfl rfl)
theorem dX10_moved_16 : decode cX10_moved 16 = .ok (.iload_n 3, 1) := dk_29 (dk_at dksX10_moved_0 16 rfl rfl)
theorem dX10_moved_17 : decode cX10_moved 17 = .ok (.iaload, 1) := dk_46 (dk_at dksX10_moved_0 17 rfl rfl)
theorem dX10_moved_18 : decode cX10_moved 18 = .ok (.ishr, 1) := dk_122 (dk_at dksX10_moved_0 18 rfl rfl)
theorem dX10_moved_19 : decode cX10_moved 19 = .ok (.iconst 1, 1) := dk_4 (dk_at dksX10_moved_0 19 rfl rfl)
theorem dX10_moved_20 : decode cX10_moved 20 = .ok (.iand, 1) := dk_126 (dk_at dksX10_moved_0 20 rfl rfl)
theorem dX10_moved_21 : decode cX10_moved 21 = .ok (.iload_n 3, 1) := dk_29 (dk_at dksX10_moved_0 21 rfl rfl)
theorem dX10_moved_22 : decode cX10_moved 22 = .ok (.ishl, 1) := dk_120 (dk_at dksX10_moved_0 22 rfl rfl)
theorem dX10_moved_23 : decode cX10_moved 23 = .ok (.ior, 1) := dk_128 (dk_at dksX10_moved_0 23 rfl rfl)
theorem dX10_moved_24 : decode cX10_moved 24 = .ok (.istore_n 2, 1) := dk_61 (dk_at dksX10_moved_1 0 rfl rfl)
theorem dX10_moved_25 : decode cX10_moved 25 = .ok (.iinc 3 1, 3) := dk_132 3 1 (dk_at dksX10_moved_1 1 rfl rfl)
theorem dX10_moved_28 : decode cX10_moved 28 = .ok (.goto (-24), 3) := dk_167 255 232 (dk_at dksX10_moved_1 4 rfl rfl)
theorem dX10_moved_31 : decode cX10_moved 31 = .ok (.iload_n 2, 1) := dk_28 (dk_at dksX10_moved_1 7 rfl rfl)
theorem dX10_moved_32 : decode cX10_moved 32 = .ok (.ireturn, 1) := dk_172 (dk_at dksX10_moved_1 8 rfl rfl)
abbrev cX10_bringBack : ByteArray := prog_32_method_56_code
def yX10_bringBack : MethodName := ⟨RX10, "bringBack", "(II)V"⟩
def dkwX10_bringBack_1 : List UInt8 := [17, 8, 0, 27, 104, 29, 96, 47, 80, 132, 3, 1, 167, 255, 222, 177]
abbrev dktX10_bringBack_1 : List UInt8 := dkwX10_bringBack_1 ++ []
def dkwX10_bringBack_0 : List UInt8 := [3, 62, 29, 17, 8, 0, 162, 0, 33, 42, 180, 0, 99, 17, 8, 0, 28, 104, 29, 96, 42, 180, 0, 99]
abbrev dktX10_bringBack_0 : List UInt8 := dkwX10_bringBack_0 ++ dktX10_bringBack_1
theorem dksX10_bringBack_0 : cX10_bringBack.data.toList.drop 0 = dktX10_bringBack_0 := by decide +kernel
theorem dksX10_bringBack_1 : cX10_bringBack.data.toList.drop 24 = dktX10_bringBack_1 := dk_seg dksX10_bringBack_0 24 rfl rfl
theorem dX10_bringBack_0 : decode cX10_bringBack 0 = .ok (.iconst 0, 1) := dk_3 (dk_at dksX10_bringBack_0 0 rfl rfl)
theorem dX10_bringBack_1 : decode cX10_bringBack 1 = .ok (.istore_n 3, 1) := dk_62 (dk_at dksX10_bringBack_0 1 rfl rfl)
theorem dX10_bringBack_2 : decode cX10_bringBack 2 = .ok (.iload_n 3, 1) := dk_29 (dk_at dksX10_bringBack_0 2 rfl rfl)
theorem dX10_bringBack_3 : decode cX10_bringBack 3 = .ok (.sipush 2048, 3) := dk_17 8 0 (dk_at dksX10_bringBack_0 3 rfl rfl)
theorem dX10_bringBack_6 : decode cX10_bringBack 6 = .ok (.if_icmp .ge 33, 3) := dk_162 0 33 (dk_at dksX10_bringBack_0 6 rfl rfl)
theorem dX10_bringBack_9 : decode cX10_bringBack 9 = .ok (.aload_n 0, 1) := dk_42 (dk_at dksX10_bringBack_0 9 rfl rfl)
theorem dX10_bringBack_10 : decode cX10_bringBack 10 = .ok (.getfield 99, 3) := dk_180 0 99 (dk_at dksX10_bringBack_0 10 rfl rfl)
theorem dX10_bringBack_13 : decode cX10_bringBack 13 = .ok (.sipush 2048, 3) := dk_17 8 0 (dk_at dksX10_bringBack_0 13 rfl rfl)
theorem dX10_bringBack_16 : decode cX10_bringBack 16 = .ok (.iload_n 2, 1) := dk_28 (dk_at dksX10_bringBack_0 16 rfl rfl)
theorem dX10_bringBack_17 : decode cX10_bringBack 17 = .ok (.imul, 1) := dk_104 (dk_at dksX10_bringBack_0 17 rfl rfl)
theorem dX10_bringBack_18 : decode cX10_bringBack 18 = .ok (.iload_n 3, 1) := dk_29 (dk_at dksX10_bringBack_0 18 rfl rfl)
theorem dX10_bringBack_19 : decode cX10_bringBack 19 = .ok (.iadd, 1) := dk_96 (dk_at dksX10_bringBack_0 19 rfl rfl)
theorem dX10_bringBack_20 : decode cX10_bringBack 20 = .ok (.aload_n 0, 1) := dk_42 (dk_at dksX10_bringBack_0 20 rfl rfl)
theorem dX10_bringBack_21 : decode cX10_bringBack 21 = .ok (.getfield 99, 3) := dk_180 0 99 (dk_at dksX10_bringBack_0 21 rfl rfl)
theorem dX10_bringBack_24 : decode cX10_bringBack 24 = .ok (.sipush 2048, 3) := dk_17 8 0 (dk_at dksX10_bringBack_1 0 rfl rfl)
theorem dX10_bringBack_27 : decode cX10_bringBack 27 = .ok (.iload_n 1, 1) := dk_27 (dk_at dksX10_bringBack_1 3 rfl rfl)
theorem dX10_bringBack_28 : decode cX10_bringBack 28 = .ok (.imul, 1) := dk_104 (dk_at dksX10_bringBack_1 4 rfl rfl)
theorem dX10_bringBack_29 : decode cX10_bringBack 29 = .ok (.iload_n 3, 1) := dk_29 (dk_at dksX10_bringBack_1 5 rfl rfl)
theorem dX10_bringBack_30 : decode cX10_bringBack 30 = .ok (.iadd, 1) := dk_96 (dk_at dksX10_bringBack_1 6 rfl rfl)
theorem dX10_bringBack_31 : decode cX10_bringBack 31 = .ok (.laload, 1) := dk_47 (dk_at dksX10_bringBack_1 7 rfl rfl)
theorem dX10_bringBack_32 : decode cX10_bringBack 32 = .ok (.lastore, 1) := dk_80 (dk_at dksX10_bringBack_1 8 rfl rfl)
theorem dX10_bringBack_33 : decode cX10_bringBack 33 = .ok (.iinc 3 1, 3) := dk_132 3 1 (dk_at dksX10_bringBack_1 9 rfl rfl)
theorem dX10_bringBack_36 : decode cX10_bringBack 36 = .ok (.goto (-34), 3) := dk_167 255 222 (dk_at dksX10_bringBack_1 12 rfl rfl)
theorem dX10_bringBack_39 : decode cX10_bringBack 39 = .ok (.return_, 1) := dk_177 (dk_at dksX10_bringBack_1 15 rfl rfl)
abbrev cX10_movedPlace : ByteArray := prog_32_method_53_code
def yX10_movedPlace : MethodName := ⟨RX10, "movedPlace", "(I)I"⟩
def dkwX10_movedPlace_0 : List UInt8 := [3, 61, 42, 180, 0, 92, 28, 46, 27, 159, 0, 9, 132, 2, 1, 167, 255, 243, 28, 172]
abbrev dktX10_movedPlace_0 : List UInt8 := dkwX10_movedPlace_0 ++ []
theorem dksX10_movedPlace_0 : cX10_movedPlace.data.toList.drop 0 = dktX10_movedPlace_0 := by decide +kernel
theorem dX10_movedPlace_0 : decode cX10_movedPlace 0 = .ok (.iconst 0, 1) := dk_3 (dk_at dksX10_movedPlace_0 0 rfl rfl)
theorem dX10_movedPlace_1 : decode cX10_movedPlace 1 = .ok (.istore_n 2, 1) := dk_61 (dk_at dksX10_movedPlace_0 1 rfl rfl)
theorem dX10_movedPlace_2 : decode cX10_movedPlace 2 = .ok (.aload_n 0, 1) := dk_42 (dk_at dksX10_movedPlace_0 2 rfl rfl)
theorem dX10_movedPlace_3 : decode cX10_movedPlace 3 = .ok (.getfield 92, 3) := dk_180 0 92 (dk_at dksX10_movedPlace_0 3 rfl rfl)
theorem dX10_movedPlace_6 : decode cX10_movedPlace 6 = .ok (.iload_n 2, 1) := dk_28 (dk_at dksX10_movedPlace_0 6 rfl rfl)
theorem dX10_movedPlace_7 : decode cX10_movedPlace 7 = .ok (.iaload, 1) := dk_46 (dk_at dksX10_movedPlace_0 7 rfl rfl)
theorem dX10_movedPlace_8 : decode cX10_movedPlace 8 = .ok (.iload_n 1, 1) := dk_27 (dk_at dksX10_movedPlace_0 8 rfl rfl)
theorem dX10_movedPlace_9 : decode cX10_movedPlace 9 = .ok (.if_icmp .eq 9, 3) := dk_159 0 9 (dk_at dksX10_movedPlace_0 9 rfl rfl)
theorem dX10_movedPlace_12 : decode cX10_movedPlace 12 = .ok (.iinc 2 1, 3) := dk_132 2 1 (dk_at dksX10_movedPlace_0 12 rfl rfl)
theorem dX10_movedPlace_15 : decode cX10_movedPlace 15 = .ok (.goto (-13), 3) := dk_167 255 243 (dk_at dksX10_movedPlace_0 15 rfl rfl)
theorem dX10_movedPlace_18 : decode cX10_movedPlace 18 = .ok (.iload_n 2, 1) := dk_28 (dk_at dksX10_movedPlace_0 18 rfl rfl)
theorem dX10_movedPlace_19 : decode cX10_movedPlace 19 = .ok (.ireturn, 1) := dk_172 (dk_at dksX10_movedPlace_0 19 rfl rfl)
abbrev cX10_leaf : ByteArray := prog_32_method_72_code
def yX10_leaf : MethodName := ⟨RX10, "leaf", "(I)V"⟩
def dkwX10_leaf_5 : List UInt8 := [177]
abbrev dktX10_leaf_5 : List UInt8 := dkwX10_leaf_5 ++ []
def dkwX10_leaf_4 : List UInt8 := [182, 2, 18, 148, 153, 0, 8, 42, 4, 181, 2, 22, 132, 3, 1, 167, 255, 205, 132, 2, 1, 167, 255, 189]
abbrev dktX10_leaf_4 : List UInt8 := dkwX10_leaf_4 ++ dktX10_leaf_5
def dkwX10_leaf_3 : List UInt8 := [180, 0, 123, 28, 46, 42, 180, 0, 123, 29, 46, 160, 0, 24, 42, 27, 28, 182, 2, 18, 42, 27, 29]
abbrev dktX10_leaf_3 : List UInt8 := dkwX10_leaf_3 ++ dktX10_leaf_4
def dkwX10_leaf_2 : List UInt8 := [42, 182, 1, 161, 162, 0, 65, 3, 62, 29, 28, 162, 0, 52, 42, 180, 2, 15, 154, 0, 18, 42]
abbrev dktX10_leaf_2 : List UInt8 := dkwX10_leaf_2 ++ dktX10_leaf_3
def dkwX10_leaf_1 : List UInt8 := [181, 2, 6, 132, 2, 1, 167, 255, 230, 42, 180, 1, 201, 154, 0, 8, 42, 27, 182, 2, 12, 3, 61, 28]
abbrev dktX10_leaf_1 : List UInt8 := dkwX10_leaf_1 ++ dktX10_leaf_2
def dkwX10_leaf_0 : List UInt8 := [3, 61, 28, 42, 182, 1, 161, 162, 0, 24, 42, 89, 180, 2, 6, 42, 27, 28, 182, 2, 9, 128]
abbrev dktX10_leaf_0 : List UInt8 := dkwX10_leaf_0 ++ dktX10_leaf_1
theorem dksX10_leaf_0 : cX10_leaf.data.toList.drop 0 = dktX10_leaf_0 := by decide +kernel
theorem dksX10_leaf_1 : cX10_leaf.data.toList.drop 22 = dktX10_leaf_1 := dk_seg dksX10_leaf_0 22 rfl rfl
theorem dksX10_leaf_2 : cX10_leaf.data.toList.drop 46 = dktX10_leaf_2 := dk_seg dksX10_leaf_1 24 rfl rfl
theorem dksX10_leaf_3 : cX10_leaf.data.toList.drop 68 = dktX10_leaf_3 := dk_seg dksX10_leaf_2 22 rfl rfl
theorem dksX10_leaf_4 : cX10_leaf.data.toList.drop 91 = dktX10_leaf_4 := dk_seg dksX10_leaf_3 23 rfl rfl
theorem dksX10_leaf_5 : cX10_leaf.data.toList.drop 115 = dktX10_leaf_5 := dk_seg dksX10_leaf_4 24 rfl rfl
theorem dX10_leaf_0 : decode cX10_leaf 0 = .ok (.iconst 0, 1) := dk_3 (dk_at dksX10_leaf_0 0 rfl rfl)
theorem dX10_leaf_1 : decode cX10_leaf 1 = .ok (.istore_n 2, 1) := dk_61 (dk_at dksX10_leaf_0 1 rfl rfl)
theorem dX10_leaf_2 : decode cX10_leaf 2 = .ok (.iload_n 2, 1) := dk_28 (dk_at dksX10_leaf_0 2 rfl rfl)
theorem dX10_leaf_3 : decode cX10_leaf 3 = .ok (.aload_n 0, 1) := dk_42 (dk_at dksX10_leaf_0 3 rfl rfl)
theorem dX10_leaf_4 : decode cX10_leaf 4 = .ok (.invokevirtual 417, 3) := dk_182 1 161 (dk_at dksX10_leaf_0 4 rfl rfl)
theorem dX10_leaf_7 : decode cX10_leaf 7 = .ok (.if_icmp .ge 24, 3) := dk_162 0 24 (dk_at dksX10_leaf_0 7 rfl rfl)
theorem dX10_leaf_10 : decode cX10_leaf 10 = .ok (.aload_n 0, 1) := dk_42 (dk_at dksX10_leaf_0 10 rfl rfl)
theorem dX10_leaf_11 : decode cX10_leaf 11 = .ok (.dup, 1) := dk_89 (dk_at dksX10_leaf_0 11 rfl rfl)
theorem dX10_leaf_12 : decode cX10_leaf 12 = .ok (.getfield 518, 3) := dk_180 2 6 (dk_at dksX10_leaf_0 12 rfl rfl)
theorem dX10_leaf_15 : decode cX10_leaf 15 = .ok (.aload_n 0, 1) := dk_42 (dk_at dksX10_leaf_0 15 rfl rfl)
theorem dX10_leaf_16 : decode cX10_leaf 16 = .ok (.iload_n 1, 1) := dk_27 (dk_at dksX10_leaf_0 16 rfl rfl)
theorem dX10_leaf_17 : decode cX10_leaf 17 = .ok (.iload_n 2, 1) := dk_28 (dk_at dksX10_leaf_0 17 rfl rfl)
theorem dX10_leaf_18 : decode cX10_leaf 18 = .ok (.invokevirtual 521, 3) := dk_182 2 9 (dk_at dksX10_leaf_0 18 rfl rfl)
theorem dX10_leaf_21 : decode cX10_leaf 21 = .ok (.ior, 1) := dk_128 (dk_at dksX10_leaf_0 21 rfl rfl)
theorem dX10_leaf_22 : decode cX10_leaf 22 = .ok (.putfield 518, 3) := dk_181 2 6 (dk_at dksX10_leaf_1 0 rfl rfl)
theorem dX10_leaf_25 : decode cX10_leaf 25 = .ok (.iinc 2 1, 3) := dk_132 2 1 (dk_at dksX10_leaf_1 3 rfl rfl)
theorem dX10_leaf_28 : decode cX10_leaf 28 = .ok (.goto (-26), 3) := dk_167 255 230 (dk_at dksX10_leaf_1 6 rfl rfl)
theorem dX10_leaf_31 : decode cX10_leaf 31 = .ok (.aload_n 0, 1) := dk_42 (dk_at dksX10_leaf_1 9 rfl rfl)
theorem dX10_leaf_32 : decode cX10_leaf 32 = .ok (.getfield 457, 3) := dk_180 1 201 (dk_at dksX10_leaf_1 10 rfl rfl)
theorem dX10_leaf_35 : decode cX10_leaf 35 = .ok (.ifCond .ne 8, 3) := dk_154 0 8 (dk_at dksX10_leaf_1 13 rfl rfl)
theorem dX10_leaf_38 : decode cX10_leaf 38 = .ok (.aload_n 0, 1) := dk_42 (dk_at dksX10_leaf_1 16 rfl rfl)
theorem dX10_leaf_39 : decode cX10_leaf 39 = .ok (.iload_n 1, 1) := dk_27 (dk_at dksX10_leaf_1 17 rfl rfl)
theorem dX10_leaf_40 : decode cX10_leaf 40 = .ok (.invokevirtual 524, 3) := dk_182 2 12 (dk_at dksX10_leaf_1 18 rfl rfl)
theorem dX10_leaf_43 : decode cX10_leaf 43 = .ok (.iconst 0, 1) := dk_3 (dk_at dksX10_leaf_1 21 rfl rfl)
theorem dX10_leaf_44 : decode cX10_leaf 44 = .ok (.istore_n 2, 1) := dk_61 (dk_at dksX10_leaf_1 22 rfl rfl)
theorem dX10_leaf_45 : decode cX10_leaf 45 = .ok (.iload_n 2, 1) := dk_28 (dk_at dksX10_leaf_1 23 rfl rfl)
theorem dX10_leaf_46 : decode cX10_leaf 46 = .ok (.aload_n 0, 1) := dk_42 (dk_at dksX10_leaf_2 0 rfl rfl)
theorem dX10_leaf_47 : decode cX10_leaf 47 = .ok (.invokevirtual 417, 3) := dk_182 1 161 (dk_at dksX10_leaf_2 1 rfl rfl)
theorem dX10_leaf_50 : decode cX10_leaf 50 = .ok (.if_icmp .ge 65, 3) := dk_162 0 65 (dk_at dksX10_leaf_2 4 rfl rfl)
theorem dX10_leaf_53 : decode cX10_leaf 53 = .ok (.iconst 0, 1) := dk_3 (dk_at dksX10_leaf_2 7 rfl rfl)
theorem dX10_leaf_54 : decode cX10_leaf 54 = .ok (.istore_n 3, 1) := dk_62 (dk_at dksX10_leaf_2 8 rfl rfl)
theorem dX10_leaf_55 : decode cX10_leaf 55 = .ok (.iload_n 3, 1) := dk_29 (dk_at dksX10_leaf_2 9 rfl rfl)
theorem dX10_leaf_56 : decode cX10_leaf 56 = .ok (.iload_n 2, 1) := dk_28 (dk_at dksX10_leaf_2 10 rfl rfl)
theorem dX10_leaf_57 : decode cX10_leaf 57 = .ok (.if_icmp .ge 52, 3) := dk_162 0 52 (dk_at dksX10_leaf_2 11 rfl rfl)
theorem dX10_leaf_60 : decode cX10_leaf 60 = .ok (.aload_n 0, 1) := dk_42 (dk_at dksX10_leaf_2 14 rfl rfl)
theorem dX10_leaf_61 : decode cX10_leaf 61 = .ok (.getfield 527, 3) := dk_180 2 15 (dk_at dksX10_leaf_2 15 rfl rfl)
theorem dX10_leaf_64 : decode cX10_leaf 64 = .ok (.ifCond .ne 18, 3) := dk_154 0 18 (dk_at dksX10_leaf_2 18 rfl rfl)
theorem dX10_leaf_67 : decode cX10_leaf 67 = .ok (.aload_n 0, 1) := dk_42 (dk_at dksX10_leaf_2 21 rfl rfl)
theorem dX10_leaf_68 : decode cX10_leaf 68 = .ok (.getfield 123, 3) := dk_180 0 123 (dk_at dksX10_leaf_3 0 rfl rfl)
theorem dX10_leaf_71 : decode cX10_leaf 71 = .ok (.iload_n 2, 1) := dk_28 (dk_at dksX10_leaf_3 3 rfl rfl)
theorem dX10_leaf_72 : decode cX10_leaf 72 = .ok (.iaload, 1) := dk_46 (dk_at dksX10_leaf_3 4 rfl rfl)
theorem dX10_leaf_73 : decode cX10_leaf 73 = .ok (.aload_n 0, 1) := dk_42 (dk_at dksX10_leaf_3 5 rfl rfl)
theorem dX10_leaf_74 : decode cX10_leaf 74 = .ok (.getfield 123, 3) := dk_180 0 123 (dk_at dksX10_leaf_3 6 rfl rfl)
theorem dX10_leaf_77 : decode cX10_leaf 77 = .ok (.iload_n 3, 1) := dk_29 (dk_at dksX10_leaf_3 9 rfl rfl)
theorem dX10_leaf_78 : decode cX10_leaf 78 = .ok (.iaload, 1) := dk_46 (dk_at dksX10_leaf_3 10 rfl rfl)
theorem dX10_leaf_79 : decode cX10_leaf 79 = .ok (.if_icmp .ne 24, 3) := dk_160 0 24 (dk_at dksX10_leaf_3 11 rfl rfl)
theorem dX10_leaf_82 : decode cX10_leaf 82 = .ok (.aload_n 0, 1) := dk_42 (dk_at dksX10_leaf_3 14 rfl rfl)
theorem dX10_leaf_83 : decode cX10_leaf 83 = .ok (.iload_n 1, 1) := dk_27 (dk_at dksX10_leaf_3 15 rfl rfl)
theorem dX10_leaf_84 : decode cX10_leaf 84 = .ok (.iload_n 2, 1) := dk_28 (dk_at dksX10_leaf_3 16 rfl rfl)
theorem dX10_leaf_85 : decode cX10_leaf 85 = .ok (.invokevirtual 530, 3) := dk_182 2 18 (dk_at dksX10_leaf_3 17 rfl rfl)
theorem dX10_leaf_88 : decode cX10_leaf 88 = .ok (.aload_n 0, 1) := dk_42 (dk_at dksX10_leaf_3 20 rfl rfl)
theorem dX10_leaf_89 : decode cX10_leaf 89 = .ok (.iload_n 1, 1) := dk_27 (dk_at dksX10_leaf_3 21 rfl rfl)
theorem dX10_leaf_90 : decode cX10_leaf 90 = .ok (.iload_n 3, 1) := dk_29 (dk_at dksX10_leaf_3 22 rfl rfl)
theorem dX10_leaf_91 : decode cX10_leaf 91 = .ok (.invokevirtual 530, 3) := dk_182 2 18 (dk_at dksX10_leaf_4 0 rfl rfl)
theorem dX10_leaf_94 : decode cX10_leaf 94 = .ok (.lcmp, 1) := dk_148 (dk_at dksX10_leaf_4 3 rfl rfl)
theorem dX10_leaf_95 : decode cX10_leaf 95 = .ok (.ifCond .eq 8, 3) := dk_153 0 8 (dk_at dksX10_leaf_4 4 rfl rfl)
theorem dX10_leaf_98 : decode cX10_leaf 98 = .ok (.aload_n 0, 1) := dk_42 (dk_at dksX10_leaf_4 7 rfl rfl)
theorem dX10_leaf_99 : decode cX10_leaf 99 = .ok (.iconst 1, 1) := dk_4 (dk_at dksX10_leaf_4 8 rfl rfl)
theorem dX10_leaf_100 : decode cX10_leaf 100 = .ok (.putfield 534, 3) := dk_181 2 22 (dk_at dksX10_leaf_4 9 rfl rfl)
theorem dX10_leaf_103 : decode cX10_leaf 103 = .ok (.iinc 3 1, 3) := dk_132 3 1 (dk_at dksX10_leaf_4 12 rfl rfl)
theorem dX10_leaf_106 : decode cX10_leaf 106 = .ok (.goto (-51), 3) := dk_167 255 205 (dk_at dksX10_leaf_4 15 rfl rfl)
theorem dX10_leaf_109 : decode cX10_leaf 109 = .ok (.iinc 2 1, 3) := dk_132 2 1 (dk_at dksX10_leaf_4 18 rfl rfl)
theorem dX10_leaf_112 : decode cX10_leaf 112 = .ok (.goto (-67), 3) := dk_167 255 189 (dk_at dksX10_leaf_4 21 rfl rfl)
theorem dX10_leaf_115 : decode cX10_leaf 115 = .ok (.return_, 1) := dk_177 (dk_at dksX10_leaf_5 0 rfl rfl)
abbrev cX10_endsOf : ByteArray := prog_32_method_73_code
def yX10_endsOf : MethodName := ⟨RX10, "endsOf", "(II)I"⟩
def dkwX10_endsOf_6 : List UInt8 := [16, 10, 167, 0, 5, 21, 6, 54, 8, 29, 4, 21, 8, 120, 128, 62, 132, 5, 1, 167, 255, 107, 29, 172]
abbrev dktX10_endsOf_6 : List UInt8 := dkwX10_endsOf_6 ++ []
def dkwX10_endsOf_5 : List UInt8 := [167, 0, 31, 16, 11, 167, 0, 26, 42, 180, 0, 117, 27, 46, 153, 0, 10, 21, 6, 21, 7, 160, 0, 8]
abbrev dktX10_endsOf_5 : List UInt8 := dkwX10_endsOf_5 ++ dktX10_endsOf_6
def dkwX10_endsOf_4 : List UInt8 := [5, 160, 0, 30, 42, 180, 0, 55, 21, 4, 46, 16, 9, 163, 0, 13, 42, 180, 0, 55, 21, 4, 46]
abbrev dktX10_endsOf_4 : List UInt8 := dkwX10_endsOf_4 ++ dktX10_endsOf_5
def dkwX10_endsOf_3 : List UInt8 := [21, 5, 42, 180, 0, 58, 21, 4, 46, 122, 4, 126, 167, 0, 4, 3, 54, 7, 42, 180, 0, 117, 27, 46]
abbrev dktX10_endsOf_3 : List UInt8 := dkwX10_endsOf_3 ++ dktX10_endsOf_4
def dkwX10_endsOf_2 : List UInt8 := [21, 5, 42, 180, 0, 55, 21, 4, 46, 122, 4, 126, 54, 6, 42, 180, 0, 117, 27, 46, 4, 160, 0, 18]
abbrev dktX10_endsOf_2 : List UInt8 := dkwX10_endsOf_2 ++ dktX10_endsOf_3
def dkwX10_endsOf_1 : List UInt8 := [17, 8, 0, 27, 104, 17, 1, 0, 28, 104, 96, 21, 5, 96, 47, 9, 148, 154, 0, 6, 167, 0, 114]
abbrev dktX10_endsOf_1 : List UInt8 := dkwX10_endsOf_1 ++ dktX10_endsOf_2
def dkwX10_endsOf_0 : List UInt8 := [3, 62, 42, 180, 1, 212, 54, 4, 3, 54, 5, 21, 5, 17, 1, 0, 162, 0, 147, 42, 180, 0, 99]
abbrev dktX10_endsOf_0 : List UInt8 := dkwX10_endsOf_0 ++ dktX10_endsOf_1
theorem dksX10_endsOf_0 : cX10_endsOf.data.toList.drop 0 = dktX10_endsOf_0 := by decide +kernel
theorem dksX10_endsOf_1 : cX10_endsOf.data.toList.drop 23 = dktX10_endsOf_1 := dk_seg dksX10_endsOf_0 23 rfl rfl
theorem dksX10_endsOf_2 : cX10_endsOf.data.toList.drop 46 = dktX10_endsOf_2 := dk_seg dksX10_endsOf_1 23 rfl rfl
theorem dksX10_endsOf_3 : cX10_endsOf.data.toList.drop 70 = dktX10_endsOf_3 := dk_seg dksX10_endsOf_2 24 rfl rfl
theorem dksX10_endsOf_4 : cX10_endsOf.data.toList.drop 94 = dktX10_endsOf_4 := dk_seg dksX10_endsOf_3 24 rfl rfl
theorem dksX10_endsOf_5 : cX10_endsOf.data.toList.drop 117 = dktX10_endsOf_5 := dk_seg dksX10_endsOf_4 23 rfl rfl
theorem dksX10_endsOf_6 : cX10_endsOf.data.toList.drop 141 = dktX10_endsOf_6 := dk_seg dksX10_endsOf_5 24 rfl rfl
theorem dX10_endsOf_0 : decode cX10_endsOf 0 = .ok (.iconst 0, 1) := dk_3 (dk_at dksX10_endsOf_0 0 rfl rfl)
theorem dX10_endsOf_1 : decode cX10_endsOf 1 = .ok (.istore_n 3, 1) := dk_62 (dk_at dksX10_endsOf_0 1 rfl rfl)
theorem dX10_endsOf_2 : decode cX10_endsOf 2 = .ok (.aload_n 0, 1) := dk_42 (dk_at dksX10_endsOf_0 2 rfl rfl)
theorem dX10_endsOf_3 : decode cX10_endsOf 3 = .ok (.getfield 468, 3) := dk_180 1 212 (dk_at dksX10_endsOf_0 3 rfl rfl)
theorem dX10_endsOf_6 : decode cX10_endsOf 6 = .ok (.istore 4, 2) := dk_54 4 (dk_at dksX10_endsOf_0 6 rfl rfl)
theorem dX10_endsOf_8 : decode cX10_endsOf 8 = .ok (.iconst 0, 1) := dk_3 (dk_at dksX10_endsOf_0 8 rfl rfl)
theorem dX10_endsOf_9 : decode cX10_endsOf 9 = .ok (.istore 5, 2) := dk_54 5 (dk_at dksX10_endsOf_0 9 rfl rfl)
theorem dX10_endsOf_11 : decode cX10_endsOf 11 = .ok (.iload 5, 2) := dk_21 5 (dk_at dksX10_endsOf_0 11 rfl rfl)
theorem dX10_endsOf_13 : decode cX10_endsOf 13 = .ok (.sipush 256, 3) := dk_17 1 0 (dk_at dksX10_endsOf_0 13 rfl rfl)
theorem dX10_endsOf_16 : decode cX10_endsOf 16 = .ok (.if_icmp .ge 147, 3) := dk_162 0 147 (dk_at dksX10_endsOf_0 16 rfl rfl)
theorem dX10_endsOf_19 : decode cX10_endsOf 19 = .ok (.aload_n 0, 1) := dk_42 (dk_at dksX10_endsOf_0 19 rfl rfl)
theorem dX10_endsOf_20 : decode cX10_endsOf 20 = .ok (.getfield 99, 3) := dk_180 0 99 (dk_at dksX10_endsOf_0 20 rfl rfl)
theorem dX10_endsOf_23 : decode cX10_endsOf 23 = .ok (.sipush 2048, 3) := dk_17 8 0 (dk_at dksX10_endsOf_1 0 rfl rfl)
theorem dX10_endsOf_26 : decode cX10_endsOf 26 = .ok (.iload_n 1, 1) := dk_27 (dk_at dksX10_endsOf_1 3 rfl rfl)
theorem dX10_endsOf_27 : decode cX10_endsOf 27 = .ok (.imul, 1) := dk_104 (dk_at dksX10_endsOf_1 4 rfl rfl)
theorem dX10_endsOf_28 : decode cX10_endsOf 28 = .ok (.sipush 256, 3) := dk_17 1 0 (dk_at dksX10_endsOf_1 5 rfl rfl)
theorem dX10_endsOf_31 : decode cX10_endsOf 31 = .ok (.iload_n 2, 1) := dk_28 (dk_at dksX10_endsOf_1 8 rfl rfl)
theorem dX10_endsOf_32 : decode cX10_endsOf 32 = .ok (.imul, 1) := dk_104 (dk_at dksX10_endsOf_1 9 rfl rfl)
theorem dX10_endsOf_33 : decode cX10_endsOf 33 = .ok (.iadd, 1) := dk_96 (dk_at dksX10_endsOf_1 10 rfl rfl)
theorem dX10_endsOf_34 : decode cX10_endsOf 34 = .ok (.iload 5, 2) := dk_21 5 (dk_at dksX10_endsOf_1 11 rfl rfl)
theorem dX10_endsOf_36 : decode cX10_endsOf 36 = .ok (.iadd, 1) := dk_96 (dk_at dksX10_endsOf_1 13 rfl rfl)
theorem dX10_endsOf_37 : decode cX10_endsOf 37 = .ok (.laload, 1) := dk_47 (dk_at dksX10_endsOf_1 14 rfl rfl)
theorem dX10_endsOf_38 : decode cX10_endsOf 38 = .ok (.lconst 0, 1) := dk_9 (dk_at dksX10_endsOf_1 15 rfl rfl)
theorem dX10_endsOf_39 : decode cX10_endsOf 39 = .ok (.lcmp, 1) := dk_148 (dk_at dksX10_endsOf_1 16 rfl rfl)
theorem dX10_endsOf_40 : decode cX10_endsOf 40 = .ok (.ifCond .ne 6, 3) := dk_154 0 6 (dk_at dksX10_endsOf_1 17 rfl rfl)
theorem dX10_endsOf_43 : decode cX10_endsOf 43 = .ok (.goto 114, 3) := dk_167 0 114 (dk_at dksX10_endsOf_1 20 rfl rfl)
theorem dX10_endsOf_46 : decode cX10_endsOf 46 = .ok (.iload 5, 2) := dk_21 5 (dk_at dksX10_endsOf_2 0 rfl rfl)
theorem dX10_endsOf_48 : decode cX10_endsOf 48 = .ok (.aload_n 0, 1) := dk_42 (dk_at dksX10_endsOf_2 2 rfl rfl)
theorem dX10_endsOf_49 : decode cX10_endsOf 49 = .ok (.getfield 55, 3) := dk_180 0 55 (dk_at dksX10_endsOf_2 3 rfl rfl)
theorem dX10_endsOf_52 : decode cX10_endsOf 52 = .ok (.iload 4, 2) := dk_21 4 (dk_at dksX10_endsOf_2 6 rfl rfl)
theorem dX10_endsOf_54 : decode cX10_endsOf 54 = .ok (.iaload, 1) := dk_46 (dk_at dksX10_endsOf_2 8 rfl rfl)
theorem dX10_endsOf_55 : decode cX10_endsOf 55 = .ok (.ishr, 1) := dk_122 (dk_at dksX10_endsOf_2 9 rfl rfl)
theorem dX10_endsOf_56 : decode cX10_endsOf 56 = .ok (.iconst 1, 1) := dk_4 (dk_at dksX10_endsOf_2 10 rfl rfl)
theorem dX10_endsOf_57 : decode cX10_endsOf 57 = .ok (.iand, 1) := dk_126 (dk_at dksX10_endsOf_2 11 rfl rfl)
theorem dX10_endsOf_58 : decode cX10_endsOf 58 = .ok (.istore 6, 2) := dk_54 6 (dk_at dksX10_endsOf_2 12 rfl rfl)
theorem dX10_endsOf_60 : decode cX10_endsOf 60 = .ok (.aload_n 0, 1) := dk_42 (dk_at dksX10_endsOf_2 14 rfl rfl)
theorem dX10_endsOf_61 : decode cX10_endsOf 61 = .ok (.getfield 117, 3) := dk_180 0 117 (dk_at dksX10_endsOf_2 15 rfl rfl)
theorem dX10_endsOf_64 : decode cX10_endsOf 64 = .ok (.iload_n 1, 1) := dk_27 (dk_at dksX10_endsOf_2 18 rfl rfl)
theorem dX10_endsOf_65 : decode cX10_endsOf 65 = .ok (.iaload, 1) := dk_46 (dk_at dksX10_endsOf_2 19 rfl rfl)
theorem dX10_endsOf_66 : decode cX10_endsOf 66 = .ok (.iconst 1, 1) := dk_4 (dk_at dksX10_endsOf_2 20 rfl rfl)
theorem dX10_endsOf_67 : decode cX10_endsOf 67 = .ok (.if_icmp .ne 18, 3) := dk_160 0 18 (dk_at dksX10_endsOf_2 21 rfl rfl)
theorem dX10_endsOf_70 : decode cX10_endsOf 70 = .ok (.iload 5, 2) := dk_21 5 (dk_at dksX10_endsOf_3 0 rfl rfl)
theorem dX10_endsOf_72 : decode cX10_endsOf 72 = .ok (.aload_n 0, 1) := dk_42 (dk_at dksX10_endsOf_3 2 rfl rfl)
theorem dX10_endsOf_73 : decode cX10_endsOf 73 = .ok (.getfield 58, 3) := dk_180 0 58 (dk_at dksX10_endsOf_3 3 rfl rfl)
theorem dX10_endsOf_76 : decode cX10_endsOf 76 = .ok (.iload 4, 2) := dk_21 4 (dk_at dksX10_endsOf_3 6 rfl rfl)
theorem dX10_endsOf_78 : decode cX10_endsOf 78 = .ok (.iaload, 1) := dk_46 (dk_at dksX10_endsOf_3 8 rfl rfl)
theorem dX10_endsOf_79 : decode cX10_endsOf 79 = .ok (.ishr, 1) := dk_122 (dk_at dksX10_endsOf_3 9 rfl rfl)
theorem dX10_endsOf_80 : decode cX10_endsOf 80 = .ok (.iconst 1, 1) := dk_4 (dk_at dksX10_endsOf_3 10 rfl rfl)
theorem dX10_endsOf_81 : decode cX10_endsOf 81 = .ok (.iand, 1) := dk_126 (dk_at dksX10_endsOf_3 11 rfl rfl)
theorem dX10_endsOf_82 : decode cX10_endsOf 82 = .ok (.goto 4, 3) := dk_167 0 4 (dk_at dksX10_endsOf_3 12 rfl rfl)
theorem dX10_endsOf_85 : decode cX10_endsOf 85 = .ok (.iconst 0, 1) := dk_3 (dk_at dksX10_endsOf_3 15 rfl rfl)
theorem dX10_endsOf_86 : decode cX10_endsOf 86 = .ok (.istore 7, 2) := dk_54 7 (dk_at dksX10_endsOf_3 16 rfl rfl)
theorem dX10_endsOf_88 : decode cX10_endsOf 88 = .ok (.aload_n 0, 1) := dk_42 (dk_at dksX10_endsOf_3 18 rfl rfl)
theorem dX10_endsOf_89 : decode cX10_endsOf 89 = .ok (.getfield 117, 3) := dk_180 0 117 (dk_at dksX10_endsOf_3 19 rfl rfl)
theorem dX10_endsOf_92 : decode cX10_endsOf 92 = .ok (.iload_n 1, 1) := dk_27 (dk_at dksX10_endsOf_3 22 rfl rfl)
theorem dX10_endsOf_93 : decode cX10_endsOf 93 = .ok (.iaload, 1) := dk_46 (dk_at dksX10_endsOf_3 23 rfl rfl)
theorem dX10_endsOf_94 : decode cX10_endsOf 94 = .ok (.iconst 2, 1) := dk_5 (dk_at dksX10_endsOf_4 0 rfl rfl)
theorem dX10_endsOf_95 : decode cX10_endsOf 95 = .ok (.if_icmp .ne 30, 3) := dk_160 0 30 (dk_at dksX10_endsOf_4 1 rfl rfl)
theorem dX10_endsOf_98 : decode cX10_endsOf 98 = .ok (.aload_n 0, 1) := dk_42 (dk_at dksX10_endsOf_4 4 rfl rfl)
theorem dX10_endsOf_99 : decode cX10_endsOf 99 = .ok (.getfield 55, 3) := dk_180 0 55 (dk_at dksX10_endsOf_4 5 rfl rfl)
theorem dX10_endsOf_102 : decode cX10_endsOf 102 = .ok (.iload 4, 2) := dk_21 4 (dk_at dksX10_endsOf_4 8 rfl rfl)
theorem dX10_endsOf_104 : decode cX10_endsOf 104 = .ok (.iaload, 1) := dk_46 (dk_at dksX10_endsOf_4 10 rfl rfl)
theorem dX10_endsOf_105 : decode cX10_endsOf 105 = .ok (.bipush 9, 2) := dk_16 9 (dk_at dksX10_endsOf_4 11 rfl rfl)
theorem dX10_endsOf_107 : decode cX10_endsOf 107 = .ok (.if_icmp .gt 13, 3) := dk_163 0 13 (dk_at dksX10_endsOf_4 13 rfl rfl)
theorem dX10_endsOf_110 : decode cX10_endsOf 110 = .ok (.aload_n 0, 1) := dk_42 (dk_at dksX10_endsOf_4 16 rfl rfl)
theorem dX10_endsOf_111 : decode cX10_endsOf 111 = .ok (.getfield 55, 3) := dk_180 0 55 (dk_at dksX10_endsOf_4 17 rfl rfl)
theorem dX10_endsOf_114 : decode cX10_endsOf 114 = .ok (.iload 4, 2) := dk_21 4 (dk_at dksX10_endsOf_4 20 rfl rfl)
theorem dX10_endsOf_116 : decode cX10_endsOf 116 = .ok (.iaload, 1) := dk_46 (dk_at dksX10_endsOf_4 22 rfl rfl)
theorem dX10_endsOf_117 : decode cX10_endsOf 117 = .ok (.goto 31, 3) := dk_167 0 31 (dk_at dksX10_endsOf_5 0 rfl rfl)
theorem dX10_endsOf_120 : decode cX10_endsOf 120 = .ok (.bipush 11, 2) := dk_16 11 (dk_at dksX10_endsOf_5 3 rfl rfl)
theorem dX10_endsOf_122 : decode cX10_endsOf 122 = .ok (.goto 26, 3) := dk_167 0 26 (dk_at dksX10_endsOf_5 5 rfl rfl)
theorem dX10_endsOf_125 : decode cX10_endsOf 125 = .ok (.aload_n 0, 1) := dk_42 (dk_at dksX10_endsOf_5 8 rfl rfl)
theorem dX10_endsOf_126 : decode cX10_endsOf 126 = .ok (.getfield 117, 3) := dk_180 0 117 (dk_at dksX10_endsOf_5 9 rfl rfl)
theorem dX10_endsOf_129 : decode cX10_endsOf 129 = .ok (.iload_n 1, 1) := dk_27 (dk_at dksX10_endsOf_5 12 rfl rfl)
theorem dX10_endsOf_130 : decode cX10_endsOf 130 = .ok (.iaload, 1) := dk_46 (dk_at dksX10_endsOf_5 13 rfl rfl)
theorem dX10_endsOf_131 : decode cX10_endsOf 131 = .ok (.ifCond .eq 10, 3) := dk_153 0 10 (dk_at dksX10_endsOf_5 14 rfl rfl)
theorem dX10_endsOf_134 : decode cX10_endsOf 134 = .ok (.iload 6, 2) := dk_21 6 (dk_at dksX10_endsOf_5 17 rfl rfl)
theorem dX10_endsOf_136 : decode cX10_endsOf 136 = .ok (.iload 7, 2) := dk_21 7 (dk_at dksX10_endsOf_5 19 rfl rfl)
theorem dX10_endsOf_138 : decode cX10_endsOf 138 = .ok (.if_icmp .ne 8, 3) := dk_160 0 8 (dk_at dksX10_endsOf_5 21 rfl rfl)
theorem dX10_endsOf_141 : decode cX10_endsOf 141 = .ok (.bipush 10, 2) := dk_16 10 (dk_at dksX10_endsOf_6 0 rfl rfl)
theorem dX10_endsOf_143 : decode cX10_endsOf 143 = .ok (.goto 5, 3) := dk_167 0 5 (dk_at dksX10_endsOf_6 2 rfl rfl)
theorem dX10_endsOf_146 : decode cX10_endsOf 146 = .ok (.iload 6, 2) := dk_21 6 (dk_at dksX10_endsOf_6 5 rfl rfl)
theorem dX10_endsOf_148 : decode cX10_endsOf 148 = .ok (.istore 8, 2) := dk_54 8 (dk_at dksX10_endsOf_6 7 rfl rfl)
theorem dX10_endsOf_150 : decode cX10_endsOf 150 = .ok (.iload_n 3, 1) := dk_29 (dk_at dksX10_endsOf_6 9 rfl rfl)
theorem dX10_endsOf_151 : decode cX10_endsOf 151 = .ok (.iconst 1, 1) := dk_4 (dk_at dksX10_endsOf_6 10 rfl rfl)
theorem dX10_endsOf_152 : decode cX10_endsOf 152 = .ok (.iload 8, 2) := dk_21 8 (dk_at dksX10_endsOf_6 11 rfl rfl)
theorem dX10_endsOf_154 : decode cX10_endsOf 154 = .ok (.ishl, 1) := dk_120 (dk_at dksX10_endsOf_6 13 rfl rfl)
theorem dX10_endsOf_155 : decode cX10_endsOf 155 = .ok (.ior, 1) := dk_128 (dk_at dksX10_endsOf_6 14 rfl rfl)
theorem dX10_endsOf_156 : decode cX10_endsOf 156 = .ok (.istore_n 3, 1) := dk_62 (dk_at dksX10_endsOf_6 15 rfl rfl)
theorem dX10_endsOf_157 : decode cX10_endsOf 157 = .ok (.iinc 5 1, 3) := dk_132 5 1 (dk_at dksX10_endsOf_6 16 rfl rfl)
theorem dX10_endsOf_160 : decode cX10_endsOf 160 = .ok (.goto (-149), 3) := dk_167 255 107 (dk_at dksX10_endsOf_6 19 rfl rfl)
theorem dX10_endsOf_163 : decode cX10_endsOf 163 = .ok (.iload_n 3, 1) := dk_29 (dk_at dksX10_endsOf_6 22 rfl rfl)
theorem dX10_endsOf_164 : decode cX10_endsOf 164 = .ok (.ireturn, 1) := dk_172 (dk_at dksX10_endsOf_6 23 rfl rfl)
abbrev cX10_keepPath : ByteArray := prog_32_method_74_code
def yX10_keepPath : MethodName := ⟨RX10, "keepPath", "(I)V"⟩
def dkwX10_keepPath_8 : List UInt8 := [42, 180, 0, 55, 42, 180, 1, 212, 46, 167, 0, 4, 2, 79, 177]
abbrev dktX10_keepPath_8 : List UInt8 := dkwX10_keepPath_8 ++ []
def dkwX10_keepPath_7 : List UInt8 := [180, 0, 102, 27, 47, 80, 42, 180, 0, 135, 42, 180, 1, 244, 42, 180, 0, 117, 27, 46, 5, 160, 0, 15]
abbrev dktX10_keepPath_7 : List UInt8 := dkwX10_keepPath_7 ++ dktX10_keepPath_8
def dkwX10_keepPath_6 : List UInt8 := [182, 2, 9, 167, 0, 4, 3, 79, 132, 2, 1, 167, 255, 183, 42, 180, 0, 141, 42, 180, 1, 244, 42]
abbrev dktX10_keepPath_6 : List UInt8 := dkwX10_keepPath_6 ++ dktX10_keepPath_7
def dkwX10_keepPath_5 : List UInt8 := [180, 0, 132, 16, 8, 42, 180, 1, 244, 104, 28, 96, 28, 42, 182, 1, 161, 162, 0, 12, 42, 27, 28]
abbrev dktX10_keepPath_5 : List UInt8 := dkwX10_keepPath_5 ++ dktX10_keepPath_6
def dkwX10_keepPath_4 : List UInt8 := [104, 28, 96, 28, 42, 182, 1, 161, 162, 0, 12, 42, 27, 28, 182, 2, 18, 167, 0, 4, 9, 80, 42]
abbrev dktX10_keepPath_4 : List UInt8 := dkwX10_keepPath_4 ++ dktX10_keepPath_5
def dkwX10_keepPath_3 : List UInt8 := [132, 2, 1, 167, 255, 205, 3, 61, 28, 16, 8, 162, 0, 73, 42, 180, 0, 138, 16, 8, 42, 180, 1, 244]
abbrev dktX10_keepPath_3 : List UInt8 := dkwX10_keepPath_3 ++ dktX10_keepPath_4
def dkwX10_keepPath_2 : List UInt8 := [96, 42, 180, 0, 120, 28, 46, 4, 100, 79, 42, 180, 0, 126, 42, 180, 1, 244, 92, 46, 4, 96, 79]
abbrev dktX10_keepPath_2 : List UInt8 := dkwX10_keepPath_2 ++ dktX10_keepPath_3
def dkwX10_keepPath_1 : List UInt8 := [27, 162, 0, 52, 42, 180, 0, 129, 16, 6, 42, 180, 1, 244, 104, 42, 180, 0, 126, 42, 180, 1, 244, 46]
abbrev dktX10_keepPath_1 : List UInt8 := dkwX10_keepPath_1 ++ dktX10_keepPath_2
def dkwX10_keepPath_0 : List UInt8 := [42, 180, 1, 244, 17, 0, 200, 161, 0, 4, 177, 42, 180, 0, 126, 42, 180, 1, 244, 3, 79, 3, 61, 28]
abbrev dktX10_keepPath_0 : List UInt8 := dkwX10_keepPath_0 ++ dktX10_keepPath_1
theorem dksX10_keepPath_0 : cX10_keepPath.data.toList.drop 0 = dktX10_keepPath_0 := by decide +kernel
theorem dksX10_keepPath_1 : cX10_keepPath.data.toList.drop 24 = dktX10_keepPath_1 := dk_seg dksX10_keepPath_0 24 rfl rfl
theorem dksX10_keepPath_2 : cX10_keepPath.data.toList.drop 48 = dktX10_keepPath_2 := dk_seg dksX10_keepPath_1 24 rfl rfl
theorem dksX10_keepPath_3 : cX10_keepPath.data.toList.drop 71 = dktX10_keepPath_3 := dk_seg dksX10_keepPath_2 23 rfl rfl
theorem dksX10_keepPath_4 : cX10_keepPath.data.toList.drop 95 = dktX10_keepPath_4 := dk_seg dksX10_keepPath_3 24 rfl rfl
theorem dksX10_keepPath_5 : cX10_keepPath.data.toList.drop 118 = dktX10_keepPath_5 := dk_seg dksX10_keepPath_4 23 rfl rfl
theorem dksX10_keepPath_6 : cX10_keepPath.data.toList.drop 141 = dktX10_keepPath_6 := dk_seg dksX10_keepPath_5 23 rfl rfl
theorem dksX10_keepPath_7 : cX10_keepPath.data.toList.drop 164 = dktX10_keepPath_7 := dk_seg dksX10_keepPath_6 23 rfl rfl
theorem dksX10_keepPath_8 : cX10_keepPath.data.toList.drop 188 = dktX10_keepPath_8 := dk_seg dksX10_keepPath_7 24 rfl rfl
theorem dX10_keepPath_0 : decode cX10_keepPath 0 = .ok (.aload_n 0, 1) := dk_42 (dk_at dksX10_keepPath_0 0 rfl rfl)
theorem dX10_keepPath_1 : decode cX10_keepPath 1 = .ok (.getfield 500, 3) := dk_180 1 244 (dk_at dksX10_keepPath_0 1 rfl rfl)
theorem dX10_keepPath_4 : decode cX10_keepPath 4 = .ok (.sipush 200, 3) := dk_17 0 200 (dk_at dksX10_keepPath_0 4 rfl rfl)
theorem dX10_keepPath_7 : decode cX10_keepPath 7 = .ok (.if_icmp .lt 4, 3) := dk_161 0 4 (dk_at dksX10_keepPath_0 7 rfl rfl)
theorem dX10_keepPath_10 : decode cX10_keepPath 10 = .ok (.return_, 1) := dk_177 (dk_at dksX10_keepPath_0 10 rfl rfl)
theorem dX10_keepPath_11 : decode cX10_keepPath 11 = .ok (.aload_n 0, 1) := dk_42 (dk_at dksX10_keepPath_0 11 rfl rfl)
theorem dX10_keepPath_12 : decode cX10_keepPath 12 = .ok (.getfield 126, 3) := dk_180 0 126 (dk_at dksX10_keepPath_0 12 rfl rfl)
theorem dX10_keepPath_15 : decode cX10_keepPath 15 = .ok (.aload_n 0, 1) := dk_42 (dk_at dksX10_keepPath_0 15 rfl rfl)
theorem dX10_keepPath_16 : decode cX10_keepPath 16 = .ok (.getfield 500, 3) := dk_180 1 244 (dk_at dksX10_keepPath_0 16 rfl rfl)
theorem dX10_keepPath_19 : decode cX10_keepPath 19 = .ok (.iconst 0, 1) := dk_3 (dk_at dksX10_keepPath_0 19 rfl rfl)
theorem dX10_keepPath_20 : decode cX10_keepPath 20 = .ok (.iastore, 1) := dk_79 (dk_at dksX10_keepPath_0 20 rfl rfl)
theorem dX10_keepPath_21 : decode cX10_keepPath 21 = .ok (.iconst 0, 1) := dk_3 (dk_at dksX10_keepPath_0 21 rfl rfl)
theorem dX10_keepPath_22 : decode cX10_keepPath 22 = .ok (.istore_n 2, 1) := dk_61 (dk_at dksX10_keepPath_0 22 rfl rfl)
theorem dX10_keepPath_23 : decode cX10_keepPath 23 = .ok (.iload_n 2, 1) := dk_28 (dk_at dksX10_keepPath_0 23 rfl rfl)
theorem dX10_keepPath_24 : decode cX10_keepPath 24 = .ok (.iload_n 1, 1) := dk_27 (dk_at dksX10_keepPath_1 0 rfl rfl)
theorem dX10_keepPath_25 : decode cX10_keepPath 25 = .ok (.if_icmp .ge 52, 3) := dk_162 0 52 (dk_at dksX10_keepPath_1 1 rfl rfl)
theorem dX10_keepPath_28 : decode cX10_keepPath 28 = .ok (.aload_n 0, 1) := dk_42 (dk_at dksX10_keepPath_1 4 rfl rfl)
theorem dX10_keepPath_29 : decode cX10_keepPath 29 = .ok (.getfield 129, 3) := dk_180 0 129 (dk_at dksX10_keepPath_1 5 rfl rfl)
theorem dX10_keepPath_32 : decode cX10_keepPath 32 = .ok (.bipush 6, 2) := dk_16 6 (dk_at dksX10_keepPath_1 8 rfl rfl)
theorem dX10_keepPath_34 : decode cX10_keepPath 34 = .ok (.aload_n 0, 1) := dk_42 (dk_at dksX10_keepPath_1 10 rfl rfl)
theorem dX10_keepPath_35 : decode cX10_keepPath 35 = .ok (.getfield 500, 3) := dk_180 1 244 (dk_at dksX10_keepPath_1 11 rfl rfl)
theorem dX10_keepPath_38 : decode cX10_keepPath 38 = .ok (.imul, 1) := dk_104 (dk_at dksX10_keepPath_1 14 rfl rfl)
theorem dX10_keepPath_39 : decode cX10_keepPath 39 = .ok (.aload_n 0, 1) := dk_42 (dk_at dksX10_keepPath_1 15 rfl rfl)
theorem dX10_keepPath_40 : decode cX10_keepPath 40 = .ok (.getfield 126, 3) := dk_180 0 126 (dk_at dksX10_keepPath_1 16 rfl rfl)
theorem dX10_keepPath_43 : decode cX10_keepPath 43 = .ok (.aload_n 0, 1) := dk_42 (dk_at dksX10_keepPath_1 19 rfl rfl)
theorem dX10_keepPath_44 : decode cX10_keepPath 44 = .ok (.getfield 500, 3) := dk_180 1 244 (dk_at dksX10_keepPath_1 20 rfl rfl)
theorem dX10_keepPath_47 : decode cX10_keepPath 47 = .ok (.iaload, 1) := dk_46 (dk_at dksX10_keepPath_1 23 rfl rfl)
theorem dX10_keepPath_48 : decode cX10_keepPath 48 = .ok (.iadd, 1) := dk_96 (dk_at dksX10_keepPath_2 0 rfl rfl)
theorem dX10_keepPath_49 : decode cX10_keepPath 49 = .ok (.aload_n 0, 1) := dk_42 (dk_at dksX10_keepPath_2 1 rfl rfl)
theorem dX10_keepPath_50 : decode cX10_keepPath 50 = .ok (.getfield 120, 3) := dk_180 0 120 (dk_at dksX10_keepPath_2 2 rfl rfl)
theorem dX10_keepPath_53 : decode cX10_keepPath 53 = .ok (.iload_n 2, 1) := dk_28 (dk_at dksX10_keepPath_2 5 rfl rfl)
theorem dX10_keepPath_54 : decode cX10_keepPath 54 = .ok (.iaload, 1) := dk_46 (dk_at dksX10_keepPath_2 6 rfl rfl)
theorem dX10_keepPath_55 : decode cX10_keepPath 55 = .ok (.iconst 1, 1) := dk_4 (dk_at dksX10_keepPath_2 7 rfl rfl)
theorem dX10_keepPath_56 : decode cX10_keepPath 56 = .ok (.isub, 1) := dk_100 (dk_at dksX10_keepPath_2 8 rfl rfl)
theorem dX10_keepPath_57 : decode cX10_keepPath 57 = .ok (.iastore, 1) := dk_79 (dk_at dksX10_keepPath_2 9 rfl rfl)
theorem dX10_keepPath_58 : decode cX10_keepPath 58 = .ok (.aload_n 0, 1) := dk_42 (dk_at dksX10_keepPath_2 10 rfl rfl)
theorem dX10_keepPath_59 : decode cX10_keepPath 59 = .ok (.getfield 126, 3) := dk_180 0 126 (dk_at dksX10_keepPath_2 11 rfl rfl)
theorem dX10_keepPath_62 : decode cX10_keepPath 62 = .ok (.aload_n 0, 1) := dk_42 (dk_at dksX10_keepPath_2 14 rfl rfl)
theorem dX10_keepPath_63 : decode cX10_keepPath 63 = .ok (.getfield 500, 3) := dk_180 1 244 (dk_at dksX10_keepPath_2 15 rfl rfl)
theorem dX10_keepPath_66 : decode cX10_keepPath 66 = .ok (.dup2, 1) := dk_92 (dk_at dksX10_keepPath_2 18 rfl rfl)
theorem dX10_keepPath_67 : decode cX10_keepPath 67 = .ok (.iaload, 1) := dk_46 (dk_at dksX10_keepPath_2 19 rfl rfl)
theorem dX10_keepPath_68 : decode cX10_keepPath 68 = .ok (.iconst 1, 1) := dk_4 (dk_at dksX10_keepPath_2 20 rfl rfl)
theorem dX10_keepPath_69 : decode cX10_keepPath 69 = .ok (.iadd, 1) := dk_96 (dk_at dksX10_keepPath_2 21 rfl rfl)
theorem dX10_keepPath_70 : decode cX10_keepPath 70 = .ok (.iastore, 1) := dk_79 (dk_at dksX10_keepPath_2 22 rfl rfl)
theorem dX10_keepPath_71 : decode cX10_keepPath 71 = .ok (.iinc 2 1, 3) := dk_132 2 1 (dk_at dksX10_keepPath_3 0 rfl rfl)
theorem dX10_keepPath_74 : decode cX10_keepPath 74 = .ok (.goto (-51), 3) := dk_167 255 205 (dk_at dksX10_keepPath_3 3 rfl rfl)
theorem dX10_keepPath_77 : decode cX10_keepPath 77 = .ok (.iconst 0, 1) := dk_3 (dk_at dksX10_keepPath_3 6 rfl rfl)
theorem dX10_keepPath_78 : decode cX10_keepPath 78 = .ok (.istore_n 2, 1) := dk_61 (dk_at dksX10_keepPath_3 7 rfl rfl)
theorem dX10_keepPath_79 : decode cX10_keepPath 79 = .ok (.iload_n 2, 1) := dk_28 (dk_at dksX10_keepPath_3 8 rfl rfl)
theorem dX10_keepPath_80 : decode cX10_keepPath 80 = .ok (.bipush 8, 2) := dk_16 8 (dk_at dksX10_keepPath_3 9 rfl rfl)
theorem dX10_keepPath_82 : decode cX10_keepPath 82 = .ok (.if_icmp .ge 73, 3) := dk_162 0 73 (dk_at dksX10_keepPath_3 11 rfl rfl)
theorem dX10_keepPath_85 : decode cX10_keepPath 85 = .ok (.aload_n 0, 1) := dk_42 (dk_at dksX10_keepPath_3 14 rfl rfl)
theorem dX10_keepPath_86 : decode cX10_keepPath 86 = .ok (.getfield 138, 3) := dk_180 0 138 (dk_at dksX10_keepPath_3 15 rfl rfl)
theorem dX10_keepPath_89 : decode cX10_keepPath 89 = .ok (.bipush 8, 2) := dk_16 8 (dk_at dksX10_keepPath_3 18 rfl rfl)
theorem dX10_keepPath_91 : decode cX10_keepPath 91 = .ok (.aload_n 0, 1) := dk_42 (dk_at dksX10_keepPath_3 20 rfl rfl)
theorem dX10_keepPath_92 : decode cX10_keepPath 92 = .ok (.getfield 500, 3) := dk_180 1 244 (dk_at dksX10_keepPath_3 21 rfl rfl)
theorem dX10_keepPath_95 : decode cX10_keepPath 95 = .ok (.imul, 1) := dk_104 (dk_at dksX10_keepPath_4 0 rfl rfl)
theorem dX10_keepPath_96 : decode cX10_keepPath 96 = .ok (.iload_n 2, 1) := dk_28 (dk_at dksX10_keepPath_4 1 rfl rfl)
theorem dX10_keepPath_97 : decode cX10_keepPath 97 = .ok (.iadd, 1) := dk_96 (dk_at dksX10_keepPath_4 2 rfl rfl)
theorem dX10_keepPath_98 : decode cX10_keepPath 98 = .ok (.iload_n 2, 1) := dk_28 (dk_at dksX10_keepPath_4 3 rfl rfl)
theorem dX10_keepPath_99 : decode cX10_keepPath 99 = .ok (.aload_n 0, 1) := dk_42 (dk_at dksX10_keepPath_4 4 rfl rfl)
theorem dX10_keepPath_100 : decode cX10_keepPath 100 = .ok (.invokevirtual 417, 3) := dk_182 1 161 (dk_at dksX10_keepPath_4 5 rfl rfl)
theorem dX10_keepPath_103 : decode cX10_keepPath 103 = .ok (.if_icmp .ge 12, 3) := dk_162 0 12 (dk_at dksX10_keepPath_4 8 rfl rfl)
theorem dX10_keepPath_106 : decode cX10_keepPath 106 = .ok (.aload_n 0, 1) := dk_42 (dk_at dksX10_keepPath_4 11 rfl rfl)
theorem dX10_keepPath_107 : decode cX10_keepPath 107 = .ok (.iload_n 1, 1) := dk_27 (dk_at dksX10_keepPath_4 12 rfl rfl)
theorem dX10_keepPath_108 : decode cX10_keepPath 108 = .ok (.iload_n 2, 1) := dk_28 (dk_at dksX10_keepPath_4 13 rfl rfl)
theorem dX10_keepPath_109 : decode cX10_keepPath 109 = .ok (.invokevirtual 530, 3) := dk_182 2 18 (dk_at dksX10_keepPath_4 14 rfl rfl)
theorem dX10_keepPath_112 : decode cX10_keepPath 112 = .ok (.goto 4, 3) := dk_167 0 4 (dk_at dksX10_keepPath_4 17 rfl rfl)
theorem dX10_keepPath_115 : decode cX10_keepPath 115 = .ok (.lconst 0, 1) := dk_9 (dk_at dksX10_keepPath_4 20 rfl rfl)
theorem dX10_keepPath_116 : decode cX10_keepPath 116 = .ok (.lastore, 1) := dk_80 (dk_at dksX10_keepPath_4 21 rfl rfl)
theorem dX10_keepPath_117 : decode cX10_keepPath 117 = .ok (.aload_n 0, 1) := dk_42 (dk_at dksX10_keepPath_4 22 rfl rfl)
theorem dX10_keepPath_118 : decode cX10_keepPath 118 = .ok (.getfield 132, 3) := dk_180 0 132 (dk_at dksX10_keepPath_5 0 rfl rfl)
theorem dX10_keepPath_121 : decode cX10_keepPath 121 = .ok (.bipush 8, 2) := dk_16 8 (dk_at dksX10_keepPath_5 3 rfl rfl)
theorem dX10_keepPath_123 : decode cX10_keepPath 123 = .ok (.aload_n 0, 1) := dk_42 (dk_at dksX10_keepPath_5 5 rfl rfl)
theorem dX10_keepPath_124 : decode cX10_keepPath 124 = .ok (.getfield 500, 3) := dk_180 1 244 (dk_at dksX10_keepPath_5 6 rfl rfl)
theorem dX10_keepPath_127 : decode cX10_keepPath 127 = .ok (.imul, 1) := dk_104 (dk_at dksX10_keepPath_5 9 rfl rfl)
theorem dX10_keepPath_128 : decode cX10_keepPath 128 = .ok (.iload_n 2, 1) := dk_28 (dk_at dksX10_keepPath_5 10 rfl rfl)
theorem dX10_keepPath_129 : decode cX10_keepPath 129 = .ok (.iadd, 1) := dk_96 (dk_at dksX10_keepPath_5 11 rfl rfl)
theorem dX10_keepPath_130 : decode cX10_keepPath 130 = .ok (.iload_n 2, 1) := dk_28 (dk_at dksX10_keepPath_5 12 rfl rfl)
theorem dX10_keepPath_131 : decode cX10_keepPath 131 = .ok (.aload_n 0, 1) := dk_42 (dk_at dksX10_keepPath_5 13 rfl rfl)
theorem dX10_keepPath_132 : decode cX10_keepPath 132 = .ok (.invokevirtual 417, 3) := dk_182 1 161 (dk_at dksX10_keepPath_5 14 rfl rfl)
theorem dX10_keepPath_135 : decode cX10_keepPath 135 = .ok (.if_icmp .ge 12, 3) := dk_162 0 12 (dk_at dksX10_keepPath_5 17 rfl rfl)
theorem dX10_keepPath_138 : decode cX10_keepPath 138 = .ok (.aload_n 0, 1) := dk_42 (dk_at dksX10_keepPath_5 20 rfl rfl)
theorem dX10_keepPath_139 : decode cX10_keepPath 139 = .ok (.iload_n 1, 1) := dk_27 (dk_at dksX10_keepPath_5 21 rfl rfl)
theorem dX10_keepPath_140 : decode cX10_keepPath 140 = .ok (.iload_n 2, 1) := dk_28 (dk_at dksX10_keepPath_5 22 rfl rfl)
theorem dX10_keepPath_141 : decode cX10_keepPath 141 = .ok (.invokevirtual 521, 3) := dk_182 2 9 (dk_at dksX10_keepPath_6 0 rfl rfl)
theorem dX10_keepPath_144 : decode cX10_keepPath 144 = .ok (.goto 4, 3) := dk_167 0 4 (dk_at dksX10_keepPath_6 3 rfl rfl)
theorem dX10_keepPath_147 : decode cX10_keepPath 147 = .ok (.iconst 0, 1) := dk_3 (dk_at dksX10_keepPath_6 6 rfl rfl)
theorem dX10_keepPath_148 : decode cX10_keepPath 148 = .ok (.iastore, 1) := dk_79 (dk_at dksX10_keepPath_6 7 rfl rfl)
theorem dX10_keepPath_149 : decode cX10_keepPath 149 = .ok (.iinc 2 1, 3) := dk_132 2 1 (dk_at dksX10_keepPath_6 8 rfl rfl)
theorem dX10_keepPath_152 : decode cX10_keepPath 152 = .ok (.goto (-73), 3) := dk_167 255 183 (dk_at dksX10_keepPath_6 11 rfl rfl)
theorem dX10_keepPath_155 : decode cX10_keepPath 155 = .ok (.aload_n 0, 1) := dk_42 (dk_at dksX10_keepPath_6 14 rfl rfl)
theorem dX10_keepPath_156 : decode cX10_keepPath 156 = .ok (.getfield 141, 3) := dk_180 0 141 (dk_at dksX10_keepPath_6 15 rfl rfl)
theorem dX10_keepPath_159 : decode cX10_keepPath 159 = .ok (.aload_n 0, 1) := dk_42 (dk_at dksX10_keepPath_6 18 rfl rfl)
theorem dX10_keepPath_160 : decode cX10_keepPath 160 = .ok (.getfield 500, 3) := dk_180 1 244 (dk_at dksX10_keepPath_6 19 rfl rfl)
theorem dX10_keepPath_163 : decode cX10_keepPath 163 = .ok (.aload_n 0, 1) := dk_42 (dk_at dksX10_keepPath_6 22 rfl rfl)
theorem dX10_keepPath_164 : decode cX10_keepPath 164 = .ok (.getfield 102, 3) := dk_180 0 102 (dk_at dksX10_keepPath_7 0 rfl rfl)
theorem dX10_keepPath_167 : decode cX10_keepPath 167 = .ok (.iload_n 1, 1) := dk_27 (dk_at dksX10_keepPath_7 3 rfl rfl)
theorem dX10_keepPath_168 : decode cX10_keepPath 168 = .ok (.laload, 1) := dk_47 (dk_at dksX10_keepPath_7 4 rfl rfl)
theorem dX10_keepPath_169 : decode cX10_keepPath 169 = .ok (.lastore, 1) := dk_80 (dk_at dksX10_keepPath_7 5 rfl rfl)
theorem dX10_keepPath_170 : decode cX10_keepPath 170 = .ok (.aload_n 0, 1) := dk_42 (dk_at dksX10_keepPath_7 6 rfl rfl)
theorem dX10_keepPath_171 : decode cX10_keepPath 171 = .ok (.getfield 135, 3) := dk_180 0 135 (dk_at dksX10_keepPath_7 7 rfl rfl)
theorem dX10_keepPath_174 : decode cX10_keepPath 174 = .ok (.aload_n 0, 1) := dk_42 (dk_at dksX10_keepPath_7 10 rfl rfl)
theorem dX10_keepPath_175 : decode cX10_keepPath 175 = .ok (.getfield 500, 3) := dk_180 1 244 (dk_at dksX10_keepPath_7 11 rfl rfl)
theorem dX10_keepPath_178 : decode cX10_keepPath 178 = .ok (.aload_n 0, 1) := dk_42 (dk_at dksX10_keepPath_7 14 rfl rfl)
theorem dX10_keepPath_179 : decode cX10_keepPath 179 = .ok (.getfield 117, 3) := dk_180 0 117 (dk_at dksX10_keepPath_7 15 rfl rfl)
theorem dX10_keepPath_182 : decode cX10_keepPath 182 = .ok (.iload_n 1, 1) := dk_27 (dk_at dksX10_keepPath_7 18 rfl rfl)
theorem dX10_keepPath_183 : decode cX10_keepPath 183 = .ok (.iaload, 1) := dk_46 (dk_at dksX10_keepPath_7 19 rfl rfl)
theorem dX10_keepPath_184 : decode cX10_keepPath 184 = .ok (.iconst 2, 1) := dk_5 (dk_at dksX10_keepPath_7 20 rfl rfl)
theorem dX10_keepPath_185 : decode cX10_keepPath 185 = .ok (.if_icmp .ne 15, 3) := dk_160 0 15 (dk_at dksX10_keepPath_7 21 rfl rfl)
theorem dX10_keepPath_188 : decode cX10_keepPath 188 = .ok (.aload_n 0, 1) := dk_42 (dk_at dksX10_keepPath_8 0 rfl rfl)
theorem dX10_keepPath_189 : decode cX10_keepPath 189 = .ok (.getfield 55, 3) := dk_180 0 55 (dk_at dksX10_keepPath_8 1 rfl rfl)
theorem dX10_keepPath_192 : decode cX10_keepPath 192 = .ok (.aload_n 0, 1) := dk_42 (dk_at dksX10_keepPath_8 4 rfl rfl)
theorem dX10_keepPath_193 : decode cX10_keepPath 193 = .ok (.getfield 468, 3) := dk_180 1 212 (dk_at dksX10_keepPath_8 5 rfl rfl)
theorem dX10_keepPath_196 : decode cX10_keepPath 196 = .ok (.iaload, 1) := dk_46 (dk_at dksX10_keepPath_8 8 rfl rfl)
theorem dX10_keepPath_197 : decode cX10_keepPath 197 = .ok (.goto 4, 3) := dk_167 0 4 (dk_at dksX10_keepPath_8 9 rfl rfl)
theorem dX10_keepPath_200 : decode cX10_keepPath 200 = .ok (.iconst (-1), 1) := dk_2 (dk_at dksX10_keepPath_8 12 rfl rfl)
theorem dX10_keepPath_201 : decode cX10_keepPath 201 = .ok (.iastore, 1) := dk_79 (dk_at dksX10_keepPath_8 13 rfl rfl)
theorem dX10_keepPath_202 : decode cX10_keepPath 202 = .ok (.return_, 1) := dk_177 (dk_at dksX10_keepPath_8 14 rfl rfl)
abbrev cX10_total : ByteArray := prog_32_method_71_code
def yX10_total : MethodName := ⟨RX10, "total", "(II)J"⟩
def dkwX10_total_1 : List UInt8 := [17, 1, 0, 28, 104, 96, 21, 5, 96, 47, 97, 66, 132, 5, 1, 167, 255, 223, 33, 173]
abbrev dktX10_total_1 : List UInt8 := dkwX10_total_1 ++ []
def dkwX10_total_0 : List UInt8 := [9, 66, 3, 54, 5, 21, 5, 17, 1, 0, 162, 0, 31, 33, 42, 180, 0, 99, 17, 8, 0, 27, 104]
abbrev dktX10_total_0 : List UInt8 := dkwX10_total_0 ++ dktX10_total_1
theorem dksX10_total_0 : cX10_total.data.toList.drop 0 = dktX10_total_0 := by decide +kernel
theorem dksX10_total_1 : cX10_total.data.toList.drop 23 = dktX10_total_1 := dk_seg dksX10_total_0 23 rfl rfl
theorem dX10_total_0 : decode cX10_total 0 = .ok (.lconst 0, 1) := dk_9 (dk_at dksX10_total_0 0 rfl rfl)
theorem dX10_total_1 : decode cX10_total 1 = .ok (.lstore_n 3, 1) := dk_66 (dk_at dksX10_total_0 1 rfl rfl)
theorem dX10_total_2 : decode cX10_total 2 = .ok (.iconst 0, 1) := dk_3 (dk_at dksX10_total_0 2 rfl rfl)
theorem dX10_total_3 : decode cX10_total 3 = .ok (.istore 5, 2) := dk_54 5 (dk_at dksX10_total_0 3 rfl rfl)
theorem dX10_total_5 : decode cX10_total 5 = .ok (.iload 5, 2) := dk_21 5 (dk_at dksX10_total_0 5 rfl rfl)
theorem dX10_total_7 : decode cX10_total 7 = .ok (.sipush 256, 3) := dk_17 1 0 (dk_at dksX10_total_0 7 rfl rfl)
theorem dX10_total_10 : decode cX10_total 10 = .ok (.if_icmp .ge 31, 3) := dk_162 0 31 (dk_at dksX10_total_0 10 rfl rfl)
theorem dX10_total_13 : decode cX10_total 13 = .ok (.lload_n 3, 1) := dk_33 (dk_at dksX10_total_0 13 rfl rfl)
theorem dX10_total_14 : decode cX10_total 14 = .ok (.aload_n 0, 1) := dk_42 (dk_at dksX10_total_0 14 rfl rfl)
theorem dX10_total_15 : decode cX10_total 15 = .ok (.getfield 99, 3) := dk_180 0 99 (dk_at dksX10_total_0 15 rfl rfl)
theorem dX10_total_18 : decode cX10_total 18 = .ok (.sipush 2048, 3) := dk_17 8 0 (dk_at dksX10_total_0 18 rfl rfl)
theorem dX10_total_21 : decode cX10_total 21 = .ok (.iload_n 1, 1) := dk_27 (dk_at dksX10_total_0 21 rfl rfl)
theorem dX10_total_22 : decode cX10_total 22 = .ok (.imul, 1) := dk_104 (dk_at dksX10_total_0 22 rfl rfl)
theorem dX10_total_23 : decode cX10_total 23 = .ok (.sipush 256, 3) := dk_17 1 0 (dk_at dksX10_total_1 0 rfl rfl)
theorem dX10_total_26 : decode cX10_total 26 = .ok (.iload_n 2, 1) := dk_28 (dk_at dksX10_total_1 3 rfl rfl)
theorem dX10_total_27 : decode cX10_total 27 = .ok (.imul, 1) := dk_104 (dk_at dksX10_total_1 4 rfl rfl)
theorem dX10_total_28 : decode cX10_total 28 = .ok (.iadd, 1) := dk_96 (dk_at dksX10_total_1 5 rfl rfl)
theorem dX10_total_29 : decode cX10_total 29 = .ok (.iload 5, 2) := dk_21 5 (dk_at dksX10_total_1 6 rfl rfl)
theorem dX10_total_31 : decode cX10_total 31 = .ok (.iadd, 1) := dk_96 (dk_at dksX10_total_1 8 rfl rfl)
theorem dX10_total_32 : decode cX10_total 32 = .ok (.laload, 1) := dk_47 (dk_at dksX10_total_1 9 rfl rfl)
theorem dX10_total_33 : decode cX10_total 33 = .ok (.ladd, 1) := dk_97 (dk_at dksX10_total_1 10 rfl rfl)
theorem dX10_total_34 : decode cX10_total 34 = .ok (.lstore_n 3, 1) := dk_66 (dk_at dksX10_total_1 11 rfl rfl)
theorem dX10_total_35 : decode cX10_total 35 = .ok (.iinc 5 1, 3) := dk_132 5 1 (dk_at dksX10_total_1 12 rfl rfl)
theorem dX10_total_38 : decode cX10_total 38 = .ok (.goto (-33), 3) := dk_167 255 223 (dk_at dksX10_total_1 15 rfl rfl)
theorem dX10_total_41 : decode cX10_total 41 = .ok (.lload_n 3, 1) := dk_33 (dk_at dksX10_total_1 18 rfl rfl)
theorem dX10_total_42 : decode cX10_total 42 = .ok (.lreturn, 1) := dk_173 (dk_at dksX10_total_1 19 rfl rfl)
abbrev cX10_children : ByteArray := prog_32_method_64_code
def yX10_children : MethodName := ⟨RX10, "children", "(I)I"⟩
def dkwX10_children_2 : List UInt8 := [182, 1, 185, 167, 0, 5, 16, 8, 172]
abbrev dktX10_children_2 : List UInt8 := dkwX10_children_2 ++ []
def dkwX10_children_1 : List UInt8 := [160, 0, 14, 4, 42, 180, 0, 64, 28, 46, 120, 167, 0, 21, 42, 180, 1, 201, 5, 160, 0, 11, 42, 28]
abbrev dktX10_children_1 : List UInt8 := dkwX10_children_1 ++ dktX10_children_2
def dkwX10_children_0 : List UInt8 := [16, 52, 42, 180, 1, 53, 104, 42, 180, 0, 105, 27, 46, 96, 61, 42, 180, 0, 52, 28, 46, 16, 8]
abbrev dktX10_children_0 : List UInt8 := dkwX10_children_0 ++ dktX10_children_1
theorem dksX10_children_0 : cX10_children.data.toList.drop 0 = dktX10_children_0 := by decide +kernel
theorem dksX10_children_1 : cX10_children.data.toList.drop 23 = dktX10_children_1 := dk_seg dksX10_children_0 23 rfl rfl
theorem dksX10_children_2 : cX10_children.data.toList.drop 47 = dktX10_children_2 := dk_seg dksX10_children_1 24 rfl rfl
theorem dX10_children_0 : decode cX10_children 0 = .ok (.bipush 52, 2) := dk_16 52 (dk_at dksX10_children_0 0 rfl rfl)
theorem dX10_children_2 : decode cX10_children 2 = .ok (.aload_n 0, 1) := dk_42 (dk_at dksX10_children_0 2 rfl rfl)
theorem dX10_children_3 : decode cX10_children 3 = .ok (.getfield 309, 3) := dk_180 1 53 (dk_at dksX10_children_0 3 rfl rfl)
theorem dX10_children_6 : decode cX10_children 6 = .ok (.imul, 1) := dk_104 (dk_at dksX10_children_0 6 rfl rfl)
theorem dX10_children_7 : decode cX10_children 7 = .ok (.aload_n 0, 1) := dk_42 (dk_at dksX10_children_0 7 rfl rfl)
theorem dX10_children_8 : decode cX10_children 8 = .ok (.getfield 105, 3) := dk_180 0 105 (dk_at dksX10_children_0 8 rfl rfl)
theorem dX10_children_11 : decode cX10_children 11 = .ok (.iload_n 1, 1) := dk_27 (dk_at dksX10_children_0 11 rfl rfl)
theorem dX10_children_12 : decode cX10_children 12 = .ok (.iaload, 1) := dk_46 (dk_at dksX10_children_0 12 rfl rfl)
theorem dX10_children_13 : decode cX10_children 13 = .ok (.iadd, 1) := dk_96 (dk_at dksX10_children_0 13 rfl rfl)
theorem dX10_children_14 : decode cX10_children 14 = .ok (.istore_n 2, 1) := dk_61 (dk_at dksX10_children_0 14 rfl rfl)
theorem dX10_children_15 : decode cX10_children 15 = .ok (.aload_n 0, 1) := dk_42 (dk_at dksX10_children_0 15 rfl rfl)
theorem dX10_children_16 : decode cX10_children 16 = .ok (.getfield 52, 3) := dk_180 0 52 (dk_at dksX10_children_0 16 rfl rfl)
theorem dX10_children_19 : decode cX10_children 19 = .ok (.iload_n 2, 1) := dk_28 (dk_at dksX10_children_0 19 rfl rfl)
theorem dX10_children_20 : decode cX10_children 20 = .ok (.iaload, 1) := dk_46 (dk_at dksX10_children_0 20 rfl rfl)
theorem dX10_children_21 : decode cX10_children 21 = .ok (.bipush 8, 2) := dk_16 8 (dk_at dksX10_children_0 21 rfl rfl)
theorem dX10_children_23 : decode cX10_children 23 = .ok (.if_icmp .ne 14, 3) := dk_160 0 14 (dk_at dksX10_children_1 0 rfl rfl)
theorem dX10_children_26 : decode cX10_children 26 = .ok (.iconst 1, 1) := dk_4 (dk_at dksX10_children_1 3 rfl rfl)
theorem dX10_children_27 : decode cX10_children 27 = .ok (.aload_n 0, 1) := dk_42 (dk_at dksX10_children_1 4 rfl rfl)
theorem dX10_children_28 : decode cX10_children 28 = .ok (.getfield 64, 3) := dk_180 0 64 (dk_at dksX10_children_1 5 rfl rfl)
theorem dX10_children_31 : decode cX10_children 31 = .ok (.iload_n 2, 1) := dk_28 (dk_at dksX10_children_1 8 rfl rfl)
theorem dX10_children_32 : decode cX10_children 32 = .ok (.iaload, 1) := dk_46 (dk_at dksX10_children_1 9 rfl rfl)
theorem dX10_children_33 : decode cX10_children 33 = .ok (.ishl, 1) := dk_120 (dk_at dksX10_children_1 10 rfl rfl)
theorem dX10_children_34 : decode cX10_children 34 = .ok (.goto 21, 3) := dk_167 0 21 (dk_at dksX10_children_1 11 rfl rfl)
theorem dX10_children_37 : decode cX10_children 37 = .ok (.aload_n 0, 1) := dk_42 (dk_at dksX10_children_1 14 rfl rfl)
theorem dX10_children_38 : decode cX10_children 38 = .ok (.getfield 457, 3) := dk_180 1 201 (dk_at dksX10_children_1 15 rfl rfl)
theorem dX10_children_41 : decode cX10_children 41 = .ok (.iconst 2, 1) := dk_5 (dk_at dksX10_children_1 18 rfl rfl)
theorem dX10_children_42 : decode cX10_children 42 = .ok (.if_icmp .ne 11, 3) := dk_160 0 11 (dk_at dksX10_children_1 19 rfl rfl)
theorem dX10_children_45 : decode cX10_children 45 = .ok (.aload_n 0, 1) := dk_42 (dk_at dksX10_children_1 22 rfl rfl)
theorem dX10_children_46 : decode cX10_children 46 = .ok (.iload_n 2, 1) := dk_28 (dk_at dksX10_children_1 23 rfl rfl)
theorem dX10_children_47 : decode cX10_children 47 = .ok (.invokevirtual 441, 3) := dk_182 1 185 (dk_at dksX10_children_2 0 rfl rfl)
theorem dX10_children_50 : decode cX10_children 50 = .ok (.goto 5, 3) := dk_167 0 5 (dk_at dksX10_children_2 3 rfl rfl)
theorem dX10_children_53 : decode cX10_children 53 = .ok (.bipush 8, 2) := dk_16 8 (dk_at dksX10_children_2 6 rfl rfl)
theorem dX10_children_55 : decode cX10_children 55 = .ok (.ireturn, 1) := dk_172 (dk_at dksX10_children_2 8 rfl rfl)
abbrev cX10_descend : ByteArray := prog_32_method_65_code
def yX10_descend : MethodName := ⟨RX10, "descend", "(I)Z"⟩
def dkwX10_descend_9 : List UInt8 := [182, 1, 238, 172]
abbrev dktX10_descend_9 : List UInt8 := dkwX10_descend_9 ++ []
def dkwX10_descend_8 : List UInt8 := [180, 1, 201, 4, 160, 0, 11, 42, 180, 0, 111, 21, 4, 29, 79, 132, 5, 1, 167, 255, 179, 42, 21, 4]
abbrev dktX10_descend_8 : List UInt8 := dkwX10_descend_8 ++ dktX10_descend_9
def dkwX10_descend_7 : List UInt8 := [42, 180, 0, 111, 27, 46, 182, 1, 229, 29, 159, 0, 6, 167, 0, 26, 42, 27, 21, 4, 182, 1, 191, 42]
abbrev dktX10_descend_7 : List UInt8 := dkwX10_descend_7 ++ dktX10_descend_8
def dkwX10_descend_6 : List UInt8 := [28, 21, 5, 182, 1, 188, 42, 180, 1, 201, 5, 160, 0, 12, 21, 5, 29, 159, 0, 23, 167, 0, 43, 42]
abbrev dktX10_descend_6 : List UInt8 := dkwX10_descend_6 ++ dktX10_descend_7
def dkwX10_descend_5 : List UInt8 := [42, 27, 28, 29, 182, 1, 235, 167, 0, 86, 3, 54, 5, 21, 5, 42, 28, 182, 1, 185, 162, 0, 73, 42]
abbrev dktX10_descend_5 : List UInt8 := dkwX10_descend_5 ++ dktX10_descend_6
def dkwX10_descend_4 : List UInt8 := [180, 0, 102, 27, 47, 42, 28, 182, 1, 185, 133, 105, 80, 42, 180, 0, 52, 28, 46, 16, 8, 160, 0, 13]
abbrev dktX10_descend_4 : List UInt8 := dkwX10_descend_4 ++ dktX10_descend_5
def dkwX10_descend_3 : List UInt8 := [46, 79, 42, 180, 0, 114, 21, 4, 42, 180, 0, 114, 27, 46, 79, 42, 180, 0, 102, 21, 4, 42]
abbrev dktX10_descend_3 : List UInt8 := dkwX10_descend_3 ++ dktX10_descend_4
def dkwX10_descend_2 : List UInt8 := [42, 180, 0, 108, 21, 4, 42, 180, 0, 108, 27, 46, 79, 42, 180, 0, 111, 21, 4, 42, 180, 0, 111, 27]
abbrev dktX10_descend_2 : List UInt8 := dkwX10_descend_2 ++ dktX10_descend_3
def dkwX10_descend_1 : List UInt8 := [96, 54, 4, 42, 21, 4, 182, 1, 182, 42, 180, 0, 105, 21, 4, 42, 180, 0, 105, 27, 46, 4, 96, 79]
abbrev dktX10_descend_1 : List UInt8 := dkwX10_descend_1 ++ dktX10_descend_2
def dkwX10_descend_0 : List UInt8 := [16, 52, 42, 180, 1, 53, 104, 42, 180, 0, 105, 27, 46, 96, 61, 42, 180, 0, 120, 27, 46, 62, 27, 4]
abbrev dktX10_descend_0 : List UInt8 := dkwX10_descend_0 ++ dktX10_descend_1
theorem dksX10_descend_0 : cX10_descend.data.toList.drop 0 = dktX10_descend_0 := by decide +kernel
theorem dksX10_descend_1 : cX10_descend.data.toList.drop 24 = dktX10_descend_1 := dk_seg dksX10_descend_0 24 rfl rfl
theorem dksX10_descend_2 : cX10_descend.data.toList.drop 48 = dktX10_descend_2 := dk_seg dksX10_descend_1 24 rfl rfl
theorem dksX10_descend_3 : cX10_descend.data.toList.drop 72 = dktX10_descend_3 := dk_seg dksX10_descend_2 24 rfl rfl
theorem dksX10_descend_4 : cX10_descend.data.toList.drop 94 = dktX10_descend_4 := dk_seg dksX10_descend_3 22 rfl rfl
theorem dksX10_descend_5 : cX10_descend.data.toList.drop 118 = dktX10_descend_5 := dk_seg dksX10_descend_4 24 rfl rfl
theorem dksX10_descend_6 : cX10_descend.data.toList.drop 142 = dktX10_descend_6 := dk_seg dksX10_descend_5 24 rfl rfl
theorem dksX10_descend_7 : cX10_descend.data.toList.drop 166 = dktX10_descend_7 := dk_seg dksX10_descend_6 24 rfl rfl
theorem dksX10_descend_8 : cX10_descend.data.toList.drop 190 = dktX10_descend_8 := dk_seg dksX10_descend_7 24 rfl rfl
theorem dksX10_descend_9 : cX10_descend.data.toList.drop 214 = dktX10_descend_9 := dk_seg dksX10_descend_8 24 rfl rfl
theorem dX10_descend_0 : decode cX10_descend 0 = .ok (.bipush 52, 2) := dk_16 52 (dk_at dksX10_descend_0 0 rfl rfl)
theorem dX10_descend_2 : decode cX10_descend 2 = .ok (.aload_n 0, 1) := dk_42 (dk_at dksX10_descend_0 2 rfl rfl)
theorem dX10_descend_3 : decode cX10_descend 3 = .ok (.getfield 309, 3) := dk_180 1 53 (dk_at dksX10_descend_0 3 rfl rfl)
theorem dX10_descend_6 : decode cX10_descend 6 = .ok (.imul, 1) := dk_104 (dk_at dksX10_descend_0 6 rfl rfl)
theorem dX10_descend_7 : decode cX10_descend 7 = .ok (.aload_n 0, 1) := dk_42 (dk_at dksX10_descend_0 7 rfl rfl)
theorem dX10_descend_8 : decode cX10_descend 8 = .ok (.getfield 105, 3) := dk_180 0 105 (dk_at dksX10_descend_0 8 rfl rfl)
theorem dX10_descend_11 : decode cX10_descend 11 = .ok (.iload_n 1, 1) := dk_27 (dk_at dksX10_descend_0 11 rfl rfl)
theorem dX10_descend_12 : decode cX10_descend 12 = .ok (.iaload, 1) := dk_46 (dk_at dksX10_descend_0 12 rfl rfl)
theorem dX10_descend_13 : decode cX10_descend 13 = .ok (.iadd, 1) := dk_96 (dk_at dksX10_descend_0 13 rfl rfl)
theorem dX10_descend_14 : decode cX10_descend 14 = .ok (.istore_n 2, 1) := dk_61 (dk_at dksX10_descend_0 14 rfl rfl)
theorem dX10_descend_15 : decode cX10_descend 15 = .ok (.aload_n 0, 1) := dk_42 (dk_at dksX10_descend_0 15 rfl rfl)
theorem dX10_descend_16 : decode cX10_descend 16 = .ok (.getfield 120, 3) := dk_180 0 120 (dk_at dksX10_descend_0 16 rfl rfl)
theorem dX10_descend_19 : decode cX10_descend 19 = .ok (.iload_n 1, 1) := dk_27 (dk_at dksX10_descend_0 19 rfl rfl)
theorem dX10_descend_20 : decode cX10_descend 20 = .ok (.iaload, 1) := dk_46 (dk_at dksX10_descend_0 20 rfl rfl)
theorem dX10_descend_21 : decode cX10_descend 21 = .ok (.istore_n 3, 1) := dk_62 (dk_at dksX10_descend_0 21 rfl rfl)
theorem dX10_descend_22 : decode cX10_descend 22 = .ok (.iload_n 1, 1) := dk_27 (dk_at dksX10_descend_0 22 rfl rfl)
theorem dX10_descend_23 : decode cX10_descend 23 = .ok (.iconst 1, 1) := dk_4 (dk_at dksX10_descend_0 23 rfl rfl)
theorem dX10_descend_24 : decode cX10_descend 24 = .ok (.iadd, 1) := dk_96 (dk_at dksX10_descend_1 0 rfl rfl)
theorem dX10_descend_25 : decode cX10_descend 25 = .ok (.istore 4, 2) := dk_54 4 (dk_at dksX10_descend_1 1 rfl rfl)
theorem dX10_descend_27 : decode cX10_descend 27 = .ok (.aload_n 0, 1) := dk_42 (dk_at dksX10_descend_1 3 rfl rfl)
theorem dX10_descend_28 : decode cX10_descend 28 = .ok (.iload 4, 2) := dk_21 4 (dk_at dksX10_descend_1 4 rfl rfl)
theorem dX10_descend_30 : decode cX10_descend 30 = .ok (.invokevirtual 438, 3) := dk_182 1 182 (dk_at dksX10_descend_1 6 rfl rfl)
theorem dX10_descend_33 : decode cX10_descend 33 = .ok (.aload_n 0, 1) := dk_42 (dk_at dksX10_descend_1 9 rfl rfl)
theorem dX10_descend_34 : decode cX10_descend 34 = .ok (.getfield 105, 3) := dk_180 0 105 (dk_at dksX10_descend_1 10 rfl rfl)
theorem dX10_descend_37 : decode cX10_descend 37 = .ok (.iload 4, 2) := dk_21 4 (dk_at dksX10_descend_1 13 rfl rfl)
theorem dX10_descend_39 : decode cX10_descend 39 = .ok (.aload_n 0, 1) := dk_42 (dk_at dksX10_descend_1 15 rfl rfl)
theorem dX10_descend_40 : decode cX10_descend 40 = .ok (.getfield 105, 3) := dk_180 0 105 (dk_at dksX10_descend_1 16 rfl rfl)
theorem dX10_descend_43 : decode cX10_descend 43 = .ok (.iload_n 1, 1) := dk_27 (dk_at dksX10_descend_1 19 rfl rfl)
theorem dX10_descend_44 : decode cX10_descend 44 = .ok (.iaload, 1) := dk_46 (dk_at dksX10_descend_1 20 rfl rfl)
theorem dX10_descend_45 : decode cX10_descend 45 = .ok (.iconst 1, 1) := dk_4 (dk_at dksX10_descend_1 21 rfl rfl)
theorem dX10_descend_46 : decode cX10_descend 46 = .ok (.iadd, 1) := dk_96 (dk_at dksX10_descend_1 22 rfl rfl)
theorem dX10_descend_47 : decode cX10_descend 47 = .ok (.iastore, 1) := dk_79 (dk_at dksX10_descend_1 23 rfl rfl)
theorem dX10_descend_48 : decode cX10_descend 48 = .ok (.aload_n 0, 1) := dk_42 (dk_at dksX10_descend_2 0 rfl rfl)
theorem dX10_descend_49 : decode cX10_descend 49 = .ok (.getfield 108, 3) := dk_180 0 108 (dk_at dksX10_descend_2 1 rfl rfl)
theorem dX10_descend_52 : decode cX10_descend 52 = .ok (.iload 4, 2) := dk_21 4 (dk_at dksX10_descend_2 4 rfl rfl)
theorem dX10_descend_54 : decode cX10_descend 54 = .ok (.aload_n 0, 1) := dk_42 (dk_at dksX10_descend_2 6 rfl rfl)
theorem dX10_descend_55 : decode cX10_descend 55 = .ok (.getfield 108, 3) := dk_180 0 108 (dk_at dksX10_descend_2 7 rfl rfl)
theorem dX10_descend_58 : decode cX10_descend 58 = .ok (.iload_n 1, 1) := dk_27 (dk_at dksX10_descend_2 10 rfl rfl)
theorem dX10_descend_59 : decode cX10_descend 59 = .ok (.iaload, 1) := dk_46 (dk_at dksX10_descend_2 11 rfl rfl)
theorem dX10_descend_60 : decode cX10_descend 60 = .ok (.iastore, 1) := dk_79 (dk_at dksX10_descend_2 12 rfl rfl)
theorem dX10_descend_61 : decode cX10_descend 61 = .ok (.aload_n 0, 1) := dk_42 (dk_at dksX10_descend_2 13 rfl rfl)
theorem dX10_descend_62 : decode cX10_descend 62 = .ok (.getfield 111, 3) := dk_180 0 111 (dk_at dksX10_descend_2 14 rfl rfl)
theorem dX10_descend_65 : decode cX10_descend 65 = .ok (.iload 4, 2) := dk_21 4 (dk_at dksX10_descend_2 17 rfl rfl)
theorem dX10_descend_67 : decode cX10_descend 67 = .ok (.aload_n 0, 1) := dk_42 (dk_at dksX10_descend_2 19 rfl rfl)
theorem dX10_descend_68 : decode cX10_descend 68 = .ok (.getfield 111, 3) := dk_180 0 111 (dk_at dksX10_descend_2 20 rfl rfl)
theorem dX10_descend_71 : decode cX10_descend 71 = .ok (.iload_n 1, 1) := dk_27 (dk_at dksX10_descend_2 23 rfl rfl)
theorem dX10_descend_72 : decode cX10_descend 72 = .ok (.iaload, 1) := dk_46 (dk_at dksX10_descend_3 0 rfl rfl)
theorem dX10_descend_73 : decode cX10_descend 73 = .ok (.iastore, 1) := dk_79 (dk_at dksX10_descend_3 1 rfl rfl)
theorem dX10_descend_74 : decode cX10_descend 74 = .ok (.aload_n 0, 1) := dk_42 (dk_at dksX10_descend_3 2 rfl rfl)
theorem dX10_descend_75 : decode cX10_descend 75 = .ok (.getfield 114, 3) := dk_180 0 114 (dk_at dksX10_descend_3 3 rfl rfl)
theorem dX10_descend_78 : decode cX10_descend 78 = .ok (.iload 4, 2) := dk_21 4 (dk_at dksX10_descend_3 6 rfl rfl)
theorem dX10_descend_80 : decode cX10_descend 80 = .ok (.aload_n 0, 1) := dk_42 (dk_at dksX10_descend_3 8 rfl rfl)
theorem dX10_descend_81 : decode cX10_descend 81 = .ok (.getfield 114, 3) := dk_180 0 114 (dk_at dksX10_descend_3 9 rfl rfl)
theorem dX10_descend_84 : decode cX10_descend 84 = .ok (.iload_n 1, 1) := dk_27 (dk_at dksX10_descend_3 12 rfl rfl)
theorem dX10_descend_85 : decode cX10_descend 85 = .ok (.iaload, 1) := dk_46 (dk_at dksX10_descend_3 13 rfl rfl)
theorem dX10_descend_86 : decode cX10_descend 86 = .ok (.iastore, 1) := dk_79 (dk_at dksX10_descend_3 14 rfl rfl)
theorem dX10_descend_87 : decode cX10_descend 87 = .ok (.aload_n 0, 1) := dk_42 (dk_at dksX10_descend_3 15 rfl rfl)
theorem dX10_descend_88 : decode cX10_descend 88 = .ok (.getfield 102, 3) := dk_180 0 102 (dk_at dksX10_descend_3 16 rfl rfl)
theorem dX10_descend_91 : decode cX10_descend 91 = .ok (.iload 4, 2) := dk_21 4 (dk_at dksX10_descend_3 19 rfl rfl)
theorem dX10_descend_93 : decode cX10_descend 93 = .ok (.aload_n 0, 1) := dk_42 (dk_at dksX10_descend_3 21 rfl rfl)
theorem dX10_descend_94 : decode cX10_descend 94 = .ok (.getfield 102, 3) := dk_180 0 102 (dk_at dksX10_descend_4 0 rfl rfl)
theorem dX10_descend_97 : decode cX10_descend 97 = .ok (.iload_n 1, 1) := dk_27 (dk_at dksX10_descend_4 3 rfl rfl)
theorem dX10_descend_98 : decode cX10_descend 98 = .ok (.laload, 1) := dk_47 (dk_at dksX10_descend_4 4 rfl rfl)
theorem dX10_descend_99 : decode cX10_descend 99 = .ok (.aload_n 0, 1) := dk_42 (dk_at dksX10_descend_4 5 rfl rfl)
theorem dX10_descend_100 : decode cX10_descend 100 = .ok (.iload_n 2, 1) := dk_28 (dk_at dksX10_descend_4 6 rfl rfl)
theorem dX10_descend_101 : decode cX10_descend 101 = .ok (.invokevirtual 441, 3) := dk_182 1 185 (dk_at dksX10_descend_4 7 rfl rfl)
theorem dX10_descend_104 : decode cX10_descend 104 = .ok (.i2l, 1) := dk_133 (dk_at dksX10_descend_4 10 rfl rfl)
theorem dX10_descend_105 : decode cX10_descend 105 = .ok (.lmul, 1) := dk_105 (dk_at dksX10_descend_4 11 rfl rfl)
theorem dX10_descend_106 : decode cX10_descend 106 = .ok (.lastore, 1) := dk_80 (dk_at dksX10_descend_4 12 rfl rfl)
theorem dX10_descend_107 : decode cX10_descend 107 = .ok (.aload_n 0, 1) := dk_42 (dk_at dksX10_descend_4 13 rfl rfl)
theorem dX10_descend_108 : decode cX10_descend 108 = .ok (.getfield 52, 3) := dk_180 0 52 (dk_at dksX10_descend_4 14 rfl rfl)
theorem dX10_descend_111 : decode cX10_descend 111 = .ok (.iload_n 2, 1) := dk_28 (dk_at dksX10_descend_4 17 rfl rfl)
theorem dX10_descend_112 : decode cX10_descend 112 = .ok (.iaload, 1) := dk_46 (dk_at dksX10_descend_4 18 rfl rfl)
theorem dX10_descend_113 : decode cX10_descend 113 = .ok (.bipush 8, 2) := dk_16 8 (dk_at dksX10_descend_4 19 rfl rfl)
theorem dX10_descend_115 : decode cX10_descend 115 = .ok (.if_icmp .ne 13, 3) := dk_160 0 13 (dk_at dksX10_descend_4 21 rfl rfl)
theorem dX10_descend_118 : decode cX10_descend 118 = .ok (.aload_n 0, 1) := dk_42 (dk_at dksX10_descend_5 0 rfl rfl)
theorem dX10_descend_119 : decode cX10_descend 119 = .ok (.iload_n 1, 1) := dk_27 (dk_at dksX10_descend_5 1 rfl rfl)
theorem dX10_descend_120 : decode cX10_descend 120 = .ok (.iload_n 2, 1) := dk_28 (dk_at dksX10_descend_5 2 rfl rfl)
theorem dX10_descend_121 : decode cX10_descend 121 = .ok (.iload_n 3, 1) := dk_29 (dk_at dksX10_descend_5 3 rfl rfl)
theorem dX10_descend_122 : decode cX10_descend 122 = .ok (.invokevirtual 491, 3) := dk_182 1 235 (dk_at dksX10_descend_5 4 rfl rfl)
theorem dX10_descend_125 : decode cX10_descend 125 = .ok (.goto 86, 3) := dk_167 0 86 (dk_at dksX10_descend_5 7 rfl rfl)
theorem dX10_descend_128 : decode cX10_descend 128 = .ok (.iconst 0, 1) := dk_3 (dk_at dksX10_descend_5 10 rfl rfl)
theorem dX10_descend_129 : decode cX10_descend 129 = .ok (.istore 5, 2) := dk_54 5 (dk_at dksX10_descend_5 11 rfl rfl)
theorem dX10_descend_131 : decode cX10_descend 131 = .ok (.iload 5, 2) := dk_21 5 (dk_at dksX10_descend_5 13 rfl rfl)
theorem dX10_descend_133 : decode cX10_descend 133 = .ok (.aload_n 0, 1) := dk_42 (dk_at dksX10_descend_5 15 rfl rfl)
theorem dX10_descend_134 : decode cX10_descend 134 = .ok (.iload_n 2, 1) := dk_28 (dk_at dksX10_descend_5 16 rfl rfl)
theorem dX10_descend_135 : decode cX10_descend 135 = .ok (.invokevirtual 441, 3) := dk_182 1 185 (dk_at dksX10_descend_5 17 rfl rfl)
theorem dX10_descend_138 : decode cX10_descend 138 = .ok (.if_icmp .ge 73, 3) := dk_162 0 73 (dk_at dksX10_descend_5 20 rfl rfl)
theorem dX10_descend_141 : decode cX10_descend 141 = .ok (.aload_n 0, 1) := dk_42 (dk_at dksX10_descend_5 23 rfl rfl)
theorem dX10_descend_142 : decode cX10_descend 142 = .ok (.iload_n 2, 1) := dk_28 (dk_at dksX10_descend_6 0 rfl rfl)
theorem dX10_descend_143 : decode cX10_descend 143 = .ok (.iload 5, 2) := dk_21 5 (dk_at dksX10_descend_6 1 rfl rfl)
theorem dX10_descend_145 : decode cX10_descend 145 = .ok (.invokevirtual 444, 3) := dk_182 1 188 (dk_at dksX10_descend_6 3 rfl rfl)
theorem dX10_descend_148 : decode cX10_descend 148 = .ok (.aload_n 0, 1) := dk_42 (dk_at dksX10_descend_6 6 rfl rfl)
theorem dX10_descend_149 : decode cX10_descend 149 = .ok (.getfield 457, 3) := dk_180 1 201 (dk_at dksX10_descend_6 7 rfl rfl)
theorem dX10_descend_152 : decode cX10_descend 152 = .ok (.iconst 2, 1) := dk_5 (dk_at dksX10_descend_6 10 rfl rfl)
theorem dX10_descend_153 : decode cX10_descend 153 = .ok (.if_icmp .ne 12, 3) := dk_160 0 12 (dk_at dksX10_descend_6 11 rfl rfl)
theorem dX10_descend_156 : decode cX10_descend 156 = .ok (.iload 5, 2) := dk_21 5 (dk_at dksX10_descend_6 14 rfl rfl)
theorem dX10_descend_158 : decode cX10_descend 158 = .ok (.iload_n 3, 1) := dk_29 (dk_at dksX10_descend_6 16 rfl rfl)
theorem dX10_descend_159 : decode cX10_descend 159 = .ok (.if_icmp .eq 23, 3) := dk_159 0 23 (dk_at dksX10_descend_6 17 rfl rfl)
theorem dX10_descend_162 : decode cX10_descend 162 = .ok (.goto 43, 3) := dk_167 0 43 (dk_at dksX10_descend_6 20 rfl rfl)
theorem dX10_descend_165 : decode cX10_descend 165 = .ok (.aload_n 0, 1) := dk_42 (dk_at dksX10_descend_6 23 rfl rfl)
theorem dX10_descend_166 : decode cX10_descend 166 = .ok (.aload_n 0, 1) := dk_42 (dk_at dksX10_descend_7 0 rfl rfl)
theorem dX10_descend_167 : decode cX10_descend 167 = .ok (.getfield 111, 3) := dk_180 0 111 (dk_at dksX10_descend_7 1 rfl rfl)
theorem dX10_descend_170 : decode cX10_descend 170 = .ok (.iload_n 1, 1) := dk_27 (dk_at dksX10_descend_7 4 rfl rfl)
theorem dX10_descend_171 : decode cX10_descend 171 = .ok (.iaload, 1) := dk_46 (dk_at dksX10_descend_7 5 rfl rfl)
theorem dX10_descend_172 : decode cX10_descend 172 = .ok (.invokevirtual 485, 3) := dk_182 1 229 (dk_at dksX10_descend_7 6 rfl rfl)
theorem dX10_descend_175 : decode cX10_descend 175 = .ok (.iload_n 3, 1) := dk_29 (dk_at dksX10_descend_7 9 rfl rfl)
theorem dX10_descend_176 : decode cX10_descend 176 = .ok (.if_icmp .eq 6, 3) := dk_159 0 6 (dk_at dksX10_descend_7 10 rfl rfl)
theorem dX10_descend_179 : decode cX10_descend 179 = .ok (.goto 26, 3) := dk_167 0 26 (dk_at dksX10_descend_7 13 rfl rfl)
theorem dX10_descend_182 : decode cX10_descend 182 = .ok (.aload_n 0, 1) := dk_42 (dk_at dksX10_descend_7 16 rfl rfl)
theorem dX10_descend_183 : decode cX10_descend 183 = .ok (.iload_n 1, 1) := dk_27 (dk_at dksX10_descend_7 17 rfl rfl)
theorem dX10_descend_184 : decode cX10_descend 184 = .ok (.iload 4, 2) := dk_21 4 (dk_at dksX10_descend_7 18 rfl rfl)
theorem dX10_descend_186 : decode cX10_descend 186 = .ok (.invokevirtual 447, 3) := dk_182 1 191 (dk_at dksX10_descend_7 20 rfl rfl)
theorem dX10_descend_189 : decode cX10_descend 189 = .ok (.aload_n 0, 1) := dk_42 (dk_at dksX10_descend_7 23 rfl rfl)
theorem dX10_descend_190 : decode cX10_descend 190 = .ok (.getfield 457, 3) := dk_180 1 201 (dk_at dksX10_descend_8 0 rfl rfl)
theorem dX10_descend_193 : decode cX10_descend 193 = .ok (.iconst 1, 1) := dk_4 (dk_at dksX10_descend_8 3 rfl rfl)
theorem dX10_descend_194 : decode cX10_descend 194 = .ok (.if_icmp .ne 11, 3) := dk_160 0 11 (dk_at dksX10_descend_8 4 rfl rfl)
theorem dX10_descend_197 : decode cX10_descend 197 = .ok (.aload_n 0, 1) := dk_42 (dk_at dksX10_descend_8 7 rfl rfl)
theorem dX10_descend_198 : decode cX10_descend 198 = .ok (.getfield 111, 3) := dk_180 0 111 (dk_at dksX10_descend_8 8 rfl rfl)
theorem dX10_descend_201 : decode cX10_descend 201 = .ok (.iload 4, 2) := dk_21 4 (dk_at dksX10_descend_8 11 rfl rfl)
theorem dX10_descend_203 : decode cX10_descend 203 = .ok (.iload_n 3, 1) := dk_29 (dk_at dksX10_descend_8 13 rfl rfl)
theorem dX10_descend_204 : decode cX10_descend 204 = .ok (.iastore, 1) := dk_79 (dk_at dksX10_descend_8 14 rfl rfl)
theorem dX10_descend_205 : decode cX10_descend 205 = .ok (.iinc 5 1, 3) := dk_132 5 1 (dk_at dksX10_descend_8 15 rfl rfl)
theorem dX10_descend_208 : decode cX10_descend 208 = .ok (.goto (-77), 3) := dk_167 255 179 (dk_at dksX10_descend_8 18 rfl rfl)
theorem dX10_descend_211 : decode cX10_descend 211 = .ok (.aload_n 0, 1) := dk_42 (dk_at dksX10_descend_8 21 rfl rfl)
theorem dX10_descend_212 : decode cX10_descend 212 = .ok (.iload 4, 2) := dk_21 4 (dk_at dksX10_descend_8 22 rfl rfl)
theorem dX10_descend_214 : decode cX10_descend 214 = .ok (.invokevirtual 494, 3) := dk_182 1 238 (dk_at dksX10_descend_9 0 rfl rfl)
theorem dX10_descend_217 : decode cX10_descend 217 = .ok (.ireturn, 1) := dk_172 (dk_at dksX10_descend_9 3 rfl rfl)
abbrev cX10_lookAt : ByteArray := prog_32_method_68_code
def yX10_lookAt : MethodName := ⟨RX10, "lookAt", "(III)V"⟩
def dkwX10_lookAt_6 : List UInt8 := [21, 4, 122, 4, 126, 4, 96, 5, 21, 5, 104, 120, 128, 79, 132, 4, 1, 167, 255, 189, 177]
abbrev dktX10_lookAt_6 : List UInt8 := dkwX10_lookAt_6 ++ []
def dkwX10_lookAt_5 : List UInt8 := [180, 0, 114, 27, 4, 96, 42, 180, 0, 114, 27, 4, 96, 46, 6, 5, 21, 5, 104, 120, 2, 130, 126, 29]
abbrev dktX10_lookAt_5 : List UInt8 := dkwX10_lookAt_5 ++ dktX10_lookAt_6
def dkwX10_lookAt_4 : List UInt8 := [180, 0, 64, 28, 46, 162, 0, 62, 42, 180, 0, 67, 16, 8, 28, 104, 21, 4, 96, 46, 54, 5, 42]
abbrev dktX10_lookAt_4 : List UInt8 := dkwX10_lookAt_4 ++ dktX10_lookAt_5
def dkwX10_lookAt_3 : List UInt8 := [21, 5, 96, 47, 80, 132, 5, 1, 167, 255, 192, 132, 4, 1, 167, 255, 174, 3, 54, 4, 21, 4, 42]
abbrev dktX10_lookAt_3 : List UInt8 := dkwX10_lookAt_3 ++ dktX10_lookAt_4
def dkwX10_lookAt_2 : List UInt8 := [21, 4, 104, 96, 21, 5, 96, 42, 180, 0, 99, 17, 8, 0, 27, 104, 17, 1, 0, 21, 4, 104, 96]
abbrev dktX10_lookAt_2 : List UInt8 := dkwX10_lookAt_2 ++ dktX10_lookAt_3
def dkwX10_lookAt_1 : List UInt8 := [28, 21, 5, 182, 1, 241, 29, 160, 0, 45, 42, 180, 0, 99, 17, 8, 0, 27, 4, 96, 104, 17, 1, 0]
abbrev dktX10_lookAt_1 : List UInt8 := dkwX10_lookAt_1 ++ dktX10_lookAt_2
def dkwX10_lookAt_0 : List UInt8 := [3, 54, 4, 21, 4, 42, 182, 1, 161, 162, 0, 79, 3, 54, 5, 21, 5, 17, 1, 0, 162, 0, 62, 42]
abbrev dktX10_lookAt_0 : List UInt8 := dkwX10_lookAt_0 ++ dktX10_lookAt_1
theorem dksX10_lookAt_0 : cX10_lookAt.data.toList.drop 0 = dktX10_lookAt_0 := by decide +kernel
theorem dksX10_lookAt_1 : cX10_lookAt.data.toList.drop 24 = dktX10_lookAt_1 := dk_seg dksX10_lookAt_0 24 rfl rfl
theorem dksX10_lookAt_2 : cX10_lookAt.data.toList.drop 48 = dktX10_lookAt_2 := dk_seg dksX10_lookAt_1 24 rfl rfl
theorem dksX10_lookAt_3 : cX10_lookAt.data.toList.drop 71 = dktX10_lookAt_3 := dk_seg dksX10_lookAt_2 23 rfl rfl
theorem dksX10_lookAt_4 : cX10_lookAt.data.toList.drop 94 = dktX10_lookAt_4 := dk_seg dksX10_lookAt_3 23 rfl rfl
theorem dksX10_lookAt_5 : cX10_lookAt.data.toList.drop 117 = dktX10_lookAt_5 := dk_seg dksX10_lookAt_4 23 rfl rfl
theorem dksX10_lookAt_6 : cX10_lookAt.data.toList.drop 141 = dktX10_lookAt_6 := dk_seg dksX10_lookAt_5 24 rfl rfl
theorem dX10_lookAt_0 : decode cX10_lookAt 0 = .ok (.iconst 0, 1) := dk_3 (dk_at dksX10_lookAt_0 0 rfl rfl)
theorem dX10_lookAt_1 : decode cX10_lookAt 1 = .ok (.istore 4, 2) := dk_54 4 (dk_at dksX10_lookAt_0 1 rfl rfl)
theorem dX10_lookAt_3 : decode cX10_lookAt 3 = .ok (.iload 4, 2) := dk_21 4 (dk_at dksX10_lookAt_0 3 rfl rfl)
theorem dX10_lookAt_5 : decode cX10_lookAt 5 = .ok (.aload_n 0, 1) := dk_42 (dk_at dksX10_lookAt_0 5 rfl rfl)
theorem dX10_lookAt_6 : decode cX10_lookAt 6 = .ok (.invokevirtual 417, 3) := dk_182 1 161 (dk_at dksX10_lookAt_0 6 rfl rfl)
theorem dX10_lookAt_9 : decode cX10_lookAt 9 = .ok (.if_icmp .ge 79, 3) := dk_162 0 79 (dk_at dksX10_lookAt_0 9 rfl rfl)
theorem dX10_lookAt_12 : decode cX10_lookAt 12 = .ok (.iconst 0, 1) := dk_3 (dk_at dksX10_lookAt_0 12 rfl rfl)
theorem dX10_lookAt_13 : decode cX10_lookAt 13 = .ok (.istore 5, 2) := dk_54 5 (dk_at dksX10_lookAt_0 13 rfl rfl)
theorem dX10_lookAt_15 : decode cX10_lookAt 15 = .ok (.iload 5, 2) := dk_21 5 (dk_at dksX10_lookAt_0 15 rfl rfl)
theorem dX10_lookAt_17 : decode cX10_lookAt 17 = .ok (.sipush 256, 3) := dk_17 1 0 (dk_at dksX10_lookAt_0 17 rfl rfl)
theorem dX10_lookAt_20 : decode cX10_lookAt 20 = .ok (.if_icmp .ge 62, 3) := dk_162 0 62 (dk_at dksX10_lookAt_0 20 rfl rfl)
theorem dX10_lookAt_23 : decode cX10_lookAt 23 = .ok (.aload_n 0, 1) := dk_42 (dk_at dksX10_lookAt_0 23 rfl rfl)
theorem dX10_lookAt_24 : decode cX10_lookAt 24 = .ok (.iload_n 2, 1) := dk_28 (dk_at dksX10_lookAt_1 0 rfl rfl)
theorem dX10_lookAt_25 : decode cX10_lookAt 25 = .ok (.iload 5, 2) := dk_21 5 (dk_at dksX10_lookAt_1 1 rfl rfl)
theorem dX10_lookAt_27 : decode cX10_lookAt 27 = .ok (.invokevirtual 497, 3) := dk_182 1 241 (dk_at dksX10_lookAt_1 3 rfl rfl)
theorem dX10_lookAt_30 : decode cX10_lookAt 30 = .ok (.iload_n 3, 1) := dk_29 (dk_at dksX10_lookAt_1 6 rfl rfl)
theorem dX10_lookAt_31 : decode cX10_lookAt 31 = .ok (.if_icmp .ne 45, 3) := dk_160 0 45 (dk_at dksX10_lookAt_1 7 rfl rfl)
theorem dX10_lookAt_34 : decode cX10_lookAt 34 = .ok (.aload_n 0, 1) := dk_42 (dk_at dksX10_lookAt_1 10 rfl rfl)
theorem dX10_lookAt_35 : decode cX10_lookAt 35 = .ok (.getfield 99, 3) := dk_180 0 99 (dk_at dksX10_lookAt_1 11 rfl rfl)
theorem dX10_lookAt_38 : decode cX10_lookAt 38 = .ok (.sipush 2048, 3) := dk_17 8 0 (dk_at dksX10_lookAt_1 14 rfl rfl)
theorem dX10_lookAt_41 : decode cX10_lookAt 41 = .ok (.iload_n 1, 1) := dk_27 (dk_at dksX10_lookAt_1 17 rfl rfl)
theorem dX10_lookAt_42 : decode cX10_lookAt 42 = .ok (.iconst 1, 1) := dk_4 (dk_at dksX10_lookAt_1 18 rfl rfl)
theorem dX10_lookAt_43 : decode cX10_lookAt 43 = .ok (.iadd, 1) := dk_96 (dk_at dksX10_lookAt_1 19 rfl rfl)
theorem dX10_lookAt_44 : decode cX10_lookAt 44 = .ok (.imul, 1) := dk_104 (dk_at dksX10_lookAt_1 20 rfl rfl)
theorem dX10_lookAt_45 : decode cX10_lookAt 45 = .ok (.sipush 256, 3) := dk_17 1 0 (dk_at dksX10_lookAt_1 21 rfl rfl)
theorem dX10_lookAt_48 : decode cX10_lookAt 48 = .ok (.iload 4, 2) := dk_21 4 (dk_at dksX10_lookAt_2 0 rfl rfl)
theorem dX10_lookAt_50 : decode cX10_lookAt 50 = .ok (.imul, 1) := dk_104 (dk_at dksX10_lookAt_2 2 rfl rfl)
theorem dX10_lookAt_51 : decode cX10_lookAt 51 = .ok (.iadd, 1) := dk_96 (dk_at dksX10_lookAt_2 3 rfl rfl)
theorem dX10_lookAt_52 : decode cX10_lookAt 52 = .ok (.iload 5, 2) := dk_21 5 (dk_at dksX10_lookAt_2 4 rfl rfl)
theorem dX10_lookAt_54 : decode cX10_lookAt 54 = .ok (.iadd, 1) := dk_96 (dk_at dksX10_lookAt_2 6 rfl rfl)
theorem dX10_lookAt_55 : decode cX10_lookAt 55 = .ok (.aload_n 0, 1) := dk_42 (dk_at dksX10_lookAt_2 7 rfl rfl)
theorem dX10_lookAt_56 : decode cX10_lookAt 56 = .ok (.getfield 99, 3) := dk_180 0 99 (dk_at dksX10_lookAt_2 8 rfl rfl)
theorem dX10_lookAt_59 : decode cX10_lookAt 59 = .ok (.sipush 2048, 3) := dk_17 8 0 (dk_at dksX10_lookAt_2 11 rfl rfl)
theorem dX10_lookAt_62 : decode cX10_lookAt 62 = .ok (.iload_n 1, 1) := dk_27 (dk_at dksX10_lookAt_2 14 rfl rfl)
theorem dX10_lookAt_63 : decode cX10_lookAt 63 = .ok (.imul, 1) := dk_104 (dk_at dksX10_lookAt_2 15 rfl rfl)
theorem dX10_lookAt_64 : decode cX10_lookAt 64 = .ok (.sipush 256, 3) := dk_17 1 0 (dk_at dksX10_lookAt_2 16 rfl rfl)
theorem dX10_lookAt_67 : decode cX10_lookAt 67 = .ok (.iload 4, 2) := dk_21 4 (dk_at dksX10_lookAt_2 19 rfl rfl)
theorem dX10_lookAt_69 : decode cX10_lookAt 69 = .ok (.imul, 1) := dk_104 (dk_at dksX10_lookAt_2 21 rfl rfl)
theorem dX10_lookAt_70 : decode cX10_lookAt 70 = .ok (.iadd, 1) := dk_96 (dk_at dksX10_lookAt_2 22 rfl rfl)
theorem dX10_lookAt_71 : decode cX10_lookAt 71 = .ok (.iload 5, 2) := dk_21 5 (dk_at dksX10_lookAt_3 0 rfl rfl)
theorem dX10_lookAt_73 : decode cX10_lookAt 73 = .ok (.iadd, 1) := dk_96 (dk_at dksX10_lookAt_3 2 rfl rfl)
theorem dX10_lookAt_74 : decode cX10_lookAt 74 = .ok (.laload, 1) := dk_47 (dk_at dksX10_lookAt_3 3 rfl rfl)
theorem dX10_lookAt_75 : decode cX10_lookAt 75 = .ok (.lastore, 1) := dk_80 (dk_at dksX10_lookAt_3 4 rfl rfl)
theorem dX10_lookAt_76 : decode cX10_lookAt 76 = .ok (.iinc 5 1, 3) := dk_132 5 1 (dk_at dksX10_lookAt_3 5 rfl rfl)
theorem dX10_lookAt_79 : decode cX10_lookAt 79 = .ok (.goto (-64), 3) := dk_167 255 192 (dk_at dksX10_lookAt_3 8 rfl rfl)
theorem dX10_lookAt_82 : decode cX10_lookAt 82 = .ok (.iinc 4 1, 3) := dk_132 4 1 (dk_at dksX10_lookAt_3 11 rfl rfl)
theorem dX10_lookAt_85 : decode cX10_lookAt 85 = .ok (.goto (-82), 3) := dk_167 255 174 (dk_at dksX10_lookAt_3 14 rfl rfl)
theorem dX10_lookAt_88 : decode cX10_lookAt 88 = .ok (.iconst 0, 1) := dk_3 (dk_at dksX10_lookAt_3 17 rfl rfl)
theorem dX10_lookAt_89 : decode cX10_lookAt 89 = .ok (.istore 4, 2) := dk_54 4 (dk_at dksX10_lookAt_3 18 rfl rfl)
theorem dX10_lookAt_91 : decode cX10_lookAt 91 = .ok (.iload 4, 2) := dk_21 4 (dk_at dksX10_lookAt_3 20 rfl rfl)
theorem dX10_lookAt_93 : decode cX10_lookAt 93 = .ok (.aload_n 0, 1) := dk_42 (dk_at dksX10_lookAt_3 22 rfl rfl)
theorem dX10_lookAt_94 : decode cX10_lookAt 94 = .ok (.getfield 64, 3) := dk_180 0 64 (dk_at dksX10_lookAt_4 0 rfl rfl)
theorem dX10_lookAt_97 : decode cX10_lookAt 97 = .ok (.iload_n 2, 1) := dk_28 (dk_at dksX10_lookAt_4 3 rfl rfl)
theorem dX10_lookAt_98 : decode cX10_lookAt 98 = .ok (.iaload, 1) := dk_46 (dk_at dksX10_lookAt_4 4 rfl rfl)
theorem dX10_lookAt_99 : decode cX10_lookAt 99 = .ok (.if_icmp .ge 62, 3) := dk_162 0 62 (dk_at dksX10_lookAt_4 5 rfl rfl)
theorem dX10_lookAt_102 : decode cX10_lookAt 102 = .ok (.aload_n 0, 1) := dk_42 (dk_at dksX10_lookAt_4 8 rfl rfl)
theorem dX10_lookAt_103 : decode cX10_lookAt 103 = .ok (.getfield 67, 3) := dk_180 0 67 (dk_at dksX10_lookAt_4 9 rfl rfl)
theorem dX10_lookAt_106 : decode cX10_lookAt 106 = .ok (.bipush 8, 2) := dk_16 8 (dk_at dksX10_lookAt_4 12 rfl rfl)
theorem dX10_lookAt_108 : decode cX10_lookAt 108 = .ok (.iload_n 2, 1) := dk_28 (dk_at dksX10_lookAt_4 14 rfl rfl)
theorem dX10_lookAt_109 : decode cX10_lookAt 109 = .ok (.imul, 1) := dk_104 (dk_at dksX10_lookAt_4 15 rfl rfl)
theorem dX10_lookAt_110 : decode cX10_lookAt 110 = .ok (.iload 4, 2) := dk_21 4 (dk_at dksX10_lookAt_4 16 rfl rfl)
theorem dX10_lookAt_112 : decode cX10_lookAt 112 = .ok (.iadd, 1) := dk_96 (dk_at dksX10_lookAt_4 18 rfl rfl)
theorem dX10_lookAt_113 : decode cX10_lookAt 113 = .ok (.iaload, 1) := dk_46 (dk_at dksX10_lookAt_4 19 rfl rfl)
theorem dX10_lookAt_114 : decode cX10_lookAt 114 = .ok (.istore 5, 2) := dk_54 5 (dk_at dksX10_lookAt_4 20 rfl rfl)
theorem dX10_lookAt_116 : decode cX10_lookAt 116 = .ok (.aload_n 0, 1) := dk_42 (dk_at dksX10_lookAt_4 22 rfl rfl)
theorem dX10_lookAt_117 : decode cX10_lookAt 117 = .ok (.getfield 114, 3) := dk_180 0 114 (dk_at dksX10_lookAt_5 0 rfl rfl)
theorem dX10_lookAt_120 : decode cX10_lookAt 120 = .ok (.iload_n 1, 1) := dk_27 (dk_at dksX10_lookAt_5 3 rfl rfl)
theorem dX10_lookAt_121 : decode cX10_lookAt 121 = .ok (.iconst 1, 1) := dk_4 (dk_at dksX10_lookAt_5 4 rfl rfl)
theorem dX10_lookAt_122 : decode cX10_lookAt 122 = .ok (.iadd, 1) := dk_96 (dk_at dksX10_lookAt_5 5 rfl rfl)
theorem dX10_lookAt_123 : decode cX10_lookAt 123 = .ok (.aload_n 0, 1) := dk_42 (dk_at dksX10_lookAt_5 6 rfl rfl)
theorem dX10_lookAt_124 : decode cX10_lookAt 124 = .ok (.getfield 114, 3) := dk_180 0 114 (dk_at dksX10_lookAt_5 7 rfl rfl)
theorem dX10_lookAt_127 : decode cX10_lookAt 127 = .ok (.iload_n 1, 1) := dk_27 (dk_at dksX10_lookAt_5 10 rfl rfl)
theorem dX10_lookAt_128 : decode cX10_lookAt 128 = .ok (.iconst 1, 1) := dk_4 (dk_at dksX10_lookAt_5 11 rfl rfl)
theorem dX10_lookAt_129 : decode cX10_lookAt 129 = .ok (.iadd, 1) := dk_96 (dk_at dksX10_lookAt_5 12 rfl rfl)
theorem dX10_lookAt_130 : decode cX10_lookAt 130 = .ok (.iaload, 1) := dk_46 (dk_at dksX10_lookAt_5 13 rfl rfl)
theorem dX10_lookAt_131 : decode cX10_lookAt 131 = .ok (.iconst 3, 1) := dk_6 (dk_at dksX10_lookAt_5 14 rfl rfl)
theorem dX10_lookAt_132 : decode cX10_lookAt 132 = .ok (.iconst 2, 1) := dk_5 (dk_at dksX10_lookAt_5 15 rfl rfl)
theorem dX10_lookAt_133 : decode cX10_lookAt 133 = .ok (.iload 5, 2) := dk_21 5 (dk_at dksX10_lookAt_5 16 rfl rfl)
theorem dX10_lookAt_135 : decode cX10_lookAt 135 = .ok (.imul, 1) := dk_104 (dk_at dksX10_lookAt_5 18 rfl rfl)
theorem dX10_lookAt_136 : decode cX10_lookAt 136 = .ok (.ishl, 1) := dk_120 (dk_at dksX10_lookAt_5 19 rfl rfl)
theorem dX10_lookAt_137 : decode cX10_lookAt 137 = .ok (.iconst (-1), 1) := dk_2 (dk_at dksX10_lookAt_5 20 rfl rfl)
theorem dX10_lookAt_138 : decode cX10_lookAt 138 = .ok (.ixor, 1) := dk_130 (dk_at dksX10_lookAt_5 21 rfl rfl)
theorem dX10_lookAt_139 : decode cX10_lookAt 139 = .ok (.iand, 1) := dk_126 (dk_at dksX10_lookAt_5 22 rfl rfl)
theorem dX10_lookAt_140 : decode cX10_lookAt 140 = .ok (.iload_n 3, 1) := dk_29 (dk_at dksX10_lookAt_5 23 rfl rfl)
theorem dX10_lookAt_141 : decode cX10_lookAt 141 = .ok (.iload 4, 2) := dk_21 4 (dk_at dksX10_lookAt_6 0 rfl rfl)
theorem dX10_lookAt_143 : decode cX10_lookAt 143 = .ok (.ishr, 1) := dk_122 (dk_at dksX10_lookAt_6 2 rfl rfl)
theorem dX10_lookAt_144 : decode cX10_lookAt 144 = .ok (.iconst 1, 1) := dk_4 (dk_at dksX10_lookAt_6 3 rfl rfl)
theorem dX10_lookAt_145 : decode cX10_lookAt 145 = .ok (.iand, 1) := dk_126 (dk_at dksX10_lookAt_6 4 rfl rfl)
theorem dX10_lookAt_146 : decode cX10_lookAt 146 = .ok (.iconst 1, 1) := dk_4 (dk_at dksX10_lookAt_6 5 rfl rfl)
theorem dX10_lookAt_147 : decode cX10_lookAt 147 = .ok (.iadd, 1) := dk_96 (dk_at dksX10_lookAt_6 6 rfl rfl)
theorem dX10_lookAt_148 : decode cX10_lookAt 148 = .ok (.iconst 2, 1) := dk_5 (dk_at dksX10_lookAt_6 7 rfl rfl)
theorem dX10_lookAt_149 : decode cX10_lookAt 149 = .ok (.iload 5, 2) := dk_21 5 (dk_at dksX10_lookAt_6 8 rfl rfl)
theorem dX10_lookAt_151 : decode cX10_lookAt 151 = .ok (.imul, 1) := dk_104 (dk_at dksX10_lookAt_6 10 rfl rfl)
theorem dX10_lookAt_152 : decode cX10_lookAt 152 = .ok (.ishl, 1) := dk_120 (dk_at dksX10_lookAt_6 11 rfl rfl)
theorem dX10_lookAt_153 : decode cX10_lookAt 153 = .ok (.ior, 1) := dk_128 (dk_at dksX10_lookAt_6 12 rfl rfl)
theorem dX10_lookAt_154 : decode cX10_lookAt 154 = .ok (.iastore, 1) := dk_79 (dk_at dksX10_lookAt_6 13 rfl rfl)
theorem dX10_lookAt_155 : decode cX10_lookAt 155 = .ok (.iinc 4 1, 3) := dk_132 4 1 (dk_at dksX10_lookAt_6 14 rfl rfl)
theorem dX10_lookAt_158 : decode cX10_lookAt 158 = .ok (.goto (-67), 3) := dk_167 255 189 (dk_at dksX10_lookAt_6 17 rfl rfl)
theorem dX10_lookAt_161 : decode cX10_lookAt 161 = .ok (.return_, 1) := dk_177 (dk_at dksX10_lookAt_6 20 rfl rfl)
abbrev cX10_colours : ByteArray := prog_32_method_67_code
def yX10_colours : MethodName := ⟨RX10, "colours", "(II)I"⟩
def dkwX10_colours_1 : List UInt8 := [27, 104, 21, 4, 96, 46, 122, 4, 126, 21, 4, 120, 128, 62, 132, 4, 1, 167, 255, 220, 29, 172]
abbrev dktX10_colours_1 : List UInt8 := dkwX10_colours_1 ++ []
def dkwX10_colours_0 : List UInt8 := [3, 62, 3, 54, 4, 21, 4, 42, 180, 0, 64, 27, 46, 162, 0, 31, 29, 28, 42, 180, 0, 67, 16, 8]
abbrev dktX10_colours_0 : List UInt8 := dkwX10_colours_0 ++ dktX10_colours_1
theorem dksX10_colours_0 : cX10_colours.data.toList.drop 0 = dktX10_colours_0 := by decide +kernel
theorem dksX10_colours_1 : cX10_colours.data.toList.drop 24 = dktX10_colours_1 := dk_seg dksX10_colours_0 24 rfl rfl
theorem dX10_colours_0 : decode cX10_colours 0 = .ok (.iconst 0, 1) := dk_3 (dk_at dksX10_colours_0 0 rfl rfl)
theorem dX10_colours_1 : decode cX10_colours 1 = .ok (.istore_n 3, 1) := dk_62 (dk_at dksX10_colours_0 1 rfl rfl)
theorem dX10_colours_2 : decode cX10_colours 2 = .ok (.iconst 0, 1) := dk_3 (dk_at dksX10_colours_0 2 rfl rfl)
theorem dX10_colours_3 : decode cX10_colours 3 = .ok (.istore 4, 2) := dk_54 4 (dk_at dksX10_colours_0 3 rfl rfl)
theorem dX10_colours_5 : decode cX10_colours 5 = .ok (.iload 4, 2) := dk_21 4 (dk_at dksX10_colours_0 5 rfl rfl)
theorem dX10_colours_7 : decode cX10_colours 7 = .ok (.aload_n 0, 1) := dk_42 (dk_at dksX10_colours_0 7 rfl rfl)
theorem dX10_colours_8 : decode cX10_colours 8 = .ok (.getfield 64, 3) := dk_180 0 64 (dk_at dksX10_colours_0 8 rfl rfl)
theorem dX10_colours_11 : decode cX10_colours 11 = .ok (.iload_n 1, 1) := dk_27 (dk_at dksX10_colours_0 11 rfl rfl)
theorem dX10_colours_12 : decode cX10_colours 12 = .ok (.iaload, 1) := dk_46 (dk_at dksX10_colours_0 12 rfl rfl)
theorem dX10_colours_13 : decode cX10_colours 13 = .ok (.if_icmp .ge 31, 3) := dk_162 0 31 (dk_at dksX10_colours_0 13 rfl rfl)
theorem dX10_colours_16 : decode cX10_colours 16 = .ok (.iload_n 3, 1) := dk_29 (dk_at dksX10_colours_0 16 rfl rfl)
theorem dX10_colours_17 : decode cX10_colours 17 = .ok (.iload_n 2, 1) := dk_28 (dk_at dksX10_colours_0 17 rfl rfl)
theorem dX10_colours_18 : decode cX10_colours 18 = .ok (.aload_n 0, 1) := dk_42 (dk_at dksX10_colours_0 18 rfl rfl)
theorem dX10_colours_19 : decode cX10_colours 19 = .ok (.getfield 67, 3) := dk_180 0 67 (dk_at dksX10_colours_0 19 rfl rfl)
theorem dX10_colours_22 : decode cX10_colours 22 = .ok (.bipush 8, 2) := dk_16 8 (dk_at dksX10_colours_0 22 rfl rfl)
theorem dX10_colours_24 : decode cX10_colours 24 = .ok (.iload_n 1, 1) := dk_27 (dk_at dksX10_colours_1 0 rfl rfl)
theorem dX10_colours_25 : decode cX10_colours 25 = .ok (.imul, 1) := dk_104 (dk_at dksX10_colours_1 1 rfl rfl)
theorem dX10_colours_26 : decode cX10_colours 26 = .ok (.iload 4, 2) := dk_21 4 (dk_at dksX10_colours_1 2 rfl rfl)
theorem dX10_colours_28 : decode cX10_colours 28 = .ok (.iadd, 1) := dk_96 (dk_at dksX10_colours_1 4 rfl rfl)
theorem dX10_colours_29 : decode cX10_colours 29 = .ok (.iaload, 1) := dk_46 (dk_at dksX10_colours_1 5 rfl rfl)
theorem dX10_colours_30 : decode cX10_colours 30 = .ok (.ishr, 1) := dk_122 (dk_at dksX10_colours_1 6 rfl rfl)
theorem dX10_colours_31 : decode cX10_colours 31 = .ok (.iconst 1, 1) := dk_4 (dk_at dksX10_colours_1 7 rfl rfl)
theorem dX10_colours_32 : decode cX10_colours 32 = .ok (.iand, 1) := dk_126 (dk_at dksX10_colours_1 8 rfl rfl)
theorem dX10_colours_33 : decode cX10_colours 33 = .ok (.iload 4, 2) := dk_21 4 (dk_at dksX10_colours_1 9 rfl rfl)
theorem dX10_colours_35 : decode cX10_colours 35 = .ok (.ishl, 1) := dk_120 (dk_at dksX10_colours_1 11 rfl rfl)
theorem dX10_colours_36 : decode cX10_colours 36 = .ok (.ior, 1) := dk_128 (dk_at dksX10_colours_1 12 rfl rfl)
theorem dX10_colours_37 : decode cX10_colours 37 = .ok (.istore_n 3, 1) := dk_62 (dk_at dksX10_colours_1 13 rfl rfl)
theorem dX10_colours_38 : decode cX10_colours 38 = .ok (.iinc 4 1, 3) := dk_132 4 1 (dk_at dksX10_colours_1 14 rfl rfl)
theorem dX10_colours_41 : decode cX10_colours 41 = .ok (.goto (-36), 3) := dk_167 255 220 (dk_at dksX10_colours_1 17 rfl rfl)
theorem dX10_colours_44 : decode cX10_colours 44 = .ok (.iload_n 3, 1) := dk_29 (dk_at dksX10_colours_1 20 rfl rfl)
theorem dX10_colours_45 : decode cX10_colours 45 = .ok (.ireturn, 1) := dk_172 (dk_at dksX10_colours_1 21 rfl rfl)
abbrev cX10_isAny : ByteArray := prog_32_method_66_code
def yX10_isAny : MethodName := ⟨RX10, "isAny", "(I)Z"⟩
def dkwX10_isAny_1 : List UInt8 := [47, 9, 148, 153, 0, 5, 4, 172, 132, 2, 1, 167, 255, 227, 3, 172]
abbrev dktX10_isAny_1 : List UInt8 := dkwX10_isAny_1 ++ []
def dkwX10_isAny_0 : List UInt8 := [17, 8, 0, 27, 104, 61, 28, 17, 8, 0, 27, 104, 17, 8, 0, 96, 162, 0, 22, 42, 180, 0, 99, 28]
abbrev dktX10_isAny_0 : List UInt8 := dkwX10_isAny_0 ++ dktX10_isAny_1
theorem dksX10_isAny_0 : cX10_isAny.data.toList.drop 0 = dktX10_isAny_0 := by decide +kernel
theorem dksX10_isAny_1 : cX10_isAny.data.toList.drop 24 = dktX10_isAny_1 := dk_seg dksX10_isAny_0 24 rfl rfl
theorem dX10_isAny_0 : decode cX10_isAny 0 = .ok (.sipush 2048, 3) := dk_17 8 0 (dk_at dksX10_isAny_0 0 rfl rfl)
theorem dX10_isAny_3 : decode cX10_isAny 3 = .ok (.iload_n 1, 1) := dk_27 (dk_at dksX10_isAny_0 3 rfl rfl)
theorem dX10_isAny_4 : decode cX10_isAny 4 = .ok (.imul, 1) := dk_104 (dk_at dksX10_isAny_0 4 rfl rfl)
theorem dX10_isAny_5 : decode cX10_isAny 5 = .ok (.istore_n 2, 1) := dk_61 (dk_at dksX10_isAny_0 5 rfl rfl)
theorem dX10_isAny_6 : decode cX10_isAny 6 = .ok (.iload_n 2, 1) := dk_28 (dk_at dksX10_isAny_0 6 rfl rfl)
theorem dX10_isAny_7 : decode cX10_isAny 7 = .ok (.sipush 2048, 3) := dk_17 8 0 (dk_at dksX10_isAny_0 7 rfl rfl)
theorem dX10_isAny_10 : decode cX10_isAny 10 = .ok (.iload_n 1, 1) := dk_27 (dk_at dksX10_isAny_0 10 rfl rfl)
theorem dX10_isAny_11 : decode cX10_isAny 11 = .ok (.imul, 1) := dk_104 (dk_at dksX10_isAny_0 11 rfl rfl)
theorem dX10_isAny_12 : decode cX10_isAny 12 = .ok (.sipush 2048, 3) := dk_17 8 0 (dk_at dksX10_isAny_0 12 rfl rfl)
theorem dX10_isAny_15 : decode cX10_isAny 15 = .ok (.iadd, 1) := dk_96 (dk_at dksX10_isAny_0 15 rfl rfl)
theorem dX10_isAny_16 : decode cX10_isAny 16 = .ok (.if_icmp .ge 22, 3) := dk_162 0 22 (dk_at dksX10_isAny_0 16 rfl rfl)
theorem dX10_isAny_19 : decode cX10_isAny 19 = .ok (.aload_n 0, 1) := dk_42 (dk_at dksX10_isAny_0 19 rfl rfl)
theorem dX10_isAny_20 : decode cX10_isAny 20 = .ok (.getfield 99, 3) := dk_180 0 99 (dk_at dksX10_isAny_0 20 rfl rfl)
theorem dX10_isAny_23 : decode cX10_isAny 23 = .ok (.iload_n 2, 1) := dk_28 (dk_at dksX10_isAny_0 23 rfl rfl)
theorem dX10_isAny_24 : decode cX10_isAny 24 = .ok (.laload, 1) := dk_47 (dk_at dksX10_isAny_1 0 rfl rfl)
theorem dX10_isAny_25 : decode cX10_isAny 25 = .ok (.lconst 0, 1) := dk_9 (dk_at dksX10_isAny_1 1 rfl rfl)
theorem dX10_isAny_26 : decode cX10_isAny 26 = .ok (.lcmp, 1) := dk_148 (dk_at dksX10_isAny_1 2 rfl rfl)
theorem dX10_isAny_27 : decode cX10_isAny 27 = .ok (.ifCond .eq 5, 3) := dk_153 0 5 (dk_at dksX10_isAny_1 3 rfl rfl)
theorem dX10_isAny_30 : decode cX10_isAny 30 = .ok (.iconst 1, 1) := dk_4 (dk_at dksX10_isAny_1 6 rfl rfl)
theorem dX10_isAny_31 : decode cX10_isAny 31 = .ok (.ireturn, 1) := dk_172 (dk_at dksX10_isAny_1 7 rfl rfl)
theorem dX10_isAny_32 : decode cX10_isAny 32 = .ok (.iinc 2 1, 3) := dk_132 2 1 (dk_at dksX10_isAny_1 8 rfl rfl)
theorem dX10_isAny_35 : decode cX10_isAny 35 = .ok (.goto (-29), 3) := dk_167 255 227 (dk_at dksX10_isAny_1 11 rfl rfl)
theorem dX10_isAny_38 : decode cX10_isAny 38 = .ok (.iconst 0, 1) := dk_3 (dk_at dksX10_isAny_1 14 rfl rfl)
theorem dX10_isAny_39 : decode cX10_isAny 39 = .ok (.ireturn, 1) := dk_172 (dk_at dksX10_isAny_1 15 rfl rfl)
abbrev cX10_recipe : ByteArray := prog_32_method_16_code
def yX10_recipe : MethodName := ⟨RX10, "recipe", "()I"⟩
def dkwX10_recipe_6 : List UInt8 := [132, 1, 1, 167, 255, 241, 42, 182, 0, 180, 42, 180, 0, 24, 42, 180, 1, 53, 46, 172]
abbrev dktX10_recipe_6 : List UInt8 := dkwX10_recipe_6 ++ []
def dkwX10_recipe_5 : List UInt8 := [42, 3, 181, 1, 62, 42, 3, 181, 1, 65, 3, 60, 27, 6, 162, 0, 16, 42, 180, 0, 162, 27, 2, 79]
abbrev dktX10_recipe_5 : List UInt8 := dkwX10_recipe_5 ++ dktX10_recipe_6
def dkwX10_recipe_4 : List UInt8 := [167, 255, 238, 42, 182, 1, 59, 42, 182, 1, 27, 154, 0, 5, 2, 172, 42, 42, 180, 1, 40, 181, 1, 53]
abbrev dktX10_recipe_4 : List UInt8 := dkwX10_recipe_4 ++ dktX10_recipe_5
def dkwX10_recipe_3 : List UInt8 := [42, 182, 1, 31, 42, 182, 1, 27, 153, 0, 17, 42, 180, 0, 255, 153, 0, 10, 42, 182, 1, 56]
abbrev dktX10_recipe_3 : List UInt8 := dkwX10_recipe_3 ++ dktX10_recipe_4
def dkwX10_recipe_2 : List UInt8 := [42, 3, 181, 1, 50, 42, 3, 181, 0, 245, 42, 4, 42, 180, 1, 53, 100, 181, 1, 40, 42, 182, 0, 177]
abbrev dktX10_recipe_2 : List UInt8 := dkwX10_recipe_2 ++ dktX10_recipe_3
def dkwX10_recipe_1 : List UInt8 := [180, 0, 183, 162, 0, 21, 42, 180, 0, 13, 27, 42, 180, 0, 7, 27, 51, 84, 132, 1, 1, 167, 255, 233]
abbrev dktX10_recipe_1 : List UInt8 := dkwX10_recipe_1 ++ dktX10_recipe_2
def dkwX10_recipe_0 : List UInt8 := [42, 3, 181, 0, 186, 42, 2, 181, 0, 16, 42, 42, 180, 1, 50, 181, 0, 183, 3, 60, 27, 42]
abbrev dktX10_recipe_0 : List UInt8 := dkwX10_recipe_0 ++ dktX10_recipe_1
theorem dksX10_recipe_0 : cX10_recipe.data.toList.drop 0 = dktX10_recipe_0 := by decide +kernel
theorem dksX10_recipe_1 : cX10_recipe.data.toList.drop 22 = dktX10_recipe_1 := dk_seg dksX10_recipe_0 22 rfl rfl
theorem dksX10_recipe_2 : cX10_recipe.data.toList.drop 46 = dktX10_recipe_2 := dk_seg dksX10_recipe_1 24 rfl rfl
theorem dksX10_recipe_3 : cX10_recipe.data.toList.drop 70 = dktX10_recipe_3 := dk_seg dksX10_recipe_2 24 rfl rfl
theorem dksX10_recipe_4 : cX10_recipe.data.toList.drop 92 = dktX10_recipe_4 := dk_seg dksX10_recipe_3 22 rfl rfl
theorem dksX10_recipe_5 : cX10_recipe.data.toList.drop 116 = dktX10_recipe_5 := dk_seg dksX10_recipe_4 24 rfl rfl
theorem dksX10_recipe_6 : cX10_recipe.data.toList.drop 140 = dktX10_recipe_6 := dk_seg dksX10_recipe_5 24 rfl rfl
theorem dX10_recipe_0 : decode cX10_recipe 0 = .ok (.aload_n 0, 1) := dk_42 (dk_at dksX10_recipe_0 0 rfl rfl)
theorem dX10_recipe_1 : decode cX10_recipe 1 = .ok (.iconst 0, 1) := dk_3 (dk_at dksX10_recipe_0 1 rfl rfl)
theorem dX10_recipe_2 : decode cX10_recipe 2 = .ok (.putfield 186, 3) := dk_181 0 186 (dk_at dksX10_recipe_0 2 rfl rfl)
theorem dX10_recipe_5 : decode cX10_recipe 5 = .ok (.aload_n 0, 1) := dk_42 (dk_at dksX10_recipe_0 5 rfl rfl)
theorem dX10_recipe_6 : decode cX10_recipe 6 = .ok (.iconst (-1), 1) := dk_2 (dk_at dksX10_recipe_0 6 rfl rfl)
theorem dX10_recipe_7 : decode cX10_recipe 7 = .ok (.putfield 16, 3) := dk_181 0 16 (dk_at dksX10_recipe_0 7 rfl rfl)
theorem dX10_recipe_10 : decode cX10_recipe 10 = .ok (.aload_n 0, 1) := dk_42 (dk_at dksX10_recipe_0 10 rfl rfl)
theorem dX10_recipe_11 : decode cX10_recipe 11 = .ok (.aload_n 0, 1) := dk_42 (dk_at dksX10_recipe_0 11 rfl rfl)
theorem dX10_recipe_12 : decode cX10_recipe 12 = .ok (.getfield 306, 3) := dk_180 1 50 (dk_at dksX10_recipe_0 12 rfl rfl)
theorem dX10_recipe_15 : decode cX10_recipe 15 = .ok (.putfield 183, 3) := dk_181 0 183 (dk_at dksX10_recipe_0 15 rfl rfl)
theorem dX10_recipe_18 : decode cX10_recipe 18 = .ok (.iconst 0, 1) := dk_3 (dk_at dksX10_recipe_0 18 rfl rfl)
theorem dX10_recipe_19 : decode cX10_recipe 19 = .ok (.istore_n 1, 1) := dk_60 (dk_at dksX10_recipe_0 19 rfl rfl)
theorem dX10_recipe_20 : decode cX10_recipe 20 = .ok (.iload_n 1, 1) := dk_27 (dk_at dksX10_recipe_0 20 rfl rfl)
theorem dX10_recipe_21 : decode cX10_recipe 21 = .ok (.aload_n 0, 1) := dk_42 (dk_at dksX10_recipe_0 21 rfl rfl)
theorem dX10_recipe_22 : decode cX10_recipe 22 = .ok (.getfield 183, 3) := dk_180 0 183 (dk_at dksX10_recipe_1 0 rfl rfl)
theorem dX10_recipe_25 : decode cX10_recipe 25 = .ok (.if_icmp .ge 21, 3) := dk_162 0 21 (dk_at dksX10_recipe_1 3 rfl rfl)
theorem dX10_recipe_28 : decode cX10_recipe 28 = .ok (.aload_n 0, 1) := dk_42 (dk_at dksX10_recipe_1 6 rfl rfl)
theorem dX10_recipe_29 : decode cX10_recipe 29 = .ok (.getfield 13, 3) := dk_180 0 13 (dk_at dksX10_recipe_1 7 rfl rfl)
theorem dX10_recipe_32 : decode cX10_recipe 32 = .ok (.iload_n 1, 1) := dk_27 (dk_at dksX10_recipe_1 10 rfl rfl)
theorem dX10_recipe_33 : decode cX10_recipe 33 = .ok (.aload_n 0, 1) := dk_42 (dk_at dksX10_recipe_1 11 rfl rfl)
theorem dX10_recipe_34 : decode cX10_recipe 34 = .ok (.getfield 7, 3) := dk_180 0 7 (dk_at dksX10_recipe_1 12 rfl rfl)
theorem dX10_recipe_37 : decode cX10_recipe 37 = .ok (.iload_n 1, 1) := dk_27 (dk_at dksX10_recipe_1 15 rfl rfl)
theorem dX10_recipe_38 : decode cX10_recipe 38 = .ok (.baload, 1) := dk_51 (dk_at dksX10_recipe_1 16 rfl rfl)
theorem dX10_recipe_39 : decode cX10_recipe 39 = .ok (.bastore, 1) := dk_84 (dk_at dksX10_recipe_1 17 rfl rfl)
theorem dX10_recipe_40 : decode cX10_recipe 40 = .ok (.iinc 1 1, 3) := dk_132 1 1 (dk_at dksX10_recipe_1 18 rfl rfl)
theorem dX10_recipe_43 : decode cX10_recipe 43 = .ok (.goto (-23), 3) := dk_167 255 233 (dk_at dksX10_recipe_1 21 rfl rfl)
theorem dX10_recipe_46 : decode cX10_recipe 46 = .ok (.aload_n 0, 1) := dk_42 (dk_at dksX10_recipe_2 0 rfl rfl)
theorem dX10_recipe_47 : decode cX10_recipe 47 = .ok (.iconst 0, 1) := dk_3 (dk_at dksX10_recipe_2 1 rfl rfl)
theorem dX10_recipe_48 : decode cX10_recipe 48 = .ok (.putfield 306, 3) := dk_181 1 50 (dk_at dksX10_recipe_2 2 rfl rfl)
theorem dX10_recipe_51 : decode cX10_recipe 51 = .ok (.aload_n 0, 1) := dk_42 (dk_at dksX10_recipe_2 5 rfl rfl)
theorem dX10_recipe_52 : decode cX10_recipe 52 = .ok (.iconst 0, 1) := dk_3 (dk_at dksX10_recipe_2 6 rfl rfl)
theorem dX10_recipe_53 : decode cX10_recipe 53 = .ok (.putfield 245, 3) := dk_181 0 245 (dk_at dksX10_recipe_2 7 rfl rfl)
theorem dX10_recipe_56 : decode cX10_recipe 56 = .ok (.aload_n 0, 1) := dk_42 (dk_at dksX10_recipe_2 10 rfl rfl)
theorem dX10_recipe_57 : decode cX10_recipe 57 = .ok (.iconst 1, 1) := dk_4 (dk_at dksX10_recipe_2 11 rfl rfl)
theorem dX10_recipe_58 : decode cX10_recipe 58 = .ok (.aload_n 0, 1) := dk_42 (dk_at dksX10_recipe_2 12 rfl rfl)
theorem dX10_recipe_59 : decode cX10_recipe 59 = .ok (.getfield 309, 3) := dk_180 1 53 (dk_at dksX10_recipe_2 13 rfl rfl)
theorem dX10_recipe_62 : decode cX10_recipe 62 = .ok (.isub, 1) := dk_100 (dk_at dksX10_recipe_2 16 rfl rfl)
theorem dX10_recipe_63 : decode cX10_recipe 63 = .ok (.putfield 296, 3) := dk_181 1 40 (dk_at dksX10_recipe_2 17 rfl rfl)
theorem dX10_recipe_66 : decode cX10_recipe 66 = .ok (.aload_n 0, 1) := dk_42 (dk_at dksX10_recipe_2 20 rfl rfl)
theorem dX10_recipe_67 : decode cX10_recipe 67 = .ok (.invokevirtual 177, 3) := dk_182 0 177 (dk_at dksX10_recipe_2 21 rfl rfl)
theorem dX10_recipe_70 : decode cX10_recipe 70 = .ok (.aload_n 0, 1) := dk_42 (dk_at dksX10_recipe_3 0 rfl rfl)
theorem dX10_recipe_71 : decode cX10_recipe 71 = .ok (.invokevirtual 287, 3) := dk_182 1 31 (dk_at dksX10_recipe_3 1 rfl rfl)
theorem dX10_recipe_74 : decode cX10_recipe 74 = .ok (.aload_n 0, 1) := dk_42 (dk_at dksX10_recipe_3 4 rfl rfl)
theorem dX10_recipe_75 : decode cX10_recipe 75 = .ok (.invokevirtual 283, 3) := dk_182 1 27 (dk_at dksX10_recipe_3 5 rfl rfl)
theorem dX10_recipe_78 : decode cX10_recipe 78 = .ok (.ifCond .eq 17, 3) := dk_153 0 17 (dk_at dksX10_recipe_3 8 rfl rfl)
theorem dX10_recipe_81 : decode cX10_recipe 81 = .ok (.aload_n 0, 1) := dk_42 (dk_at dksX10_recipe_3 11 rfl rfl)
theorem dX10_recipe_82 : decode cX10_recipe 82 = .ok (.getfield 255, 3) := dk_180 0 255 (dk_at dksX10_recipe_3 12 rfl rfl)
theorem dX10_recipe_85 : decode cX10_recipe 85 = .ok (.ifCond .eq 10, 3) := dk_153 0 10 (dk_at dksX10_recipe_3 15 rfl rfl)
theorem dX10_recipe_88 : decode cX10_recipe 88 = .ok (.aload_n 0, 1) := dk_42 (dk_at dksX10_recipe_3 18 rfl rfl)
theorem dX10_recipe_89 : decode cX10_recipe 89 = .ok (.invokevirtual 312, 3) := dk_182 1 56 (dk_at dksX10_recipe_3 19 rfl rfl)
theorem dX10_recipe_92 : decode cX10_recipe 92 = .ok (.goto (-18), 3) := dk_167 255 238 (dk_at dksX10_recipe_4 0 rfl rfl)
theorem dX10_recipe_95 : decode cX10_recipe 95 = .ok (.aload_n 0, 1) := dk_42 (dk_at dksX10_recipe_4 3 rfl rfl)
theorem dX10_recipe_96 : decode cX10_recipe 96 = .ok (.invokevirtual 315, 3) := dk_182 1 59 (dk_at dksX10_recipe_4 4 rfl rfl)
theorem dX10_recipe_99 : decode cX10_recipe 99 = .ok (.aload_n 0, 1) := dk_42 (dk_at dksX10_recipe_4 7 rfl rfl)
theorem dX10_recipe_100 : decode cX10_recipe 100 = .ok (.invokevirtual 283, 3) := dk_182 1 27 (dk_at dksX10_recipe_4 8 rfl rfl)
theorem dX10_recipe_103 : decode cX10_recipe 103 = .ok (.ifCond .ne 5, 3) := dk_154 0 5 (dk_at dksX10_recipe_4 11 rfl rfl)
theorem dX10_recipe_106 : decode cX10_recipe 106 = .ok (.iconst (-1), 1) := dk_2 (dk_at dksX10_recipe_4 14 rfl rfl)
theorem dX10_recipe_107 : decode cX10_recipe 107 = .ok (.ireturn, 1) := dk_172 (dk_at dksX10_recipe_4 15 rfl rfl)
theorem dX10_recipe_108 : decode cX10_recipe 108 = .ok (.aload_n 0, 1) := dk_42 (dk_at dksX10_recipe_4 16 rfl rfl)
theorem dX10_recipe_109 : decode cX10_recipe 109 = .ok (.aload_n 0, 1) := dk_42 (dk_at dksX10_recipe_4 17 rfl rfl)
theorem dX10_recipe_110 : decode cX10_recipe 110 = .ok (.getfield 296, 3) := dk_180 1 40 (dk_at dksX10_recipe_4 18 rfl rfl)
theorem dX10_recipe_113 : decode cX10_recipe 113 = .ok (.putfield 309, 3) := dk_181 1 53 (dk_at dksX10_recipe_4 21 rfl rfl)
theorem dX10_recipe_116 : decode cX10_recipe 116 = .ok (.aload_n 0, 1) := dk_42 (dk_at dksX10_recipe_5 0 rfl rfl)
theorem dX10_recipe_117 : decode cX10_recipe 117 = .ok (.iconst 0, 1) := dk_3 (dk_at dksX10_recipe_5 1 rfl rfl)
theorem dX10_recipe_118 : decode cX10_recipe 118 = .ok (.putfield 318, 3) := dk_181 1 62 (dk_at dksX10_recipe_5 2 rfl rfl)
theorem dX10_recipe_121 : decode cX10_recipe 121 = .ok (.aload_n 0, 1) := dk_42 (dk_at dksX10_recipe_5 5 rfl rfl)
theorem dX10_recipe_122 : decode cX10_recipe 122 = .ok (.iconst 0, 1) := dk_3 (dk_at dksX10_recipe_5 6 rfl rfl)
theorem dX10_recipe_123 : decode cX10_recipe 123 = .ok (.putfield 321, 3) := dk_181 1 65 (dk_at dksX10_recipe_5 7 rfl rfl)
theorem dX10_recipe_126 : decode cX10_recipe 126 = .ok (.iconst 0, 1) := dk_3 (dk_at dksX10_recipe_5 10 rfl rfl)
theorem dX10_recipe_127 : decode cX10_recipe 127 = .ok (.istore_n 1, 1) := dk_60 (dk_at dksX10_recipe_5 11 rfl rfl)
theorem dX10_recipe_128 : decode cX10_recipe 128 = .ok (.iload_n 1, 1) := dk_27 (dk_at dksX10_recipe_5 12 rfl rfl)
theorem dX10_recipe_129 : decode cX10_recipe 129 = .ok (.iconst 3, 1) := dk_6 (dk_at dksX10_recipe_5 13 rfl rfl)
theorem dX10_recipe_130 : decode cX10_recipe 130 = .ok (.if_icmp .ge 16, 3) := dk_162 0 16 (dk_at dksX10_recipe_5 14 rfl rfl)
theorem dX10_recipe_133 : decode cX10_recipe 133 = .ok (.aload_n 0, 1) := dk_42 (dk_at dksX10_recipe_5 17 rfl rfl)
theorem dX10_recipe_134 : decode cX10_recipe 134 = .ok (.getfield 162, 3) := dk_180 0 162 (dk_at dksX10_recipe_5 18 rfl rfl)
theorem dX10_recipe_137 : decode cX10_recipe 137 = .ok (.iload_n 1, 1) := dk_27 (dk_at dksX10_recipe_5 21 rfl rfl)
theorem dX10_recipe_138 : decode cX10_recipe 138 = .ok (.iconst (-1), 1) := dk_2 (dk_at dksX10_recipe_5 22 rfl rfl)
theorem dX10_recipe_139 : decode cX10_recipe 139 = .ok (.iastore, 1) := dk_79 (dk_at dksX10_recipe_5 23 rfl rfl)
theorem dX10_recipe_140 : decode cX10_recipe 140 = .ok (.iinc 1 1, 3) := dk_132 1 1 (dk_at dksX10_recipe_6 0 rfl rfl)
theorem dX10_recipe_143 : decode cX10_recipe 143 = .ok (.goto (-15), 3) := dk_167 255 241 (dk_at dksX10_recipe_6 3 rfl rfl)
theorem dX10_recipe_146 : decode cX10_recipe 146 = .ok (.aload_n 0, 1) := dk_42 (dk_at dksX10_recipe_6 6 rfl rfl)
theorem dX10_recipe_147 : decode cX10_recipe 147 = .ok (.invokevirtual 180, 3) := dk_182 0 180 (dk_at dksX10_recipe_6 7 rfl rfl)
theorem dX10_recipe_150 : decode cX10_recipe 150 = .ok (.aload_n 0, 1) := dk_42 (dk_at dksX10_recipe_6 10 rfl rfl)
theorem dX10_recipe_151 : decode cX10_recipe 151 = .ok (.getfield 24, 3) := dk_180 0 24 (dk_at dksX10_recipe_6 11 rfl rfl)
theorem dX10_recipe_154 : decode cX10_recipe 154 = .ok (.aload_n 0, 1) := dk_42 (dk_at dksX10_recipe_6 14 rfl rfl)
theorem dX10_recipe_155 : decode cX10_recipe 155 = .ok (.getfield 309, 3) := dk_180 1 53 (dk_at dksX10_recipe_6 15 rfl rfl)
theorem dX10_recipe_158 : decode cX10_recipe 158 = .ok (.iaload, 1) := dk_46 (dk_at dksX10_recipe_6 18 rfl rfl)
theorem dX10_recipe_159 : decode cX10_recipe 159 = .ok (.ireturn, 1) := dk_172 (dk_at dksX10_recipe_6 19 rfl rfl)
abbrev cX10_goOn : ByteArray := prog_32_method_9_code
def yX10_goOn : MethodName := ⟨RX10, "goOn", "()V"⟩
def dkwX10_goOn_16 : List UInt8 := [167, 0, 4, 4, 181, 0, 255, 177]
abbrev dktX10_goOn_16 : List UInt8 := dkwX10_goOn_16 ++ []
def dkwX10_goOn_15 : List UInt8 := [153, 0, 7, 4, 167, 0, 4, 7, 181, 0, 255, 167, 0, 19, 42, 27, 184, 1, 20, 153, 0, 7, 8]
abbrev dktX10_goOn_15 : List UInt8 := dkwX10_goOn_15 ++ dktX10_goOn_16
def dkwX10_goOn_14 : List UInt8 := [180, 0, 245, 42, 180, 0, 248, 100, 7, 163, 0, 17, 42, 42, 180, 0, 245, 182, 0, 251, 184, 1, 2]
abbrev dktX10_goOn_14 : List UInt8 := dkwX10_goOn_14 ++ dktX10_goOn_15
def dkwX10_goOn_13 : List UInt8 := [96, 16, 48, 100, 181, 1, 17, 42, 89, 180, 0, 245, 4, 96, 181, 0, 245, 167, 255, 196, 42, 42]
abbrev dktX10_goOn_13 : List UInt8 := dkwX10_goOn_13 ++ dktX10_goOn_14
def dkwX10_goOn_12 : List UInt8 := [180, 0, 248, 100, 7, 162, 0, 26, 42, 16, 10, 42, 180, 1, 17, 104, 42, 42, 180, 0, 245, 182, 0, 251]
abbrev dktX10_goOn_12 : List UInt8 := dkwX10_goOn_12 ++ dktX10_goOn_13
def dkwX10_goOn_11 : List UInt8 := [181, 0, 245, 42, 42, 180, 0, 245, 182, 0, 251, 184, 1, 14, 153, 0, 52, 42, 180, 0, 245, 42]
abbrev dktX10_goOn_11 : List UInt8 := dkwX10_goOn_11 ++ dktX10_goOn_12
def dkwX10_goOn_10 : List UInt8 := [181, 0, 255, 167, 0, 141, 27, 184, 1, 14, 153, 0, 118, 42, 3, 181, 1, 17, 42, 42, 180, 0, 248]
abbrev dktX10_goOn_10 : List UInt8 := dkwX10_goOn_10 ++ dktX10_goOn_11
def dkwX10_goOn_9 : List UInt8 := [164, 0, 7, 4, 167, 0, 18, 42, 180, 1, 6, 184, 1, 10, 153, 0, 7, 6, 167, 0, 4, 5]
abbrev dktX10_goOn_9 : List UInt8 := dkwX10_goOn_9 ++ dktX10_goOn_10
def dkwX10_goOn_8 : List UInt8 := [133, 129, 181, 1, 6, 132, 2, 1, 167, 255, 216, 42, 42, 180, 0, 245, 42, 180, 0, 248, 100, 16, 8]
abbrev dktX10_goOn_8 : List UInt8 := dkwX10_goOn_8 ++ dktX10_goOn_9
def dkwX10_goOn_7 : List UInt8 := [28, 42, 180, 0, 248, 16, 8, 96, 162, 0, 27, 42, 42, 180, 1, 6, 16, 8, 121, 42, 28, 182, 0, 251]
abbrev dktX10_goOn_7 : List UInt8 := dkwX10_goOn_7 ++ dktX10_goOn_8
def dkwX10_goOn_6 : List UInt8 := [181, 0, 245, 167, 255, 232, 42, 9, 181, 1, 6, 42, 180, 0, 248, 61, 28, 42, 180, 0, 245, 162, 0, 38]
abbrev dktX10_goOn_6 : List UInt8 := dkwX10_goOn_6 ++ dktX10_goOn_7
def dkwX10_goOn_5 : List UInt8 := [153, 0, 123, 42, 42, 180, 0, 245, 182, 0, 251, 184, 1, 2, 153, 0, 16, 42, 89, 180, 0, 245, 4, 96]
abbrev dktX10_goOn_5 : List UInt8 := dkwX10_goOn_5 ++ dktX10_goOn_6
def dkwX10_goOn_4 : List UInt8 := [42, 42, 180, 0, 183, 181, 0, 248, 42, 42, 180, 0, 183, 181, 0, 245, 167, 1, 12, 27, 184, 1, 2]
abbrev dktX10_goOn_4 : List UInt8 := dkwX10_goOn_4 ++ dktX10_goOn_5
def dkwX10_goOn_3 : List UInt8 := [180, 0, 248, 4, 96, 181, 0, 245, 42, 180, 0, 248, 42, 180, 0, 183, 161, 0, 27, 42, 3, 181, 0, 255]
abbrev dktX10_goOn_3 : List UInt8 := dkwX10_goOn_3 ++ dktX10_goOn_4
def dkwX10_goOn_2 : List UInt8 := [180, 0, 248, 4, 96, 181, 0, 248, 167, 255, 209, 42, 42, 180, 0, 248, 182, 0, 251, 60, 42, 42]
abbrev dktX10_goOn_2 : List UInt8 := dkwX10_goOn_2 ++ dktX10_goOn_3
def dkwX10_goOn_1 : List UInt8 := [182, 0, 251, 16, 32, 159, 0, 16, 42, 42, 180, 0, 248, 182, 0, 251, 16, 10, 160, 0, 16, 42, 89]
abbrev dktX10_goOn_1 : List UInt8 := dkwX10_goOn_1 ++ dktX10_goOn_2
def dkwX10_goOn_0 : List UInt8 := [42, 42, 180, 0, 245, 181, 0, 248, 42, 180, 0, 248, 42, 180, 0, 183, 162, 0, 42, 42, 42, 180, 0, 248]
abbrev dktX10_goOn_0 : List UInt8 := dkwX10_goOn_0 ++ dktX10_goOn_1
theorem dksX10_goOn_0 : cX10_goOn.data.toList.drop 0 = dktX10_goOn_0 := by decide +kernel
theorem dksX10_goOn_1 : cX10_goOn.data.toList.drop 24 = dktX10_goOn_1 := dk_seg dksX10_goOn_0 24 rfl rfl
theorem dksX10_goOn_2 : cX10_goOn.data.toList.drop 47 = dktX10_goOn_2 := dk_seg dksX10_goOn_1 23 rfl rfl
theorem dksX10_goOn_3 : cX10_goOn.data.toList.drop 69 = dktX10_goOn_3 := dk_seg dksX10_goOn_2 22 rfl rfl
theorem dksX10_goOn_4 : cX10_goOn.data.toList.drop 93 = dktX10_goOn_4 := dk_seg dksX10_goOn_3 24 rfl rfl
theorem dksX10_goOn_5 : cX10_goOn.data.toList.drop 116 = dktX10_goOn_5 := dk_seg dksX10_goOn_4 23 rfl rfl
theorem dksX10_goOn_6 : cX10_goOn.data.toList.drop 140 = dktX10_goOn_6 := dk_seg dksX10_goOn_5 24 rfl rfl
theorem dksX10_goOn_7 : cX10_goOn.data.toList.drop 164 = dktX10_goOn_7 := dk_seg dksX10_goOn_6 24 rfl rfl
theorem dksX10_goOn_8 : cX10_goOn.data.toList.drop 188 = dktX10_goOn_8 := dk_seg dksX10_goOn_7 24 rfl rfl
theorem dksX10_goOn_9 : cX10_goOn.data.toList.drop 211 = dktX10_goOn_9 := dk_seg dksX10_goOn_8 23 rfl rfl
theorem dksX10_goOn_10 : cX10_goOn.data.toList.drop 233 = dktX10_goOn_10 := dk_seg dksX10_goOn_9 22 rfl rfl
theorem dksX10_goOn_11 : cX10_goOn.data.toList.drop 256 = dktX10_goOn_11 := dk_seg dksX10_goOn_10 23 rfl rfl
theorem dksX10_goOn_12 : cX10_goOn.data.toList.drop 278 = dktX10_goOn_12 := dk_seg dksX10_goOn_11 22 rfl rfl
theorem dksX10_goOn_13 : cX10_goOn.data.toList.drop 302 = dktX10_goOn_13 := dk_seg dksX10_goOn_12 24 rfl rfl
theorem dksX10_goOn_14 : cX10_goOn.data.toList.drop 324 = dktX10_goOn_14 := dk_seg dksX10_goOn_13 22 rfl rfl
theorem dksX10_goOn_15 : cX10_goOn.data.toList.drop 347 = dktX10_goOn_15 := dk_seg dksX10_goOn_14 23 rfl rfl
theorem dksX10_goOn_16 : cX10_goOn.data.toList.drop 370 = dktX10_goOn_16 := dk_seg dksX10_goOn_15 23 rfl rfl
theorem dX10_goOn_0 : decode cX10_goOn 0 = .ok (.aload_n 0, 1) := dk_42 (dk_at dksX10_goOn_0 0 rfl rfl)
theorem dX10_goOn_1 : decode cX10_goOn 1 = .ok (.aload_n 0, 1) := dk_42 (dk_at dksX10_goOn_0 1 rfl rfl)
theorem dX10_goOn_2 : decode cX10_goOn 2 = .ok (.getfield 245, 3) := dk_180 0 245 (dk_at dksX10_goOn_0 2 rfl rfl)
theorem dX10_goOn_5 : decode cX10_goOn 5 = .ok (.putfield 248, 3) := dk_181 0 248 (dk_at dksX10_goOn_0 5 rfl rfl)
theorem dX10_goOn_8 : decode cX10_goOn 8 = .ok (.aload_n 0, 1) := dk_42 (dk_at dksX10_goOn_0 8 rfl rfl)
theorem dX10_goOn_9 : decode cX10_goOn 9 = .ok (.getfield 248, 3) := dk_180 0 248 (dk_at dksX10_goOn_0 9 rfl rfl)
theorem dX10_goOn_12 : decode cX10_goOn 12 = .ok (.aload_n 0, 1) := dk_42 (dk_at dksX10_goOn_0 12 rfl rfl)
theorem dX10_goOn_13 : decode cX10_goOn 13 = .ok (.getfield 183, 3) := dk_180 0 183 (dk_at dksX10_goOn_0 13 rfl rfl)
theorem dX10_goOn_16 : decode cX10_goOn 16 = .ok (.if_icmp .ge 42, 3) := dk_162 0 42 (dk_at dksX10_goOn_0 16 rfl rfl)
theorem dX10_goOn_19 : decode cX10_goOn 19 = .ok (.aload_n 0, 1) := dk_42 (dk_at dksX10_goOn_0 19 rfl rfl)
theorem dX10_goOn_20 : decode cX10_goOn 20 = .ok (.aload_n 0, 1) := dk_42 (dk_at dksX10_goOn_0 20 rfl rfl)
theorem dX10_goOn_21 : decode cX10_goOn 21 = .ok (.getfield 248, 3) := dk_180 0 248 (dk_at dksX10_goOn_0 21 rfl rfl)
theorem dX10_goOn_24 : decode cX10_goOn 24 = .ok (.invokevirtual 251, 3) := dk_182 0 251 (dk_at dksX10_goOn_1 0 rfl rfl)
theorem dX10_goOn_27 : decode cX10_goOn 27 = .ok (.bipush 32, 2) := dk_16 32 (dk_at dksX10_goOn_1 3 rfl rfl)
theorem dX10_goOn_29 : decode cX10_goOn 29 = .ok (.if_icmp .eq 16, 3) := dk_159 0 16 (dk_at dksX10_goOn_1 5 rfl rfl)
theorem dX10_goOn_32 : decode cX10_goOn 32 = .ok (.aload_n 0, 1) := dk_42 (dk_at dksX10_goOn_1 8 rfl rfl)
theorem dX10_goOn_33 : decode cX10_goOn 33 = .ok (.aload_n 0, 1) := dk_42 (dk_at dksX10_goOn_1 9 rfl rfl)
theorem dX10_goOn_34 : decode cX10_goOn 34 = .ok (.getfield 248, 3) := dk_180 0 248 (dk_at dksX10_goOn_1 10 rfl rfl)
theorem dX10_goOn_37 : decode cX10_goOn 37 = .ok (.invokevirtual 251, 3) := dk_182 0 251 (dk_at dksX10_goOn_1 13 rfl rfl)
theorem dX10_goOn_40 : decode cX10_goOn 40 = .ok (.bipush 10, 2) := dk_16 10 (dk_at dksX10_goOn_1 16 rfl rfl)
theorem dX10_goOn_42 : decode cX10_goOn 42 = .ok (.if_icmp .ne 16, 3) := dk_160 0 16 (dk_at dksX10_goOn_1 18 rfl rfl)
theorem dX10_goOn_45 : decode cX10_goOn 45 = .ok (.aload_n 0, 1) := dk_42 (dk_at dksX10_goOn_1 21 rfl rfl)
theorem dX10_goOn_46 : decode cX10_goOn 46 = .ok (.dup, 1) := dk_89 (dk_at dksX10_goOn_1 22 rfl rfl)
theorem dX10_goOn_47 : decode cX10_goOn 47 = .ok (.getfield 248, 3) := dk_180 0 248 (dk_at dksX10_goOn_2 0 rfl rfl)
theorem dX10_goOn_50 : decode cX10_goOn 50 = .ok (.iconst 1, 1) := dk_4 (dk_at dksX10_goOn_2 3 rfl rfl)
theorem dX10_goOn_51 : decode cX10_goOn 51 = .ok (.iadd, 1) := dk_96 (dk_at dksX10_goOn_2 4 rfl rfl)
theorem dX10_goOn_52 : decode cX10_goOn 52 = .ok (.putfield 248, 3) := dk_181 0 248 (dk_at dksX10_goOn_2 5 rfl rfl)
theorem dX10_goOn_55 : decode cX10_goOn 55 = .ok (.goto (-47), 3) := dk_167 255 209 (dk_at dksX10_goOn_2 8 rfl rfl)
theorem dX10_goOn_58 : decode cX10_goOn 58 = .ok (.aload_n 0, 1) := dk_42 (dk_at dksX10_goOn_2 11 rfl rfl)
theorem dX10_goOn_59 : decode cX10_goOn 59 = .ok (.aload_n 0, 1) := dk_42 (dk_at dksX10_goOn_2 12 rfl rfl)
theorem dX10_goOn_60 : decode cX10_goOn 60 = .ok (.getfield 248, 3) := dk_180 0 248 (dk_at dksX10_goOn_2 13 rfl rfl)
theorem dX10_goOn_63 : decode cX10_goOn 63 = .ok (.invokevirtual 251, 3) := dk_182 0 251 (dk_at dksX10_goOn_2 16 rfl rfl)
theorem dX10_goOn_66 : decode cX10_goOn 66 = .ok (.istore_n 1, 1) := dk_60 (dk_at dksX10_goOn_2 19 rfl rfl)
theorem dX10_goOn_67 : decode cX10_goOn 67 = .ok (.aload_n 0, 1) := dk_42 (dk_at dksX10_goOn_2 20 rfl rfl)
theorem dX10_goOn_68 : decode cX10_goOn 68 = .ok (.aload_n 0, 1) := dk_42 (dk_at dksX10_goOn_2 21 rfl rfl)
theorem dX10_goOn_69 : decode cX10_goOn 69 = .ok (.getfield 248, 3) := dk_180 0 248 (dk_at dksX10_goOn_3 0 rfl rfl)
theorem dX10_goOn_72 : decode cX10_goOn 72 = .ok (.iconst 1, 1) := dk_4 (dk_at dksX10_goOn_3 3 rfl rfl)
theorem dX10_goOn_73 : decode cX10_goOn 73 = .ok (.iadd, 1) := dk_96 (dk_at dksX10_goOn_3 4 rfl rfl)
theorem dX10_goOn_74 : decode cX10_goOn 74 = .ok (.putfield 245, 3) := dk_181 0 245 (dk_at dksX10_goOn_3 5 rfl rfl)
theorem dX10_goOn_77 : decode cX10_goOn 77 = .ok (.aload_n 0, 1) := dk_42 (dk_at dksX10_goOn_3 8 rfl rfl)
theorem dX10_goOn_78 : decode cX10_goOn 78 = .ok (.getfield 248, 3) := dk_180 0 248 (dk_at dksX10_goOn_3 9 rfl rfl)
theorem dX10_goOn_81 : decode cX10_goOn 81 = .ok (.aload_n 0, 1) := dk_42 (dk_at dksX10_goOn_3 12 rfl rfl)
theorem dX10_goOn_82 : decode cX10_goOn 82 = .ok (.getfield 183, 3) := dk_180 0 183 (dk_at dksX10_goOn_3 13 rfl rfl)
theorem dX10_goOn_85 : decode cX10_goOn 85 = .ok (.if_icmp .lt 27, 3) := dk_161 0 27 (dk_at dksX10_goOn_3 16 rfl rfl)
theorem dX10_goOn_88 : decode cX10_goOn 88 = .ok (.aload_n 0, 1) := dk_42 (dk_at dksX10_goOn_3 19 rfl rfl)
theorem dX10_goOn_89 : decode cX10_goOn 89 = .ok (.iconst 0, 1) := dk_3 (dk_at dksX10_goOn_3 20 rfl rfl)
theorem dX10_goOn_90 : decode cX10_goOn 90 = .ok (.putfield 255, 3) := dk_181 0 255 (dk_at dksX10_goOn_3 21 rfl rfl)
theorem dX10_goOn_93 : decode cX10_goOn 93 = .ok (.aload_n 0, 1) := dk_42 (dk_at dksX10_goOn_4 0 rfl rfl)
theorem dX10_goOn_94 : decode cX10_goOn 94 = .ok (.aload_n 0, 1) := dk_42 (dk_at dksX10_goOn_4 1 rfl rfl)
theorem dX10_goOn_95 : decode cX10_goOn 95 = .ok (.getfield 183, 3) := dk_180 0 183 (dk_at dksX10_goOn_4 2 rfl rfl)
theorem dX10_goOn_98 : decode cX10_goOn 98 = .ok (.putfield 248, 3) := dk_181 0 248 (dk_at dksX10_goOn_4 5 rfl rfl)
theorem dX10_goOn_101 : decode cX10_goOn 101 = .ok (.aload_n 0, 1) := dk_42 (dk_at dksX10_goOn_4 8 rfl rfl)
theorem dX10_goOn_102 : decode cX10_goOn 102 = .ok (.aload_n 0, 1) := dk_42 (dk_at dksX10_goOn_4 9 rfl rfl)
theorem dX10_goOn_103 : decode cX10_goOn 103 = .ok (.getfield 183, 3) := dk_180 0 183 (dk_at dksX10_goOn_4 10 rfl rfl)
theorem dX10_goOn_106 : decode cX10_goOn 106 = .ok (.putfield 245, 3) := dk_181 0 245 (dk_at dksX10_goOn_4 13 rfl rfl)
theorem dX10_goOn_109 : decode cX10_goOn 109 = .ok (.goto 268, 3) := dk_167 1 12 (dk_at dksX10_goOn_4 16 rfl rfl)
theorem dX10_goOn_112 : decode cX10_goOn 112 = .ok (.iload_n 1, 1) := dk_27 (dk_at dksX10_goOn_4 19 rfl rfl)
theorem dX10_goOn_113 : decode cX10_goOn 113 = .ok (.invokestatic 258, 3) := dk_184 1 2 (dk_at dksX10_goOn_4 20 rfl rfl)
theorem dX10_goOn_116 : decode cX10_goOn 116 = .ok (.ifCond .eq 123, 3) := dk_153 0 123 (dk_at dksX10_goOn_5 0 rfl rfl)
theorem dX10_goOn_119 : decode cX10_goOn 119 = .ok (.aload_n 0, 1) := dk_42 (dk_at dksX10_goOn_5 3 rfl rfl)
theorem dX10_goOn_120 : decode cX10_goOn 120 = .ok (.aload_n 0, 1) := dk_42 (dk_at dksX10_goOn_5 4 rfl rfl)
theorem dX10_goOn_121 : decode cX10_goOn 121 = .ok (.getfield 245, 3) := dk_180 0 245 (dk_at dksX10_goOn_5 5 rfl rfl)
theorem dX10_goOn_124 : decode cX10_goOn 124 = .ok (.invokevirtual 251, 3) := dk_182 0 251 (dk_at dksX10_goOn_5 8 rfl rfl)
theorem dX10_goOn_127 : decode cX10_goOn 127 = .ok (.invokestatic 258, 3) := dk_184 1 2 (dk_at dksX10_goOn_5 11 rfl rfl)
theorem dX10_goOn_130 : decode cX10_goOn 130 = .ok (.ifCond .eq 16, 3) := dk_153 0 16 (dk_at dksX10_goOn_5 14 rfl rfl)
theorem dX10_goOn_133 : decode cX10_goOn 133 = .ok (.aload_n 0, 1) := dk_42 (dk_at dksX10_goOn_5 17 rfl rfl)
theorem dX10_goOn_134 : decode cX10_goOn 134 = .ok (.dup, 1) := dk_89 (dk_at dksX10_goOn_5 18 rfl rfl)
theorem dX10_goOn_135 : decode cX10_goOn 135 = .ok (.getfield 245, 3) := dk_180 0 245 (dk_at dksX10_goOn_5 19 rfl rfl)
theorem dX10_goOn_138 : decode cX10_goOn 138 = .ok (.iconst 1, 1) := dk_4 (dk_at dksX10_goOn_5 22 rfl rfl)
theorem dX10_goOn_139 : decode cX10_goOn 139 = .ok (.iadd, 1) := dk_96 (dk_at dksX10_goOn_5 23 rfl rfl)
theorem dX10_goOn_140 : decode cX10_goOn 140 = .ok (.putfield 245, 3) := dk_181 0 245 (dk_at dksX10_goOn_6 0 rfl rfl)
theorem dX10_goOn_143 : decode cX10_goOn 143 = .ok (.goto (-24), 3) := dk_167 255 232 (dk_at dksX10_goOn_6 3 rfl rfl)
theorem dX10_goOn_146 : decode cX10_goOn 146 = .ok (.aload_n 0, 1) := dk_42 (dk_at dksX10_goOn_6 6 rfl rfl)
theorem dX10_goOn_147 : decode cX10_goOn 147 = .ok (.lconst 0, 1) := dk_9 (dk_at dksX10_goOn_6 7 rfl rfl)
theorem dX10_goOn_148 : decode cX10_goOn 148 = .ok (.putfield 262, 3) := dk_181 1 6 (dk_at dksX10_goOn_6 8 rfl rfl)
theorem dX10_goOn_151 : decode cX10_goOn 151 = .ok (.aload_n 0, 1) := dk_42 (dk_at dksX10_goOn_6 11 rfl rfl)
theorem dX10_goOn_152 : decode cX10_goOn 152 = .ok (.getfield 248, 3) := dk_180 0 248 (dk_at dksX10_goOn_6 12 rfl rfl)
theorem dX10_goOn_155 : decode cX10_goOn 155 = .ok (.istore_n 2, 1) := dk_61 (dk_at dksX10_goOn_6 15 rfl rfl)
theorem dX10_goOn_156 : decode cX10_goOn 156 = .ok (.iload_n 2, 1) := dk_28 (dk_at dksX10_goOn_6 16 rfl rfl)
theorem dX10_goOn_157 : decode cX10_goOn 157 = .ok (.aload_n 0, 1) := dk_42 (dk_at dksX10_goOn_6 17 rfl rfl)
theorem dX10_goOn_158 : decode cX10_goOn 158 = .ok (.getfield 245, 3) := dk_180 0 245 (dk_at dksX10_goOn_6 18 rfl rfl)
theorem dX10_goOn_161 : decode cX10_goOn 161 = .ok (.if_icmp .ge 38, 3) := dk_162 0 38 (dk_at dksX10_goOn_6 21 rfl rfl)
theorem dX10_goOn_164 : decode cX10_goOn 164 = .ok (.iload_n 2, 1) := dk_28 (dk_at dksX10_goOn_7 0 rfl rfl)
theorem dX10_goOn_165 : decode cX10_goOn 165 = .ok (.aload_n 0, 1) := dk_42 (dk_at dksX10_goOn_7 1 rfl rfl)
theorem dX10_goOn_166 : decode cX10_goOn 166 = .ok (.getfield 248, 3) := dk_180 0 248 (dk_at dksX10_goOn_7 2 rfl rfl)
theorem dX10_goOn_169 : decode cX10_goOn 169 = .ok (.bipush 8, 2) := dk_16 8 (dk_at dksX10_goOn_7 5 rfl rfl)
theorem dX10_goOn_171 : decode cX10_goOn 171 = .ok (.iadd, 1) := dk_96 (dk_at dksX10_goOn_7 7 rfl rfl)
theorem dX10_goOn_172 : decode cX10_goOn 172 = .ok (.if_icmp .ge 27, 3) := dk_162 0 27 (dk_at dksX10_goOn_7 8 rfl rfl)
theorem dX10_goOn_175 : decode cX10_goOn 175 = .ok (.aload_n 0, 1) := dk_42 (dk_at dksX10_goOn_7 11 rfl rfl)
theorem dX10_goOn_176 : decode cX10_goOn 176 = .ok (.aload_n 0, 1) := dk_42 (dk_at dksX10_goOn_7 12 rfl rfl)
theorem dX10_goOn_177 : decode cX10_goOn 177 = .ok (.getfield 262, 3) := dk_180 1 6 (dk_at dksX10_goOn_7 13 rfl rfl)
theorem dX10_goOn_180 : decode cX10_goOn 180 = .ok (.bipush 8, 2) := dk_16 8 (dk_at dksX10_goOn_7 16 rfl rfl)
theorem dX10_goOn_182 : decode cX10_goOn 182 = .ok (.lshl, 1) := dk_121 (dk_at dksX10_goOn_7 18 rfl rfl)
theorem dX10_goOn_183 : decode cX10_goOn 183 = .ok (.aload_n 0, 1) := dk_42 (dk_at dksX10_goOn_7 19 rfl rfl)
theorem dX10_goOn_184 : decode cX10_goOn 184 = .ok (.iload_n 2, 1) := dk_28 (dk_at dksX10_goOn_7 20 rfl rfl)
theorem dX10_goOn_185 : decode cX10_goOn 185 = .ok (.invokevirtual 251, 3) := dk_182 0 251 (dk_at dksX10_goOn_7 21 rfl rfl)
theorem dX10_goOn_188 : decode cX10_goOn 188 = .ok (.i2l, 1) := dk_133 (dk_at dksX10_goOn_8 0 rfl rfl)
theorem dX10_goOn_189 : decode cX10_goOn 189 = .ok (.lor, 1) := dk_129 (dk_at dksX10_goOn_8 1 rfl rfl)
theorem dX10_goOn_190 : decode cX10_goOn 190 = .ok (.putfield 262, 3) := dk_181 1 6 (dk_at dksX10_goOn_8 2 rfl rfl)
theorem dX10_goOn_193 : decode cX10_goOn 193 = .ok (.iinc 2 1, 3) := dk_132 2 1 (dk_at dksX10_goOn_8 5 rfl rfl)
theorem dX10_goOn_196 : decode cX10_goOn 196 = .ok (.goto (-40), 3) := dk_167 255 216 (dk_at dksX10_goOn_8 8 rfl rfl)
theorem dX10_goOn_199 : decode cX10_goOn 199 = .ok (.aload_n 0, 1) := dk_42 (dk_at dksX10_goOn_8 11 rfl rfl)
theorem dX10_goOn_200 : decode cX10_goOn 200 = .ok (.aload_n 0, 1) := dk_42 (dk_at dksX10_goOn_8 12 rfl rfl)
theorem dX10_goOn_201 : decode cX10_goOn 201 = .ok (.getfield 245, 3) := dk_180 0 245 (dk_at dksX10_goOn_8 13 rfl rfl)
theorem dX10_goOn_204 : decode cX10_goOn 204 = .ok (.aload_n 0, 1) := dk_42 (dk_at dksX10_goOn_8 16 rfl rfl)
theorem dX10_goOn_205 : decode cX10_goOn 205 = .ok (.getfield 248, 3) := dk_180 0 248 (dk_at dksX10_goOn_8 17 rfl rfl)
theorem dX10_goOn_208 : decode cX10_goOn 208 = .ok (.isub, 1) := dk_100 (dk_at dksX10_goOn_8 20 rfl rfl)
theorem dX10_goOn_209 : decode cX10_goOn 209 = .ok (.bipush 8, 2) := dk_16 8 (dk_at dksX10_goOn_8 21 rfl rfl)
theorem dX10_goOn_211 : decode cX10_goOn 211 = .ok (.if_icmp .le 7, 3) := dk_164 0 7 (dk_at dksX10_goOn_9 0 rfl rfl)
theorem dX10_goOn_214 : decode cX10_goOn 214 = .ok (.iconst 1, 1) := dk_4 (dk_at dksX10_goOn_9 3 rfl rfl)
theorem dX10_goOn_215 : decode cX10_goOn 215 = .ok (.goto 18, 3) := dk_167 0 18 (dk_at dksX10_goOn_9 4 rfl rfl)
theorem dX10_goOn_218 : decode cX10_goOn 218 = .ok (.aload_n 0, 1) := dk_42 (dk_at dksX10_goOn_9 7 rfl rfl)
theorem dX10_goOn_219 : decode cX10_goOn 219 = .ok (.getfield 262, 3) := dk_180 1 6 (dk_at dksX10_goOn_9 8 rfl rfl)
theorem dX10_goOn_222 : decode cX10_goOn 222 = .ok (.invokestatic 266, 3) := dk_184 1 10 (dk_at dksX10_goOn_9 11 rfl rfl)
theorem dX10_goOn_225 : decode cX10_goOn 225 = .ok (.ifCond .eq 7, 3) := dk_153 0 7 (dk_at dksX10_goOn_9 14 rfl rfl)
theorem dX10_goOn_228 : decode cX10_goOn 228 = .ok (.iconst 3, 1) := dk_6 (dk_at dksX10_goOn_9 17 rfl rfl)
theorem dX10_goOn_229 : decode cX10_goOn 229 = .ok (.goto 4, 3) := dk_167 0 4 (dk_at dksX10_goOn_9 18 rfl rfl)
theorem dX10_goOn_232 : decode cX10_goOn 232 = .ok (.iconst 2, 1) := dk_5 (dk_at dksX10_goOn_9 21 rfl rfl)
theorem dX10_goOn_233 : decode cX10_goOn 233 = .ok (.putfield 255, 3) := dk_181 0 255 (dk_at dksX10_goOn_10 0 rfl rfl)
theorem dX10_goOn_236 : decode cX10_goOn 236 = .ok (.goto 141, 3) := dk_167 0 141 (dk_at dksX10_goOn_10 3 rfl rfl)
theorem dX10_goOn_239 : decode cX10_goOn 239 = .ok (.iload_n 1, 1) := dk_27 (dk_at dksX10_goOn_10 6 rfl rfl)
theorem dX10_goOn_240 : decode cX10_goOn 240 = .ok (.invokestatic 270, 3) := dk_184 1 14 (dk_at dksX10_goOn_10 7 rfl rfl)
theorem dX10_goOn_243 : decode cX10_goOn 243 = .ok (.ifCond .eq 118, 3) := dk_153 0 118 (dk_at dksX10_goOn_10 10 rfl rfl)
theorem dX10_goOn_246 : decode cX10_goOn 246 = .ok (.aload_n 0, 1) := dk_42 (dk_at dksX10_goOn_10 13 rfl rfl)
theorem dX10_goOn_247 : decode cX10_goOn 247 = .ok (.iconst 0, 1) := dk_3 (dk_at dksX10_goOn_10 14 rfl rfl)
theorem dX10_goOn_248 : decode cX10_goOn 248 = .ok (.putfield 273, 3) := dk_181 1 17 (dk_at dksX10_goOn_10 15 rfl rfl)
theorem dX10_goOn_251 : decode cX10_goOn 251 = .ok (.aload_n 0, 1) := dk_42 (dk_at dksX10_goOn_10 18 rfl rfl)
theorem dX10_goOn_252 : decode cX10_goOn 252 = .ok (.aload_n 0, 1) := dk_42 (dk_at dksX10_goOn_10 19 rfl rfl)
theorem dX10_goOn_253 : decode cX10_goOn 253 = .ok (.getfield 248, 3) := dk_180 0 248 (dk_at dksX10_goOn_10 20 rfl rfl)
theorem dX10_goOn_256 : decode cX10_goOn 256 = .ok (.putfield 245, 3) := dk_181 0 245 (dk_at dksX10_goOn_11 0 rfl rfl)
theorem dX10_goOn_259 : decode cX10_goOn 259 = .ok (.aload_n 0, 1) := dk_42 (dk_at dksX10_goOn_11 3 rfl rfl)
theorem dX10_goOn_260 : decode cX10_goOn 260 = .ok (.aload_n 0, 1) := dk_42 (dk_at dksX10_goOn_11 4 rfl rfl)
theorem dX10_goOn_261 : decode cX10_goOn 261 = .ok (.getfield 245, 3) := dk_180 0 245 (dk_at dksX10_goOn_11 5 rfl rfl)
theorem dX10_goOn_264 : decode cX10_goOn 264 = .ok (.invokevirtual 251, 3) := dk_182 0 251 (dk_at dksX10_goOn_11 8 rfl rfl)
theorem dX10_goOn_267 : decode cX10_goOn 267 = .ok (.invokestatic 270, 3) := dk_184 1 14 (dk_at dksX10_goOn_11 11 rfl rfl)
theorem dX10_goOn_270 : decode cX10_goOn 270 = .ok (.ifCond .eq 52, 3) := dk_153 0 52 (dk_at dksX10_goOn_11 14 rfl rfl)
theorem dX10_goOn_273 : decode cX10_goOn 273 = .ok (.aload_n 0, 1) := dk_42 (dk_at dksX10_goOn_11 17 rfl rfl)
theorem dX10_goOn_274 : decode cX10_goOn 274 = .ok (.getfield 245, 3) := dk_180 0 245 (dk_at dksX10_goOn_11 18 rfl rfl)
theorem dX10_goOn_277 : decode cX10_goOn 277 = .ok (.aload_n 0, 1) := dk_42 (dk_at dksX10_goOn_11 21 rfl rfl)
theorem dX10_goOn_278 : decode cX10_goOn 278 = .ok (.getfield 248, 3) := dk_180 0 248 (dk_at dksX10_goOn_12 0 rfl rfl)
theorem dX10_goOn_281 : decode cX10_goOn 281 = .ok (.isub, 1) := dk_100 (dk_at dksX10_goOn_12 3 rfl rfl)
theorem dX10_goOn_282 : decode cX10_goOn 282 = .ok (.iconst 4, 1) := dk_7 (dk_at dksX10_goOn_12 4 rfl rfl)
theorem dX10_goOn_283 : decode cX10_goOn 283 = .ok (.if_icmp .ge 26, 3) := dk_162 0 26 (dk_at dksX10_goOn_12 5 rfl rfl)
theorem dX10_goOn_286 : decode cX10_goOn 286 = .ok (.aload_n 0, 1) := dk_42 (dk_at dksX10_goOn_12 8 rfl rfl)
theorem dX10_goOn_287 : decode cX10_goOn 287 = .ok (.bipush 10, 2) := dk_16 10 (dk_at dksX10_goOn_12 9 rfl rfl)
theorem dX10_goOn_289 : decode cX10_goOn 289 = .ok (.aload_n 0, 1) := dk_42 (dk_at dksX10_goOn_12 11 rfl rfl)
theorem dX10_goOn_290 : decode cX10_goOn 290 = .ok (.getfield 273, 3) := dk_180 1 17 (dk_at dksX10_goOn_12 12 rfl rfl)
theorem dX10_goOn_293 : decode cX10_goOn 293 = .ok (.imul, 1) := dk_104 (dk_at dksX10_goOn_12 15 rfl rfl)
theorem dX10_goOn_294 : decode cX10_goOn 294 = .ok (.aload_n 0, 1) := dk_42 (dk_at dksX10_goOn_12 16 rfl rfl)
theorem dX10_goOn_295 : decode cX10_goOn 295 = .ok (.aload_n 0, 1) := dk_42 (dk_at dksX10_goOn_12 17 rfl rfl)
theorem dX10_goOn_296 : decode cX10_goOn 296 = .ok (.getfield 245, 3) := dk_180 0 245 (dk_at dksX10_goOn_12 18 rfl rfl)
theorem dX10_goOn_299 : decode cX10_goOn 299 = .ok (.invokevirtual 251, 3) := dk_182 0 251 (dk_at dksX10_goOn_12 21 rfl rfl)
theorem dX10_goOn_302 : decode cX10_goOn 302 = .ok (.iadd, 1) := dk_96 (dk_at dksX10_goOn_13 0 rfl rfl)
theorem dX10_goOn_303 : decode cX10_goOn 303 = .ok (.bipush 48, 2) := dk_16 48 (dk_at dksX10_goOn_13 1 rfl rfl)
theorem dX10_goOn_305 : decode cX10_goOn 305 = .ok (.isub, 1) := dk_100 (dk_at dksX10_goOn_13 3 rfl rfl)
theorem dX10_goOn_306 : decode cX10_goOn 306 = .ok (.putfield 273, 3) := dk_181 1 17 (dk_at dksX10_goOn_13 4 rfl rfl)
theorem dX10_goOn_309 : decode cX10_goOn 309 = .ok (.aload_n 0, 1) := dk_42 (dk_at dksX10_goOn_13 7 rfl rfl)
theorem dX10_goOn_310 : decode cX10_goOn 310 = .ok (.dup, 1) := dk_89 (dk_at dksX10_goOn_13 8 rfl rfl)
theorem dX10_goOn_311 : decode cX10_goOn 311 = .ok (.getfield 245, 3) := dk_180 0 245 (dk_at dksX10_goOn_13 9 rfl rfl)
theorem dX10_goOn_314 : decode cX10_goOn 314 = .ok (.iconst 1, 1) := dk_4 (dk_at dksX10_goOn_13 12 rfl rfl)
theorem dX10_goOn_315 : decode cX10_goOn 315 = .ok (.iadd, 1) := dk_96 (dk_at dksX10_goOn_13 13 rfl rfl)
theorem dX10_goOn_316 : decode cX10_goOn 316 = .ok (.putfield 245, 3) := dk_181 0 245 (dk_at dksX10_goOn_13 14 rfl rfl)
theorem dX10_goOn_319 : decode cX10_goOn 319 = .ok (.goto (-60), 3) := dk_167 255 196 (dk_at dksX10_goOn_13 17 rfl rfl)
theorem dX10_goOn_322 : decode cX10_goOn 322 = .ok (.aload_n 0, 1) := dk_42 (dk_at dksX10_goOn_13 20 rfl rfl)
theorem dX10_goOn_323 : decode cX10_goOn 323 = .ok (.aload_n 0, 1) := dk_42 (dk_at dksX10_goOn_13 21 rfl rfl)
theorem dX10_goOn_324 : decode cX10_goOn 324 = .ok (.getfield 245, 3) := dk_180 0 245 (dk_at dksX10_goOn_14 0 rfl rfl)
theorem dX10_goOn_327 : decode cX10_goOn 327 = .ok (.aload_n 0, 1) := dk_42 (dk_at dksX10_goOn_14 3 rfl rfl)
theorem dX10_goOn_328 : decode cX10_goOn 328 = .ok (.getfield 248, 3) := dk_180 0 248 (dk_at dksX10_goOn_14 4 rfl rfl)
theorem dX10_goOn_331 : decode cX10_goOn 331 = .ok (.isub, 1) := dk_100 (dk_at dksX10_goOn_14 7 rfl rfl)
theorem dX10_goOn_332 : decode cX10_goOn 332 = .ok (.iconst 4, 1) := dk_7 (dk_at dksX10_goOn_14 8 rfl rfl)
theorem dX10_goOn_333 : decode cX10_goOn 333 = .ok (.if_icmp .gt 17, 3) := dk_163 0 17 (dk_at dksX10_goOn_14 9 rfl rfl)
theorem dX10_goOn_336 : decode cX10_goOn 336 = .ok (.aload_n 0, 1) := dk_42 (dk_at dksX10_goOn_14 12 rfl rfl)
theorem dX10_goOn_337 : decode cX10_goOn 337 = .ok (.aload_n 0, 1) := dk_42 (dk_at dksX10_goOn_14 13 rfl rfl)
theorem dX10_goOn_338 : decode cX10_goOn 338 = .ok (.getfield 245, 3) := dk_180 0 245 (dk_at dksX10_goOn_14 14 rfl rfl)
theorem dX10_goOn_341 : decode cX10_goOn 341 = .ok (.invokevirtual 251, 3) := dk_182 0 251 (dk_at dksX10_goOn_14 17 rfl rfl)
theorem dX10_goOn_344 : decode cX10_goOn 344 = .ok (.invokestatic 258, 3) := dk_184 1 2 (dk_at dksX10_goOn_14 20 rfl rfl)
theorem dX10_goOn_347 : decode cX10_goOn 347 = .ok (.ifCond .eq 7, 3) := dk_153 0 7 (dk_at dksX10_goOn_15 0 rfl rfl)
theorem dX10_goOn_350 : decode cX10_goOn 350 = .ok (.iconst 1, 1) := dk_4 (dk_at dksX10_goOn_15 3 rfl rfl)
theorem dX10_goOn_351 : decode cX10_goOn 351 = .ok (.goto 4, 3) := dk_167 0 4 (dk_at dksX10_goOn_15 4 rfl rfl)
theorem dX10_goOn_354 : decode cX10_goOn 354 = .ok (.iconst 4, 1) := dk_7 (dk_at dksX10_goOn_15 7 rfl rfl)
theorem dX10_goOn_355 : decode cX10_goOn 355 = .ok (.putfield 255, 3) := dk_181 0 255 (dk_at dksX10_goOn_15 8 rfl rfl)
theorem dX10_goOn_358 : decode cX10_goOn 358 = .ok (.goto 19, 3) := dk_167 0 19 (dk_at dksX10_goOn_15 11 rfl rfl)
theorem dX10_goOn_361 : decode cX10_goOn 361 = .ok (.aload_n 0, 1) := dk_42 (dk_at dksX10_goOn_15 14 rfl rfl)
theorem dX10_goOn_362 : decode cX10_goOn 362 = .ok (.iload_n 1, 1) := dk_27 (dk_at dksX10_goOn_15 15 rfl rfl)
theorem dX10_goOn_363 : decode cX10_goOn 363 = .ok (.invokestatic 276, 3) := dk_184 1 20 (dk_at dksX10_goOn_15 16 rfl rfl)
theorem dX10_goOn_366 : decode cX10_goOn 366 = .ok (.ifCond .eq 7, 3) := dk_153 0 7 (dk_at dksX10_goOn_15 19 rfl rfl)
theorem dX10_goOn_369 : decode cX10_goOn 369 = .ok (.iconst 5, 1) := dk_8 (dk_at dksX10_goOn_15 22 rfl rfl)
theorem dX10_goOn_370 : decode cX10_goOn 370 = .ok (.goto 4, 3) := dk_167 0 4 (dk_at dksX10_goOn_16 0 rfl rfl)
theorem dX10_goOn_373 : decode cX10_goOn 373 = .ok (.iconst 1, 1) := dk_4 (dk_at dksX10_goOn_16 3 rfl rfl)
theorem dX10_goOn_374 : decode cX10_goOn 374 = .ok (.putfield 255, 3) := dk_181 0 255 (dk_at dksX10_goOn_16 4 rfl rfl)
theorem dX10_goOn_377 : decode cX10_goOn 377 = .ok (.return_, 1) := dk_177 (dk_at dksX10_goOn_16 7 rfl rfl)
abbrev cX10_sign : ByteArray := prog_32_method_2_code
def yX10_sign : MethodName := ⟨RX10, "sign", "(I)I"⟩
def dkwX10_sign_0 : List UInt8 := [27, 42, 180, 0, 183, 162, 0, 16, 42, 180, 0, 13, 27, 51, 17, 0, 255, 126, 167, 0, 4, 3, 172]
abbrev dktX10_sign_0 : List UInt8 := dkwX10_sign_0 ++ []
theorem dksX10_sign_0 : cX10_sign.data.toList.drop 0 = dktX10_sign_0 := by decide +kernel
theorem dX10_sign_0 : decode cX10_sign 0 = .ok (.iload_n 1, 1) := dk_27 (dk_at dksX10_sign_0 0 rfl rfl)
theorem dX10_sign_1 : decode cX10_sign 1 = .ok (.aload_n 0, 1) := dk_42 (dk_at dksX10_sign_0 1 rfl rfl)
theorem dX10_sign_2 : decode cX10_sign 2 = .ok (.getfield 183, 3) := dk_180 0 183 (dk_at dksX10_sign_0 2 rfl rfl)
theorem dX10_sign_5 : decode cX10_sign 5 = .ok (.if_icmp .ge 16, 3) := dk_162 0 16 (dk_at dksX10_sign_0 5 rfl rfl)
theorem dX10_sign_8 : decode cX10_sign 8 = .ok (.aload_n 0, 1) := dk_42 (dk_at dksX10_sign_0 8 rfl rfl)
theorem dX10_sign_9 : decode cX10_sign 9 = .ok (.getfield 13, 3) := dk_180 0 13 (dk_at dksX10_sign_0 9 rfl rfl)
theorem dX10_sign_12 : decode cX10_sign 12 = .ok (.iload_n 1, 1) := dk_27 (dk_at dksX10_sign_0 12 rfl rfl)
theorem dX10_sign_13 : decode cX10_sign 13 = .ok (.baload, 1) := dk_51 (dk_at dksX10_sign_0 13 rfl rfl)
theorem dX10_sign_14 : decode cX10_sign 14 = .ok (.sipush 255, 3) := dk_17 0 255 (dk_at dksX10_sign_0 14 rfl rfl)
theorem dX10_sign_17 : decode cX10_sign 17 = .ok (.iand, 1) := dk_126 (dk_at dksX10_sign_0 17 rfl rfl)
theorem dX10_sign_18 : decode cX10_sign 18 = .ok (.goto 4, 3) := dk_167 0 4 (dk_at dksX10_sign_0 18 rfl rfl)
theorem dX10_sign_21 : decode cX10_sign 21 = .ok (.iconst 0, 1) := dk_3 (dk_at dksX10_sign_0 21 rfl rfl)
theorem dX10_sign_22 : decode cX10_sign 22 = .ok (.ireturn, 1) := dk_172 (dk_at dksX10_sign_0 22 rfl rfl)
abbrev cX10_isKept : ByteArray := prog_32_method_7_code
def yX10_isKept : MethodName := ⟨RX10, "isKept", "(J)Z"⟩
def dkwX10_isKept_10 : List UInt8 := [172]
abbrev dktX10_isKept_10 : List UInt8 := dkwX10_isKept_10 ++ []
def dkwX10_isKept_9 : List UInt8 := [153, 0, 19, 30, 20, 0, 241, 148, 153, 0, 11, 30, 20, 0, 243, 148, 154, 0, 7, 4, 167, 0, 4, 3]
abbrev dktX10_isKept_9 : List UInt8 := dkwX10_isKept_9 ++ dktX10_isKept_10
def dkwX10_isKept_8 : List UInt8 := [153, 0, 43, 30, 20, 0, 235, 148, 153, 0, 35, 30, 20, 0, 237, 148, 153, 0, 27, 30, 20, 0, 239, 148]
abbrev dktX10_isKept_8 : List UInt8 := dkwX10_isKept_8 ++ dktX10_isKept_9
def dkwX10_isKept_7 : List UInt8 := [153, 0, 67, 30, 20, 0, 229, 148, 153, 0, 59, 30, 20, 0, 231, 148, 153, 0, 51, 30, 20, 0, 233, 148]
abbrev dktX10_isKept_7 : List UInt8 := dkwX10_isKept_7 ++ dktX10_isKept_8
def dkwX10_isKept_6 : List UInt8 := [153, 0, 91, 30, 20, 0, 223, 148, 153, 0, 83, 30, 20, 0, 225, 148, 153, 0, 75, 30, 20, 0, 227, 148]
abbrev dktX10_isKept_6 : List UInt8 := dkwX10_isKept_6 ++ dktX10_isKept_7
def dkwX10_isKept_5 : List UInt8 := [154, 0, 115, 30, 20, 0, 217, 148, 153, 0, 107, 30, 20, 0, 219, 148, 153, 0, 99, 30, 20, 0, 221, 148]
abbrev dktX10_isKept_5 : List UInt8 := dkwX10_isKept_5 ++ dktX10_isKept_6
def dkwX10_isKept_4 : List UInt8 := [30, 20, 0, 213, 148, 153, 0, 11, 30, 20, 0, 215, 148, 154, 0, 7, 4, 167, 0, 4, 3, 61, 28]
abbrev dktX10_isKept_4 : List UInt8 := dkwX10_isKept_4 ++ dktX10_isKept_5
def dkwX10_isKept_3 : List UInt8 := [30, 20, 0, 207, 148, 153, 0, 35, 30, 20, 0, 209, 148, 153, 0, 27, 30, 20, 0, 211, 148, 153, 0, 19]
abbrev dktX10_isKept_3 : List UInt8 := dkwX10_isKept_3 ++ dktX10_isKept_4
def dkwX10_isKept_2 : List UInt8 := [30, 20, 0, 201, 148, 153, 0, 59, 30, 20, 0, 203, 148, 153, 0, 51, 30, 20, 0, 205, 148, 153, 0, 43]
abbrev dktX10_isKept_2 : List UInt8 := dkwX10_isKept_2 ++ dktX10_isKept_3
def dkwX10_isKept_1 : List UInt8 := [30, 20, 0, 195, 148, 153, 0, 83, 30, 20, 0, 197, 148, 153, 0, 75, 30, 20, 0, 199, 148, 153, 0, 67]
abbrev dktX10_isKept_1 : List UInt8 := dkwX10_isKept_1 ++ dktX10_isKept_2
def dkwX10_isKept_0 : List UInt8 := [30, 20, 0, 189, 148, 153, 0, 107, 30, 20, 0, 191, 148, 153, 0, 99, 30, 20, 0, 193, 148, 153, 0, 91]
abbrev dktX10_isKept_0 : List UInt8 := dkwX10_isKept_0 ++ dktX10_isKept_1
theorem dksX10_isKept_0 : cX10_isKept.data.toList.drop 0 = dktX10_isKept_0 := by decide +kernel
theorem dksX10_isKept_1 : cX10_isKept.data.toList.drop 24 = dktX10_isKept_1 := dk_seg dksX10_isKept_0 24 rfl rfl
theorem dksX10_isKept_2 : cX10_isKept.data.toList.drop 48 = dktX10_isKept_2 := dk_seg dksX10_isKept_1 24 rfl rfl
theorem dksX10_isKept_3 : cX10_isKept.data.toList.drop 72 = dktX10_isKept_3 := dk_seg dksX10_isKept_2 24 rfl rfl
theorem dksX10_isKept_4 : cX10_isKept.data.toList.drop 96 = dktX10_isKept_4 := dk_seg dksX10_isKept_3 24 rfl rfl
theorem dksX10_isKept_5 : cX10_isKept.data.toList.drop 119 = dktX10_isKept_5 := dk_seg dksX10_isKept_4 23 rfl rfl
theorem dksX10_isKept_6 : cX10_isKept.data.toList.drop 143 = dktX10_isKept_6 := dk_seg dksX10_isKept_5 24 rfl rfl
theorem dksX10_isKept_7 : cX10_isKept.data.toList.drop 167 = dktX10_isKept_7 := dk_seg dksX10_isKept_6 24 rfl rfl
theorem dksX10_isKept_8 : cX10_isKept.data.toList.drop 191 = dktX10_isKept_8 := dk_seg dksX10_isKept_7 24 rfl rfl
theorem dksX10_isKept_9 : cX10_isKept.data.toList.drop 215 = dktX10_isKept_9 := dk_seg dksX10_isKept_8 24 rfl rfl
theorem dksX10_isKept_10 : cX10_isKept.data.toList.drop 239 = dktX10_isKept_10 := dk_seg dksX10_isKept_9 24 rfl rfl
theorem dX10_isKept_0 : decode cX10_isKept 0 = .ok (.lload_n 0, 1) := dk_30 (dk_at dksX10_isKept_0 0 rfl rfl)
theorem dX10_isKept_1 : decode cX10_isKept 1 = .ok (.ldc2_w 189, 3) := dk_20 0 189 (dk_at dksX10_isKept_0 1 rfl rfl)
theorem dX10_isKept_4 : decode cX10_isKept 4 = .ok (.lcmp, 1) := dk_148 (dk_at dksX10_isKept_0 4 rfl rfl)
theorem dX10_isKept_5 : decode cX10_isKept 5 = .ok (.ifCond .eq 107, 3) := dk_153 0 107 (dk_at dksX10_isKept_0 5 rfl rfl)
theorem dX10_isKept_8 : decode cX10_isKept 8 = .ok (.lload_n 0, 1) := dk_30 (dk_at dksX10_isKept_0 8 rfl rfl)
theorem dX10_isKept_9 : decode cX10_isKept 9 = .ok (.ldc2_w 191, 3) := dk_20 0 191 (dk_at dksX10_isKept_0 9 rfl rfl)
theorem dX10_isKept_12 : decode cX10_isKept 12 = .ok (.lcmp, 1) := dk_148 (dk_at dksX10_isKept_0 12 rfl rfl)
theorem dX10_isKept_13 : decode cX10_isKept 13 = .ok (.ifCond .eq 99, 3) := dk_153 0 99 (dk_at dksX10_isKept_0 13 rfl rfl)
theorem dX10_isKept_16 : decode cX10_isKept 16 = .ok (.lload_n 0, 1) := dk_30 (dk_at dksX10_isKept_0 16 rfl rfl)
theorem dX10_isKept_17 : decode cX10_isKept 17 = .ok (.ldc2_w 193, 3) := dk_20 0 193 (dk_at dksX10_isKept_0 17 rfl rfl)
theorem dX10_isKept_20 : decode cX10_isKept 20 = .ok (.lcmp, 1) := dk_148 (dk_at dksX10_isKept_0 20 rfl rfl)
theorem dX10_isKept_21 : decode cX10_isKept 21 = .ok (.ifCond .eq 91, 3) := dk_153 0 91 (dk_at dksX10_isKept_0 21 rfl rfl)
theorem dX10_isKept_24 : decode cX10_isKept 24 = .ok (.lload_n 0, 1) := dk_30 (dk_at dksX10_isKept_1 0 rfl rfl)
theorem dX10_isKept_25 : decode cX10_isKept 25 = .ok (.ldc2_w 195, 3) := dk_20 0 195 (dk_at dksX10_isKept_1 1 rfl rfl)
theorem dX10_isKept_28 : decode cX10_isKept 28 = .ok (.lcmp, 1) := dk_148 (dk_at dksX10_isKept_1 4 rfl rfl)
theorem dX10_isKept_29 : decode cX10_isKept 29 = .ok (.ifCond .eq 83, 3) := dk_153 0 83 (dk_at dksX10_isKept_1 5 rfl rfl)
theorem dX10_isKept_32 : decode cX10_isKept 32 = .ok (.lload_n 0, 1) := dk_30 (dk_at dksX10_isKept_1 8 rfl rfl)
theorem dX10_isKept_33 : decode cX10_isKept 33 = .ok (.ldc2_w 197, 3) := dk_20 0 197 (dk_at dksX10_isKept_1 9 rfl rfl)
theorem dX10_isKept_36 : decode cX10_isKept 36 = .ok (.lcmp, 1) := dk_148 (dk_at dksX10_isKept_1 12 rfl rfl)
theorem dX10_isKept_37 : decode cX10_isKept 37 = .ok (.ifCond .eq 75, 3) := dk_153 0 75 (dk_at dksX10_isKept_1 13 rfl rfl)
theorem dX10_isKept_40 : decode cX10_isKept 40 = .ok (.lload_n 0, 1) := dk_30 (dk_at dksX10_isKept_1 16 rfl rfl)
theorem dX10_isKept_41 : decode cX10_isKept 41 = .ok (.ldc2_w 199, 3) := dk_20 0 199 (dk_at dksX10_isKept_1 17 rfl rfl)
theorem dX10_isKept_44 : decode cX10_isKept 44 = .ok (.lcmp, 1) := dk_148 (dk_at dksX10_isKept_1 20 rfl rfl)
theorem dX10_isKept_45 : decode cX10_isKept 45 = .ok (.ifCond .eq 67, 3) := dk_153 0 67 (dk_at dksX10_isKept_1 21 rfl rfl)
theorem dX10_isKept_48 : decode cX10_isKept 48 = .ok (.lload_n 0, 1) := dk_30 (dk_at dksX10_isKept_2 0 rfl rfl)
theorem dX10_isKept_49 : decode cX10_isKept 49 = .ok (.ldc2_w 201, 3) := dk_20 0 201 (dk_at dksX10_isKept_2 1 rfl rfl)
theorem dX10_isKept_52 : decode cX10_isKept 52 = .ok (.lcmp, 1) := dk_148 (dk_at dksX10_isKept_2 4 rfl rfl)
theorem dX10_isKept_53 : decode cX10_isKept 53 = .ok (.ifCond .eq 59, 3) := dk_153 0 59 (dk_at dksX10_isKept_2 5 rfl rfl)
theorem dX10_isKept_56 : decode cX10_isKept 56 = .ok (.lload_n 0, 1) := dk_30 (dk_at dksX10_isKept_2 8 rfl rfl)
theorem dX10_isKept_57 : decode cX10_isKept 57 = .ok (.ldc2_w 203, 3) := dk_20 0 203 (dk_at dksX10_isKept_2 9 rfl rfl)
theorem dX10_isKept_60 : decode cX10_isKept 60 = .ok (.lcmp, 1) := dk_148 (dk_at dksX10_isKept_2 12 rfl rfl)
theorem dX10_isKept_61 : decode cX10_isKept 61 = .ok (.ifCond .eq 51, 3) := dk_153 0 51 (dk_at dksX10_isKept_2 13 rfl rfl)
theorem dX10_isKept_64 : decode cX10_isKept 64 = .ok (.lload_n 0, 1) := dk_30 (dk_at dksX10_isKept_2 16 rfl rfl)
theorem dX10_isKept_65 : decode cX10_isKept 65 = .ok (.ldc2_w 205, 3) := dk_20 0 205 (dk_at dksX10_isKept_2 17 rfl rfl)
theorem dX10_isKept_68 : decode cX10_isKept 68 = .ok (.lcmp, 1) := dk_148 (dk_at dksX10_isKept_2 20 rfl rfl)
theorem dX10_isKept_69 : decode cX10_isKept 69 = .ok (.ifCond .eq 43, 3) := dk_153 0 43 (dk_at dksX10_isKept_2 21 rfl rfl)
theorem dX10_isKept_72 : decode cX10_isKept 72 = .ok (.lload_n 0, 1) := dk_30 (dk_at dksX10_isKept_3 0 rfl rfl)
theorem dX10_isKept_73 : decode cX10_isKept 73 = .ok (.ldc2_w 207, 3) := dk_20 0 207 (dk_at dksX10_isKept_3 1 rfl rfl)
theorem dX10_isKept_76 : decode cX10_isKept 76 = .ok (.lcmp, 1) := dk_148 (dk_at dksX10_isKept_3 4 rfl rfl)
theorem dX10_isKept_77 : decode cX10_isKept 77 = .ok (.ifCond .eq 35, 3) := dk_153 0 35 (dk_at dksX10_isKept_3 5 rfl rfl)
theorem dX10_isKept_80 : decode cX10_isKept 80 = .ok (.lload_n 0, 1) := dk_30 (dk_at dksX10_isKept_3 8 rfl rfl)
theorem dX10_isKept_81 : decode cX10_isKept 81 = .ok (.ldc2_w 209, 3) := dk_20 0 209 (dk_at dksX10_isKept_3 9 rfl rfl)
theorem dX10_isKept_84 : decode cX10_isKept 84 = .ok (.lcmp, 1) := dk_148 (dk_at dksX10_isKept_3 12 rfl rfl)
theorem dX10_isKept_85 : decode cX10_isKept 85 = .ok (.ifCond .eq 27, 3) := dk_153 0 27 (dk_at dksX10_isKept_3 13 rfl rfl)
theorem dX10_isKept_88 : decode cX10_isKept 88 = .ok (.lload_n 0, 1) := dk_30 (dk_at dksX10_isKept_3 16 rfl rfl)
theorem dX10_isKept_89 : decode cX10_isKept 89 = .ok (.ldc2_w 211, 3) := dk_20 0 211 (dk_at dksX10_isKept_3 17 rfl rfl)
theorem dX10_isKept_92 : decode cX10_isKept 92 = .ok (.lcmp, 1) := dk_148 (dk_at dksX10_isKept_3 20 rfl rfl)
theorem dX10_isKept_93 : decode cX10_isKept 93 = .ok (.ifCond .eq 19, 3) := dk_153 0 19 (dk_at dksX10_isKept_3 21 rfl rfl)
theorem dX10_isKept_96 : decode cX10_isKept 96 = .ok (.lload_n 0, 1) := dk_30 (dk_at dksX10_isKept_4 0 rfl rfl)
theorem dX10_isKept_97 : decode cX10_isKept 97 = .ok (.ldc2_w 213, 3) := dk_20 0 213 (dk_at dksX10_isKept_4 1 rfl rfl)
theorem dX10_isKept_100 : decode cX10_isKept 100 = .ok (.lcmp, 1) := dk_148 (dk_at dksX10_isKept_4 4 rfl rfl)
theorem dX10_isKept_101 : decode cX10_isKept 101 = .ok (.ifCond .eq 11, 3) := dk_153 0 11 (dk_at dksX10_isKept_4 5 rfl rfl)
theorem dX10_isKept_104 : decode cX10_isKept 104 = .ok (.lload_n 0, 1) := dk_30 (dk_at dksX10_isKept_4 8 rfl rfl)
theorem dX10_isKept_105 : decode cX10_isKept 105 = .ok (.ldc2_w 215, 3) := dk_20 0 215 (dk_at dksX10_isKept_4 9 rfl rfl)
theorem dX10_isKept_108 : decode cX10_isKept 108 = .ok (.lcmp, 1) := dk_148 (dk_at dksX10_isKept_4 12 rfl rfl)
theorem dX10_isKept_109 : decode cX10_isKept 109 = .ok (.ifCond .ne 7, 3) := dk_154 0 7 (dk_at dksX10_isKept_4 13 rfl rfl)
theorem dX10_isKept_112 : decode cX10_isKept 112 = .ok (.iconst 1, 1) := dk_4 (dk_at dksX10_isKept_4 16 rfl rfl)
theorem dX10_isKept_113 : decode cX10_isKept 113 = .ok (.goto 4, 3) := dk_167 0 4 (dk_at dksX10_isKept_4 17 rfl rfl)
theorem dX10_isKept_116 : decode cX10_isKept 116 = .ok (.iconst 0, 1) := dk_3 (dk_at dksX10_isKept_4 20 rfl rfl)
theorem dX10_isKept_117 : decode cX10_isKept 117 = .ok (.istore_n 2, 1) := dk_61 (dk_at dksX10_isKept_4 21 rfl rfl)
theorem dX10_isKept_118 : decode cX10_isKept 118 = .ok (.iload_n 2, 1) := dk_28 (dk_at dksX10_isKept_4 22 rfl rfl)
theorem dX10_isKept_119 : decode cX10_isKept 119 = .ok (.ifCond .ne 115, 3) := dk_154 0 115 (dk_at dksX10_isKept_5 0 rfl rfl)
theorem dX10_isKept_122 : decode cX10_isKept 122 = .ok (.lload_n 0, 1) := dk_30 (dk_at dksX10_isKept_5 3 rfl rfl)
theorem dX10_isKept_123 : decode cX10_isKept 123 = .ok (.ldc2_w 217, 3) := dk_20 0 217 (dk_at dksX10_isKept_5 4 rfl rfl)
theorem dX10_isKept_126 : decode cX10_isKept 126 = .ok (.lcmp, 1) := dk_148 (dk_at dksX10_isKept_5 7 rfl rfl)
theorem dX10_isKept_127 : decode cX10_isKept 127 = .ok (.ifCond .eq 107, 3) := dk_153 0 107 (dk_at dksX10_isKept_5 8 rfl rfl)
theorem dX10_isKept_130 : decode cX10_isKept 130 = .ok (.lload_n 0, 1) := dk_30 (dk_at dksX10_isKept_5 11 rfl rfl)
theorem dX10_isKept_131 : decode cX10_isKept 131 = .ok (.ldc2_w 219, 3) := dk_20 0 219 (dk_at dksX10_isKept_5 12 rfl rfl)
theorem dX10_isKept_134 : decode cX10_isKept 134 = .ok (.lcmp, 1) := dk_148 (dk_at dksX10_isKept_5 15 rfl rfl)
theorem dX10_isKept_135 : decode cX10_isKept 135 = .ok (.ifCond .eq 99, 3) := dk_153 0 99 (dk_at dksX10_isKept_5 16 rfl rfl)
theorem dX10_isKept_138 : decode cX10_isKept 138 = .ok (.lload_n 0, 1) := dk_30 (dk_at dksX10_isKept_5 19 rfl rfl)
theorem dX10_isKept_139 : decode cX10_isKept 139 = .ok (.ldc2_w 221, 3) := dk_20 0 221 (dk_at dksX10_isKept_5 20 rfl rfl)
theorem dX10_isKept_142 : decode cX10_isKept 142 = .ok (.lcmp, 1) := dk_148 (dk_at dksX10_isKept_5 23 rfl rfl)
theorem dX10_isKept_143 : decode cX10_isKept 143 = .ok (.ifCond .eq 91, 3) := dk_153 0 91 (dk_at dksX10_isKept_6 0 rfl rfl)
theorem dX10_isKept_146 : decode cX10_isKept 146 = .ok (.lload_n 0, 1) := dk_30 (dk_at dksX10_isKept_6 3 rfl rfl)
theorem dX10_isKept_147 : decode cX10_isKept 147 = .ok (.ldc2_w 223, 3) := dk_20 0 223 (dk_at dksX10_isKept_6 4 rfl rfl)
theorem dX10_isKept_150 : decode cX10_isKept 150 = .ok (.lcmp, 1) := dk_148 (dk_at dksX10_isKept_6 7 rfl rfl)
theorem dX10_isKept_151 : decode cX10_isKept 151 = .ok (.ifCond .eq 83, 3) := dk_153 0 83 (dk_at dksX10_isKept_6 8 rfl rfl)
theorem dX10_isKept_154 : decode cX10_isKept 154 = .ok (.lload_n 0, 1) := dk_30 (dk_at dksX10_isKept_6 11 rfl rfl)
theorem dX10_isKept_155 : decode cX10_isKept 155 = .ok (.ldc2_w 225, 3) := dk_20 0 225 (dk_at dksX10_isKept_6 12 rfl rfl)
theorem dX10_isKept_158 : decode cX10_isKept 158 = .ok (.lcmp, 1) := dk_148 (dk_at dksX10_isKept_6 15 rfl rfl)
theorem dX10_isKept_159 : decode cX10_isKept 159 = .ok (.ifCond .eq 75, 3) := dk_153 0 75 (dk_at dksX10_isKept_6 16 rfl rfl)
theorem dX10_isKept_162 : decode cX10_isKept 162 = .ok (.lload_n 0, 1) := dk_30 (dk_at dksX10_isKept_6 19 rfl rfl)
theorem dX10_isKept_163 : decode cX10_isKept 163 = .ok (.ldc2_w 227, 3) := dk_20 0 227 (dk_at dksX10_isKept_6 20 rfl rfl)
theorem dX10_isKept_166 : decode cX10_isKept 166 = .ok (.lcmp, 1) := dk_148 (dk_at dksX10_isKept_6 23 rfl rfl)
theorem dX10_isKept_167 : decode cX10_isKept 167 = .ok (.ifCond .eq 67, 3) := dk_153 0 67 (dk_at dksX10_isKept_7 0 rfl rfl)
theorem dX10_isKept_170 : decode cX10_isKept 170 = .ok (.lload_n 0, 1) := dk_30 (dk_at dksX10_isKept_7 3 rfl rfl)
theorem dX10_isKept_171 : decode cX10_isKept 171 = .ok (.ldc2_w 229, 3) := dk_20 0 229 (dk_at dksX10_isKept_7 4 rfl rfl)
theorem dX10_isKept_174 : decode cX10_isKept 174 = .ok (.lcmp, 1) := dk_148 (dk_at dksX10_isKept_7 7 rfl rfl)
theorem dX10_isKept_175 : decode cX10_isKept 175 = .ok (.ifCond .eq 59, 3) := dk_153 0 59 (dk_at dksX10_isKept_7 8 rfl rfl)
theorem dX10_isKept_178 : decode cX10_isKept 178 = .ok (.lload_n 0, 1) := dk_30 (dk_at dksX10_isKept_7 11 rfl rfl)
theorem dX10_isKept_179 : decode cX10_isKept 179 = .ok (.ldc2_w 231, 3) := dk_20 0 231 (dk_at dksX10_isKept_7 12 rfl rfl)
theorem dX10_isKept_182 : decode cX10_isKept 182 = .ok (.lcmp, 1) := dk_148 (dk_at dksX10_isKept_7 15 rfl rfl)
theorem dX10_isKept_183 : decode cX10_isKept 183 = .ok (.ifCond .eq 51, 3) := dk_153 0 51 (dk_at dksX10_isKept_7 16 rfl rfl)
theorem dX10_isKept_186 : decode cX10_isKept 186 = .ok (.lload_n 0, 1) := dk_30 (dk_at dksX10_isKept_7 19 rfl rfl)
theorem dX10_isKept_187 : decode cX10_isKept 187 = .ok (.ldc2_w 233, 3) := dk_20 0 233 (dk_at dksX10_isKept_7 20 rfl rfl)
theorem dX10_isKept_190 : decode cX10_isKept 190 = .ok (.lcmp, 1) := dk_148 (dk_at dksX10_isKept_7 23 rfl rfl)
theorem dX10_isKept_191 : decode cX10_isKept 191 = .ok (.ifCond .eq 43, 3) := dk_153 0 43 (dk_at dksX10_isKept_8 0 rfl rfl)
theorem dX10_isKept_194 : decode cX10_isKept 194 = .ok (.lload_n 0, 1) := dk_30 (dk_at dksX10_isKept_8 3 rfl rfl)
theorem dX10_isKept_195 : decode cX10_isKept 195 = .ok (.ldc2_w 235, 3) := dk_20 0 235 (dk_at dksX10_isKept_8 4 rfl rfl)
theorem dX10_isKept_198 : decode cX10_isKept 198 = .ok (.lcmp, 1) := dk_148 (dk_at dksX10_isKept_8 7 rfl rfl)
theorem dX10_isKept_199 : decode cX10_isKept 199 = .ok (.ifCond .eq 35, 3) := dk_153 0 35 (dk_at dksX10_isKept_8 8 rfl rfl)
theorem dX10_isKept_202 : decode cX10_isKept 202 = .ok (.lload_n 0, 1) := dk_30 (dk_at dksX10_isKept_8 11 rfl rfl)
theorem dX10_isKept_203 : decode cX10_isKept 203 = .ok (.ldc2_w 237, 3) := dk_20 0 237 (dk_at dksX10_isKept_8 12 rfl rfl)
theorem dX10_isKept_206 : decode cX10_isKept 206 = .ok (.lcmp, 1) := dk_148 (dk_at dksX10_isKept_8 15 rfl rfl)
theorem dX10_isKept_207 : decode cX10_isKept 207 = .ok (.ifCond .eq 27, 3) := dk_153 0 27 (dk_at dksX10_isKept_8 16 rfl rfl)
theorem dX10_isKept_210 : decode cX10_isKept 210 = .ok (.lload_n 0, 1) := dk_30 (dk_at dksX10_isKept_8 19 rfl rfl)
theorem dX10_isKept_211 : decode cX10_isKept 211 = .ok (.ldc2_w 239, 3) := dk_20 0 239 (dk_at dksX10_isKept_8 20 rfl rfl)
theorem dX10_isKept_214 : decode cX10_isKept 214 = .ok (.lcmp, 1) := dk_148 (dk_at dksX10_isKept_8 23 rfl rfl)
theorem dX10_isKept_215 : decode cX10_isKept 215 = .ok (.ifCond .eq 19, 3) := dk_153 0 19 (dk_at dksX10_isKept_9 0 rfl rfl)
theorem dX10_isKept_218 : decode cX10_isKept 218 = .ok (.lload_n 0, 1) := dk_30 (dk_at dksX10_isKept_9 3 rfl rfl)
theorem dX10_isKept_219 : decode cX10_isKept 219 = .ok (.ldc2_w 241, 3) := dk_20 0 241 (dk_at dksX10_isKept_9 4 rfl rfl)
theorem dX10_isKept_222 : decode cX10_isKept 222 = .ok (.lcmp, 1) := dk_148 (dk_at dksX10_isKept_9 7 rfl rfl)
theorem dX10_isKept_223 : decode cX10_isKept 223 = .ok (.ifCond .eq 11, 3) := dk_153 0 11 (dk_at dksX10_isKept_9 8 rfl rfl)
theorem dX10_isKept_226 : decode cX10_isKept 226 = .ok (.lload_n 0, 1) := dk_30 (dk_at dksX10_isKept_9 11 rfl rfl)
theorem dX10_isKept_227 : decode cX10_isKept 227 = .ok (.ldc2_w 243, 3) := dk_20 0 243 (dk_at dksX10_isKept_9 12 rfl rfl)
theorem dX10_isKept_230 : decode cX10_isKept 230 = .ok (.lcmp, 1) := dk_148 (dk_at dksX10_isKept_9 15 rfl rfl)
theorem dX10_isKept_231 : decode cX10_isKept 231 = .ok (.ifCond .ne 7, 3) := dk_154 0 7 (dk_at dksX10_isKept_9 16 rfl rfl)
theorem dX10_isKept_234 : decode cX10_isKept 234 = .ok (.iconst 1, 1) := dk_4 (dk_at dksX10_isKept_9 19 rfl rfl)
theorem dX10_isKept_235 : decode cX10_isKept 235 = .ok (.goto 4, 3) := dk_167 0 4 (dk_at dksX10_isKept_9 20 rfl rfl)
theorem dX10_isKept_238 : decode cX10_isKept 238 = .ok (.iconst 0, 1) := dk_3 (dk_at dksX10_isKept_9 23 rfl rfl)
theorem dX10_isKept_239 : decode cX10_isKept 239 = .ok (.ireturn, 1) := dk_172 (dk_at dksX10_isKept_10 0 rfl rfl)
abbrev cX10_isDigit : ByteArray := prog_32_method_4_code
def yX10_isDigit : MethodName := ⟨RX10, "isDigit", "(I)Z"⟩
def dkwX10_isDigit_0 : List UInt8 := [26, 16, 48, 161, 0, 13, 26, 16, 57, 163, 0, 7, 4, 167, 0, 4, 3, 172]
abbrev dktX10_isDigit_0 : List UInt8 := dkwX10_isDigit_0 ++ []
theorem dksX10_isDigit_0 : cX10_isDigit.data.toList.drop 0 = dktX10_isDigit_0 := by decide +kernel
theorem dX10_isDigit_0 : decode cX10_isDigit 0 = .ok (.iload_n 0, 1) := dk_26 (dk_at dksX10_isDigit_0 0 rfl rfl)
theorem dX10_isDigit_1 : decode cX10_isDigit 1 = .ok (.bipush 48, 2) := dk_16 48 (dk_at dksX10_isDigit_0 1 rfl rfl)
theorem dX10_isDigit_3 : decode cX10_isDigit 3 = .ok (.if_icmp .lt 13, 3) := dk_161 0 13 (dk_at dksX10_isDigit_0 3 rfl rfl)
theorem dX10_isDigit_6 : decode cX10_isDigit 6 = .ok (.iload_n 0, 1) := dk_26 (dk_at dksX10_isDigit_0 6 rfl rfl)
theorem dX10_isDigit_7 : decode cX10_isDigit 7 = .ok (.bipush 57, 2) := dk_16 57 (dk_at dksX10_isDigit_0 7 rfl rfl)
theorem dX10_isDigit_9 : decode cX10_isDigit 9 = .ok (.if_icmp .gt 7, 3) := dk_163 0 7 (dk_at dksX10_isDigit_0 9 rfl rfl)
theorem dX10_isDigit_12 : decode cX10_isDigit 12 = .ok (.iconst 1, 1) := dk_4 (dk_at dksX10_isDigit_0 12 rfl rfl)
theorem dX10_isDigit_13 : decode cX10_isDigit 13 = .ok (.goto 4, 3) := dk_167 0 4 (dk_at dksX10_isDigit_0 13 rfl rfl)
theorem dX10_isDigit_16 : decode cX10_isDigit 16 = .ok (.iconst 0, 1) := dk_3 (dk_at dksX10_isDigit_0 16 rfl rfl)
theorem dX10_isDigit_17 : decode cX10_isDigit 17 = .ok (.ireturn, 1) := dk_172 (dk_at dksX10_isDigit_0 17 rfl rfl)
abbrev cX10_isSign : ByteArray := prog_32_method_8_code
def yX10_isSign : MethodName := ⟨RX10, "isSign", "(I)Z"⟩
def dkwX10_isSign_2 : List UInt8 := [26, 16, 42, 160, 0, 7, 4, 167, 0, 4, 3, 172]
abbrev dktX10_isSign_2 : List UInt8 := dkwX10_isSign_2 ++ []
def dkwX10_isSign_1 : List UInt8 := [26, 16, 62, 159, 0, 27, 26, 16, 61, 159, 0, 21, 26, 16, 43, 159, 0, 15, 26, 16, 45, 159, 0, 9]
abbrev dktX10_isSign_1 : List UInt8 := dkwX10_isSign_1 ++ dktX10_isSign_2
def dkwX10_isSign_0 : List UInt8 := [26, 16, 59, 159, 0, 51, 26, 16, 40, 159, 0, 45, 26, 16, 41, 159, 0, 39, 26, 16, 60, 159, 0, 33]
abbrev dktX10_isSign_0 : List UInt8 := dkwX10_isSign_0 ++ dktX10_isSign_1
theorem dksX10_isSign_0 : cX10_isSign.data.toList.drop 0 = dktX10_isSign_0 := by decide +kernel
theorem dksX10_isSign_1 : cX10_isSign.data.toList.drop 24 = dktX10_isSign_1 := dk_seg dksX10_isSign_0 24 rfl rfl
theorem dksX10_isSign_2 : cX10_isSign.data.toList.drop 48 = dktX10_isSign_2 := dk_seg dksX10_isSign_1 24 rfl rfl
theorem dX10_isSign_0 : decode cX10_isSign 0 = .ok (.iload_n 0, 1) := dk_26 (dk_at dksX10_isSign_0 0 rfl rfl)
theorem dX10_isSign_1 : decode cX10_isSign 1 = .ok (.bipush 59, 2) := dk_16 59 (dk_at dksX10_isSign_0 1 rfl rfl)
theorem dX10_isSign_3 : decode cX10_isSign 3 = .ok (.if_icmp .eq 51, 3) := dk_159 0 51 (dk_at dksX10_isSign_0 3 rfl rfl)
theorem dX10_isSign_6 : decode cX10_isSign 6 = .ok (.iload_n 0, 1) := dk_26 (dk_at dksX10_isSign_0 6 rfl rfl)
theorem dX10_isSign_7 : decode cX10_isSign 7 = .ok (.bipush 40, 2) := dk_16 40 (dk_at dksX10_isSign_0 7 rfl rfl)
theorem dX10_isSign_9 : decode cX10_isSign 9 = .ok (.if_icmp .eq 45, 3) := dk_159 0 45 (dk_at dksX10_isSign_0 9 rfl rfl)
theorem dX10_isSign_12 : decode cX10_isSign 12 = .ok (.iload_n 0, 1) := dk_26 (dk_at dksX10_isSign_0 12 rfl rfl)
theorem dX10_isSign_13 : decode cX10_isSign 13 = .ok (.bipush 41, 2) := dk_16 41 (dk_at dksX10_isSign_0 13 rfl rfl)
theorem dX10_isSign_15 : decode cX10_isSign 15 = .ok (.if_icmp .eq 39, 3) := dk_159 0 39 (dk_at dksX10_isSign_0 15 rfl rfl)
theorem dX10_isSign_18 : decode cX10_isSign 18 = .ok (.iload_n 0, 1) := dk_26 (dk_at dksX10_isSign_0 18 rfl rfl)
theorem dX10_isSign_19 : decode cX10_isSign 19 = .ok (.bipush 60, 2) := dk_16 60 (dk_at dksX10_isSign_0 19 rfl rfl)
theorem dX10_isSign_21 : decode cX10_isSign 21 = .ok (.if_icmp .eq 33, 3) := dk_159 0 33 (dk_at dksX10_isSign_0 21 rfl rfl)
theorem dX10_isSign_24 : decode cX10_isSign 24 = .ok (.iload_n 0, 1) := dk_26 (dk_at dksX10_isSign_1 0 rfl rfl)
theorem dX10_isSign_25 : decode cX10_isSign 25 = .ok (.bipush 62, 2) := dk_16 62 (dk_at dksX10_isSign_1 1 rfl rfl)
theorem dX10_isSign_27 : decode cX10_isSign 27 = .ok (.if_icmp .eq 27, 3) := dk_159 0 27 (dk_at dksX10_isSign_1 3 rfl rfl)
theorem dX10_isSign_30 : decode cX10_isSign 30 = .ok (.iload_n 0, 1) := dk_26 (dk_at dksX10_isSign_1 6 rfl rfl)
theorem dX10_isSign_31 : decode cX10_isSign 31 = .ok (.bipush 61, 2) := dk_16 61 (dk_at dksX10_isSign_1 7 rfl rfl)
theorem dX10_isSign_33 : decode cX10_isSign 33 = .ok (.if_icmp .eq 21, 3) := dk_159 0 21 (dk_at dksX10_isSign_1 9 rfl rfl)
theorem dX10_isSign_36 : decode cX10_isSign 36 = .ok (.iload_n 0, 1) := dk_26 (dk_at dksX10_isSign_1 12 rfl rfl)
theorem dX10_isSign_37 : decode cX10_isSign 37 = .ok (.bipush 43, 2) := dk_16 43 (dk_at dksX10_isSign_1 13 rfl rfl)
theorem dX10_isSign_39 : decode cX10_isSign 39 = .ok (.if_icmp .eq 15, 3) := dk_159 0 15 (dk_at dksX10_isSign_1 15 rfl rfl)
theorem dX10_isSign_42 : decode cX10_isSign 42 = .ok (.iload_n 0, 1) := dk_26 (dk_at dksX10_isSign_1 18 rfl rfl)
theorem dX10_isSign_43 : decode cX10_isSign 43 = .ok (.bipush 45, 2) := dk_16 45 (dk_at dksX10_isSign_1 19 rfl rfl)
theorem dX10_isSign_45 : decode cX10_isSign 45 = .ok (.if_icmp .eq 9, 3) := dk_159 0 9 (dk_at dksX10_isSign_1 21 rfl rfl)
theorem dX10_isSign_48 : decode cX10_isSign 48 = .ok (.iload_n 0, 1) := dk_26 (dk_at dksX10_isSign_2 0 rfl rfl)
theorem dX10_isSign_49 : decode cX10_isSign 49 = .ok (.bipush 42, 2) := dk_16 42 (dk_at dksX10_isSign_2 1 rfl rfl)
theorem dX10_isSign_51 : decode cX10_isSign 51 = .ok (.if_icmp .ne 7, 3) := dk_160 0 7 (dk_at dksX10_isSign_2 3 rfl rfl)
theorem dX10_isSign_54 : decode cX10_isSign 54 = .ok (.iconst 1, 1) := dk_4 (dk_at dksX10_isSign_2 6 rfl rfl)
theorem dX10_isSign_55 : decode cX10_isSign 55 = .ok (.goto 4, 3) := dk_167 0 4 (dk_at dksX10_isSign_2 7 rfl rfl)
theorem dX10_isSign_58 : decode cX10_isSign 58 = .ok (.iconst 0, 1) := dk_3 (dk_at dksX10_isSign_2 10 rfl rfl)
theorem dX10_isSign_59 : decode cX10_isSign 59 = .ok (.ireturn, 1) := dk_172 (dk_at dksX10_isSign_2 11 rfl rfl)
abbrev cX10_isGood : ByteArray := prog_32_method_6_code
def yX10_isGood : MethodName := ⟨RX10, "isGood", "()Z"⟩
def dkwX10_isGood_0 : List UInt8 := [42, 180, 0, 186, 154, 0, 7, 4, 167, 0, 4, 3, 172]
abbrev dktX10_isGood_0 : List UInt8 := dkwX10_isGood_0 ++ []
theorem dksX10_isGood_0 : cX10_isGood.data.toList.drop 0 = dktX10_isGood_0 := by decide +kernel
theorem dX10_isGood_0 : decode cX10_isGood 0 = .ok (.aload_n 0, 1) := dk_42 (dk_at dksX10_isGood_0 0 rfl rfl)
theorem dX10_isGood_1 : decode cX10_isGood 1 = .ok (.getfield 186, 3) := dk_180 0 186 (dk_at dksX10_isGood_0 1 rfl rfl)
theorem dX10_isGood_4 : decode cX10_isGood 4 = .ok (.ifCond .ne 7, 3) := dk_154 0 7 (dk_at dksX10_isGood_0 4 rfl rfl)
theorem dX10_isGood_7 : decode cX10_isGood 7 = .ok (.iconst 1, 1) := dk_4 (dk_at dksX10_isGood_0 7 rfl rfl)
theorem dX10_isGood_8 : decode cX10_isGood 8 = .ok (.goto 4, 3) := dk_167 0 4 (dk_at dksX10_isGood_0 8 rfl rfl)
theorem dX10_isGood_11 : decode cX10_isGood 11 = .ok (.iconst 0, 1) := dk_3 (dk_at dksX10_isGood_0 11 rfl rfl)
theorem dX10_isGood_12 : decode cX10_isGood 12 = .ok (.ireturn, 1) := dk_172 (dk_at dksX10_isGood_0 12 rfl rfl)
abbrev cX10_readLine : ByteArray := prog_32_method_19_code
def yX10_readLine : MethodName := ⟨RX10, "readLine", "()V"⟩
def dkwX10_readLine_3 : List UInt8 := [182, 1, 34, 42, 42, 16, 59, 182, 1, 91, 182, 1, 94, 177]
abbrev dktX10_readLine_3 : List UInt8 := dkwX10_readLine_3 ++ []
def dkwX10_readLine_2 : List UInt8 := [153, 0, 10, 42, 182, 1, 84, 167, 0, 19, 27, 155, 0, 11, 42, 27, 182, 1, 87, 167, 0, 7, 42]
abbrev dktX10_readLine_2 : List UInt8 := dkwX10_readLine_2 ++ dktX10_readLine_3
def dkwX10_readLine_1 : List UInt8 := [20, 0, 191, 182, 1, 68, 153, 0, 10, 42, 182, 1, 81, 167, 0, 36, 42, 20, 0, 193, 182, 1, 68]
abbrev dktX10_readLine_1 : List UInt8 := dkwX10_readLine_1 ++ dktX10_readLine_2
def dkwX10_readLine_0 : List UInt8 := [42, 182, 1, 75, 60, 42, 20, 0, 189, 182, 1, 68, 153, 0, 10, 42, 182, 1, 78, 167, 0, 53, 42]
abbrev dktX10_readLine_0 : List UInt8 := dkwX10_readLine_0 ++ dktX10_readLine_1
theorem dksX10_readLine_0 : cX10_readLine.data.toList.drop 0 = dktX10_readLine_0 := by decide +kernel
theorem dksX10_readLine_1 : cX10_readLine.data.toList.drop 23 = dktX10_readLine_1 := dk_seg dksX10_readLine_0 23 rfl rfl
theorem dksX10_readLine_2 : cX10_readLine.data.toList.drop 46 = dktX10_readLine_2 := dk_seg dksX10_readLine_1 23 rfl rfl
theorem dksX10_readLine_3 : cX10_readLine.data.toList.drop 69 = dktX10_readLine_3 := dk_seg dksX10_readLine_2 23 rfl rfl
theorem dX10_readLine_0 : decode cX10_readLine 0 = .ok (.aload_n 0, 1) := dk_42 (dk_at dksX10_readLine_0 0 rfl rfl)
theorem dX10_readLine_1 : decode cX10_readLine 1 = .ok (.invokevirtual 331, 3) := dk_182 1 75 (dk_at dksX10_readLine_0 1 rfl rfl)
theorem dX10_readLine_4 : decode cX10_readLine 4 = .ok (.istore_n 1, 1) := dk_60 (dk_at dksX10_readLine_0 4 rfl rfl)
theorem dX10_readLine_5 : decode cX10_readLine 5 = .ok (.aload_n 0, 1) := dk_42 (dk_at dksX10_readLine_0 5 rfl rfl)
theorem dX10_readLine_6 : decode cX10_readLine 6 = .ok (.ldc2_w 189, 3) := dk_20 0 189 (dk_at dksX10_readLine_0 6 rfl rfl)
theorem dX10_readLine_9 : decode cX10_readLine 9 = .ok (.invokevirtual 324, 3) := dk_182 1 68 (dk_at dksX10_readLine_0 9 rfl rfl)
theorem dX10_readLine_12 : decode cX10_readLine 12 = .ok (.ifCond .eq 10, 3) := dk_153 0 10 (dk_at dksX10_readLine_0 12 rfl rfl)
theorem dX10_readLine_15 : decode cX10_readLine 15 = .ok (.aload_n 0, 1) := dk_42 (dk_at dksX10_readLine_0 15 rfl rfl)
theorem dX10_readLine_16 : decode cX10_readLine 16 = .ok (.invokevirtual 334, 3) := dk_182 1 78 (dk_at dksX10_readLine_0 16 rfl rfl)
theorem dX10_readLine_19 : decode cX10_readLine 19 = .ok (.goto 53, 3) := dk_167 0 53 (dk_at dksX10_readLine_0 19 rfl rfl)
theorem dX10_readLine_22 : decode cX10_readLine 22 = .ok (.aload_n 0, 1) := dk_42 (dk_at dksX10_readLine_0 22 rfl rfl)
theorem dX10_readLine_23 : decode cX10_readLine 23 = .ok (.ldc2_w 191, 3) := dk_20 0 191 (dk_at dksX10_readLine_1 0 rfl rfl)
theorem dX10_readLine_26 : decode cX10_readLine 26 = .ok (.invokevirtual 324, 3) := dk_182 1 68 (dk_at dksX10_readLine_1 3 rfl rfl)
theorem dX10_readLine_29 : decode cX10_readLine 29 = .ok (.ifCond .eq 10, 3) := dk_153 0 10 (dk_at dksX10_readLine_1 6 rfl rfl)
theorem dX10_readLine_32 : decode cX10_readLine 32 = .ok (.aload_n 0, 1) := dk_42 (dk_at dksX10_readLine_1 9 rfl rfl)
theorem dX10_readLine_33 : decode cX10_readLine 33 = .ok (.invokevirtual 337, 3) := dk_182 1 81 (dk_at dksX10_readLine_1 10 rfl rfl)
theorem dX10_readLine_36 : decode cX10_readLine 36 = .ok (.goto 36, 3) := dk_167 0 36 (dk_at dksX10_readLine_1 13 rfl rfl)
theorem dX10_readLine_39 : decode cX10_readLine 39 = .ok (.aload_n 0, 1) := dk_42 (dk_at dksX10_readLine_1 16 rfl rfl)
theorem dX10_readLine_40 : decode cX10_readLine 40 = .ok (.ldc2_w 193, 3) := dk_20 0 193 (dk_at dksX10_readLine_1 17 rfl rfl)
theorem dX10_readLine_43 : decode cX10_readLine 43 = .ok (.invokevirtual 324, 3) := dk_182 1 68 (dk_at dksX10_readLine_1 20 rfl rfl)
theorem dX10_readLine_46 : decode cX10_readLine 46 = .ok (.ifCond .eq 10, 3) := dk_153 0 10 (dk_at dksX10_readLine_2 0 rfl rfl)
theorem dX10_readLine_49 : decode cX10_readLine 49 = .ok (.aload_n 0, 1) := dk_42 (dk_at dksX10_readLine_2 3 rfl rfl)
theorem dX10_readLine_50 : decode cX10_readLine 50 = .ok (.invokevirtual 340, 3) := dk_182 1 84 (dk_at dksX10_readLine_2 4 rfl rfl)
theorem dX10_readLine_53 : decode cX10_readLine 53 = .ok (.goto 19, 3) := dk_167 0 19 (dk_at dksX10_readLine_2 7 rfl rfl)
theorem dX10_readLine_56 : decode cX10_readLine 56 = .ok (.iload_n 1, 1) := dk_27 (dk_at dksX10_readLine_2 10 rfl rfl)
theorem dX10_readLine_57 : decode cX10_readLine 57 = .ok (.ifCond .lt 11, 3) := dk_155 0 11 (dk_at dksX10_readLine_2 11 rfl rfl)
theorem dX10_readLine_60 : decode cX10_readLine 60 = .ok (.aload_n 0, 1) := dk_42 (dk_at dksX10_readLine_2 14 rfl rfl)
theorem dX10_readLine_61 : decode cX10_readLine 61 = .ok (.iload_n 1, 1) := dk_27 (dk_at dksX10_readLine_2 15 rfl rfl)
theorem dX10_readLine_62 : decode cX10_readLine 62 = .ok (.invokevirtual 343, 3) := dk_182 1 87 (dk_at dksX10_readLine_2 16 rfl rfl)
theorem dX10_readLine_65 : decode cX10_readLine 65 = .ok (.goto 7, 3) := dk_167 0 7 (dk_at dksX10_readLine_2 19 rfl rfl)
theorem dX10_readLine_68 : decode cX10_readLine 68 = .ok (.aload_n 0, 1) := dk_42 (dk_at dksX10_readLine_2 22 rfl rfl)
theorem dX10_readLine_69 : decode cX10_readLine 69 = .ok (.invokevirtual 290, 3) := dk_182 1 34 (dk_at dksX10_readLine_3 0 rfl rfl)
theorem dX10_readLine_72 : decode cX10_readLine 72 = .ok (.aload_n 0, 1) := dk_42 (dk_at dksX10_readLine_3 3 rfl rfl)
theorem dX10_readLine_73 : decode cX10_readLine 73 = .ok (.aload_n 0, 1) := dk_42 (dk_at dksX10_readLine_3 4 rfl rfl)
theorem dX10_readLine_74 : decode cX10_readLine 74 = .ok (.bipush 59, 2) := dk_16 59 (dk_at dksX10_readLine_3 5 rfl rfl)
theorem dX10_readLine_76 : decode cX10_readLine 76 = .ok (.invokevirtual 347, 3) := dk_182 1 91 (dk_at dksX10_readLine_3 7 rfl rfl)
theorem dX10_readLine_79 : decode cX10_readLine 79 = .ok (.invokevirtual 350, 3) := dk_182 1 94 (dk_at dksX10_readLine_3 10 rfl rfl)
theorem dX10_readLine_82 : decode cX10_readLine 82 = .ok (.return_, 1) := dk_177 (dk_at dksX10_readLine_3 13 rfl rfl)
abbrev cX10_stepHere : ByteArray := prog_32_method_18_code
def yX10_stepHere : MethodName := ⟨RX10, "stepHere", "()I"⟩
def dkwX10_stepHere_4 : List UInt8 := [153, 0, 8, 16, 12, 167, 0, 4, 2, 172]
abbrev dktX10_stepHere_4 : List UInt8 := dkwX10_stepHere_4 ++ []
def dkwX10_stepHere_3 : List UInt8 := [16, 10, 172, 42, 20, 0, 207, 182, 1, 68, 153, 0, 6, 16, 11, 172, 42, 20, 0, 209, 182, 1, 68]
abbrev dktX10_stepHere_3 : List UInt8 := dkwX10_stepHere_3 ++ dktX10_stepHere_4
def dkwX10_stepHere_2 : List UInt8 := [172, 42, 20, 0, 201, 182, 1, 68, 153, 0, 6, 16, 9, 172, 42, 20, 0, 205, 182, 1, 68, 153, 0, 6]
abbrev dktX10_stepHere_2 : List UInt8 := dkwX10_stepHere_2 ++ dktX10_stepHere_3
def dkwX10_stepHere_1 : List UInt8 := [42, 20, 0, 197, 182, 1, 68, 153, 0, 5, 4, 172, 42, 20, 0, 199, 182, 1, 68, 153, 0, 6, 16, 8]
abbrev dktX10_stepHere_1 : List UInt8 := dkwX10_stepHere_1 ++ dktX10_stepHere_2
def dkwX10_stepHere_0 : List UInt8 := [42, 182, 1, 71, 155, 0, 8, 42, 182, 1, 71, 172, 42, 20, 0, 195, 182, 1, 68, 153, 0, 5, 3, 172]
abbrev dktX10_stepHere_0 : List UInt8 := dkwX10_stepHere_0 ++ dktX10_stepHere_1
theorem dksX10_stepHere_0 : cX10_stepHere.data.toList.drop 0 = dktX10_stepHere_0 := by decide +kernel
theorem dksX10_stepHere_1 : cX10_stepHere.data.toList.drop 24 = dktX10_stepHere_1 := dk_seg dksX10_stepHere_0 24 rfl rfl
theorem dksX10_stepHere_2 : cX10_stepHere.data.toList.drop 48 = dktX10_stepHere_2 := dk_seg dksX10_stepHere_1 24 rfl rfl
theorem dksX10_stepHere_3 : cX10_stepHere.data.toList.drop 72 = dktX10_stepHere_3 := dk_seg dksX10_stepHere_2 24 rfl rfl
theorem dksX10_stepHere_4 : cX10_stepHere.data.toList.drop 95 = dktX10_stepHere_4 := dk_seg dksX10_stepHere_3 23 rfl rfl
theorem dX10_stepHere_0 : decode cX10_stepHere 0 = .ok (.aload_n 0, 1) := dk_42 (dk_at dksX10_stepHere_0 0 rfl rfl)
theorem dX10_stepHere_1 : decode cX10_stepHere 1 = .ok (.invokevirtual 327, 3) := dk_182 1 71 (dk_at dksX10_stepHere_0 1 rfl rfl)
theorem dX10_stepHere_4 : decode cX10_stepHere 4 = .ok (.ifCond .lt 8, 3) := dk_155 0 8 (dk_at dksX10_stepHere_0 4 rfl rfl)
theorem dX10_stepHere_7 : decode cX10_stepHere 7 = .ok (.aload_n 0, 1) := dk_42 (dk_at dksX10_stepHere_0 7 rfl rfl)
theorem dX10_stepHere_8 : decode cX10_stepHere 8 = .ok (.invokevirtual 327, 3) := dk_182 1 71 (dk_at dksX10_stepHere_0 8 rfl rfl)
theorem dX10_stepHere_11 : decode cX10_stepHere 11 = .ok (.ireturn, 1) := dk_172 (dk_at dksX10_stepHere_0 11 rfl rfl)
theorem dX10_stepHere_12 : decode cX10_stepHere 12 = .ok (.aload_n 0, 1) := dk_42 (dk_at dksX10_stepHere_0 12 rfl rfl)
theorem dX10_stepHere_13 : decode cX10_stepHere 13 = .ok (.ldc2_w 195, 3) := dk_20 0 195 (dk_at dksX10_stepHere_0 13 rfl rfl)
theorem dX10_stepHere_16 : decode cX10_stepHere 16 = .ok (.invokevirtual 324, 3) := dk_182 1 68 (dk_at dksX10_stepHere_0 16 rfl rfl)
theorem dX10_stepHere_19 : decode cX10_stepHere 19 = .ok (.ifCond .eq 5, 3) := dk_153 0 5 (dk_at dksX10_stepHere_0 19 rfl rfl)
theorem dX10_stepHere_22 : decode cX10_stepHere 22 = .ok (.iconst 0, 1) := dk_3 (dk_at dksX10_stepHere_0 22 rfl rfl)
theorem dX10_stepHere_23 : decode cX10_stepHere 23 = .ok (.ireturn, 1) := dk_172 (dk_at dksX10_stepHere_0 23 rfl rfl)
theorem dX10_stepHere_24 : decode cX10_stepHere 24 = .ok (.aload_n 0, 1) := dk_42 (dk_at dksX10_stepHere_1 0 rfl rfl)
theorem dX10_stepHere_25 : decode cX10_stepHere 25 = .ok (.ldc2_w 197, 3) := dk_20 0 197 (dk_at dksX10_stepHere_1 1 rfl rfl)
theorem dX10_stepHere_28 : decode cX10_stepHere 28 = .ok (.invokevirtual 324, 3) := dk_182 1 68 (dk_at dksX10_stepHere_1 4 rfl rfl)
theorem dX10_stepHere_31 : decode cX10_stepHere 31 = .ok (.ifCond .eq 5, 3) := dk_153 0 5 (dk_at dksX10_stepHere_1 7 rfl rfl)
theorem dX10_stepHere_34 : decode cX10_stepHere 34 = .ok (.iconst 1, 1) := dk_4 (dk_at dksX10_stepHere_1 10 rfl rfl)
theorem dX10_stepHere_35 : decode cX10_stepHere 35 = .ok (.ireturn, 1) := dk_172 (dk_at dksX10_stepHere_1 11 rfl rfl)
theorem dX10_stepHere_36 : decode cX10_stepHere 36 = .ok (.aload_n 0, 1) := dk_42 (dk_at dksX10_stepHere_1 12 rfl rfl)
theorem dX10_stepHere_37 : decode cX10_stepHere 37 = .ok (.ldc2_w 199, 3) := dk_20 0 199 (dk_at dksX10_stepHere_1 13 rfl rfl)
theorem dX10_stepHere_40 : decode cX10_stepHere 40 = .ok (.invokevirtual 324, 3) := dk_182 1 68 (dk_at dksX10_stepHere_1 16 rfl rfl)
theorem dX10_stepHere_43 : decode cX10_stepHere 43 = .ok (.ifCond .eq 6, 3) := dk_153 0 6 (dk_at dksX10_stepHere_1 19 rfl rfl)
theorem dX10_stepHere_46 : decode cX10_stepHere 46 = .ok (.bipush 8, 2) := dk_16 8 (dk_at dksX10_stepHere_1 22 rfl rfl)
theorem dX10_stepHere_48 : decode cX10_stepHere 48 = .ok (.ireturn, 1) := dk_172 (dk_at dksX10_stepHere_2 0 rfl rfl)
theorem dX10_stepHere_49 : decode cX10_stepHere 49 = .ok (.aload_n 0, 1) := dk_42 (dk_at dksX10_stepHere_2 1 rfl rfl)
theorem dX10_stepHere_50 : decode cX10_stepHere 50 = .ok (.ldc2_w 201, 3) := dk_20 0 201 (dk_at dksX10_stepHere_2 2 rfl rfl)
theorem dX10_stepHere_53 : decode cX10_stepHere 53 = .ok (.invokevirtual 324, 3) := dk_182 1 68 (dk_at dksX10_stepHere_2 5 rfl rfl)
theorem dX10_stepHere_56 : decode cX10_stepHere 56 = .ok (.ifCond .eq 6, 3) := dk_153 0 6 (dk_at dksX10_stepHere_2 8 rfl rfl)
theorem dX10_stepHere_59 : decode cX10_stepHere 59 = .ok (.bipush 9, 2) := dk_16 9 (dk_at dksX10_stepHere_2 11 rfl rfl)
theorem dX10_stepHere_61 : decode cX10_stepHere 61 = .ok (.ireturn, 1) := dk_172 (dk_at dksX10_stepHere_2 13 rfl rfl)
theorem dX10_stepHere_62 : decode cX10_stepHere 62 = .ok (.aload_n 0, 1) := dk_42 (dk_at dksX10_stepHere_2 14 rfl rfl)
theorem dX10_stepHere_63 : decode cX10_stepHere 63 = .ok (.ldc2_w 205, 3) := dk_20 0 205 (dk_at dksX10_stepHere_2 15 rfl rfl)
theorem dX10_stepHere_66 : decode cX10_stepHere 66 = .ok (.invokevirtual 324, 3) := dk_182 1 68 (dk_at dksX10_stepHere_2 18 rfl rfl)
theorem dX10_stepHere_69 : decode cX10_stepHere 69 = .ok (.ifCond .eq 6, 3) := dk_153 0 6 (dk_at dksX10_stepHere_2 21 rfl rfl)
theorem dX10_stepHere_72 : decode cX10_stepHere 72 = .ok (.bipush 10, 2) := dk_16 10 (dk_at dksX10_stepHere_3 0 rfl rfl)
theorem dX10_stepHere_74 : decode cX10_stepHere 74 = .ok (.ireturn, 1) := dk_172 (dk_at dksX10_stepHere_3 2 rfl rfl)
theorem dX10_stepHere_75 : decode cX10_stepHere 75 = .ok (.aload_n 0, 1) := dk_42 (dk_at dksX10_stepHere_3 3 rfl rfl)
theorem dX10_stepHere_76 : decode cX10_stepHere 76 = .ok (.ldc2_w 207, 3) := dk_20 0 207 (dk_at dksX10_stepHere_3 4 rfl rfl)
theorem dX10_stepHere_79 : decode cX10_stepHere 79 = .ok (.invokevirtual 324, 3) := dk_182 1 68 (dk_at dksX10_stepHere_3 7 rfl rfl)
theorem dX10_stepHere_82 : decode cX10_stepHere 82 = .ok (.ifCond .eq 6, 3) := dk_153 0 6 (dk_at dksX10_stepHere_3 10 rfl rfl)
theorem dX10_stepHere_85 : decode cX10_stepHere 85 = .ok (.bipush 11, 2) := dk_16 11 (dk_at dksX10_stepHere_3 13 rfl rfl)
theorem dX10_stepHere_87 : decode cX10_stepHere 87 = .ok (.ireturn, 1) := dk_172 (dk_at dksX10_stepHere_3 15 rfl rfl)
theorem dX10_stepHere_88 : decode cX10_stepHere 88 = .ok (.aload_n 0, 1) := dk_42 (dk_at dksX10_stepHere_3 16 rfl rfl)
theorem dX10_stepHere_89 : decode cX10_stepHere 89 = .ok (.ldc2_w 209, 3) := dk_20 0 209 (dk_at dksX10_stepHere_3 17 rfl rfl)
theorem dX10_stepHere_92 : decode cX10_stepHere 92 = .ok (.invokevirtual 324, 3) := dk_182 1 68 (dk_at dksX10_stepHere_3 20 rfl rfl)
theorem dX10_stepHere_95 : decode cX10_stepHere 95 = .ok (.ifCond .eq 8, 3) := dk_153 0 8 (dk_at dksX10_stepHere_4 0 rfl rfl)
theorem dX10_stepHere_98 : decode cX10_stepHere 98 = .ok (.bipush 12, 2) := dk_16 12 (dk_at dksX10_stepHere_4 3 rfl rfl)
theorem dX10_stepHere_100 : decode cX10_stepHere 100 = .ok (.goto 4, 3) := dk_167 0 4 (dk_at dksX10_stepHere_4 5 rfl rfl)
theorem dX10_stepHere_103 : decode cX10_stepHere 103 = .ok (.iconst (-1), 1) := dk_2 (dk_at dksX10_stepHere_4 8 rfl rfl)
theorem dX10_stepHere_104 : decode cX10_stepHere 104 = .ok (.ireturn, 1) := dk_172 (dk_at dksX10_stepHere_4 9 rfl rfl)
abbrev cX10_moveHere : ByteArray := prog_32_method_17_code
def yX10_moveHere : MethodName := ⟨RX10, "moveHere", "()I"⟩
def dkwX10_moveHere_3 : List UInt8 := [167, 0, 19, 42, 20, 0, 235, 182, 1, 68, 153, 0, 8, 16, 7, 167, 0, 4, 2, 172]
abbrev dktX10_moveHere_3 : List UInt8 := dkwX10_moveHere_3 ++ []
def dkwX10_moveHere_2 : List UInt8 := [182, 1, 68, 153, 0, 7, 8, 167, 0, 34, 42, 20, 0, 231, 182, 1, 68, 153, 0, 8, 16, 6]
abbrev dktX10_moveHere_2 : List UInt8 := dkwX10_moveHere_2 ++ dktX10_moveHere_3
def dkwX10_moveHere_1 : List UInt8 := [6, 167, 0, 62, 42, 20, 0, 225, 182, 1, 68, 153, 0, 7, 7, 167, 0, 48, 42, 20, 0, 229]
abbrev dktX10_moveHere_1 : List UInt8 := dkwX10_moveHere_1 ++ dktX10_moveHere_2
def dkwX10_moveHere_0 : List UInt8 := [42, 20, 0, 221, 182, 1, 68, 153, 0, 7, 5, 167, 0, 76, 42, 20, 0, 223, 182, 1, 68, 153, 0, 7]
abbrev dktX10_moveHere_0 : List UInt8 := dkwX10_moveHere_0 ++ dktX10_moveHere_1
theorem dksX10_moveHere_0 : cX10_moveHere.data.toList.drop 0 = dktX10_moveHere_0 := by decide +kernel
theorem dksX10_moveHere_1 : cX10_moveHere.data.toList.drop 24 = dktX10_moveHere_1 := dk_seg dksX10_moveHere_0 24 rfl rfl
theorem dksX10_moveHere_2 : cX10_moveHere.data.toList.drop 46 = dktX10_moveHere_2 := dk_seg dksX10_moveHere_1 22 rfl rfl
theorem dksX10_moveHere_3 : cX10_moveHere.data.toList.drop 68 = dktX10_moveHere_3 := dk_seg dksX10_moveHere_2 22 rfl rfl
theorem dX10_moveHere_0 : decode cX10_moveHere 0 = .ok (.aload_n 0, 1) := dk_42 (dk_at dksX10_moveHere_0 0 rfl rfl)
theorem dX10_moveHere_1 : decode cX10_moveHere 1 = .ok (.ldc2_w 221, 3) := dk_20 0 221 (dk_at dksX10_moveHere_0 1 rfl rfl)
theorem dX10_moveHere_4 : decode cX10_moveHere 4 = .ok (.invokevirtual 324, 3) := dk_182 1 68 (dk_at dksX10_moveHere_0 4 rfl rfl)
theorem dX10_moveHere_7 : decode cX10_moveHere 7 = .ok (.ifCond .eq 7, 3) := dk_153 0 7 (dk_at dksX10_moveHere_0 7 rfl rfl)
theorem dX10_moveHere_10 : decode cX10_moveHere 10 = .ok (.iconst 2, 1) := dk_5 (dk_at dksX10_moveHere_0 10 rfl rfl)
theorem dX10_moveHere_11 : decode cX10_moveHere 11 = .ok (.goto 76, 3) := dk_167 0 76 (dk_at dksX10_moveHere_0 11 rfl rfl)
theorem dX10_moveHere_14 : decode cX10_moveHere 14 = .ok (.aload_n 0, 1) := dk_42 (dk_at dksX10_moveHere_0 14 rfl rfl)
theorem dX10_moveHere_15 : decode cX10_moveHere 15 = .ok (.ldc2_w 223, 3) := dk_20 0 223 (dk_at dksX10_moveHere_0 15 rfl rfl)
theorem dX10_moveHere_18 : decode cX10_moveHere 18 = .ok (.invokevirtual 324, 3) := dk_182 1 68 (dk_at dksX10_moveHere_0 18 rfl rfl)
theorem dX10_moveHere_21 : decode cX10_moveHere 21 = .ok (.ifCond .eq 7, 3) := dk_153 0 7 (dk_at dksX10_moveHere_0 21 rfl rfl)
theorem dX10_moveHere_24 : decode cX10_moveHere 24 = .ok (.iconst 3, 1) := dk_6 (dk_at dksX10_moveHere_1 0 rfl rfl)
theorem dX10_moveHere_25 : decode cX10_moveHere 25 = .ok (.goto 62, 3) := dk_167 0 62 (dk_at dksX10_moveHere_1 1 rfl rfl)
theorem dX10_moveHere_28 : decode cX10_moveHere 28 = .ok (.aload_n 0, 1) := dk_42 (dk_at dksX10_moveHere_1 4 rfl rfl)
theorem dX10_moveHere_29 : decode cX10_moveHere 29 = .ok (.ldc2_w 225, 3) := dk_20 0 225 (dk_at dksX10_moveHere_1 5 rfl rfl)
theorem dX10_moveHere_32 : decode cX10_moveHere 32 = .ok (.invokevirtual 324, 3) := dk_182 1 68 (dk_at dksX10_moveHere_1 8 rfl rfl)
theorem dX10_moveHere_35 : decode cX10_moveHere 35 = .ok (.ifCond .eq 7, 3) := dk_153 0 7 (dk_at dksX10_moveHere_1 11 rfl rfl)
theorem dX10_moveHere_38 : decode cX10_moveHere 38 = .ok (.iconst 4, 1) := dk_7 (dk_at dksX10_moveHere_1 14 rfl rfl)
theorem dX10_moveHere_39 : decode cX10_moveHere 39 = .ok (.goto 48, 3) := dk_167 0 48 (dk_at dksX10_moveHere_1 15 rfl rfl)
theorem dX10_moveHere_42 : decode cX10_moveHere 42 = .ok (.aload_n 0, 1) := dk_42 (dk_at dksX10_moveHere_1 18 rfl rfl)
theorem dX10_moveHere_43 : decode cX10_moveHere 43 = .ok (.ldc2_w 229, 3) := dk_20 0 229 (dk_at dksX10_moveHere_1 19 rfl rfl)
theorem dX10_moveHere_46 : decode cX10_moveHere 46 = .ok (.invokevirtual 324, 3) := dk_182 1 68 (dk_at dksX10_moveHere_2 0 rfl rfl)
theorem dX10_moveHere_49 : decode cX10_moveHere 49 = .ok (.ifCond .eq 7, 3) := dk_153 0 7 (dk_at dksX10_moveHere_2 3 rfl rfl)
theorem dX10_moveHere_52 : decode cX10_moveHere 52 = .ok (.iconst 5, 1) := dk_8 (dk_at dksX10_moveHere_2 6 rfl rfl)
theorem dX10_moveHere_53 : decode cX10_moveHere 53 = .ok (.goto 34, 3) := dk_167 0 34 (dk_at dksX10_moveHere_2 7 rfl rfl)
theorem dX10_moveHere_56 : decode cX10_moveHere 56 = .ok (.aload_n 0, 1) := dk_42 (dk_at dksX10_moveHere_2 10 rfl rfl)
theorem dX10_moveHere_57 : decode cX10_moveHere 57 = .ok (.ldc2_w 231, 3) := dk_20 0 231 (dk_at dksX10_moveHere_2 11 rfl rfl)
theorem dX10_moveHere_60 : decode cX10_moveHere 60 = .ok (.invokevirtual 324, 3) := dk_182 1 68 (dk_at dksX10_moveHere_2 14 rfl rfl)
theorem dX10_moveHere_63 : decode cX10_moveHere 63 = .ok (.ifCond .eq 8, 3) := dk_153 0 8 (dk_at dksX10_moveHere_2 17 rfl rfl)
theorem dX10_moveHere_66 : decode cX10_moveHere 66 = .ok (.bipush 6, 2) := dk_16 6 (dk_at dksX10_moveHere_2 20 rfl rfl)
theorem dX10_moveHere_68 : decode cX10_moveHere 68 = .ok (.goto 19, 3) := dk_167 0 19 (dk_at dksX10_moveHere_3 0 rfl rfl)
theorem dX10_moveHere_71 : decode cX10_moveHere 71 = .ok (.aload_n 0, 1) := dk_42 (dk_at dksX10_moveHere_3 3 rfl rfl)
theorem dX10_moveHere_72 : decode cX10_moveHere 72 = .ok (.ldc2_w 235, 3) := dk_20 0 235 (dk_at dksX10_moveHere_3 4 rfl rfl)
theorem dX10_moveHere_75 : decode cX10_moveHere 75 = .ok (.invokevirtual 324, 3) := dk_182 1 68 (dk_at dksX10_moveHere_3 7 rfl rfl)
theorem dX10_moveHere_78 : decode cX10_moveHere 78 = .ok (.ifCond .eq 8, 3) := dk_153 0 8 (dk_at dksX10_moveHere_3 10 rfl rfl)
theorem dX10_moveHere_81 : decode cX10_moveHere 81 = .ok (.bipush 7, 2) := dk_16 7 (dk_at dksX10_moveHere_3 13 rfl rfl)
theorem dX10_moveHere_83 : decode cX10_moveHere 83 = .ok (.goto 4, 3) := dk_167 0 4 (dk_at dksX10_moveHere_3 15 rfl rfl)
theorem dX10_moveHere_86 : decode cX10_moveHere 86 = .ok (.iconst (-1), 1) := dk_2 (dk_at dksX10_moveHere_3 18 rfl rfl)
theorem dX10_moveHere_87 : decode cX10_moveHere 87 = .ok (.ireturn, 1) := dk_172 (dk_at dksX10_moveHere_3 19 rfl rfl)
abbrev cX10_isWord : ByteArray := prog_32_method_11_code
def yX10_isWord : MethodName := ⟨RX10, "isWord", "(J)Z"⟩
def dkwX10_isWord_0 : List UInt8 := [42, 180, 0, 255, 6, 160, 0, 16, 42, 180, 1, 6, 31, 148, 154, 0, 7, 4, 167, 0, 4, 3, 172]
abbrev dktX10_isWord_0 : List UInt8 := dkwX10_isWord_0 ++ []
theorem dksX10_isWord_0 : cX10_isWord.data.toList.drop 0 = dktX10_isWord_0 := by decide +kernel
theorem dX10_isWord_0 : decode cX10_isWord 0 = .ok (.aload_n 0, 1) := dk_42 (dk_at dksX10_isWord_0 0 rfl rfl)
theorem dX10_isWord_1 : decode cX10_isWord 1 = .ok (.getfield 255, 3) := dk_180 0 255 (dk_at dksX10_isWord_0 1 rfl rfl)
theorem dX10_isWord_4 : decode cX10_isWord 4 = .ok (.iconst 3, 1) := dk_6 (dk_at dksX10_isWord_0 4 rfl rfl)
theorem dX10_isWord_5 : decode cX10_isWord 5 = .ok (.if_icmp .ne 16, 3) := dk_160 0 16 (dk_at dksX10_isWord_0 5 rfl rfl)
theorem dX10_isWord_8 : decode cX10_isWord 8 = .ok (.aload_n 0, 1) := dk_42 (dk_at dksX10_isWord_0 8 rfl rfl)
theorem dX10_isWord_9 : decode cX10_isWord 9 = .ok (.getfield 262, 3) := dk_180 1 6 (dk_at dksX10_isWord_0 9 rfl rfl)
theorem dX10_isWord_12 : decode cX10_isWord 12 = .ok (.lload_n 1, 1) := dk_31 (dk_at dksX10_isWord_0 12 rfl rfl)
theorem dX10_isWord_13 : decode cX10_isWord 13 = .ok (.lcmp, 1) := dk_148 (dk_at dksX10_isWord_0 13 rfl rfl)
theorem dX10_isWord_14 : decode cX10_isWord 14 = .ok (.ifCond .ne 7, 3) := dk_154 0 7 (dk_at dksX10_isWord_0 14 rfl rfl)
theorem dX10_isWord_17 : decode cX10_isWord 17 = .ok (.iconst 1, 1) := dk_4 (dk_at dksX10_isWord_0 17 rfl rfl)
theorem dX10_isWord_18 : decode cX10_isWord 18 = .ok (.goto 4, 3) := dk_167 0 4 (dk_at dksX10_isWord_0 18 rfl rfl)
theorem dX10_isWord_21 : decode cX10_isWord 21 = .ok (.iconst 0, 1) := dk_3 (dk_at dksX10_isWord_0 21 rfl rfl)
theorem dX10_isWord_22 : decode cX10_isWord 22 = .ok (.ireturn, 1) := dk_172 (dk_at dksX10_isWord_0 22 rfl rfl)
abbrev cX10_readPeople : ByteArray := prog_32_method_20_code
def yX10_readPeople : MethodName := ⟨RX10, "readPeople", "()V"⟩
def dkwX10_readPeople_3 : List UInt8 := [177]
abbrev dktX10_readPeople_3 : List UInt8 := dkwX10_readPeople_3 ++ []
def dkwX10_readPeople_2 : List UInt8 := [180, 0, 20, 42, 180, 1, 40, 42, 4, 6, 182, 1, 98, 79, 42, 180, 0, 45, 42, 180, 1, 40, 4, 84]
abbrev dktX10_readPeople_2 : List UInt8 := dkwX10_readPeople_2 ++ dktX10_readPeople_3
def dkwX10_readPeople_1 : List UInt8 := [42, 180, 1, 43, 153, 0, 7, 42, 182, 1, 34, 42, 182, 1, 27, 154, 0, 4, 177, 42, 182, 1, 31, 42]
abbrev dktX10_readPeople_1 : List UInt8 := dkwX10_readPeople_1 ++ dktX10_readPeople_2
def dkwX10_readPeople_0 : List UInt8 := [42, 180, 0, 45, 42, 180, 1, 40, 51, 154, 0, 22, 42, 180, 0, 49, 42, 180, 1, 40, 51, 154, 0, 10]
abbrev dktX10_readPeople_0 : List UInt8 := dkwX10_readPeople_0 ++ dktX10_readPeople_1
theorem dksX10_readPeople_0 : cX10_readPeople.data.toList.drop 0 = dktX10_readPeople_0 := by decide +kernel
theorem dksX10_readPeople_1 : cX10_readPeople.data.toList.drop 24 = dktX10_readPeople_1 := dk_seg dksX10_readPeople_0 24 rfl rfl
theorem dksX10_readPeople_2 : cX10_readPeople.data.toList.drop 48 = dktX10_readPeople_2 := dk_seg dksX10_readPeople_1 24 rfl rfl
theorem dksX10_readPeople_3 : cX10_readPeople.data.toList.drop 72 = dktX10_readPeople_3 := dk_seg dksX10_readPeople_2 24 rfl rfl
theorem dX10_readPeople_0 : decode cX10_readPeople 0 = .ok (.aload_n 0, 1) := dk_42 (dk_at dksX10_readPeople_0 0 rfl rfl)
theorem dX10_readPeople_1 : decode cX10_readPeople 1 = .ok (.getfield 45, 3) := dk_180 0 45 (dk_at dksX10_readPeople_0 1 rfl rfl)
theorem dX10_readPeople_4 : decode cX10_readPeople 4 = .ok (.aload_n 0, 1) := dk_42 (dk_at dksX10_readPeople_0 4 rfl rfl)
theorem dX10_readPeople_5 : decode cX10_readPeople 5 = .ok (.getfield 296, 3) := dk_180 1 40 (dk_at dksX10_readPeople_0 5 rfl rfl)
theorem dX10_readPeople_8 : decode cX10_readPeople 8 = .ok (.baload, 1) := dk_51 (dk_at dksX10_readPeople_0 8 rfl rfl)
theorem dX10_readPeople_9 : decode cX10_readPeople 9 = .ok (.ifCond .ne 22, 3) := dk_154 0 22 (dk_at dksX10_readPeople_0 9 rfl rfl)
theorem dX10_readPeople_12 : decode cX10_readPeople 12 = .ok (.aload_n 0, 1) := dk_42 (dk_at dksX10_readPeople_0 12 rfl rfl)
theorem dX10_readPeople_13 : decode cX10_readPeople 13 = .ok (.getfield 49, 3) := dk_180 0 49 (dk_at dksX10_readPeople_0 13 rfl rfl)
theorem dX10_readPeople_16 : decode cX10_readPeople 16 = .ok (.aload_n 0, 1) := dk_42 (dk_at dksX10_readPeople_0 16 rfl rfl)
theorem dX10_readPeople_17 : decode cX10_readPeople 17 = .ok (.getfield 296, 3) := dk_180 1 40 (dk_at dksX10_readPeople_0 17 rfl rfl)
theorem dX10_readPeople_20 : decode cX10_readPeople 20 = .ok (.baload, 1) := dk_51 (dk_at dksX10_readPeople_0 20 rfl rfl)
theorem dX10_readPeople_21 : decode cX10_readPeople 21 = .ok (.ifCond .ne 10, 3) := dk_154 0 10 (dk_at dksX10_readPeople_0 21 rfl rfl)
theorem dX10_readPeople_24 : decode cX10_readPeople 24 = .ok (.aload_n 0, 1) := dk_42 (dk_at dksX10_readPeople_1 0 rfl rfl)
theorem dX10_readPeople_25 : decode cX10_readPeople 25 = .ok (.getfield 299, 3) := dk_180 1 43 (dk_at dksX10_readPeople_1 1 rfl rfl)
theorem dX10_readPeople_28 : decode cX10_readPeople 28 = .ok (.ifCond .eq 7, 3) := dk_153 0 7 (dk_at dksX10_readPeople_1 4 rfl rfl)
theorem dX10_readPeople_31 : decode cX10_readPeople 31 = .ok (.aload_n 0, 1) := dk_42 (dk_at dksX10_readPeople_1 7 rfl rfl)
theorem dX10_readPeople_32 : decode cX10_readPeople 32 = .ok (.invokevirtual 290, 3) := dk_182 1 34 (dk_at dksX10_readPeople_1 8 rfl rfl)
theorem dX10_readPeople_35 : decode cX10_readPeople 35 = .ok (.aload_n 0, 1) := dk_42 (dk_at dksX10_readPeople_1 11 rfl rfl)
theorem dX10_readPeople_36 : decode cX10_readPeople 36 = .ok (.invokevirtual 283, 3) := dk_182 1 27 (dk_at dksX10_readPeople_1 12 rfl rfl)
theorem dX10_readPeople_39 : decode cX10_readPeople 39 = .ok (.ifCond .ne 4, 3) := dk_154 0 4 (dk_at dksX10_readPeople_1 15 rfl rfl)
theorem dX10_readPeople_42 : decode cX10_readPeople 42 = .ok (.return_, 1) := dk_177 (dk_at dksX10_readPeople_1 18 rfl rfl)
theorem dX10_readPeople_43 : decode cX10_readPeople 43 = .ok (.aload_n 0, 1) := dk_42 (dk_at dksX10_readPeople_1 19 rfl rfl)
theorem dX10_readPeople_44 : decode cX10_readPeople 44 = .ok (.invokevirtual 287, 3) := dk_182 1 31 (dk_at dksX10_readPeople_1 20 rfl rfl)
theorem dX10_readPeople_47 : decode cX10_readPeople 47 = .ok (.aload_n 0, 1) := dk_42 (dk_at dksX10_readPeople_1 23 rfl rfl)
theorem dX10_readPeople_48 : decode cX10_readPeople 48 = .ok (.getfield 20, 3) := dk_180 0 20 (dk_at dksX10_readPeople_2 0 rfl rfl)
theorem dX10_readPeople_51 : decode cX10_readPeople 51 = .ok (.aload_n 0, 1) := dk_42 (dk_at dksX10_readPeople_2 3 rfl rfl)
theorem dX10_readPeople_52 : decode cX10_readPeople 52 = .ok (.getfield 296, 3) := dk_180 1 40 (dk_at dksX10_readPeople_2 4 rfl rfl)
theorem dX10_readPeople_55 : decode cX10_readPeople 55 = .ok (.aload_n 0, 1) := dk_42 (dk_at dksX10_readPeople_2 7 rfl rfl)
theorem dX10_readPeople_56 : decode cX10_readPeople 56 = .ok (.iconst 1, 1) := dk_4 (dk_at dksX10_readPeople_2 8 rfl rfl)
theorem dX10_readPeople_57 : decode cX10_readPeople 57 = .ok (.iconst 3, 1) := dk_6 (dk_at dksX10_readPeople_2 9 rfl rfl)
theorem dX10_readPeople_58 : decode cX10_readPeople 58 = .ok (.invokevirtual 354, 3) := dk_182 1 98 (dk_at dksX10_readPeople_2 10 rfl rfl)
theorem dX10_readPeople_61 : decode cX10_readPeople 61 = .ok (.iastore, 1) := dk_79 (dk_at dksX10_readPeople_2 13 rfl rfl)
theorem dX10_readPeople_62 : decode cX10_readPeople 62 = .ok (.aload_n 0, 1) := dk_42 (dk_at dksX10_readPeople_2 14 rfl rfl)
theorem dX10_readPeople_63 : decode cX10_readPeople 63 = .ok (.getfield 45, 3) := dk_180 0 45 (dk_at dksX10_readPeople_2 15 rfl rfl)
theorem dX10_readPeople_66 : decode cX10_readPeople 66 = .ok (.aload_n 0, 1) := dk_42 (dk_at dksX10_readPeople_2 18 rfl rfl)
theorem dX10_readPeople_67 : decode cX10_readPeople 67 = .ok (.getfield 296, 3) := dk_180 1 40 (dk_at dksX10_readPeople_2 19 rfl rfl)
theorem dX10_readPeople_70 : decode cX10_readPeople 70 = .ok (.iconst 1, 1) := dk_4 (dk_at dksX10_readPeople_2 22 rfl rfl)
theorem dX10_readPeople_71 : decode cX10_readPeople 71 = .ok (.bastore, 1) := dk_84 (dk_at dksX10_readPeople_2 23 rfl rfl)
theorem dX10_readPeople_72 : decode cX10_readPeople 72 = .ok (.return_, 1) := dk_177 (dk_at dksX10_readPeople_3 0 rfl rfl)
abbrev cX10_misplaced : ByteArray := prog_32_method_12_code
def yX10_misplaced : MethodName := ⟨RX10, "misplaced", "()V"⟩
def dkwX10_misplaced_0 : List UInt8 := [42, 42, 180, 0, 255, 4, 160, 0, 7, 4, 167, 0, 4, 5, 42, 180, 0, 248, 182, 1, 23, 177]
abbrev dktX10_misplaced_0 : List UInt8 := dkwX10_misplaced_0 ++ []
theorem dksX10_misplaced_0 : cX10_misplaced.data.toList.drop 0 = dktX10_misplaced_0 := by decide +kernel
theorem dX10_misplaced_0 : decode cX10_misplaced 0 = .ok (.aload_n 0, 1) := dk_42 (dk_at dksX10_misplaced_0 0 rfl rfl)
theorem dX10_misplaced_1 : decode cX10_misplaced 1 = .ok (.aload_n 0, 1) := dk_42 (dk_at dksX10_misplaced_0 1 rfl rfl)
theorem dX10_misplaced_2 : decode cX10_misplaced 2 = .ok (.getfield 255, 3) := dk_180 0 255 (dk_at dksX10_misplaced_0 2 rfl rfl)
theorem dX10_misplaced_5 : decode cX10_misplaced 5 = .ok (.iconst 1, 1) := dk_4 (dk_at dksX10_misplaced_0 5 rfl rfl)
theorem dX10_misplaced_6 : decode cX10_misplaced 6 = .ok (.if_icmp .ne 7, 3) := dk_160 0 7 (dk_at dksX10_misplaced_0 6 rfl rfl)
theorem dX10_misplaced_9 : decode cX10_misplaced 9 = .ok (.iconst 1, 1) := dk_4 (dk_at dksX10_misplaced_0 9 rfl rfl)
theorem dX10_misplaced_10 : decode cX10_misplaced 10 = .ok (.goto 4, 3) := dk_167 0 4 (dk_at dksX10_misplaced_0 10 rfl rfl)
theorem dX10_misplaced_13 : decode cX10_misplaced 13 = .ok (.iconst 2, 1) := dk_5 (dk_at dksX10_misplaced_0 13 rfl rfl)
theorem dX10_misplaced_14 : decode cX10_misplaced 14 = .ok (.aload_n 0, 1) := dk_42 (dk_at dksX10_misplaced_0 14 rfl rfl)
theorem dX10_misplaced_15 : decode cX10_misplaced 15 = .ok (.getfield 248, 3) := dk_180 0 248 (dk_at dksX10_misplaced_0 15 rfl rfl)
theorem dX10_misplaced_18 : decode cX10_misplaced 18 = .ok (.invokevirtual 279, 3) := dk_182 1 23 (dk_at dksX10_misplaced_0 18 rfl rfl)
theorem dX10_misplaced_21 : decode cX10_misplaced 21 = .ok (.return_, 1) := dk_177 (dk_at dksX10_misplaced_0 21 rfl rfl)
abbrev cX10_fails : ByteArray := prog_32_method_5_code
def yX10_fails : MethodName := ⟨RX10, "fails", "(II)V"⟩
def dkwX10_fails_0 : List UInt8 := [42, 180, 0, 186, 158, 0, 4, 177, 42, 27, 181, 0, 186, 42, 28, 181, 0, 16, 177]
abbrev dktX10_fails_0 : List UInt8 := dkwX10_fails_0 ++ []
theorem dksX10_fails_0 : cX10_fails.data.toList.drop 0 = dktX10_fails_0 := by decide +kernel
theorem dX10_fails_0 : decode cX10_fails 0 = .ok (.aload_n 0, 1) := dk_42 (dk_at dksX10_fails_0 0 rfl rfl)
theorem dX10_fails_1 : decode cX10_fails 1 = .ok (.getfield 186, 3) := dk_180 0 186 (dk_at dksX10_fails_0 1 rfl rfl)
theorem dX10_fails_4 : decode cX10_fails 4 = .ok (.ifCond .le 4, 3) := dk_158 0 4 (dk_at dksX10_fails_0 4 rfl rfl)
theorem dX10_fails_7 : decode cX10_fails 7 = .ok (.return_, 1) := dk_177 (dk_at dksX10_fails_0 7 rfl rfl)
theorem dX10_fails_8 : decode cX10_fails 8 = .ok (.aload_n 0, 1) := dk_42 (dk_at dksX10_fails_0 8 rfl rfl)
theorem dX10_fails_9 : decode cX10_fails 9 = .ok (.iload_n 1, 1) := dk_27 (dk_at dksX10_fails_0 9 rfl rfl)
theorem dX10_fails_10 : decode cX10_fails 10 = .ok (.putfield 186, 3) := dk_181 0 186 (dk_at dksX10_fails_0 10 rfl rfl)
theorem dX10_fails_13 : decode cX10_fails 13 = .ok (.aload_n 0, 1) := dk_42 (dk_at dksX10_fails_0 13 rfl rfl)
theorem dX10_fails_14 : decode cX10_fails 14 = .ok (.iload_n 2, 1) := dk_28 (dk_at dksX10_fails_0 14 rfl rfl)
theorem dX10_fails_15 : decode cX10_fails 15 = .ok (.putfield 16, 3) := dk_181 0 16 (dk_at dksX10_fails_0 15 rfl rfl)
theorem dX10_fails_18 : decode cX10_fails 18 = .ok (.return_, 1) := dk_177 (dk_at dksX10_fails_0 18 rfl rfl)
abbrev cX10_numeral : ByteArray := prog_32_method_14_code
def yX10_numeral : MethodName := ⟨RX10, "numeral", "(II)I"⟩
def dkwX10_numeral_3 : List UInt8 := [182, 1, 27, 153, 0, 7, 42, 182, 1, 31, 42, 182, 1, 27, 153, 0, 7, 29, 167, 0, 4, 27, 172]
abbrev dktX10_numeral_3 : List UInt8 := dkwX10_numeral_3 ++ []
def dkwX10_numeral_2 : List UInt8 := [180, 1, 17, 28, 164, 0, 12, 42, 7, 42, 180, 0, 248, 182, 1, 23, 42, 180, 1, 17, 62, 42]
abbrev dktX10_numeral_2 : List UInt8 := dkwX10_numeral_2 ++ dktX10_numeral_3
def dkwX10_numeral_1 : List UInt8 := [159, 0, 7, 42, 182, 1, 34, 42, 182, 1, 27, 153, 0, 28, 42, 180, 1, 17, 27, 161, 0, 11, 42]
abbrev dktX10_numeral_1 : List UInt8 := dkwX10_numeral_1 ++ dktX10_numeral_2
def dkwX10_numeral_0 : List UInt8 := [42, 182, 1, 27, 154, 0, 5, 27, 172, 42, 42, 180, 0, 248, 181, 1, 37, 42, 180, 0, 255, 7]
abbrev dktX10_numeral_0 : List UInt8 := dkwX10_numeral_0 ++ dktX10_numeral_1
theorem dksX10_numeral_0 : cX10_numeral.data.toList.drop 0 = dktX10_numeral_0 := by decide +kernel
theorem dksX10_numeral_1 : cX10_numeral.data.toList.drop 22 = dktX10_numeral_1 := dk_seg dksX10_numeral_0 22 rfl rfl
theorem dksX10_numeral_2 : cX10_numeral.data.toList.drop 45 = dktX10_numeral_2 := dk_seg dksX10_numeral_1 23 rfl rfl
theorem dksX10_numeral_3 : cX10_numeral.data.toList.drop 67 = dktX10_numeral_3 := dk_seg dksX10_numeral_2 22 rfl rfl
theorem dX10_numeral_0 : decode cX10_numeral 0 = .ok (.aload_n 0, 1) := dk_42 (dk_at dksX10_numeral_0 0 rfl rfl)
theorem dX10_numeral_1 : decode cX10_numeral 1 = .ok (.invokevirtual 283, 3) := dk_182 1 27 (dk_at dksX10_numeral_0 1 rfl rfl)
theorem dX10_numeral_4 : decode cX10_numeral 4 = .ok (.ifCond .ne 5, 3) := dk_154 0 5 (dk_at dksX10_numeral_0 4 rfl rfl)
theorem dX10_numeral_7 : decode cX10_numeral 7 = .ok (.iload_n 1, 1) := dk_27 (dk_at dksX10_numeral_0 7 rfl rfl)
theorem dX10_numeral_8 : decode cX10_numeral 8 = .ok (.ireturn, 1) := dk_172 (dk_at dksX10_numeral_0 8 rfl rfl)
theorem dX10_numeral_9 : decode cX10_numeral 9 = .ok (.aload_n 0, 1) := dk_42 (dk_at dksX10_numeral_0 9 rfl rfl)
theorem dX10_numeral_10 : decode cX10_numeral 10 = .ok (.aload_n 0, 1) := dk_42 (dk_at dksX10_numeral_0 10 rfl rfl)
theorem dX10_numeral_11 : decode cX10_numeral 11 = .ok (.getfield 248, 3) := dk_180 0 248 (dk_at dksX10_numeral_0 11 rfl rfl)
theorem dX10_numeral_14 : decode cX10_numeral 14 = .ok (.putfield 293, 3) := dk_181 1 37 (dk_at dksX10_numeral_0 14 rfl rfl)
theorem dX10_numeral_17 : decode cX10_numeral 17 = .ok (.aload_n 0, 1) := dk_42 (dk_at dksX10_numeral_0 17 rfl rfl)
theorem dX10_numeral_18 : decode cX10_numeral 18 = .ok (.getfield 255, 3) := dk_180 0 255 (dk_at dksX10_numeral_0 18 rfl rfl)
theorem dX10_numeral_21 : decode cX10_numeral 21 = .ok (.iconst 4, 1) := dk_7 (dk_at dksX10_numeral_0 21 rfl rfl)
theorem dX10_numeral_22 : decode cX10_numeral 22 = .ok (.if_icmp .eq 7, 3) := dk_159 0 7 (dk_at dksX10_numeral_1 0 rfl rfl)
theorem dX10_numeral_25 : decode cX10_numeral 25 = .ok (.aload_n 0, 1) := dk_42 (dk_at dksX10_numeral_1 3 rfl rfl)
theorem dX10_numeral_26 : decode cX10_numeral 26 = .ok (.invokevirtual 290, 3) := dk_182 1 34 (dk_at dksX10_numeral_1 4 rfl rfl)
theorem dX10_numeral_29 : decode cX10_numeral 29 = .ok (.aload_n 0, 1) := dk_42 (dk_at dksX10_numeral_1 7 rfl rfl)
theorem dX10_numeral_30 : decode cX10_numeral 30 = .ok (.invokevirtual 283, 3) := dk_182 1 27 (dk_at dksX10_numeral_1 8 rfl rfl)
theorem dX10_numeral_33 : decode cX10_numeral 33 = .ok (.ifCond .eq 28, 3) := dk_153 0 28 (dk_at dksX10_numeral_1 11 rfl rfl)
theorem dX10_numeral_36 : decode cX10_numeral 36 = .ok (.aload_n 0, 1) := dk_42 (dk_at dksX10_numeral_1 14 rfl rfl)
theorem dX10_numeral_37 : decode cX10_numeral 37 = .ok (.getfield 273, 3) := dk_180 1 17 (dk_at dksX10_numeral_1 15 rfl rfl)
theorem dX10_numeral_40 : decode cX10_numeral 40 = .ok (.iload_n 1, 1) := dk_27 (dk_at dksX10_numeral_1 18 rfl rfl)
theorem dX10_numeral_41 : decode cX10_numeral 41 = .ok (.if_icmp .lt 11, 3) := dk_161 0 11 (dk_at dksX10_numeral_1 19 rfl rfl)
theorem dX10_numeral_44 : decode cX10_numeral 44 = .ok (.aload_n 0, 1) := dk_42 (dk_at dksX10_numeral_1 22 rfl rfl)
theorem dX10_numeral_45 : decode cX10_numeral 45 = .ok (.getfield 273, 3) := dk_180 1 17 (dk_at dksX10_numeral_2 0 rfl rfl)
theorem dX10_numeral_48 : decode cX10_numeral 48 = .ok (.iload_n 2, 1) := dk_28 (dk_at dksX10_numeral_2 3 rfl rfl)
theorem dX10_numeral_49 : decode cX10_numeral 49 = .ok (.if_icmp .le 12, 3) := dk_164 0 12 (dk_at dksX10_numeral_2 4 rfl rfl)
theorem dX10_numeral_52 : decode cX10_numeral 52 = .ok (.aload_n 0, 1) := dk_42 (dk_at dksX10_numeral_2 7 rfl rfl)
theorem dX10_numeral_53 : decode cX10_numeral 53 = .ok (.iconst 4, 1) := dk_7 (dk_at dksX10_numeral_2 8 rfl rfl)
theorem dX10_numeral_54 : decode cX10_numeral 54 = .ok (.aload_n 0, 1) := dk_42 (dk_at dksX10_numeral_2 9 rfl rfl)
theorem dX10_numeral_55 : decode cX10_numeral 55 = .ok (.getfield 248, 3) := dk_180 0 248 (dk_at dksX10_numeral_2 10 rfl rfl)
theorem dX10_numeral_58 : decode cX10_numeral 58 = .ok (.invokevirtual 279, 3) := dk_182 1 23 (dk_at dksX10_numeral_2 13 rfl rfl)
theorem dX10_numeral_61 : decode cX10_numeral 61 = .ok (.aload_n 0, 1) := dk_42 (dk_at dksX10_numeral_2 16 rfl rfl)
theorem dX10_numeral_62 : decode cX10_numeral 62 = .ok (.getfield 273, 3) := dk_180 1 17 (dk_at dksX10_numeral_2 17 rfl rfl)
theorem dX10_numeral_65 : decode cX10_numeral 65 = .ok (.istore_n 3, 1) := dk_62 (dk_at dksX10_numeral_2 20 rfl rfl)
theorem dX10_numeral_66 : decode cX10_numeral 66 = .ok (.aload_n 0, 1) := dk_42 (dk_at dksX10_numeral_2 21 rfl rfl)
theorem dX10_numeral_67 : decode cX10_numeral 67 = .ok (.invokevirtual 283, 3) := dk_182 1 27 (dk_at dksX10_numeral_3 0 rfl rfl)
theorem dX10_numeral_70 : decode cX10_numeral 70 = .ok (.ifCond .eq 7, 3) := dk_153 0 7 (dk_at dksX10_numeral_3 3 rfl rfl)
theorem dX10_numeral_73 : decode cX10_numeral 73 = .ok (.aload_n 0, 1) := dk_42 (dk_at dksX10_numeral_3 6 rfl rfl)
theorem dX10_numeral_74 : decode cX10_numeral 74 = .ok (.invokevirtual 287, 3) := dk_182 1 31 (dk_at dksX10_numeral_3 7 rfl rfl)
theorem dX10_numeral_77 : decode cX10_numeral 77 = .ok (.aload_n 0, 1) := dk_42 (dk_at dksX10_numeral_3 10 rfl rfl)
theorem dX10_numeral_78 : decode cX10_numeral 78 = .ok (.invokevirtual 283, 3) := dk_182 1 27 (dk_at dksX10_numeral_3 11 rfl rfl)
theorem dX10_numeral_81 : decode cX10_numeral 81 = .ok (.ifCond .eq 7, 3) := dk_153 0 7 (dk_at dksX10_numeral_3 14 rfl rfl)
theorem dX10_numeral_84 : decode cX10_numeral 84 = .ok (.iload_n 3, 1) := dk_29 (dk_at dksX10_numeral_3 17 rfl rfl)
theorem dX10_numeral_85 : decode cX10_numeral 85 = .ok (.goto 4, 3) := dk_167 0 4 (dk_at dksX10_numeral_3 18 rfl rfl)
theorem dX10_numeral_88 : decode cX10_numeral 88 = .ok (.iload_n 1, 1) := dk_27 (dk_at dksX10_numeral_3 21 rfl rfl)
theorem dX10_numeral_89 : decode cX10_numeral 89 = .ok (.ireturn, 1) := dk_172 (dk_at dksX10_numeral_3 22 rfl rfl)
abbrev cX10_readAsks : ByteArray := prog_32_method_21_code
def yX10_readAsks : MethodName := ⟨RX10, "readAsks", "()V"⟩
def dkwX10_readAsks_2 : List UInt8 := [180, 1, 40, 42, 180, 1, 47, 79, 177]
abbrev dktX10_readAsks_2 : List UInt8 := dkwX10_readAsks_2 ++ []
def dkwX10_readAsks_1 : List UInt8 := [42, 182, 1, 31, 42, 180, 0, 49, 42, 180, 1, 40, 4, 84, 42, 182, 1, 102, 42, 180, 0, 42, 42]
abbrev dktX10_readAsks_1 : List UInt8 := dkwX10_readAsks_1 ++ dktX10_readAsks_2
def dkwX10_readAsks_0 : List UInt8 := [42, 180, 0, 49, 42, 180, 1, 40, 51, 153, 0, 7, 42, 182, 1, 34, 42, 182, 1, 27, 154, 0, 4, 177]
abbrev dktX10_readAsks_0 : List UInt8 := dkwX10_readAsks_0 ++ dktX10_readAsks_1
theorem dksX10_readAsks_0 : cX10_readAsks.data.toList.drop 0 = dktX10_readAsks_0 := by decide +kernel
theorem dksX10_readAsks_1 : cX10_readAsks.data.toList.drop 24 = dktX10_readAsks_1 := dk_seg dksX10_readAsks_0 24 rfl rfl
theorem dksX10_readAsks_2 : cX10_readAsks.data.toList.drop 47 = dktX10_readAsks_2 := dk_seg dksX10_readAsks_1 23 rfl rfl
theorem dX10_readAsks_0 : decode cX10_readAsks 0 = .ok (.aload_n 0, 1) := dk_42 (dk_at dksX10_readAsks_0 0 rfl rfl)
theorem dX10_readAsks_1 : decode cX10_readAsks 1 = .ok (.getfield 49, 3) := dk_180 0 49 (dk_at dksX10_readAsks_0 1 rfl rfl)
theorem dX10_readAsks_4 : decode cX10_readAsks 4 = .ok (.aload_n 0, 1) := dk_42 (dk_at dksX10_readAsks_0 4 rfl rfl)
theorem dX10_readAsks_5 : decode cX10_readAsks 5 = .ok (.getfield 296, 3) := dk_180 1 40 (dk_at dksX10_readAsks_0 5 rfl rfl)
theorem dX10_readAsks_8 : decode cX10_readAsks 8 = .ok (.baload, 1) := dk_51 (dk_at dksX10_readAsks_0 8 rfl rfl)
theorem dX10_readAsks_9 : decode cX10_readAsks 9 = .ok (.ifCond .eq 7, 3) := dk_153 0 7 (dk_at dksX10_readAsks_0 9 rfl rfl)
theorem dX10_readAsks_12 : decode cX10_readAsks 12 = .ok (.aload_n 0, 1) := dk_42 (dk_at dksX10_readAsks_0 12 rfl rfl)
theorem dX10_readAsks_13 : decode cX10_readAsks 13 = .ok (.invokevirtual 290, 3) := dk_182 1 34 (dk_at dksX10_readAsks_0 13 rfl rfl)
theorem dX10_readAsks_16 : decode cX10_readAsks 16 = .ok (.aload_n 0, 1) := dk_42 (dk_at dksX10_readAsks_0 16 rfl rfl)
theorem dX10_readAsks_17 : decode cX10_readAsks 17 = .ok (.invokevirtual 283, 3) := dk_182 1 27 (dk_at dksX10_readAsks_0 17 rfl rfl)
theorem dX10_readAsks_20 : decode cX10_readAsks 20 = .ok (.ifCond .ne 4, 3) := dk_154 0 4 (dk_at dksX10_readAsks_0 20 rfl rfl)
theorem dX10_readAsks_23 : decode cX10_readAsks 23 = .ok (.return_, 1) := dk_177 (dk_at dksX10_readAsks_0 23 rfl rfl)
theorem dX10_readAsks_24 : decode cX10_readAsks 24 = .ok (.aload_n 0, 1) := dk_42 (dk_at dksX10_readAsks_1 0 rfl rfl)
theorem dX10_readAsks_25 : decode cX10_readAsks 25 = .ok (.invokevirtual 287, 3) := dk_182 1 31 (dk_at dksX10_readAsks_1 1 rfl rfl)
theorem dX10_readAsks_28 : decode cX10_readAsks 28 = .ok (.aload_n 0, 1) := dk_42 (dk_at dksX10_readAsks_1 4 rfl rfl)
theorem dX10_readAsks_29 : decode cX10_readAsks 29 = .ok (.getfield 49, 3) := dk_180 0 49 (dk_at dksX10_readAsks_1 5 rfl rfl)
theorem dX10_readAsks_32 : decode cX10_readAsks 32 = .ok (.aload_n 0, 1) := dk_42 (dk_at dksX10_readAsks_1 8 rfl rfl)
theorem dX10_readAsks_33 : decode cX10_readAsks 33 = .ok (.getfield 296, 3) := dk_180 1 40 (dk_at dksX10_readAsks_1 9 rfl rfl)
theorem dX10_readAsks_36 : decode cX10_readAsks 36 = .ok (.iconst 1, 1) := dk_4 (dk_at dksX10_readAsks_1 12 rfl rfl)
theorem dX10_readAsks_37 : decode cX10_readAsks 37 = .ok (.bastore, 1) := dk_84 (dk_at dksX10_readAsks_1 13 rfl rfl)
theorem dX10_readAsks_38 : decode cX10_readAsks 38 = .ok (.aload_n 0, 1) := dk_42 (dk_at dksX10_readAsks_1 14 rfl rfl)
theorem dX10_readAsks_39 : decode cX10_readAsks 39 = .ok (.invokevirtual 358, 3) := dk_182 1 102 (dk_at dksX10_readAsks_1 15 rfl rfl)
theorem dX10_readAsks_42 : decode cX10_readAsks 42 = .ok (.aload_n 0, 1) := dk_42 (dk_at dksX10_readAsks_1 18 rfl rfl)
theorem dX10_readAsks_43 : decode cX10_readAsks 43 = .ok (.getfield 42, 3) := dk_180 0 42 (dk_at dksX10_readAsks_1 19 rfl rfl)
theorem dX10_readAsks_46 : decode cX10_readAsks 46 = .ok (.aload_n 0, 1) := dk_42 (dk_at dksX10_readAsks_1 22 rfl rfl)
theorem dX10_readAsks_47 : decode cX10_readAsks 47 = .ok (.getfield 296, 3) := dk_180 1 40 (dk_at dksX10_readAsks_2 0 rfl rfl)
theorem dX10_readAsks_50 : decode cX10_readAsks 50 = .ok (.aload_n 0, 1) := dk_42 (dk_at dksX10_readAsks_2 3 rfl rfl)
theorem dX10_readAsks_51 : decode cX10_readAsks 51 = .ok (.getfield 303, 3) := dk_180 1 47 (dk_at dksX10_readAsks_2 4 rfl rfl)
theorem dX10_readAsks_54 : decode cX10_readAsks 54 = .ok (.iastore, 1) := dk_79 (dk_at dksX10_readAsks_2 7 rfl rfl)
theorem dX10_readAsks_55 : decode cX10_readAsks 55 = .ok (.return_, 1) := dk_177 (dk_at dksX10_readAsks_2 8 rfl rfl)
abbrev cX10_e : ByteArray := prog_32_method_35_code
def yX10_e : MethodName := ⟨RX10, "e", "()V"⟩
def dkwX10_e_2 : List UInt8 := [182, 1, 142, 60, 167, 255, 226, 177]
abbrev dktX10_e_2 : List UInt8 := dkwX10_e_2 ++ []
def dkwX10_e_1 : List UInt8 := [153, 0, 29, 42, 180, 1, 130, 158, 0, 22, 27, 153, 0, 10, 42, 182, 1, 139, 167, 0, 7, 42]
abbrev dktX10_e_1 : List UInt8 := dkwX10_e_1 ++ dktX10_e_2
def dkwX10_e_0 : List UInt8 := [42, 3, 181, 1, 130, 42, 3, 181, 1, 133, 42, 16, 8, 3, 182, 1, 136, 4, 60, 42, 182, 1, 27]
abbrev dktX10_e_0 : List UInt8 := dkwX10_e_0 ++ dktX10_e_1
theorem dksX10_e_0 : cX10_e.data.toList.drop 0 = dktX10_e_0 := by decide +kernel
theorem dksX10_e_1 : cX10_e.data.toList.drop 23 = dktX10_e_1 := dk_seg dksX10_e_0 23 rfl rfl
theorem dksX10_e_2 : cX10_e.data.toList.drop 45 = dktX10_e_2 := dk_seg dksX10_e_1 22 rfl rfl
theorem dX10_e_0 : decode cX10_e 0 = .ok (.aload_n 0, 1) := dk_42 (dk_at dksX10_e_0 0 rfl rfl)
theorem dX10_e_1 : decode cX10_e 1 = .ok (.iconst 0, 1) := dk_3 (dk_at dksX10_e_0 1 rfl rfl)
theorem dX10_e_2 : decode cX10_e 2 = .ok (.putfield 386, 3) := dk_181 1 130 (dk_at dksX10_e_0 2 rfl rfl)
theorem dX10_e_5 : decode cX10_e 5 = .ok (.aload_n 0, 1) := dk_42 (dk_at dksX10_e_0 5 rfl rfl)
theorem dX10_e_6 : decode cX10_e 6 = .ok (.iconst 0, 1) := dk_3 (dk_at dksX10_e_0 6 rfl rfl)
theorem dX10_e_7 : decode cX10_e 7 = .ok (.putfield 389, 3) := dk_181 1 133 (dk_at dksX10_e_0 7 rfl rfl)
theorem dX10_e_10 : decode cX10_e 10 = .ok (.aload_n 0, 1) := dk_42 (dk_at dksX10_e_0 10 rfl rfl)
theorem dX10_e_11 : decode cX10_e 11 = .ok (.bipush 8, 2) := dk_16 8 (dk_at dksX10_e_0 11 rfl rfl)
theorem dX10_e_13 : decode cX10_e 13 = .ok (.iconst 0, 1) := dk_3 (dk_at dksX10_e_0 13 rfl rfl)
theorem dX10_e_14 : decode cX10_e 14 = .ok (.invokevirtual 392, 3) := dk_182 1 136 (dk_at dksX10_e_0 14 rfl rfl)
theorem dX10_e_17 : decode cX10_e 17 = .ok (.iconst 1, 1) := dk_4 (dk_at dksX10_e_0 17 rfl rfl)
theorem dX10_e_18 : decode cX10_e 18 = .ok (.istore_n 1, 1) := dk_60 (dk_at dksX10_e_0 18 rfl rfl)
theorem dX10_e_19 : decode cX10_e 19 = .ok (.aload_n 0, 1) := dk_42 (dk_at dksX10_e_0 19 rfl rfl)
theorem dX10_e_20 : decode cX10_e 20 = .ok (.invokevirtual 283, 3) := dk_182 1 27 (dk_at dksX10_e_0 20 rfl rfl)
theorem dX10_e_23 : decode cX10_e 23 = .ok (.ifCond .eq 29, 3) := dk_153 0 29 (dk_at dksX10_e_1 0 rfl rfl)
theorem dX10_e_26 : decode cX10_e 26 = .ok (.aload_n 0, 1) := dk_42 (dk_at dksX10_e_1 3 rfl rfl)
theorem dX10_e_27 : decode cX10_e 27 = .ok (.getfield 386, 3) := dk_180 1 130 (dk_at dksX10_e_1 4 rfl rfl)
theorem dX10_e_30 : decode cX10_e 30 = .ok (.ifCond .le 22, 3) := dk_158 0 22 (dk_at dksX10_e_1 7 rfl rfl)
theorem dX10_e_33 : decode cX10_e 33 = .ok (.iload_n 1, 1) := dk_27 (dk_at dksX10_e_1 10 rfl rfl)
theorem dX10_e_34 : decode cX10_e 34 = .ok (.ifCond .eq 10, 3) := dk_153 0 10 (dk_at dksX10_e_1 11 rfl rfl)
theorem dX10_e_37 : decode cX10_e 37 = .ok (.aload_n 0, 1) := dk_42 (dk_at dksX10_e_1 14 rfl rfl)
theorem dX10_e_38 : decode cX10_e 38 = .ok (.invokevirtual 395, 3) := dk_182 1 139 (dk_at dksX10_e_1 15 rfl rfl)
theorem dX10_e_41 : decode cX10_e 41 = .ok (.goto 7, 3) := dk_167 0 7 (dk_at dksX10_e_1 18 rfl rfl)
theorem dX10_e_44 : decode cX10_e 44 = .ok (.aload_n 0, 1) := dk_42 (dk_at dksX10_e_1 21 rfl rfl)
theorem dX10_e_45 : decode cX10_e 45 = .ok (.invokevirtual 398, 3) := dk_182 1 142 (dk_at dksX10_e_2 0 rfl rfl)
theorem dX10_e_48 : decode cX10_e 48 = .ok (.istore_n 1, 1) := dk_60 (dk_at dksX10_e_2 3 rfl rfl)
theorem dX10_e_49 : decode cX10_e 49 = .ok (.goto (-30), 3) := dk_167 255 226 (dk_at dksX10_e_2 4 rfl rfl)
theorem dX10_e_52 : decode cX10_e 52 = .ok (.return_, 1) := dk_177 (dk_at dksX10_e_2 7 rfl rfl)
abbrev cX10_pushE : ByteArray := prog_32_method_34_code
def yX10_pushE : MethodName := ⟨RX10, "pushE", "(II)V"⟩
def dkwX10_pushE_1 : List UInt8 := [180, 1, 130, 4, 96, 181, 1, 130, 177]
abbrev dktX10_pushE_1 : List UInt8 := dkwX10_pushE_1 ++ []
def dkwX10_pushE_0 : List UInt8 := [42, 180, 0, 83, 42, 180, 1, 130, 27, 79, 42, 180, 0, 86, 42, 180, 1, 130, 28, 79, 42, 89]
abbrev dktX10_pushE_0 : List UInt8 := dkwX10_pushE_0 ++ dktX10_pushE_1
theorem dksX10_pushE_0 : cX10_pushE.data.toList.drop 0 = dktX10_pushE_0 := by decide +kernel
theorem dksX10_pushE_1 : cX10_pushE.data.toList.drop 22 = dktX10_pushE_1 := dk_seg dksX10_pushE_0 22 rfl rfl
theorem dX10_pushE_0 : decode cX10_pushE 0 = .ok (.aload_n 0, 1) := dk_42 (dk_at dksX10_pushE_0 0 rfl rfl)
theorem dX10_pushE_1 : decode cX10_pushE 1 = .ok (.getfield 83, 3) := dk_180 0 83 (dk_at dksX10_pushE_0 1 rfl rfl)
theorem dX10_pushE_4 : decode cX10_pushE 4 = .ok (.aload_n 0, 1) := dk_42 (dk_at dksX10_pushE_0 4 rfl rfl)
theorem dX10_pushE_5 : decode cX10_pushE 5 = .ok (.getfield 386, 3) := dk_180 1 130 (dk_at dksX10_pushE_0 5 rfl rfl)
theorem dX10_pushE_8 : decode cX10_pushE 8 = .ok (.iload_n 1, 1) := dk_27 (dk_at dksX10_pushE_0 8 rfl rfl)
theorem dX10_pushE_9 : decode cX10_pushE 9 = .ok (.iastore, 1) := dk_79 (dk_at dksX10_pushE_0 9 rfl rfl)
theorem dX10_pushE_10 : decode cX10_pushE 10 = .ok (.aload_n 0, 1) := dk_42 (dk_at dksX10_pushE_0 10 rfl rfl)
theorem dX10_pushE_11 : decode cX10_pushE 11 = .ok (.getfield 86, 3) := dk_180 0 86 (dk_at dksX10_pushE_0 11 rfl rfl)
theorem dX10_pushE_14 : decode cX10_pushE 14 = .ok (.aload_n 0, 1) := dk_42 (dk_at dksX10_pushE_0 14 rfl rfl)
theorem dX10_pushE_15 : decode cX10_pushE 15 = .ok (.getfield 386, 3) := dk_180 1 130 (dk_at dksX10_pushE_0 15 rfl rfl)
theorem dX10_pushE_18 : decode cX10_pushE 18 = .ok (.iload_n 2, 1) := dk_28 (dk_at dksX10_pushE_0 18 rfl rfl)
theorem dX10_pushE_19 : decode cX10_pushE 19 = .ok (.iastore, 1) := dk_79 (dk_at dksX10_pushE_0 19 rfl rfl)
theorem dX10_pushE_20 : decode cX10_pushE 20 = .ok (.aload_n 0, 1) := dk_42 (dk_at dksX10_pushE_0 20 rfl rfl)
theorem dX10_pushE_21 : decode cX10_pushE 21 = .ok (.dup, 1) := dk_89 (dk_at dksX10_pushE_0 21 rfl rfl)
theorem dX10_pushE_22 : decode cX10_pushE 22 = .ok (.getfield 386, 3) := dk_180 1 130 (dk_at dksX10_pushE_1 0 rfl rfl)
theorem dX10_pushE_25 : decode cX10_pushE 25 = .ok (.iconst 1, 1) := dk_4 (dk_at dksX10_pushE_1 3 rfl rfl)
theorem dX10_pushE_26 : decode cX10_pushE 26 = .ok (.iadd, 1) := dk_96 (dk_at dksX10_pushE_1 4 rfl rfl)
theorem dX10_pushE_27 : decode cX10_pushE 27 = .ok (.putfield 386, 3) := dk_181 1 130 (dk_at dksX10_pushE_1 5 rfl rfl)
theorem dX10_pushE_30 : decode cX10_pushE 30 = .ok (.return_, 1) := dk_177 (dk_at dksX10_pushE_1 8 rfl rfl)
abbrev cX10_unit : ByteArray := prog_32_method_36_code
def yX10_unit : MethodName := ⟨RX10, "unit", "()Z"⟩
def dkwX10_unit_12 : List UInt8 := [182, 1, 145, 3, 172]
abbrev dktX10_unit_12 : List UInt8 := dkwX10_unit_12 ++ []
def dkwX10_unit_11 : List UInt8 := [4, 96, 181, 1, 133, 4, 172, 42, 21, 5, 154, 0, 8, 16, 110, 167, 0, 5, 21, 5, 21, 6]
abbrev dktX10_unit_11 : List UInt8 := dkwX10_unit_11 ++ dktX10_unit_12
def dkwX10_unit_10 : List UInt8 := [153, 0, 31, 42, 28, 153, 0, 7, 6, 167, 0, 5, 16, 7, 16, 126, 182, 1, 136, 42, 89, 180, 1, 133]
abbrev dktX10_unit_10 : List UInt8 := dkwX10_unit_10 ++ dktX10_unit_11
def dkwX10_unit_9 : List UInt8 := [154, 0, 10, 42, 180, 1, 17, 167, 0, 5, 21, 4, 54, 6, 42, 182, 1, 31, 28, 154, 0, 7, 29]
abbrev dktX10_unit_9 : List UInt8 := dkwX10_unit_9 ++ dktX10_unit_10
def dkwX10_unit_8 : List UInt8 := [172, 42, 180, 0, 39, 42, 180, 1, 40, 92, 46, 28, 153, 0, 7, 3, 167, 0, 4, 4, 96, 79, 21, 5]
abbrev dktX10_unit_8 : List UInt8 := dkwX10_unit_8 ++ dktX10_unit_9
def dkwX10_unit_7 : List UInt8 := [180, 1, 40, 46, 161, 0, 12, 42, 7, 42, 180, 0, 248, 182, 1, 23, 42, 182, 1, 27, 154, 0, 5, 4]
abbrev dktX10_unit_7 : List UInt8 := dkwX10_unit_7 ++ dktX10_unit_8
def dkwX10_unit_6 : List UInt8 := [180, 1, 133, 16, 7, 160, 0, 10, 42, 182, 1, 34, 167, 0, 26, 21, 4, 42, 180, 0, 20, 42]
abbrev dktX10_unit_6 : List UInt8 := dkwX10_unit_6 ++ dktX10_unit_7
def dkwX10_unit_5 : List UInt8 := [42, 180, 0, 39, 42, 180, 1, 40, 46, 16, 40, 159, 0, 20, 28, 154, 0, 7, 29, 153, 0, 19, 42]
abbrev dktX10_unit_5 : List UInt8 := dkwX10_unit_5 ++ dktX10_unit_6
def dkwX10_unit_4 : List UInt8 := [3, 54, 5, 28, 154, 0, 34, 21, 5, 154, 0, 15, 42, 180, 0, 255, 7, 159, 0, 7, 29, 153, 0, 34]
abbrev dktX10_unit_4 : List UInt8 := dkwX10_unit_4 ++ dktX10_unit_5
def dkwX10_unit_3 : List UInt8 := [20, 0, 237, 182, 1, 68, 153, 0, 8, 16, 97, 167, 0, 14, 21, 4, 155, 0, 8, 16, 112, 167, 0, 4]
abbrev dktX10_unit_3 : List UInt8 := dkwX10_unit_3 ++ dktX10_unit_4
def dkwX10_unit_2 : List UInt8 := [153, 0, 7, 4, 167, 0, 4, 3, 61, 42, 16, 40, 182, 1, 91, 62, 42, 182, 1, 111, 54, 4, 42]
abbrev dktX10_unit_2 : List UInt8 := dkwX10_unit_2 ++ dktX10_unit_3
def dkwX10_unit_1 : List UInt8 := [100, 46, 16, 7, 161, 0, 7, 4, 167, 0, 4, 3, 60, 27, 153, 0, 17, 42, 20, 0, 243, 182, 1, 68]
abbrev dktX10_unit_1 : List UInt8 := dkwX10_unit_1 ++ dktX10_unit_2
def dkwX10_unit_0 : List UInt8 := [42, 180, 0, 83, 42, 180, 1, 130, 4, 100, 46, 6, 164, 0, 19, 42, 180, 0, 83, 42, 180, 1, 130, 4]
abbrev dktX10_unit_0 : List UInt8 := dkwX10_unit_0 ++ dktX10_unit_1
theorem dksX10_unit_0 : cX10_unit.data.toList.drop 0 = dktX10_unit_0 := by decide +kernel
theorem dksX10_unit_1 : cX10_unit.data.toList.drop 24 = dktX10_unit_1 := dk_seg dksX10_unit_0 24 rfl rfl
theorem dksX10_unit_2 : cX10_unit.data.toList.drop 48 = dktX10_unit_2 := dk_seg dksX10_unit_1 24 rfl rfl
theorem dksX10_unit_3 : cX10_unit.data.toList.drop 71 = dktX10_unit_3 := dk_seg dksX10_unit_2 23 rfl rfl
theorem dksX10_unit_4 : cX10_unit.data.toList.drop 95 = dktX10_unit_4 := dk_seg dksX10_unit_3 24 rfl rfl
theorem dksX10_unit_5 : cX10_unit.data.toList.drop 119 = dktX10_unit_5 := dk_seg dksX10_unit_4 24 rfl rfl
theorem dksX10_unit_6 : cX10_unit.data.toList.drop 142 = dktX10_unit_6 := dk_seg dksX10_unit_5 23 rfl rfl
theorem dksX10_unit_7 : cX10_unit.data.toList.drop 164 = dktX10_unit_7 := dk_seg dksX10_unit_6 22 rfl rfl
theorem dksX10_unit_8 : cX10_unit.data.toList.drop 188 = dktX10_unit_8 := dk_seg dksX10_unit_7 24 rfl rfl
theorem dksX10_unit_9 : cX10_unit.data.toList.drop 212 = dktX10_unit_9 := dk_seg dksX10_unit_8 24 rfl rfl
theorem dksX10_unit_10 : cX10_unit.data.toList.drop 235 = dktX10_unit_10 := dk_seg dksX10_unit_9 23 rfl rfl
theorem dksX10_unit_11 : cX10_unit.data.toList.drop 259 = dktX10_unit_11 := dk_seg dksX10_unit_10 24 rfl rfl
theorem dksX10_unit_12 : cX10_unit.data.toList.drop 281 = dktX10_unit_12 := dk_seg dksX10_unit_11 22 rfl rfl
theorem dX10_unit_0 : decode cX10_unit 0 = .ok (.aload_n 0, 1) := dk_42 (dk_at dksX10_unit_0 0 rfl rfl)
theorem dX10_unit_1 : decode cX10_unit 1 = .ok (.getfield 83, 3) := dk_180 0 83 (dk_at dksX10_unit_0 1 rfl rfl)
theorem dX10_unit_4 : decode cX10_unit 4 = .ok (.aload_n 0, 1) := dk_42 (dk_at dksX10_unit_0 4 rfl rfl)
theorem dX10_unit_5 : decode cX10_unit 5 = .ok (.getfield 386, 3) := dk_180 1 130 (dk_at dksX10_unit_0 5 rfl rfl)
theorem dX10_unit_8 : decode cX10_unit 8 = .ok (.iconst 1, 1) := dk_4 (dk_at dksX10_unit_0 8 rfl rfl)
theorem dX10_unit_9 : decode cX10_unit 9 = .ok (.isub, 1) := dk_100 (dk_at dksX10_unit_0 9 rfl rfl)
theorem dX10_unit_10 : decode cX10_unit 10 = .ok (.iaload, 1) := dk_46 (dk_at dksX10_unit_0 10 rfl rfl)
theorem dX10_unit_11 : decode cX10_unit 11 = .ok (.iconst 3, 1) := dk_6 (dk_at dksX10_unit_0 11 rfl rfl)
theorem dX10_unit_12 : decode cX10_unit 12 = .ok (.if_icmp .le 19, 3) := dk_164 0 19 (dk_at dksX10_unit_0 12 rfl rfl)
theorem dX10_unit_15 : decode cX10_unit 15 = .ok (.aload_n 0, 1) := dk_42 (dk_at dksX10_unit_0 15 rfl rfl)
theorem dX10_unit_16 : decode cX10_unit 16 = .ok (.getfield 83, 3) := dk_180 0 83 (dk_at dksX10_unit_0 16 rfl rfl)
theorem dX10_unit_19 : decode cX10_unit 19 = .ok (.aload_n 0, 1) := dk_42 (dk_at dksX10_unit_0 19 rfl rfl)
theorem dX10_unit_20 : decode cX10_unit 20 = .ok (.getfield 386, 3) := dk_180 1 130 (dk_at dksX10_unit_0 20 rfl rfl)
theorem dX10_unit_23 : decode cX10_unit 23 = .ok (.iconst 1, 1) := dk_4 (dk_at dksX10_unit_0 23 rfl rfl)
theorem dX10_unit_24 : decode cX10_unit 24 = .ok (.isub, 1) := dk_100 (dk_at dksX10_unit_1 0 rfl rfl)
theorem dX10_unit_25 : decode cX10_unit 25 = .ok (.iaload, 1) := dk_46 (dk_at dksX10_unit_1 1 rfl rfl)
theorem dX10_unit_26 : decode cX10_unit 26 = .ok (.bipush 7, 2) := dk_16 7 (dk_at dksX10_unit_1 2 rfl rfl)
theorem dX10_unit_28 : decode cX10_unit 28 = .ok (.if_icmp .lt 7, 3) := dk_161 0 7 (dk_at dksX10_unit_1 4 rfl rfl)
theorem dX10_unit_31 : decode cX10_unit 31 = .ok (.iconst 1, 1) := dk_4 (dk_at dksX10_unit_1 7 rfl rfl)
theorem dX10_unit_32 : decode cX10_unit 32 = .ok (.goto 4, 3) := dk_167 0 4 (dk_at dksX10_unit_1 8 rfl rfl)
theorem dX10_unit_35 : decode cX10_unit 35 = .ok (.iconst 0, 1) := dk_3 (dk_at dksX10_unit_1 11 rfl rfl)
theorem dX10_unit_36 : decode cX10_unit 36 = .ok (.istore_n 1, 1) := dk_60 (dk_at dksX10_unit_1 12 rfl rfl)
theorem dX10_unit_37 : decode cX10_unit 37 = .ok (.iload_n 1, 1) := dk_27 (dk_at dksX10_unit_1 13 rfl rfl)
theorem dX10_unit_38 : decode cX10_unit 38 = .ok (.ifCond .eq 17, 3) := dk_153 0 17 (dk_at dksX10_unit_1 14 rfl rfl)
theorem dX10_unit_41 : decode cX10_unit 41 = .ok (.aload_n 0, 1) := dk_42 (dk_at dksX10_unit_1 17 rfl rfl)
theorem dX10_unit_42 : decode cX10_unit 42 = .ok (.ldc2_w 243, 3) := dk_20 0 243 (dk_at dksX10_unit_1 18 rfl rfl)
theorem dX10_unit_45 : decode cX10_unit 45 = .ok (.invokevirtual 324, 3) := dk_182 1 68 (dk_at dksX10_unit_1 21 rfl rfl)
theorem dX10_unit_48 : decode cX10_unit 48 = .ok (.ifCond .eq 7, 3) := dk_153 0 7 (dk_at dksX10_unit_2 0 rfl rfl)
theorem dX10_unit_51 : decode cX10_unit 51 = .ok (.iconst 1, 1) := dk_4 (dk_at dksX10_unit_2 3 rfl rfl)
theorem dX10_unit_52 : decode cX10_unit 52 = .ok (.goto 4, 3) := dk_167 0 4 (dk_at dksX10_unit_2 4 rfl rfl)
theorem dX10_unit_55 : decode cX10_unit 55 = .ok (.iconst 0, 1) := dk_3 (dk_at dksX10_unit_2 7 rfl rfl)
theorem dX10_unit_56 : decode cX10_unit 56 = .ok (.istore_n 2, 1) := dk_61 (dk_at dksX10_unit_2 8 rfl rfl)
theorem dX10_unit_57 : decode cX10_unit 57 = .ok (.aload_n 0, 1) := dk_42 (dk_at dksX10_unit_2 9 rfl rfl)
theorem dX10_unit_58 : decode cX10_unit 58 = .ok (.bipush 40, 2) := dk_16 40 (dk_at dksX10_unit_2 10 rfl rfl)
theorem dX10_unit_60 : decode cX10_unit 60 = .ok (.invokevirtual 347, 3) := dk_182 1 91 (dk_at dksX10_unit_2 12 rfl rfl)
theorem dX10_unit_63 : decode cX10_unit 63 = .ok (.istore_n 3, 1) := dk_62 (dk_at dksX10_unit_2 15 rfl rfl)
theorem dX10_unit_64 : decode cX10_unit 64 = .ok (.aload_n 0, 1) := dk_42 (dk_at dksX10_unit_2 16 rfl rfl)
theorem dX10_unit_65 : decode cX10_unit 65 = .ok (.invokevirtual 367, 3) := dk_182 1 111 (dk_at dksX10_unit_2 17 rfl rfl)
theorem dX10_unit_68 : decode cX10_unit 68 = .ok (.istore 4, 2) := dk_54 4 (dk_at dksX10_unit_2 20 rfl rfl)
theorem dX10_unit_70 : decode cX10_unit 70 = .ok (.aload_n 0, 1) := dk_42 (dk_at dksX10_unit_2 22 rfl rfl)
theorem dX10_unit_71 : decode cX10_unit 71 = .ok (.ldc2_w 237, 3) := dk_20 0 237 (dk_at dksX10_unit_3 0 rfl rfl)
theorem dX10_unit_74 : decode cX10_unit 74 = .ok (.invokevirtual 324, 3) := dk_182 1 68 (dk_at dksX10_unit_3 3 rfl rfl)
theorem dX10_unit_77 : decode cX10_unit 77 = .ok (.ifCond .eq 8, 3) := dk_153 0 8 (dk_at dksX10_unit_3 6 rfl rfl)
theorem dX10_unit_80 : decode cX10_unit 80 = .ok (.bipush 97, 2) := dk_16 97 (dk_at dksX10_unit_3 9 rfl rfl)
theorem dX10_unit_82 : decode cX10_unit 82 = .ok (.goto 14, 3) := dk_167 0 14 (dk_at dksX10_unit_3 11 rfl rfl)
theorem dX10_unit_85 : decode cX10_unit 85 = .ok (.iload 4, 2) := dk_21 4 (dk_at dksX10_unit_3 14 rfl rfl)
theorem dX10_unit_87 : decode cX10_unit 87 = .ok (.ifCond .lt 8, 3) := dk_155 0 8 (dk_at dksX10_unit_3 16 rfl rfl)
theorem dX10_unit_90 : decode cX10_unit 90 = .ok (.bipush 112, 2) := dk_16 112 (dk_at dksX10_unit_3 19 rfl rfl)
theorem dX10_unit_92 : decode cX10_unit 92 = .ok (.goto 4, 3) := dk_167 0 4 (dk_at dksX10_unit_3 21 rfl rfl)
theorem dX10_unit_95 : decode cX10_unit 95 = .ok (.iconst 0, 1) := dk_3 (dk_at dksX10_unit_4 0 rfl rfl)
theorem dX10_unit_96 : decode cX10_unit 96 = .ok (.istore 5, 2) := dk_54 5 (dk_at dksX10_unit_4 1 rfl rfl)
theorem dX10_unit_98 : decode cX10_unit 98 = .ok (.iload_n 2, 1) := dk_28 (dk_at dksX10_unit_4 3 rfl rfl)
theorem dX10_unit_99 : decode cX10_unit 99 = .ok (.ifCond .ne 34, 3) := dk_154 0 34 (dk_at dksX10_unit_4 4 rfl rfl)
theorem dX10_unit_102 : decode cX10_unit 102 = .ok (.iload 5, 2) := dk_21 5 (dk_at dksX10_unit_4 7 rfl rfl)
theorem dX10_unit_104 : decode cX10_unit 104 = .ok (.ifCond .ne 15, 3) := dk_154 0 15 (dk_at dksX10_unit_4 9 rfl rfl)
theorem dX10_unit_107 : decode cX10_unit 107 = .ok (.aload_n 0, 1) := dk_42 (dk_at dksX10_unit_4 12 rfl rfl)
theorem dX10_unit_108 : decode cX10_unit 108 = .ok (.getfield 255, 3) := dk_180 0 255 (dk_at dksX10_unit_4 13 rfl rfl)
theorem dX10_unit_111 : decode cX10_unit 111 = .ok (.iconst 4, 1) := dk_7 (dk_at dksX10_unit_4 16 rfl rfl)
theorem dX10_unit_112 : decode cX10_unit 112 = .ok (.if_icmp .eq 7, 3) := dk_159 0 7 (dk_at dksX10_unit_4 17 rfl rfl)
theorem dX10_unit_115 : decode cX10_unit 115 = .ok (.iload_n 3, 1) := dk_29 (dk_at dksX10_unit_4 20 rfl rfl)
theorem dX10_unit_116 : decode cX10_unit 116 = .ok (.ifCond .eq 34, 3) := dk_153 0 34 (dk_at dksX10_unit_4 21 rfl rfl)
theorem dX10_unit_119 : decode cX10_unit 119 = .ok (.aload_n 0, 1) := dk_42 (dk_at dksX10_unit_5 0 rfl rfl)
theorem dX10_unit_120 : decode cX10_unit 120 = .ok (.getfield 39, 3) := dk_180 0 39 (dk_at dksX10_unit_5 1 rfl rfl)
theorem dX10_unit_123 : decode cX10_unit 123 = .ok (.aload_n 0, 1) := dk_42 (dk_at dksX10_unit_5 4 rfl rfl)
theorem dX10_unit_124 : decode cX10_unit 124 = .ok (.getfield 296, 3) := dk_180 1 40 (dk_at dksX10_unit_5 5 rfl rfl)
theorem dX10_unit_127 : decode cX10_unit 127 = .ok (.iaload, 1) := dk_46 (dk_at dksX10_unit_5 8 rfl rfl)
theorem dX10_unit_128 : decode cX10_unit 128 = .ok (.bipush 40, 2) := dk_16 40 (dk_at dksX10_unit_5 9 rfl rfl)
theorem dX10_unit_130 : decode cX10_unit 130 = .ok (.if_icmp .eq 20, 3) := dk_159 0 20 (dk_at dksX10_unit_5 11 rfl rfl)
theorem dX10_unit_133 : decode cX10_unit 133 = .ok (.iload_n 2, 1) := dk_28 (dk_at dksX10_unit_5 14 rfl rfl)
theorem dX10_unit_134 : decode cX10_unit 134 = .ok (.ifCond .ne 7, 3) := dk_154 0 7 (dk_at dksX10_unit_5 15 rfl rfl)
theorem dX10_unit_137 : decode cX10_unit 137 = .ok (.iload_n 3, 1) := dk_29 (dk_at dksX10_unit_5 18 rfl rfl)
theorem dX10_unit_138 : decode cX10_unit 138 = .ok (.ifCond .eq 19, 3) := dk_153 0 19 (dk_at dksX10_unit_5 19 rfl rfl)
theorem dX10_unit_141 : decode cX10_unit 141 = .ok (.aload_n 0, 1) := dk_42 (dk_at dksX10_unit_5 22 rfl rfl)
theorem dX10_unit_142 : decode cX10_unit 142 = .ok (.getfield 389, 3) := dk_180 1 133 (dk_at dksX10_unit_6 0 rfl rfl)
theorem dX10_unit_145 : decode cX10_unit 145 = .ok (.bipush 7, 2) := dk_16 7 (dk_at dksX10_unit_6 3 rfl rfl)
theorem dX10_unit_147 : decode cX10_unit 147 = .ok (.if_icmp .ne 10, 3) := dk_160 0 10 (dk_at dksX10_unit_6 5 rfl rfl)
theorem dX10_unit_150 : decode cX10_unit 150 = .ok (.aload_n 0, 1) := dk_42 (dk_at dksX10_unit_6 8 rfl rfl)
theorem dX10_unit_151 : decode cX10_unit 151 = .ok (.invokevirtual 290, 3) := dk_182 1 34 (dk_at dksX10_unit_6 9 rfl rfl)
theorem dX10_unit_154 : decode cX10_unit 154 = .ok (.goto 26, 3) := dk_167 0 26 (dk_at dksX10_unit_6 12 rfl rfl)
theorem dX10_unit_157 : decode cX10_unit 157 = .ok (.iload 4, 2) := dk_21 4 (dk_at dksX10_unit_6 15 rfl rfl)
theorem dX10_unit_159 : decode cX10_unit 159 = .ok (.aload_n 0, 1) := dk_42 (dk_at dksX10_unit_6 17 rfl rfl)
theorem dX10_unit_160 : decode cX10_unit 160 = .ok (.getfield 20, 3) := dk_180 0 20 (dk_at dksX10_unit_6 18 rfl rfl)
theorem dX10_unit_163 : decode cX10_unit 163 = .ok (.aload_n 0, 1) := dk_42 (dk_at dksX10_unit_6 21 rfl rfl)
theorem dX10_unit_164 : decode cX10_unit 164 = .ok (.getfield 296, 3) := dk_180 1 40 (dk_at dksX10_unit_7 0 rfl rfl)
theorem dX10_unit_167 : decode cX10_unit 167 = .ok (.iaload, 1) := dk_46 (dk_at dksX10_unit_7 3 rfl rfl)
theorem dX10_unit_168 : decode cX10_unit 168 = .ok (.if_icmp .lt 12, 3) := dk_161 0 12 (dk_at dksX10_unit_7 4 rfl rfl)
theorem dX10_unit_171 : decode cX10_unit 171 = .ok (.aload_n 0, 1) := dk_42 (dk_at dksX10_unit_7 7 rfl rfl)
theorem dX10_unit_172 : decode cX10_unit 172 = .ok (.iconst 4, 1) := dk_7 (dk_at dksX10_unit_7 8 rfl rfl)
theorem dX10_unit_173 : decode cX10_unit 173 = .ok (.aload_n 0, 1) := dk_42 (dk_at dksX10_unit_7 9 rfl rfl)
theorem dX10_unit_174 : decode cX10_unit 174 = .ok (.getfield 248, 3) := dk_180 0 248 (dk_at dksX10_unit_7 10 rfl rfl)
theorem dX10_unit_177 : decode cX10_unit 177 = .ok (.invokevirtual 279, 3) := dk_182 1 23 (dk_at dksX10_unit_7 13 rfl rfl)
theorem dX10_unit_180 : decode cX10_unit 180 = .ok (.aload_n 0, 1) := dk_42 (dk_at dksX10_unit_7 16 rfl rfl)
theorem dX10_unit_181 : decode cX10_unit 181 = .ok (.invokevirtual 283, 3) := dk_182 1 27 (dk_at dksX10_unit_7 17 rfl rfl)
theorem dX10_unit_184 : decode cX10_unit 184 = .ok (.ifCond .ne 5, 3) := dk_154 0 5 (dk_at dksX10_unit_7 20 rfl rfl)
theorem dX10_unit_187 : decode cX10_unit 187 = .ok (.iconst 1, 1) := dk_4 (dk_at dksX10_unit_7 23 rfl rfl)
theorem dX10_unit_188 : decode cX10_unit 188 = .ok (.ireturn, 1) := dk_172 (dk_at dksX10_unit_8 0 rfl rfl)
theorem dX10_unit_189 : decode cX10_unit 189 = .ok (.aload_n 0, 1) := dk_42 (dk_at dksX10_unit_8 1 rfl rfl)
theorem dX10_unit_190 : decode cX10_unit 190 = .ok (.getfield 39, 3) := dk_180 0 39 (dk_at dksX10_unit_8 2 rfl rfl)
theorem dX10_unit_193 : decode cX10_unit 193 = .ok (.aload_n 0, 1) := dk_42 (dk_at dksX10_unit_8 5 rfl rfl)
theorem dX10_unit_194 : decode cX10_unit 194 = .ok (.getfield 296, 3) := dk_180 1 40 (dk_at dksX10_unit_8 6 rfl rfl)
theorem dX10_unit_197 : decode cX10_unit 197 = .ok (.dup2, 1) := dk_92 (dk_at dksX10_unit_8 9 rfl rfl)
theorem dX10_unit_198 : decode cX10_unit 198 = .ok (.iaload, 1) := dk_46 (dk_at dksX10_unit_8 10 rfl rfl)
theorem dX10_unit_199 : decode cX10_unit 199 = .ok (.iload_n 2, 1) := dk_28 (dk_at dksX10_unit_8 11 rfl rfl)
theorem dX10_unit_200 : decode cX10_unit 200 = .ok (.ifCond .eq 7, 3) := dk_153 0 7 (dk_at dksX10_unit_8 12 rfl rfl)
theorem dX10_unit_203 : decode cX10_unit 203 = .ok (.iconst 0, 1) := dk_3 (dk_at dksX10_unit_8 15 rfl rfl)
theorem dX10_unit_204 : decode cX10_unit 204 = .ok (.goto 4, 3) := dk_167 0 4 (dk_at dksX10_unit_8 16 rfl rfl)
theorem dX10_unit_207 : decode cX10_unit 207 = .ok (.iconst 1, 1) := dk_4 (dk_at dksX10_unit_8 19 rfl rfl)
theorem dX10_unit_208 : decode cX10_unit 208 = .ok (.iadd, 1) := dk_96 (dk_at dksX10_unit_8 20 rfl rfl)
theorem dX10_unit_209 : decode cX10_unit 209 = .ok (.iastore, 1) := dk_79 (dk_at dksX10_unit_8 21 rfl rfl)
theorem dX10_unit_210 : decode cX10_unit 210 = .ok (.iload 5, 2) := dk_21 5 (dk_at dksX10_unit_8 22 rfl rfl)
theorem dX10_unit_212 : decode cX10_unit 212 = .ok (.ifCond .ne 10, 3) := dk_154 0 10 (dk_at dksX10_unit_9 0 rfl rfl)
theorem dX10_unit_215 : decode cX10_unit 215 = .ok (.aload_n 0, 1) := dk_42 (dk_at dksX10_unit_9 3 rfl rfl)
theorem dX10_unit_216 : decode cX10_unit 216 = .ok (.getfield 273, 3) := dk_180 1 17 (dk_at dksX10_unit_9 4 rfl rfl)
theorem dX10_unit_219 : decode cX10_unit 219 = .ok (.goto 5, 3) := dk_167 0 5 (dk_at dksX10_unit_9 7 rfl rfl)
theorem dX10_unit_222 : decode cX10_unit 222 = .ok (.iload 4, 2) := dk_21 4 (dk_at dksX10_unit_9 10 rfl rfl)
theorem dX10_unit_224 : decode cX10_unit 224 = .ok (.istore 6, 2) := dk_54 6 (dk_at dksX10_unit_9 12 rfl rfl)
theorem dX10_unit_226 : decode cX10_unit 226 = .ok (.aload_n 0, 1) := dk_42 (dk_at dksX10_unit_9 14 rfl rfl)
theorem dX10_unit_227 : decode cX10_unit 227 = .ok (.invokevirtual 287, 3) := dk_182 1 31 (dk_at dksX10_unit_9 15 rfl rfl)
theorem dX10_unit_230 : decode cX10_unit 230 = .ok (.iload_n 2, 1) := dk_28 (dk_at dksX10_unit_9 18 rfl rfl)
theorem dX10_unit_231 : decode cX10_unit 231 = .ok (.ifCond .ne 7, 3) := dk_154 0 7 (dk_at dksX10_unit_9 19 rfl rfl)
theorem dX10_unit_234 : decode cX10_unit 234 = .ok (.iload_n 3, 1) := dk_29 (dk_at dksX10_unit_9 22 rfl rfl)
theorem dX10_unit_235 : decode cX10_unit 235 = .ok (.ifCond .eq 31, 3) := dk_153 0 31 (dk_at dksX10_unit_10 0 rfl rfl)
theorem dX10_unit_238 : decode cX10_unit 238 = .ok (.aload_n 0, 1) := dk_42 (dk_at dksX10_unit_10 3 rfl rfl)
theorem dX10_unit_239 : decode cX10_unit 239 = .ok (.iload_n 2, 1) := dk_28 (dk_at dksX10_unit_10 4 rfl rfl)
theorem dX10_unit_240 : decode cX10_unit 240 = .ok (.ifCond .eq 7, 3) := dk_153 0 7 (dk_at dksX10_unit_10 5 rfl rfl)
theorem dX10_unit_243 : decode cX10_unit 243 = .ok (.iconst 3, 1) := dk_6 (dk_at dksX10_unit_10 8 rfl rfl)
theorem dX10_unit_244 : decode cX10_unit 244 = .ok (.goto 5, 3) := dk_167 0 5 (dk_at dksX10_unit_10 9 rfl rfl)
theorem dX10_unit_247 : decode cX10_unit 247 = .ok (.bipush 7, 2) := dk_16 7 (dk_at dksX10_unit_10 12 rfl rfl)
theorem dX10_unit_249 : decode cX10_unit 249 = .ok (.bipush 126, 2) := dk_16 126 (dk_at dksX10_unit_10 14 rfl rfl)
theorem dX10_unit_251 : decode cX10_unit 251 = .ok (.invokevirtual 392, 3) := dk_182 1 136 (dk_at dksX10_unit_10 16 rfl rfl)
theorem dX10_unit_254 : decode cX10_unit 254 = .ok (.aload_n 0, 1) := dk_42 (dk_at dksX10_unit_10 19 rfl rfl)
theorem dX10_unit_255 : decode cX10_unit 255 = .ok (.dup, 1) := dk_89 (dk_at dksX10_unit_10 20 rfl rfl)
theorem dX10_unit_256 : decode cX10_unit 256 = .ok (.getfield 389, 3) := dk_180 1 133 (dk_at dksX10_unit_10 21 rfl rfl)
theorem dX10_unit_259 : decode cX10_unit 259 = .ok (.iconst 1, 1) := dk_4 (dk_at dksX10_unit_11 0 rfl rfl)
theorem dX10_unit_260 : decode cX10_unit 260 = .ok (.iadd, 1) := dk_96 (dk_at dksX10_unit_11 1 rfl rfl)
theorem dX10_unit_261 : decode cX10_unit 261 = .ok (.putfield 389, 3) := dk_181 1 133 (dk_at dksX10_unit_11 2 rfl rfl)
theorem dX10_unit_264 : decode cX10_unit 264 = .ok (.iconst 1, 1) := dk_4 (dk_at dksX10_unit_11 5 rfl rfl)
theorem dX10_unit_265 : decode cX10_unit 265 = .ok (.ireturn, 1) := dk_172 (dk_at dksX10_unit_11 6 rfl rfl)
theorem dX10_unit_266 : decode cX10_unit 266 = .ok (.aload_n 0, 1) := dk_42 (dk_at dksX10_unit_11 7 rfl rfl)
theorem dX10_unit_267 : decode cX10_unit 267 = .ok (.iload 5, 2) := dk_21 5 (dk_at dksX10_unit_11 8 rfl rfl)
theorem dX10_unit_269 : decode cX10_unit 269 = .ok (.ifCond .ne 8, 3) := dk_154 0 8 (dk_at dksX10_unit_11 10 rfl rfl)
theorem dX10_unit_272 : decode cX10_unit 272 = .ok (.bipush 110, 2) := dk_16 110 (dk_at dksX10_unit_11 13 rfl rfl)
theorem dX10_unit_274 : decode cX10_unit 274 = .ok (.goto 5, 3) := dk_167 0 5 (dk_at dksX10_unit_11 15 rfl rfl)
theorem dX10_unit_277 : decode cX10_unit 277 = .ok (.iload 5, 2) := dk_21 5 (dk_at dksX10_unit_11 18 rfl rfl)
theorem dX10_unit_279 : decode cX10_unit 279 = .ok (.iload 6, 2) := dk_21 6 (dk_at dksX10_unit_11 20 rfl rfl)
theorem dX10_unit_281 : decode cX10_unit 281 = .ok (.invokevirtual 401, 3) := dk_182 1 145 (dk_at dksX10_unit_12 0 rfl rfl)
theorem dX10_unit_284 : decode cX10_unit 284 = .ok (.iconst 0, 1) := dk_3 (dk_at dksX10_unit_12 3 rfl rfl)
theorem dX10_unit_285 : decode cX10_unit 285 = .ok (.ireturn, 1) := dk_172 (dk_at dksX10_unit_12 4 rfl rfl)
abbrev cX10_stands : ByteArray := prog_32_method_10_code
def yX10_stands : MethodName := ⟨RX10, "stands", "(I)Z"⟩
def dkwX10_stands_1 : List UInt8 := [3, 172]
abbrev dktX10_stands_1 : List UInt8 := dkwX10_stands_1 ++ []
def dkwX10_stands_0 : List UInt8 := [42, 180, 0, 255, 8, 160, 0, 19, 42, 42, 180, 0, 248, 182, 0, 251, 27, 160, 0, 7, 4, 167, 0, 4]
abbrev dktX10_stands_0 : List UInt8 := dkwX10_stands_0 ++ dktX10_stands_1
theorem dksX10_stands_0 : cX10_stands.data.toList.drop 0 = dktX10_stands_0 := by decide +kernel
theorem dksX10_stands_1 : cX10_stands.data.toList.drop 24 = dktX10_stands_1 := dk_seg dksX10_stands_0 24 rfl rfl
theorem dX10_stands_0 : decode cX10_stands 0 = .ok (.aload_n 0, 1) := dk_42 (dk_at dksX10_stands_0 0 rfl rfl)
theorem dX10_stands_1 : decode cX10_stands 1 = .ok (.getfield 255, 3) := dk_180 0 255 (dk_at dksX10_stands_0 1 rfl rfl)
theorem dX10_stands_4 : decode cX10_stands 4 = .ok (.iconst 5, 1) := dk_8 (dk_at dksX10_stands_0 4 rfl rfl)
theorem dX10_stands_5 : decode cX10_stands 5 = .ok (.if_icmp .ne 19, 3) := dk_160 0 19 (dk_at dksX10_stands_0 5 rfl rfl)
theorem dX10_stands_8 : decode cX10_stands 8 = .ok (.aload_n 0, 1) := dk_42 (dk_at dksX10_stands_0 8 rfl rfl)
theorem dX10_stands_9 : decode cX10_stands 9 = .ok (.aload_n 0, 1) := dk_42 (dk_at dksX10_stands_0 9 rfl rfl)
theorem dX10_stands_10 : decode cX10_stands 10 = .ok (.getfield 248, 3) := dk_180 0 248 (dk_at dksX10_stands_0 10 rfl rfl)
theorem dX10_stands_13 : decode cX10_stands 13 = .ok (.invokevirtual 251, 3) := dk_182 0 251 (dk_at dksX10_stands_0 13 rfl rfl)
theorem dX10_stands_16 : decode cX10_stands 16 = .ok (.iload_n 1, 1) := dk_27 (dk_at dksX10_stands_0 16 rfl rfl)
theorem dX10_stands_17 : decode cX10_stands 17 = .ok (.if_icmp .ne 7, 3) := dk_160 0 7 (dk_at dksX10_stands_0 17 rfl rfl)
theorem dX10_stands_20 : decode cX10_stands 20 = .ok (.iconst 1, 1) := dk_4 (dk_at dksX10_stands_0 20 rfl rfl)
theorem dX10_stands_21 : decode cX10_stands 21 = .ok (.goto 4, 3) := dk_167 0 4 (dk_at dksX10_stands_0 21 rfl rfl)
theorem dX10_stands_24 : decode cX10_stands 24 = .ok (.iconst 0, 1) := dk_3 (dk_at dksX10_stands_1 0 rfl rfl)
theorem dX10_stands_25 : decode cX10_stands 25 = .ok (.ireturn, 1) := dk_172 (dk_at dksX10_stands_1 1 rfl rfl)
abbrev cX10_whoHere : ByteArray := prog_32_method_24_code
def yX10_whoHere : MethodName := ⟨RX10, "whoHere", "()I"⟩
def dkwX10_whoHere_1 : List UInt8 := [4, 167, 0, 18, 42, 20, 0, 215, 182, 1, 68, 153, 0, 7, 5, 167, 0, 4, 2, 172]
abbrev dktX10_whoHere_1 : List UInt8 := dkwX10_whoHere_1 ++ []
def dkwX10_whoHere_0 : List UInt8 := [42, 20, 0, 211, 182, 1, 68, 153, 0, 7, 3, 167, 0, 32, 42, 20, 0, 213, 182, 1, 68, 153, 0, 7]
abbrev dktX10_whoHere_0 : List UInt8 := dkwX10_whoHere_0 ++ dktX10_whoHere_1
theorem dksX10_whoHere_0 : cX10_whoHere.data.toList.drop 0 = dktX10_whoHere_0 := by decide +kernel
theorem dksX10_whoHere_1 : cX10_whoHere.data.toList.drop 24 = dktX10_whoHere_1 := dk_seg dksX10_whoHere_0 24 rfl rfl
theorem dX10_whoHere_0 : decode cX10_whoHere 0 = .ok (.aload_n 0, 1) := dk_42 (dk_at dksX10_whoHere_0 0 rfl rfl)
theorem dX10_whoHere_1 : decode cX10_whoHere 1 = .ok (.ldc2_w 211, 3) := dk_20 0 211 (dk_at dksX10_whoHere_0 1 rfl rfl)
theorem dX10_whoHere_4 : decode cX10_whoHere 4 = .ok (.invokevirtual 324, 3) := dk_182 1 68 (dk_at dksX10_whoHere_0 4 rfl rfl)
theorem dX10_whoHere_7 : decode cX10_whoHere 7 = .ok (.ifCond .eq 7, 3) := dk_153 0 7 (dk_at dksX10_whoHere_0 7 rfl rfl)
theorem dX10_whoHere_10 : decode cX10_whoHere 10 = .ok (.iconst 0, 1) := dk_3 (dk_at dksX10_whoHere_0 10 rfl rfl)
theorem dX10_whoHere_11 : decode cX10_whoHere 11 = .ok (.goto 32, 3) := dk_167 0 32 (dk_at dksX10_whoHere_0 11 rfl rfl)
theorem dX10_whoHere_14 : decode cX10_whoHere 14 = .ok (.aload_n 0, 1) := dk_42 (dk_at dksX10_whoHere_0 14 rfl rfl)
theorem dX10_whoHere_15 : decode cX10_whoHere 15 = .ok (.ldc2_w 213, 3) := dk_20 0 213 (dk_at dksX10_whoHere_0 15 rfl rfl)
theorem dX10_whoHere_18 : decode cX10_whoHere 18 = .ok (.invokevirtual 324, 3) := dk_182 1 68 (dk_at dksX10_whoHere_0 18 rfl rfl)
theorem dX10_whoHere_21 : decode cX10_whoHere 21 = .ok (.ifCond .eq 7, 3) := dk_153 0 7 (dk_at dksX10_whoHere_0 21 rfl rfl)
theorem dX10_whoHere_24 : decode cX10_whoHere 24 = .ok (.iconst 1, 1) := dk_4 (dk_at dksX10_whoHere_1 0 rfl rfl)
theorem dX10_whoHere_25 : decode cX10_whoHere 25 = .ok (.goto 18, 3) := dk_167 0 18 (dk_at dksX10_whoHere_1 1 rfl rfl)
theorem dX10_whoHere_28 : decode cX10_whoHere 28 = .ok (.aload_n 0, 1) := dk_42 (dk_at dksX10_whoHere_1 4 rfl rfl)
theorem dX10_whoHere_29 : decode cX10_whoHere 29 = .ok (.ldc2_w 215, 3) := dk_20 0 215 (dk_at dksX10_whoHere_1 5 rfl rfl)
theorem dX10_whoHere_32 : decode cX10_whoHere 32 = .ok (.invokevirtual 324, 3) := dk_182 1 68 (dk_at dksX10_whoHere_1 8 rfl rfl)
theorem dX10_whoHere_35 : decode cX10_whoHere 35 = .ok (.ifCond .eq 7, 3) := dk_153 0 7 (dk_at dksX10_whoHere_1 11 rfl rfl)
theorem dX10_whoHere_38 : decode cX10_whoHere 38 = .ok (.iconst 2, 1) := dk_5 (dk_at dksX10_whoHere_1 14 rfl rfl)
theorem dX10_whoHere_39 : decode cX10_whoHere 39 = .ok (.goto 4, 3) := dk_167 0 4 (dk_at dksX10_whoHere_1 15 rfl rfl)
theorem dX10_whoHere_42 : decode cX10_whoHere 42 = .ok (.iconst (-1), 1) := dk_2 (dk_at dksX10_whoHere_1 18 rfl rfl)
theorem dX10_whoHere_43 : decode cX10_whoHere 43 = .ok (.ireturn, 1) := dk_172 (dk_at dksX10_whoHere_1 19 rfl rfl)
abbrev cX10_emit : ByteArray := prog_32_method_33_code
def yX10_emit : MethodName := ⟨RX10, "emit", "(II)V"⟩
def dkwX10_emit_1 : List UInt8 := [180, 1, 47, 4, 96, 181, 1, 47, 177]
abbrev dktX10_emit_1 : List UInt8 := dkwX10_emit_1 ++ []
def dkwX10_emit_0 : List UInt8 := [42, 180, 0, 77, 42, 180, 1, 47, 27, 79, 42, 180, 0, 80, 42, 180, 1, 47, 28, 79, 42, 89]
abbrev dktX10_emit_0 : List UInt8 := dkwX10_emit_0 ++ dktX10_emit_1
theorem dksX10_emit_0 : cX10_emit.data.toList.drop 0 = dktX10_emit_0 := by decide +kernel
theorem dksX10_emit_1 : cX10_emit.data.toList.drop 22 = dktX10_emit_1 := dk_seg dksX10_emit_0 22 rfl rfl
theorem dX10_emit_0 : decode cX10_emit 0 = .ok (.aload_n 0, 1) := dk_42 (dk_at dksX10_emit_0 0 rfl rfl)
theorem dX10_emit_1 : decode cX10_emit 1 = .ok (.getfield 77, 3) := dk_180 0 77 (dk_at dksX10_emit_0 1 rfl rfl)
theorem dX10_emit_4 : decode cX10_emit 4 = .ok (.aload_n 0, 1) := dk_42 (dk_at dksX10_emit_0 4 rfl rfl)
theorem dX10_emit_5 : decode cX10_emit 5 = .ok (.getfield 303, 3) := dk_180 1 47 (dk_at dksX10_emit_0 5 rfl rfl)
theorem dX10_emit_8 : decode cX10_emit 8 = .ok (.iload_n 1, 1) := dk_27 (dk_at dksX10_emit_0 8 rfl rfl)
theorem dX10_emit_9 : decode cX10_emit 9 = .ok (.iastore, 1) := dk_79 (dk_at dksX10_emit_0 9 rfl rfl)
theorem dX10_emit_10 : decode cX10_emit 10 = .ok (.aload_n 0, 1) := dk_42 (dk_at dksX10_emit_0 10 rfl rfl)
theorem dX10_emit_11 : decode cX10_emit 11 = .ok (.getfield 80, 3) := dk_180 0 80 (dk_at dksX10_emit_0 11 rfl rfl)
theorem dX10_emit_14 : decode cX10_emit 14 = .ok (.aload_n 0, 1) := dk_42 (dk_at dksX10_emit_0 14 rfl rfl)
theorem dX10_emit_15 : decode cX10_emit 15 = .ok (.getfield 303, 3) := dk_180 1 47 (dk_at dksX10_emit_0 15 rfl rfl)
theorem dX10_emit_18 : decode cX10_emit 18 = .ok (.iload_n 2, 1) := dk_28 (dk_at dksX10_emit_0 18 rfl rfl)
theorem dX10_emit_19 : decode cX10_emit 19 = .ok (.iastore, 1) := dk_79 (dk_at dksX10_emit_0 19 rfl rfl)
theorem dX10_emit_20 : decode cX10_emit 20 = .ok (.aload_n 0, 1) := dk_42 (dk_at dksX10_emit_0 20 rfl rfl)
theorem dX10_emit_21 : decode cX10_emit 21 = .ok (.dup, 1) := dk_89 (dk_at dksX10_emit_0 21 rfl rfl)
theorem dX10_emit_22 : decode cX10_emit 22 = .ok (.getfield 303, 3) := dk_180 1 47 (dk_at dksX10_emit_1 0 rfl rfl)
theorem dX10_emit_25 : decode cX10_emit 25 = .ok (.iconst 1, 1) := dk_4 (dk_at dksX10_emit_1 3 rfl rfl)
theorem dX10_emit_26 : decode cX10_emit 26 = .ok (.iadd, 1) := dk_96 (dk_at dksX10_emit_1 4 rfl rfl)
theorem dX10_emit_27 : decode cX10_emit 27 = .ok (.putfield 303, 3) := dk_181 1 47 (dk_at dksX10_emit_1 5 rfl rfl)
theorem dX10_emit_30 : decode cX10_emit 30 = .ok (.return_, 1) := dk_177 (dk_at dksX10_emit_1 8 rfl rfl)
abbrev cX10_behindUnit : ByteArray := prog_32_method_39_code
def yX10_behindUnit : MethodName := ⟨RX10, "behindUnit", "()Z"⟩
def dkwX10_behindUnit_8 : List UInt8 := [182, 1, 94, 3, 172]
abbrev dktX10_behindUnit_8 : List UInt8 := dkwX10_behindUnit_8 ++ []
def dkwX10_behindUnit_7 : List UInt8 := [16, 7, 160, 0, 23, 42, 89, 180, 1, 133, 4, 100, 181, 1, 133, 42, 42, 16, 41, 182, 1, 91]
abbrev dktX10_behindUnit_7 : List UInt8 := dkwX10_behindUnit_7 ++ dktX10_behindUnit_8
def dkwX10_behindUnit_6 : List UInt8 := [182, 1, 31, 4, 172, 42, 89, 180, 1, 130, 4, 100, 181, 1, 130, 42, 180, 0, 83, 42, 180, 1, 130, 46]
abbrev dktX10_behindUnit_6 : List UInt8 := dkwX10_behindUnit_6 ++ dktX10_behindUnit_7
def dkwX10_behindUnit_5 : List UInt8 := [27, 4, 160, 0, 8, 16, 124, 167, 0, 11, 42, 42, 180, 0, 248, 182, 0, 251, 182, 1, 136, 42]
abbrev dktX10_behindUnit_5 : List UInt8 := dkwX10_behindUnit_5 ++ dktX10_behindUnit_6
def dkwX10_behindUnit_4 : List UInt8 := [46, 3, 182, 1, 145, 167, 255, 178, 27, 158, 0, 42, 42, 27, 27, 5, 160, 0, 8, 16, 38, 167, 0, 21]
abbrev dktX10_behindUnit_4 : List UInt8 := dkwX10_behindUnit_4 ++ dktX10_behindUnit_5
def dkwX10_behindUnit_3 : List UInt8 := [46, 6, 160, 0, 13, 42, 89, 180, 1, 133, 4, 100, 181, 1, 133, 42, 42, 180, 0, 86, 42, 180, 1, 130]
abbrev dktX10_behindUnit_3 : List UInt8 := dkwX10_behindUnit_3 ++ dktX10_behindUnit_4
def dkwX10_behindUnit_2 : List UInt8 := [100, 46, 27, 161, 0, 53, 42, 89, 180, 1, 130, 4, 100, 181, 1, 130, 42, 180, 0, 83, 42, 180, 1, 130]
abbrev dktX10_behindUnit_2 : List UInt8 := dkwX10_behindUnit_2 ++ dktX10_behindUnit_3
def dkwX10_behindUnit_1 : List UInt8 := [180, 0, 83, 42, 180, 1, 130, 4, 100, 46, 16, 6, 163, 0, 68, 42, 180, 0, 83, 42, 180, 1, 130, 4]
abbrev dktX10_behindUnit_1 : List UInt8 := dkwX10_behindUnit_1 ++ dktX10_behindUnit_2
def dkwX10_behindUnit_0 : List UInt8 := [42, 182, 1, 148, 60, 27, 7, 160, 0, 16, 42, 182, 1, 151, 153, 0, 9, 42, 182, 1, 34, 4, 172, 42]
abbrev dktX10_behindUnit_0 : List UInt8 := dkwX10_behindUnit_0 ++ dktX10_behindUnit_1
theorem dksX10_behindUnit_0 : cX10_behindUnit.data.toList.drop 0 = dktX10_behindUnit_0 := by decide +kernel
theorem dksX10_behindUnit_1 : cX10_behindUnit.data.toList.drop 24 = dktX10_behindUnit_1 := dk_seg dksX10_behindUnit_0 24 rfl rfl
theorem dksX10_behindUnit_2 : cX10_behindUnit.data.toList.drop 48 = dktX10_behindUnit_2 := dk_seg dksX10_behindUnit_1 24 rfl rfl
theorem dksX10_behindUnit_3 : cX10_behindUnit.data.toList.drop 72 = dktX10_behindUnit_3 := dk_seg dksX10_behindUnit_2 24 rfl rfl
theorem dksX10_behindUnit_4 : cX10_behindUnit.data.toList.drop 96 = dktX10_behindUnit_4 := dk_seg dksX10_behindUnit_3 24 rfl rfl
theorem dksX10_behindUnit_5 : cX10_behindUnit.data.toList.drop 120 = dktX10_behindUnit_5 := dk_seg dksX10_behindUnit_4 24 rfl rfl
theorem dksX10_behindUnit_6 : cX10_behindUnit.data.toList.drop 142 = dktX10_behindUnit_6 := dk_seg dksX10_behindUnit_5 22 rfl rfl
theorem dksX10_behindUnit_7 : cX10_behindUnit.data.toList.drop 166 = dktX10_behindUnit_7 := dk_seg dksX10_behindUnit_6 24 rfl rfl
theorem dksX10_behindUnit_8 : cX10_behindUnit.data.toList.drop 188 = dktX10_behindUnit_8 := dk_seg dksX10_behindUnit_7 22 rfl rfl
theorem dX10_behindUnit_0 : decode cX10_behindUnit 0 = .ok (.aload_n 0, 1) := dk_42 (dk_at dksX10_behindUnit_0 0 rfl rfl)
theorem dX10_behindUnit_1 : decode cX10_behindUnit 1 = .ok (.invokevirtual 404, 3) := dk_182 1 148 (dk_at dksX10_behindUnit_0 1 rfl rfl)
theorem dX10_behindUnit_4 : decode cX10_behindUnit 4 = .ok (.istore_n 1, 1) := dk_60 (dk_at dksX10_behindUnit_0 4 rfl rfl)
theorem dX10_behindUnit_5 : decode cX10_behindUnit 5 = .ok (.iload_n 1, 1) := dk_27 (dk_at dksX10_behindUnit_0 5 rfl rfl)
theorem dX10_behindUnit_6 : decode cX10_behindUnit 6 = .ok (.iconst 4, 1) := dk_7 (dk_at dksX10_behindUnit_0 6 rfl rfl)
theorem dX10_behindUnit_7 : decode cX10_behindUnit 7 = .ok (.if_icmp .ne 16, 3) := dk_160 0 16 (dk_at dksX10_behindUnit_0 7 rfl rfl)
theorem dX10_behindUnit_10 : decode cX10_behindUnit 10 = .ok (.aload_n 0, 1) := dk_42 (dk_at dksX10_behindUnit_0 10 rfl rfl)
theorem dX10_behindUnit_11 : decode cX10_behindUnit 11 = .ok (.invokevirtual 407, 3) := dk_182 1 151 (dk_at dksX10_behindUnit_0 11 rfl rfl)
theorem dX10_behindUnit_14 : decode cX10_behindUnit 14 = .ok (.ifCond .eq 9, 3) := dk_153 0 9 (dk_at dksX10_behindUnit_0 14 rfl rfl)
theorem dX10_behindUnit_17 : decode cX10_behindUnit 17 = .ok (.aload_n 0, 1) := dk_42 (dk_at dksX10_behindUnit_0 17 rfl rfl)
theorem dX10_behindUnit_18 : decode cX10_behindUnit 18 = .ok (.invokevirtual 290, 3) := dk_182 1 34 (dk_at dksX10_behindUnit_0 18 rfl rfl)
theorem dX10_behindUnit_21 : decode cX10_behindUnit 21 = .ok (.iconst 1, 1) := dk_4 (dk_at dksX10_behindUnit_0 21 rfl rfl)
theorem dX10_behindUnit_22 : decode cX10_behindUnit 22 = .ok (.ireturn, 1) := dk_172 (dk_at dksX10_behindUnit_0 22 rfl rfl)
theorem dX10_behindUnit_23 : decode cX10_behindUnit 23 = .ok (.aload_n 0, 1) := dk_42 (dk_at dksX10_behindUnit_0 23 rfl rfl)
theorem dX10_behindUnit_24 : decode cX10_behindUnit 24 = .ok (.getfield 83, 3) := dk_180 0 83 (dk_at dksX10_behindUnit_1 0 rfl rfl)
theorem dX10_behindUnit_27 : decode cX10_behindUnit 27 = .ok (.aload_n 0, 1) := dk_42 (dk_at dksX10_behindUnit_1 3 rfl rfl)
theorem dX10_behindUnit_28 : decode cX10_behindUnit 28 = .ok (.getfield 386, 3) := dk_180 1 130 (dk_at dksX10_behindUnit_1 4 rfl rfl)
theorem dX10_behindUnit_31 : decode cX10_behindUnit 31 = .ok (.iconst 1, 1) := dk_4 (dk_at dksX10_behindUnit_1 7 rfl rfl)
theorem dX10_behindUnit_32 : decode cX10_behindUnit 32 = .ok (.isub, 1) := dk_100 (dk_at dksX10_behindUnit_1 8 rfl rfl)
theorem dX10_behindUnit_33 : decode cX10_behindUnit 33 = .ok (.iaload, 1) := dk_46 (dk_at dksX10_behindUnit_1 9 rfl rfl)
theorem dX10_behindUnit_34 : decode cX10_behindUnit 34 = .ok (.bipush 6, 2) := dk_16 6 (dk_at dksX10_behindUnit_1 10 rfl rfl)
theorem dX10_behindUnit_36 : decode cX10_behindUnit 36 = .ok (.if_icmp .gt 68, 3) := dk_163 0 68 (dk_at dksX10_behindUnit_1 12 rfl rfl)
theorem dX10_behindUnit_39 : decode cX10_behindUnit 39 = .ok (.aload_n 0, 1) := dk_42 (dk_at dksX10_behindUnit_1 15 rfl rfl)
theorem dX10_behindUnit_40 : decode cX10_behindUnit 40 = .ok (.getfield 83, 3) := dk_180 0 83 (dk_at dksX10_behindUnit_1 16 rfl rfl)
theorem dX10_behindUnit_43 : decode cX10_behindUnit 43 = .ok (.aload_n 0, 1) := dk_42 (dk_at dksX10_behindUnit_1 19 rfl rfl)
theorem dX10_behindUnit_44 : decode cX10_behindUnit 44 = .ok (.getfield 386, 3) := dk_180 1 130 (dk_at dksX10_behindUnit_1 20 rfl rfl)
theorem dX10_behindUnit_47 : decode cX10_behindUnit 47 = .ok (.iconst 1, 1) := dk_4 (dk_at dksX10_behindUnit_1 23 rfl rfl)
theorem dX10_behindUnit_48 : decode cX10_behindUnit 48 = .ok (.isub, 1) := dk_100 (dk_at dksX10_behindUnit_2 0 rfl rfl)
theorem dX10_behindUnit_49 : decode cX10_behindUnit 49 = .ok (.iaload, 1) := dk_46 (dk_at dksX10_behindUnit_2 1 rfl rfl)
theorem dX10_behindUnit_50 : decode cX10_behindUnit 50 = .ok (.iload_n 1, 1) := dk_27 (dk_at dksX10_behindUnit_2 2 rfl rfl)
theorem dX10_behindUnit_51 : decode cX10_behindUnit 51 = .ok (.if_icmp .lt 53, 3) := dk_161 0 53 (dk_at dksX10_behindUnit_2 3 rfl rfl)
theorem dX10_behindUnit_54 : decode cX10_behindUnit 54 = .ok (.aload_n 0, 1) := dk_42 (dk_at dksX10_behindUnit_2 6 rfl rfl)
theorem dX10_behindUnit_55 : decode cX10_behindUnit 55 = .ok (.dup, 1) := dk_89 (dk_at dksX10_behindUnit_2 7 rfl rfl)
theorem dX10_behindUnit_56 : decode cX10_behindUnit 56 = .ok (.getfield 386, 3) := dk_180 1 130 (dk_at dksX10_behindUnit_2 8 rfl rfl)
theorem dX10_behindUnit_59 : decode cX10_behindUnit 59 = .ok (.iconst 1, 1) := dk_4 (dk_at dksX10_behindUnit_2 11 rfl rfl)
theorem dX10_behindUnit_60 : decode cX10_behindUnit 60 = .ok (.isub, 1) := dk_100 (dk_at dksX10_behindUnit_2 12 rfl rfl)
theorem dX10_behindUnit_61 : decode cX10_behindUnit 61 = .ok (.putfield 386, 3) := dk_181 1 130 (dk_at dksX10_behindUnit_2 13 rfl rfl)
theorem dX10_behindUnit_64 : decode cX10_behindUnit 64 = .ok (.aload_n 0, 1) := dk_42 (dk_at dksX10_behindUnit_2 16 rfl rfl)
theorem dX10_behindUnit_65 : decode cX10_behindUnit 65 = .ok (.getfield 83, 3) := dk_180 0 83 (dk_at dksX10_behindUnit_2 17 rfl rfl)
theorem dX10_behindUnit_68 : decode cX10_behindUnit 68 = .ok (.aload_n 0, 1) := dk_42 (dk_at dksX10_behindUnit_2 20 rfl rfl)
theorem dX10_behindUnit_69 : decode cX10_behindUnit 69 = .ok (.getfield 386, 3) := dk_180 1 130 (dk_at dksX10_behindUnit_2 21 rfl rfl)
theorem dX10_behindUnit_72 : decode cX10_behindUnit 72 = .ok (.iaload, 1) := dk_46 (dk_at dksX10_behindUnit_3 0 rfl rfl)
theorem dX10_behindUnit_73 : decode cX10_behindUnit 73 = .ok (.iconst 3, 1) := dk_6 (dk_at dksX10_behindUnit_3 1 rfl rfl)
theorem dX10_behindUnit_74 : decode cX10_behindUnit 74 = .ok (.if_icmp .ne 13, 3) := dk_160 0 13 (dk_at dksX10_behindUnit_3 2 rfl rfl)
theorem dX10_behindUnit_77 : decode cX10_behindUnit 77 = .ok (.aload_n 0, 1) := dk_42 (dk_at dksX10_behindUnit_3 5 rfl rfl)
theorem dX10_behindUnit_78 : decode cX10_behindUnit 78 = .ok (.dup, 1) := dk_89 (dk_at dksX10_behindUnit_3 6 rfl rfl)
theorem dX10_behindUnit_79 : decode cX10_behindUnit 79 = .ok (.getfield 389, 3) := dk_180 1 133 (dk_at dksX10_behindUnit_3 7 rfl rfl)
theorem dX10_behindUnit_82 : decode cX10_behindUnit 82 = .ok (.iconst 1, 1) := dk_4 (dk_at dksX10_behindUnit_3 10 rfl rfl)
theorem dX10_behindUnit_83 : decode cX10_behindUnit 83 = .ok (.isub, 1) := dk_100 (dk_at dksX10_behindUnit_3 11 rfl rfl)
theorem dX10_behindUnit_84 : decode cX10_behindUnit 84 = .ok (.putfield 389, 3) := dk_181 1 133 (dk_at dksX10_behindUnit_3 12 rfl rfl)
theorem dX10_behindUnit_87 : decode cX10_behindUnit 87 = .ok (.aload_n 0, 1) := dk_42 (dk_at dksX10_behindUnit_3 15 rfl rfl)
theorem dX10_behindUnit_88 : decode cX10_behindUnit 88 = .ok (.aload_n 0, 1) := dk_42 (dk_at dksX10_behindUnit_3 16 rfl rfl)
theorem dX10_behindUnit_89 : decode cX10_behindUnit 89 = .ok (.getfield 86, 3) := dk_180 0 86 (dk_at dksX10_behindUnit_3 17 rfl rfl)
theorem dX10_behindUnit_92 : decode cX10_behindUnit 92 = .ok (.aload_n 0, 1) := dk_42 (dk_at dksX10_behindUnit_3 20 rfl rfl)
theorem dX10_behindUnit_93 : decode cX10_behindUnit 93 = .ok (.getfield 386, 3) := dk_180 1 130 (dk_at dksX10_behindUnit_3 21 rfl rfl)
theorem dX10_behindUnit_96 : decode cX10_behindUnit 96 = .ok (.iaload, 1) := dk_46 (dk_at dksX10_behindUnit_4 0 rfl rfl)
theorem dX10_behindUnit_97 : decode cX10_behindUnit 97 = .ok (.iconst 0, 1) := dk_3 (dk_at dksX10_behindUnit_4 1 rfl rfl)
theorem dX10_behindUnit_98 : decode cX10_behindUnit 98 = .ok (.invokevirtual 401, 3) := dk_182 1 145 (dk_at dksX10_behindUnit_4 2 rfl rfl)
theorem dX10_behindUnit_101 : decode cX10_behindUnit 101 = .ok (.goto (-78), 3) := dk_167 255 178 (dk_at dksX10_behindUnit_4 5 rfl rfl)
theorem dX10_behindUnit_104 : decode cX10_behindUnit 104 = .ok (.iload_n 1, 1) := dk_27 (dk_at dksX10_behindUnit_4 8 rfl rfl)
theorem dX10_behindUnit_105 : decode cX10_behindUnit 105 = .ok (.ifCond .le 42, 3) := dk_158 0 42 (dk_at dksX10_behindUnit_4 9 rfl rfl)
theorem dX10_behindUnit_108 : decode cX10_behindUnit 108 = .ok (.aload_n 0, 1) := dk_42 (dk_at dksX10_behindUnit_4 12 rfl rfl)
theorem dX10_behindUnit_109 : decode cX10_behindUnit 109 = .ok (.iload_n 1, 1) := dk_27 (dk_at dksX10_behindUnit_4 13 rfl rfl)
theorem dX10_behindUnit_110 : decode cX10_behindUnit 110 = .ok (.iload_n 1, 1) := dk_27 (dk_at dksX10_behindUnit_4 14 rfl rfl)
theorem dX10_behindUnit_111 : decode cX10_behindUnit 111 = .ok (.iconst 2, 1) := dk_5 (dk_at dksX10_behindUnit_4 15 rfl rfl)
theorem dX10_behindUnit_112 : decode cX10_behindUnit 112 = .ok (.if_icmp .ne 8, 3) := dk_160 0 8 (dk_at dksX10_behindUnit_4 16 rfl rfl)
theorem dX10_behindUnit_115 : decode cX10_behindUnit 115 = .ok (.bipush 38, 2) := dk_16 38 (dk_at dksX10_behindUnit_4 19 rfl rfl)
theorem dX10_behindUnit_117 : decode cX10_behindUnit 117 = .ok (.goto 21, 3) := dk_167 0 21 (dk_at dksX10_behindUnit_4 21 rfl rfl)
theorem dX10_behindUnit_120 : decode cX10_behindUnit 120 = .ok (.iload_n 1, 1) := dk_27 (dk_at dksX10_behindUnit_5 0 rfl rfl)
theorem dX10_behindUnit_121 : decode cX10_behindUnit 121 = .ok (.iconst 1, 1) := dk_4 (dk_at dksX10_behindUnit_5 1 rfl rfl)
theorem dX10_behindUnit_122 : decode cX10_behindUnit 122 = .ok (.if_icmp .ne 8, 3) := dk_160 0 8 (dk_at dksX10_behindUnit_5 2 rfl rfl)
theorem dX10_behindUnit_125 : decode cX10_behindUnit 125 = .ok (.bipush 124, 2) := dk_16 124 (dk_at dksX10_behindUnit_5 5 rfl rfl)
theorem dX10_behindUnit_127 : decode cX10_behindUnit 127 = .ok (.goto 11, 3) := dk_167 0 11 (dk_at dksX10_behindUnit_5 7 rfl rfl)
theorem dX10_behindUnit_130 : decode cX10_behindUnit 130 = .ok (.aload_n 0, 1) := dk_42 (dk_at dksX10_behindUnit_5 10 rfl rfl)
theorem dX10_behindUnit_131 : decode cX10_behindUnit 131 = .ok (.aload_n 0, 1) := dk_42 (dk_at dksX10_behindUnit_5 11 rfl rfl)
theorem dX10_behindUnit_132 : decode cX10_behindUnit 132 = .ok (.getfield 248, 3) := dk_180 0 248 (dk_at dksX10_behindUnit_5 12 rfl rfl)
theorem dX10_behindUnit_135 : decode cX10_behindUnit 135 = .ok (.invokevirtual 251, 3) := dk_182 0 251 (dk_at dksX10_behindUnit_5 15 rfl rfl)
theorem dX10_behindUnit_138 : decode cX10_behindUnit 138 = .ok (.invokevirtual 392, 3) := dk_182 1 136 (dk_at dksX10_behindUnit_5 18 rfl rfl)
theorem dX10_behindUnit_141 : decode cX10_behindUnit 141 = .ok (.aload_n 0, 1) := dk_42 (dk_at dksX10_behindUnit_5 21 rfl rfl)
theorem dX10_behindUnit_142 : decode cX10_behindUnit 142 = .ok (.invokevirtual 287, 3) := dk_182 1 31 (dk_at dksX10_behindUnit_6 0 rfl rfl)
theorem dX10_behindUnit_145 : decode cX10_behindUnit 145 = .ok (.iconst 1, 1) := dk_4 (dk_at dksX10_behindUnit_6 3 rfl rfl)
theorem dX10_behindUnit_146 : decode cX10_behindUnit 146 = .ok (.ireturn, 1) := dk_172 (dk_at dksX10_behindUnit_6 4 rfl rfl)
theorem dX10_behindUnit_147 : decode cX10_behindUnit 147 = .ok (.aload_n 0, 1) := dk_42 (dk_at dksX10_behindUnit_6 5 rfl rfl)
theorem dX10_behindUnit_148 : decode cX10_behindUnit 148 = .ok (.dup, 1) := dk_89 (dk_at dksX10_behindUnit_6 6 rfl rfl)
theorem dX10_behindUnit_149 : decode cX10_behindUnit 149 = .ok (.getfield 386, 3) := dk_180 1 130 (dk_at dksX10_behindUnit_6 7 rfl rfl)
theorem dX10_behindUnit_152 : decode cX10_behindUnit 152 = .ok (.iconst 1, 1) := dk_4 (dk_at dksX10_behindUnit_6 10 rfl rfl)
theorem dX10_behindUnit_153 : decode cX10_behindUnit 153 = .ok (.isub, 1) := dk_100 (dk_at dksX10_behindUnit_6 11 rfl rfl)
theorem dX10_behindUnit_154 : decode cX10_behindUnit 154 = .ok (.putfield 386, 3) := dk_181 1 130 (dk_at dksX10_behindUnit_6 12 rfl rfl)
theorem dX10_behindUnit_157 : decode cX10_behindUnit 157 = .ok (.aload_n 0, 1) := dk_42 (dk_at dksX10_behindUnit_6 15 rfl rfl)
theorem dX10_behindUnit_158 : decode cX10_behindUnit 158 = .ok (.getfield 83, 3) := dk_180 0 83 (dk_at dksX10_behindUnit_6 16 rfl rfl)
theorem dX10_behindUnit_161 : decode cX10_behindUnit 161 = .ok (.aload_n 0, 1) := dk_42 (dk_at dksX10_behindUnit_6 19 rfl rfl)
theorem dX10_behindUnit_162 : decode cX10_behindUnit 162 = .ok (.getfield 386, 3) := dk_180 1 130 (dk_at dksX10_behindUnit_6 20 rfl rfl)
theorem dX10_behindUnit_165 : decode cX10_behindUnit 165 = .ok (.iaload, 1) := dk_46 (dk_at dksX10_behindUnit_6 23 rfl rfl)
theorem dX10_behindUnit_166 : decode cX10_behindUnit 166 = .ok (.bipush 7, 2) := dk_16 7 (dk_at dksX10_behindUnit_7 0 rfl rfl)
theorem dX10_behindUnit_168 : decode cX10_behindUnit 168 = .ok (.if_icmp .ne 23, 3) := dk_160 0 23 (dk_at dksX10_behindUnit_7 2 rfl rfl)
theorem dX10_behindUnit_171 : decode cX10_behindUnit 171 = .ok (.aload_n 0, 1) := dk_42 (dk_at dksX10_behindUnit_7 5 rfl rfl)
theorem dX10_behindUnit_172 : decode cX10_behindUnit 172 = .ok (.dup, 1) := dk_89 (dk_at dksX10_behindUnit_7 6 rfl rfl)
theorem dX10_behindUnit_173 : decode cX10_behindUnit 173 = .ok (.getfield 389, 3) := dk_180 1 133 (dk_at dksX10_behindUnit_7 7 rfl rfl)
theorem dX10_behindUnit_176 : decode cX10_behindUnit 176 = .ok (.iconst 1, 1) := dk_4 (dk_at dksX10_behindUnit_7 10 rfl rfl)
theorem dX10_behindUnit_177 : decode cX10_behindUnit 177 = .ok (.isub, 1) := dk_100 (dk_at dksX10_behindUnit_7 11 rfl rfl)
theorem dX10_behindUnit_178 : decode cX10_behindUnit 178 = .ok (.putfield 389, 3) := dk_181 1 133 (dk_at dksX10_behindUnit_7 12 rfl rfl)
theorem dX10_behindUnit_181 : decode cX10_behindUnit 181 = .ok (.aload_n 0, 1) := dk_42 (dk_at dksX10_behindUnit_7 15 rfl rfl)
theorem dX10_behindUnit_182 : decode cX10_behindUnit 182 = .ok (.aload_n 0, 1) := dk_42 (dk_at dksX10_behindUnit_7 16 rfl rfl)
theorem dX10_behindUnit_183 : decode cX10_behindUnit 183 = .ok (.bipush 41, 2) := dk_16 41 (dk_at dksX10_behindUnit_7 17 rfl rfl)
theorem dX10_behindUnit_185 : decode cX10_behindUnit 185 = .ok (.invokevirtual 347, 3) := dk_182 1 91 (dk_at dksX10_behindUnit_7 19 rfl rfl)
theorem dX10_behindUnit_188 : decode cX10_behindUnit 188 = .ok (.invokevirtual 350, 3) := dk_182 1 94 (dk_at dksX10_behindUnit_8 0 rfl rfl)
theorem dX10_behindUnit_191 : decode cX10_behindUnit 191 = .ok (.iconst 0, 1) := dk_3 (dk_at dksX10_behindUnit_8 3 rfl rfl)
theorem dX10_behindUnit_192 : decode cX10_behindUnit 192 = .ok (.ireturn, 1) := dk_172 (dk_at dksX10_behindUnit_8 4 rfl rfl)
abbrev cX10_rankHere : ByteArray := prog_32_method_37_code
def yX10_rankHere : MethodName := ⟨RX10, "rankHere", "()I"⟩
def dkwX10_rankHere_3 : List UInt8 := [172, 42, 16, 42, 182, 1, 91, 153, 0, 8, 16, 6, 167, 0, 4, 3, 172]
abbrev dktX10_rankHere_3 : List UInt8 := dkwX10_rankHere_3 ++ []
def dkwX10_rankHere_2 : List UInt8 := [153, 0, 5, 7, 172, 42, 16, 43, 182, 1, 91, 154, 0, 12, 42, 16, 45, 182, 1, 91, 153, 0, 5, 8]
abbrev dktX10_rankHere_2 : List UInt8 := dkwX10_rankHere_2 ++ dktX10_rankHere_3
def dkwX10_rankHere_1 : List UInt8 := [42, 16, 60, 182, 1, 91, 154, 0, 21, 42, 16, 62, 182, 1, 91, 154, 0, 12, 42, 16, 61, 182, 1, 91]
abbrev dktX10_rankHere_1 : List UInt8 := dkwX10_rankHere_1 ++ dktX10_rankHere_2
def dkwX10_rankHere_0 : List UInt8 := [42, 20, 0, 239, 182, 1, 68, 153, 0, 5, 5, 172, 42, 20, 0, 241, 182, 1, 68, 153, 0, 5, 4, 172]
abbrev dktX10_rankHere_0 : List UInt8 := dkwX10_rankHere_0 ++ dktX10_rankHere_1
theorem dksX10_rankHere_0 : cX10_rankHere.data.toList.drop 0 = dktX10_rankHere_0 := by decide +kernel
theorem dksX10_rankHere_1 : cX10_rankHere.data.toList.drop 24 = dktX10_rankHere_1 := dk_seg dksX10_rankHere_0 24 rfl rfl
theorem dksX10_rankHere_2 : cX10_rankHere.data.toList.drop 48 = dktX10_rankHere_2 := dk_seg dksX10_rankHere_1 24 rfl rfl
theorem dksX10_rankHere_3 : cX10_rankHere.data.toList.drop 72 = dktX10_rankHere_3 := dk_seg dksX10_rankHere_2 24 rfl rfl
theorem dX10_rankHere_0 : decode cX10_rankHere 0 = .ok (.aload_n 0, 1) := dk_42 (dk_at dksX10_rankHere_0 0 rfl rfl)
theorem dX10_rankHere_1 : decode cX10_rankHere 1 = .ok (.ldc2_w 239, 3) := dk_20 0 239 (dk_at dksX10_rankHere_0 1 rfl rfl)
theorem dX10_rankHere_4 : decode cX10_rankHere 4 = .ok (.invokevirtual 324, 3) := dk_182 1 68 (dk_at dksX10_rankHere_0 4 rfl rfl)
theorem dX10_rankHere_7 : decode cX10_rankHere 7 = .ok (.ifCond .eq 5, 3) := dk_153 0 5 (dk_at dksX10_rankHere_0 7 rfl rfl)
theorem dX10_rankHere_10 : decode cX10_rankHere 10 = .ok (.iconst 2, 1) := dk_5 (dk_at dksX10_rankHere_0 10 rfl rfl)
theorem dX10_rankHere_11 : decode cX10_rankHere 11 = .ok (.ireturn, 1) := dk_172 (dk_at dksX10_rankHere_0 11 rfl rfl)
theorem dX10_rankHere_12 : decode cX10_rankHere 12 = .ok (.aload_n 0, 1) := dk_42 (dk_at dksX10_rankHere_0 12 rfl rfl)
theorem dX10_rankHere_13 : decode cX10_rankHere 13 = .ok (.ldc2_w 241, 3) := dk_20 0 241 (dk_at dksX10_rankHere_0 13 rfl rfl)
theorem dX10_rankHere_16 : decode cX10_rankHere 16 = .ok (.invokevirtual 324, 3) := dk_182 1 68 (dk_at dksX10_rankHere_0 16 rfl rfl)
theorem dX10_rankHere_19 : decode cX10_rankHere 19 = .ok (.ifCond .eq 5, 3) := dk_153 0 5 (dk_at dksX10_rankHere_0 19 rfl rfl)
theorem dX10_rankHere_22 : decode cX10_rankHere 22 = .ok (.iconst 1, 1) := dk_4 (dk_at dksX10_rankHere_0 22 rfl rfl)
theorem dX10_rankHere_23 : decode cX10_rankHere 23 = .ok (.ireturn, 1) := dk_172 (dk_at dksX10_rankHere_0 23 rfl rfl)
theorem dX10_rankHere_24 : decode cX10_rankHere 24 = .ok (.aload_n 0, 1) := dk_42 (dk_at dksX10_rankHere_1 0 rfl rfl)
theorem dX10_rankHere_25 : decode cX10_rankHere 25 = .ok (.bipush 60, 2) := dk_16 60 (dk_at dksX10_rankHere_1 1 rfl rfl)
theorem dX10_rankHere_27 : decode cX10_rankHere 27 = .ok (.invokevirtual 347, 3) := dk_182 1 91 (dk_at dksX10_rankHere_1 3 rfl rfl)
theorem dX10_rankHere_30 : decode cX10_rankHere 30 = .ok (.ifCond .ne 21, 3) := dk_154 0 21 (dk_at dksX10_rankHere_1 6 rfl rfl)
theorem dX10_rankHere_33 : decode cX10_rankHere 33 = .ok (.aload_n 0, 1) := dk_42 (dk_at dksX10_rankHere_1 9 rfl rfl)
theorem dX10_rankHere_34 : decode cX10_rankHere 34 = .ok (.bipush 62, 2) := dk_16 62 (dk_at dksX10_rankHere_1 10 rfl rfl)
theorem dX10_rankHere_36 : decode cX10_rankHere 36 = .ok (.invokevirtual 347, 3) := dk_182 1 91 (dk_at dksX10_rankHere_1 12 rfl rfl)
theorem dX10_rankHere_39 : decode cX10_rankHere 39 = .ok (.ifCond .ne 12, 3) := dk_154 0 12 (dk_at dksX10_rankHere_1 15 rfl rfl)
theorem dX10_rankHere_42 : decode cX10_rankHere 42 = .ok (.aload_n 0, 1) := dk_42 (dk_at dksX10_rankHere_1 18 rfl rfl)
theorem dX10_rankHere_43 : decode cX10_rankHere 43 = .ok (.bipush 61, 2) := dk_16 61 (dk_at dksX10_rankHere_1 19 rfl rfl)
theorem dX10_rankHere_45 : decode cX10_rankHere 45 = .ok (.invokevirtual 347, 3) := dk_182 1 91 (dk_at dksX10_rankHere_1 21 rfl rfl)
theorem dX10_rankHere_48 : decode cX10_rankHere 48 = .ok (.ifCond .eq 5, 3) := dk_153 0 5 (dk_at dksX10_rankHere_2 0 rfl rfl)
theorem dX10_rankHere_51 : decode cX10_rankHere 51 = .ok (.iconst 4, 1) := dk_7 (dk_at dksX10_rankHere_2 3 rfl rfl)
theorem dX10_rankHere_52 : decode cX10_rankHere 52 = .ok (.ireturn, 1) := dk_172 (dk_at dksX10_rankHere_2 4 rfl rfl)
theorem dX10_rankHere_53 : decode cX10_rankHere 53 = .ok (.aload_n 0, 1) := dk_42 (dk_at dksX10_rankHere_2 5 rfl rfl)
theorem dX10_rankHere_54 : decode cX10_rankHere 54 = .ok (.bipush 43, 2) := dk_16 43 (dk_at dksX10_rankHere_2 6 rfl rfl)
theorem dX10_rankHere_56 : decode cX10_rankHere 56 = .ok (.invokevirtual 347, 3) := dk_182 1 91 (dk_at dksX10_rankHere_2 8 rfl rfl)
theorem dX10_rankHere_59 : decode cX10_rankHere 59 = .ok (.ifCond .ne 12, 3) := dk_154 0 12 (dk_at dksX10_rankHere_2 11 rfl rfl)
theorem dX10_rankHere_62 : decode cX10_rankHere 62 = .ok (.aload_n 0, 1) := dk_42 (dk_at dksX10_rankHere_2 14 rfl rfl)
theorem dX10_rankHere_63 : decode cX10_rankHere 63 = .ok (.bipush 45, 2) := dk_16 45 (dk_at dksX10_rankHere_2 15 rfl rfl)
theorem dX10_rankHere_65 : decode cX10_rankHere 65 = .ok (.invokevirtual 347, 3) := dk_182 1 91 (dk_at dksX10_rankHere_2 17 rfl rfl)
theorem dX10_rankHere_68 : decode cX10_rankHere 68 = .ok (.ifCond .eq 5, 3) := dk_153 0 5 (dk_at dksX10_rankHere_2 20 rfl rfl)
theorem dX10_rankHere_71 : decode cX10_rankHere 71 = .ok (.iconst 5, 1) := dk_8 (dk_at dksX10_rankHere_2 23 rfl rfl)
theorem dX10_rankHere_72 : decode cX10_rankHere 72 = .ok (.ireturn, 1) := dk_172 (dk_at dksX10_rankHere_3 0 rfl rfl)
theorem dX10_rankHere_73 : decode cX10_rankHere 73 = .ok (.aload_n 0, 1) := dk_42 (dk_at dksX10_rankHere_3 1 rfl rfl)
theorem dX10_rankHere_74 : decode cX10_rankHere 74 = .ok (.bipush 42, 2) := dk_16 42 (dk_at dksX10_rankHere_3 2 rfl rfl)
theorem dX10_rankHere_76 : decode cX10_rankHere 76 = .ok (.invokevirtual 347, 3) := dk_182 1 91 (dk_at dksX10_rankHere_3 4 rfl rfl)
theorem dX10_rankHere_79 : decode cX10_rankHere 79 = .ok (.ifCond .eq 8, 3) := dk_153 0 8 (dk_at dksX10_rankHere_3 7 rfl rfl)
theorem dX10_rankHere_82 : decode cX10_rankHere 82 = .ok (.bipush 6, 2) := dk_16 6 (dk_at dksX10_rankHere_3 10 rfl rfl)
theorem dX10_rankHere_84 : decode cX10_rankHere 84 = .ok (.goto 4, 3) := dk_167 0 4 (dk_at dksX10_rankHere_3 12 rfl rfl)
theorem dX10_rankHere_87 : decode cX10_rankHere 87 = .ok (.iconst 0, 1) := dk_3 (dk_at dksX10_rankHere_3 15 rfl rfl)
theorem dX10_rankHere_88 : decode cX10_rankHere 88 = .ok (.ireturn, 1) := dk_172 (dk_at dksX10_rankHere_3 16 rfl rfl)
abbrev cX10_isCompared : ByteArray := prog_32_method_38_code
def yX10_isCompared : MethodName := ⟨RX10, "isCompared", "()Z"⟩
def dkwX10_isCompared_2 : List UInt8 := [167, 0, 4, 3, 172]
abbrev dktX10_isCompared_2 : List UInt8 := dkwX10_isCompared_2 ++ []
def dkwX10_isCompared_1 : List UInt8 := [16, 6, 160, 0, 9, 132, 1, 255, 167, 255, 232, 42, 180, 0, 83, 27, 46, 7, 160, 0, 7, 4]
abbrev dktX10_isCompared_1 : List UInt8 := dkwX10_isCompared_1 ++ dktX10_isCompared_2
def dkwX10_isCompared_0 : List UInt8 := [42, 180, 1, 130, 4, 100, 60, 42, 180, 0, 83, 27, 46, 8, 159, 0, 14, 42, 180, 0, 83, 27, 46]
abbrev dktX10_isCompared_0 : List UInt8 := dkwX10_isCompared_0 ++ dktX10_isCompared_1
theorem dksX10_isCompared_0 : cX10_isCompared.data.toList.drop 0 = dktX10_isCompared_0 := by decide +kernel
theorem dksX10_isCompared_1 : cX10_isCompared.data.toList.drop 23 = dktX10_isCompared_1 := dk_seg dksX10_isCompared_0 23 rfl rfl
theorem dksX10_isCompared_2 : cX10_isCompared.data.toList.drop 45 = dktX10_isCompared_2 := dk_seg dksX10_isCompared_1 22 rfl rfl
theorem dX10_isCompared_0 : decode cX10_isCompared 0 = .ok (.aload_n 0, 1) := dk_42 (dk_at dksX10_isCompared_0 0 rfl rfl)
theorem dX10_isCompared_1 : decode cX10_isCompared 1 = .ok (.getfield 386, 3) := dk_180 1 130 (dk_at dksX10_isCompared_0 1 rfl rfl)
theorem dX10_isCompared_4 : decode cX10_isCompared 4 = .ok (.iconst 1, 1) := dk_4 (dk_at dksX10_isCompared_0 4 rfl rfl)
theorem dX10_isCompared_5 : decode cX10_isCompared 5 = .ok (.isub, 1) := dk_100 (dk_at dksX10_isCompared_0 5 rfl rfl)
theorem dX10_isCompared_6 : decode cX10_isCompared 6 = .ok (.istore_n 1, 1) := dk_60 (dk_at dksX10_isCompared_0 6 rfl rfl)
theorem dX10_isCompared_7 : decode cX10_isCompared 7 = .ok (.aload_n 0, 1) := dk_42 (dk_at dksX10_isCompared_0 7 rfl rfl)
theorem dX10_isCompared_8 : decode cX10_isCompared 8 = .ok (.getfield 83, 3) := dk_180 0 83 (dk_at dksX10_isCompared_0 8 rfl rfl)
theorem dX10_isCompared_11 : decode cX10_isCompared 11 = .ok (.iload_n 1, 1) := dk_27 (dk_at dksX10_isCompared_0 11 rfl rfl)
theorem dX10_isCompared_12 : decode cX10_isCompared 12 = .ok (.iaload, 1) := dk_46 (dk_at dksX10_isCompared_0 12 rfl rfl)
theorem dX10_isCompared_13 : decode cX10_isCompared 13 = .ok (.iconst 5, 1) := dk_8 (dk_at dksX10_isCompared_0 13 rfl rfl)
theorem dX10_isCompared_14 : decode cX10_isCompared 14 = .ok (.if_icmp .eq 14, 3) := dk_159 0 14 (dk_at dksX10_isCompared_0 14 rfl rfl)
theorem dX10_isCompared_17 : decode cX10_isCompared 17 = .ok (.aload_n 0, 1) := dk_42 (dk_at dksX10_isCompared_0 17 rfl rfl)
theorem dX10_isCompared_18 : decode cX10_isCompared 18 = .ok (.getfield 83, 3) := dk_180 0 83 (dk_at dksX10_isCompared_0 18 rfl rfl)
theorem dX10_isCompared_21 : decode cX10_isCompared 21 = .ok (.iload_n 1, 1) := dk_27 (dk_at dksX10_isCompared_0 21 rfl rfl)
theorem dX10_isCompared_22 : decode cX10_isCompared 22 = .ok (.iaload, 1) := dk_46 (dk_at dksX10_isCompared_0 22 rfl rfl)
theorem dX10_isCompared_23 : decode cX10_isCompared 23 = .ok (.bipush 6, 2) := dk_16 6 (dk_at dksX10_isCompared_1 0 rfl rfl)
theorem dX10_isCompared_25 : decode cX10_isCompared 25 = .ok (.if_icmp .ne 9, 3) := dk_160 0 9 (dk_at dksX10_isCompared_1 2 rfl rfl)
theorem dX10_isCompared_28 : decode cX10_isCompared 28 = .ok (.iinc 1 (-1), 3) := dk_132 1 255 (dk_at dksX10_isCompared_1 5 rfl rfl)
theorem dX10_isCompared_31 : decode cX10_isCompared 31 = .ok (.goto (-24), 3) := dk_167 255 232 (dk_at dksX10_isCompared_1 8 rfl rfl)
theorem dX10_isCompared_34 : decode cX10_isCompared 34 = .ok (.aload_n 0, 1) := dk_42 (dk_at dksX10_isCompared_1 11 rfl rfl)
theorem dX10_isCompared_35 : decode cX10_isCompared 35 = .ok (.getfield 83, 3) := dk_180 0 83 (dk_at dksX10_isCompared_1 12 rfl rfl)
theorem dX10_isCompared_38 : decode cX10_isCompared 38 = .ok (.iload_n 1, 1) := dk_27 (dk_at dksX10_isCompared_1 15 rfl rfl)
theorem dX10_isCompared_39 : decode cX10_isCompared 39 = .ok (.iaload, 1) := dk_46 (dk_at dksX10_isCompared_1 16 rfl rfl)
theorem dX10_isCompared_40 : decode cX10_isCompared 40 = .ok (.iconst 4, 1) := dk_7 (dk_at dksX10_isCompared_1 17 rfl rfl)
theorem dX10_isCompared_41 : decode cX10_isCompared 41 = .ok (.if_icmp .ne 7, 3) := dk_160 0 7 (dk_at dksX10_isCompared_1 18 rfl rfl)
theorem dX10_isCompared_44 : decode cX10_isCompared 44 = .ok (.iconst 1, 1) := dk_4 (dk_at dksX10_isCompared_1 21 rfl rfl)
theorem dX10_isCompared_45 : decode cX10_isCompared 45 = .ok (.goto 4, 3) := dk_167 0 4 (dk_at dksX10_isCompared_2 0 rfl rfl)
theorem dX10_isCompared_48 : decode cX10_isCompared 48 = .ok (.iconst 0, 1) := dk_3 (dk_at dksX10_isCompared_2 3 rfl rfl)
theorem dX10_isCompared_49 : decode cX10_isCompared 49 = .ok (.ireturn, 1) := dk_172 (dk_at dksX10_isCompared_2 4 rfl rfl)
abbrev cX10_must : ByteArray := prog_32_method_13_code
def yX10_must : MethodName := ⟨RX10, "must", "(Z)V"⟩
def dkwX10_must_0 : List UInt8 := [42, 182, 1, 27, 154, 0, 4, 177, 27, 153, 0, 10, 42, 182, 1, 31, 167, 0, 7, 42, 182, 1, 34, 177]
abbrev dktX10_must_0 : List UInt8 := dkwX10_must_0 ++ []
theorem dksX10_must_0 : cX10_must.data.toList.drop 0 = dktX10_must_0 := by decide +kernel
theorem dX10_must_0 : decode cX10_must 0 = .ok (.aload_n 0, 1) := dk_42 (dk_at dksX10_must_0 0 rfl rfl)
theorem dX10_must_1 : decode cX10_must 1 = .ok (.invokevirtual 283, 3) := dk_182 1 27 (dk_at dksX10_must_0 1 rfl rfl)
theorem dX10_must_4 : decode cX10_must 4 = .ok (.ifCond .ne 4, 3) := dk_154 0 4 (dk_at dksX10_must_0 4 rfl rfl)
theorem dX10_must_7 : decode cX10_must 7 = .ok (.return_, 1) := dk_177 (dk_at dksX10_must_0 7 rfl rfl)
theorem dX10_must_8 : decode cX10_must 8 = .ok (.iload_n 1, 1) := dk_27 (dk_at dksX10_must_0 8 rfl rfl)
theorem dX10_must_9 : decode cX10_must 9 = .ok (.ifCond .eq 10, 3) := dk_153 0 10 (dk_at dksX10_must_0 9 rfl rfl)
theorem dX10_must_12 : decode cX10_must 12 = .ok (.aload_n 0, 1) := dk_42 (dk_at dksX10_must_0 12 rfl rfl)
theorem dX10_must_13 : decode cX10_must 13 = .ok (.invokevirtual 287, 3) := dk_182 1 31 (dk_at dksX10_must_0 13 rfl rfl)
theorem dX10_must_16 : decode cX10_must 16 = .ok (.goto 7, 3) := dk_167 0 7 (dk_at dksX10_must_0 16 rfl rfl)
theorem dX10_must_19 : decode cX10_must 19 = .ok (.aload_n 0, 1) := dk_42 (dk_at dksX10_must_0 19 rfl rfl)
theorem dX10_must_20 : decode cX10_must 20 = .ok (.invokevirtual 290, 3) := dk_182 1 34 (dk_at dksX10_must_0 20 rfl rfl)
theorem dX10_must_23 : decode cX10_must 23 = .ok (.return_, 1) := dk_177 (dk_at dksX10_must_0 23 rfl rfl)
abbrev cX10_readMay : ByteArray := prog_32_method_22_code
def yX10_readMay : MethodName := ⟨RX10, "readMay", "()V"⟩
def dkwX10_readMay_7 : List UInt8 := [167, 0, 16, 42, 180, 0, 27, 42, 180, 1, 40, 92, 46, 4, 96, 79, 177]
abbrev dktX10_readMay_7 : List UInt8 := dkwX10_readMay_7 ++ []
def dkwX10_readMay_6 : List UInt8 := [167, 0, 4, 28, 182, 1, 105, 29, 153, 0, 19, 42, 180, 0, 30, 42, 180, 1, 40, 92, 46, 4, 96, 79]
abbrev dktX10_readMay_6 : List UInt8 := dkwX10_readMay_6 ++ dktX10_readMay_7
def dkwX10_readMay_5 : List UInt8 := [16, 40, 42, 180, 0, 27, 42, 180, 1, 40, 46, 96, 96, 54, 4, 42, 21, 4, 29, 153, 0, 8, 16, 8]
abbrev dktX10_readMay_5 : List UInt8 := dkwX10_readMay_5 ++ dktX10_readMay_6
def dkwX10_readMay_4 : List UInt8 := [180, 1, 40, 104, 29, 153, 0, 18, 16, 48, 42, 180, 0, 30, 42, 180, 1, 40, 46, 96, 167, 0, 15]
abbrev dktX10_readMay_4 : List UInt8 := dkwX10_readMay_4 ++ dktX10_readMay_5
def dkwX10_readMay_3 : List UInt8 := [154, 0, 7, 42, 182, 1, 34, 42, 182, 1, 27, 154, 0, 4, 177, 42, 182, 1, 31, 16, 52, 42]
abbrev dktX10_readMay_3 : List UInt8 := dkwX10_readMay_3 ++ dktX10_readMay_4
def dkwX10_readMay_2 : List UInt8 := [180, 0, 30, 42, 180, 1, 40, 46, 7, 160, 0, 9, 42, 5, 27, 182, 1, 23, 28, 156, 0, 11, 29]
abbrev dktX10_readMay_2 : List UInt8 := dkwX10_readMay_2 ++ dktX10_readMay_3
def dkwX10_readMay_1 : List UInt8 := [155, 0, 17, 42, 180, 0, 27, 42, 180, 1, 40, 46, 16, 8, 159, 0, 20, 29, 153, 0, 22, 42]
abbrev dktX10_readMay_1 : List UInt8 := dkwX10_readMay_1 ++ dktX10_readMay_2
def dkwX10_readMay_0 : List UInt8 := [42, 180, 0, 248, 60, 42, 182, 1, 31, 42, 182, 1, 71, 61, 42, 20, 0, 199, 182, 1, 68, 62, 28]
abbrev dktX10_readMay_0 : List UInt8 := dkwX10_readMay_0 ++ dktX10_readMay_1
theorem dksX10_readMay_0 : cX10_readMay.data.toList.drop 0 = dktX10_readMay_0 := by decide +kernel
theorem dksX10_readMay_1 : cX10_readMay.data.toList.drop 23 = dktX10_readMay_1 := dk_seg dksX10_readMay_0 23 rfl rfl
theorem dksX10_readMay_2 : cX10_readMay.data.toList.drop 45 = dktX10_readMay_2 := dk_seg dksX10_readMay_1 22 rfl rfl
theorem dksX10_readMay_3 : cX10_readMay.data.toList.drop 68 = dktX10_readMay_3 := dk_seg dksX10_readMay_2 23 rfl rfl
theorem dksX10_readMay_4 : cX10_readMay.data.toList.drop 90 = dktX10_readMay_4 := dk_seg dksX10_readMay_3 22 rfl rfl
theorem dksX10_readMay_5 : cX10_readMay.data.toList.drop 113 = dktX10_readMay_5 := dk_seg dksX10_readMay_4 23 rfl rfl
theorem dksX10_readMay_6 : cX10_readMay.data.toList.drop 137 = dktX10_readMay_6 := dk_seg dksX10_readMay_5 24 rfl rfl
theorem dksX10_readMay_7 : cX10_readMay.data.toList.drop 161 = dktX10_readMay_7 := dk_seg dksX10_readMay_6 24 rfl rfl
theorem dX10_readMay_0 : decode cX10_readMay 0 = .ok (.aload_n 0, 1) := dk_42 (dk_at dksX10_readMay_0 0 rfl rfl)
theorem dX10_readMay_1 : decode cX10_readMay 1 = .ok (.getfield 248, 3) := dk_180 0 248 (dk_at dksX10_readMay_0 1 rfl rfl)
theorem dX10_readMay_4 : decode cX10_readMay 4 = .ok (.istore_n 1, 1) := dk_60 (dk_at dksX10_readMay_0 4 rfl rfl)
theorem dX10_readMay_5 : decode cX10_readMay 5 = .ok (.aload_n 0, 1) := dk_42 (dk_at dksX10_readMay_0 5 rfl rfl)
theorem dX10_readMay_6 : decode cX10_readMay 6 = .ok (.invokevirtual 287, 3) := dk_182 1 31 (dk_at dksX10_readMay_0 6 rfl rfl)
theorem dX10_readMay_9 : decode cX10_readMay 9 = .ok (.aload_n 0, 1) := dk_42 (dk_at dksX10_readMay_0 9 rfl rfl)
theorem dX10_readMay_10 : decode cX10_readMay 10 = .ok (.invokevirtual 327, 3) := dk_182 1 71 (dk_at dksX10_readMay_0 10 rfl rfl)
theorem dX10_readMay_13 : decode cX10_readMay 13 = .ok (.istore_n 2, 1) := dk_61 (dk_at dksX10_readMay_0 13 rfl rfl)
theorem dX10_readMay_14 : decode cX10_readMay 14 = .ok (.aload_n 0, 1) := dk_42 (dk_at dksX10_readMay_0 14 rfl rfl)
theorem dX10_readMay_15 : decode cX10_readMay 15 = .ok (.ldc2_w 199, 3) := dk_20 0 199 (dk_at dksX10_readMay_0 15 rfl rfl)
theorem dX10_readMay_18 : decode cX10_readMay 18 = .ok (.invokevirtual 324, 3) := dk_182 1 68 (dk_at dksX10_readMay_0 18 rfl rfl)
theorem dX10_readMay_21 : decode cX10_readMay 21 = .ok (.istore_n 3, 1) := dk_62 (dk_at dksX10_readMay_0 21 rfl rfl)
theorem dX10_readMay_22 : decode cX10_readMay 22 = .ok (.iload_n 2, 1) := dk_28 (dk_at dksX10_readMay_0 22 rfl rfl)
theorem dX10_readMay_23 : decode cX10_readMay 23 = .ok (.ifCond .lt 17, 3) := dk_155 0 17 (dk_at dksX10_readMay_1 0 rfl rfl)
theorem dX10_readMay_26 : decode cX10_readMay 26 = .ok (.aload_n 0, 1) := dk_42 (dk_at dksX10_readMay_1 3 rfl rfl)
theorem dX10_readMay_27 : decode cX10_readMay 27 = .ok (.getfield 27, 3) := dk_180 0 27 (dk_at dksX10_readMay_1 4 rfl rfl)
theorem dX10_readMay_30 : decode cX10_readMay 30 = .ok (.aload_n 0, 1) := dk_42 (dk_at dksX10_readMay_1 7 rfl rfl)
theorem dX10_readMay_31 : decode cX10_readMay 31 = .ok (.getfield 296, 3) := dk_180 1 40 (dk_at dksX10_readMay_1 8 rfl rfl)
theorem dX10_readMay_34 : decode cX10_readMay 34 = .ok (.iaload, 1) := dk_46 (dk_at dksX10_readMay_1 11 rfl rfl)
theorem dX10_readMay_35 : decode cX10_readMay 35 = .ok (.bipush 8, 2) := dk_16 8 (dk_at dksX10_readMay_1 12 rfl rfl)
theorem dX10_readMay_37 : decode cX10_readMay 37 = .ok (.if_icmp .eq 20, 3) := dk_159 0 20 (dk_at dksX10_readMay_1 14 rfl rfl)
theorem dX10_readMay_40 : decode cX10_readMay 40 = .ok (.iload_n 3, 1) := dk_29 (dk_at dksX10_readMay_1 17 rfl rfl)
theorem dX10_readMay_41 : decode cX10_readMay 41 = .ok (.ifCond .eq 22, 3) := dk_153 0 22 (dk_at dksX10_readMay_1 18 rfl rfl)
theorem dX10_readMay_44 : decode cX10_readMay 44 = .ok (.aload_n 0, 1) := dk_42 (dk_at dksX10_readMay_1 21 rfl rfl)
theorem dX10_readMay_45 : decode cX10_readMay 45 = .ok (.getfield 30, 3) := dk_180 0 30 (dk_at dksX10_readMay_2 0 rfl rfl)
theorem dX10_readMay_48 : decode cX10_readMay 48 = .ok (.aload_n 0, 1) := dk_42 (dk_at dksX10_readMay_2 3 rfl rfl)
theorem dX10_readMay_49 : decode cX10_readMay 49 = .ok (.getfield 296, 3) := dk_180 1 40 (dk_at dksX10_readMay_2 4 rfl rfl)
theorem dX10_readMay_52 : decode cX10_readMay 52 = .ok (.iaload, 1) := dk_46 (dk_at dksX10_readMay_2 7 rfl rfl)
theorem dX10_readMay_53 : decode cX10_readMay 53 = .ok (.iconst 4, 1) := dk_7 (dk_at dksX10_readMay_2 8 rfl rfl)
theorem dX10_readMay_54 : decode cX10_readMay 54 = .ok (.if_icmp .ne 9, 3) := dk_160 0 9 (dk_at dksX10_readMay_2 9 rfl rfl)
theorem dX10_readMay_57 : decode cX10_readMay 57 = .ok (.aload_n 0, 1) := dk_42 (dk_at dksX10_readMay_2 12 rfl rfl)
theorem dX10_readMay_58 : decode cX10_readMay 58 = .ok (.iconst 2, 1) := dk_5 (dk_at dksX10_readMay_2 13 rfl rfl)
theorem dX10_readMay_59 : decode cX10_readMay 59 = .ok (.iload_n 1, 1) := dk_27 (dk_at dksX10_readMay_2 14 rfl rfl)
theorem dX10_readMay_60 : decode cX10_readMay 60 = .ok (.invokevirtual 279, 3) := dk_182 1 23 (dk_at dksX10_readMay_2 15 rfl rfl)
theorem dX10_readMay_63 : decode cX10_readMay 63 = .ok (.iload_n 2, 1) := dk_28 (dk_at dksX10_readMay_2 18 rfl rfl)
theorem dX10_readMay_64 : decode cX10_readMay 64 = .ok (.ifCond .ge 11, 3) := dk_156 0 11 (dk_at dksX10_readMay_2 19 rfl rfl)
theorem dX10_readMay_67 : decode cX10_readMay 67 = .ok (.iload_n 3, 1) := dk_29 (dk_at dksX10_readMay_2 22 rfl rfl)
theorem dX10_readMay_68 : decode cX10_readMay 68 = .ok (.ifCond .ne 7, 3) := dk_154 0 7 (dk_at dksX10_readMay_3 0 rfl rfl)
theorem dX10_readMay_71 : decode cX10_readMay 71 = .ok (.aload_n 0, 1) := dk_42 (dk_at dksX10_readMay_3 3 rfl rfl)
theorem dX10_readMay_72 : decode cX10_readMay 72 = .ok (.invokevirtual 290, 3) := dk_182 1 34 (dk_at dksX10_readMay_3 4 rfl rfl)
theorem dX10_readMay_75 : decode cX10_readMay 75 = .ok (.aload_n 0, 1) := dk_42 (dk_at dksX10_readMay_3 7 rfl rfl)
theorem dX10_readMay_76 : decode cX10_readMay 76 = .ok (.invokevirtual 283, 3) := dk_182 1 27 (dk_at dksX10_readMay_3 8 rfl rfl)
theorem dX10_readMay_79 : decode cX10_readMay 79 = .ok (.ifCond .ne 4, 3) := dk_154 0 4 (dk_at dksX10_readMay_3 11 rfl rfl)
theorem dX10_readMay_82 : decode cX10_readMay 82 = .ok (.return_, 1) := dk_177 (dk_at dksX10_readMay_3 14 rfl rfl)
theorem dX10_readMay_83 : decode cX10_readMay 83 = .ok (.aload_n 0, 1) := dk_42 (dk_at dksX10_readMay_3 15 rfl rfl)
theorem dX10_readMay_84 : decode cX10_readMay 84 = .ok (.invokevirtual 287, 3) := dk_182 1 31 (dk_at dksX10_readMay_3 16 rfl rfl)
theorem dX10_readMay_87 : decode cX10_readMay 87 = .ok (.bipush 52, 2) := dk_16 52 (dk_at dksX10_readMay_3 19 rfl rfl)
theorem dX10_readMay_89 : decode cX10_readMay 89 = .ok (.aload_n 0, 1) := dk_42 (dk_at dksX10_readMay_3 21 rfl rfl)
theorem dX10_readMay_90 : decode cX10_readMay 90 = .ok (.getfield 296, 3) := dk_180 1 40 (dk_at dksX10_readMay_4 0 rfl rfl)
theorem dX10_readMay_93 : decode cX10_readMay 93 = .ok (.imul, 1) := dk_104 (dk_at dksX10_readMay_4 3 rfl rfl)
theorem dX10_readMay_94 : decode cX10_readMay 94 = .ok (.iload_n 3, 1) := dk_29 (dk_at dksX10_readMay_4 4 rfl rfl)
theorem dX10_readMay_95 : decode cX10_readMay 95 = .ok (.ifCond .eq 18, 3) := dk_153 0 18 (dk_at dksX10_readMay_4 5 rfl rfl)
theorem dX10_readMay_98 : decode cX10_readMay 98 = .ok (.bipush 48, 2) := dk_16 48 (dk_at dksX10_readMay_4 8 rfl rfl)
theorem dX10_readMay_100 : decode cX10_readMay 100 = .ok (.aload_n 0, 1) := dk_42 (dk_at dksX10_readMay_4 10 rfl rfl)
theorem dX10_readMay_101 : decode cX10_readMay 101 = .ok (.getfield 30, 3) := dk_180 0 30 (dk_at dksX10_readMay_4 11 rfl rfl)
theorem dX10_readMay_104 : decode cX10_readMay 104 = .ok (.aload_n 0, 1) := dk_42 (dk_at dksX10_readMay_4 14 rfl rfl)
theorem dX10_readMay_105 : decode cX10_readMay 105 = .ok (.getfield 296, 3) := dk_180 1 40 (dk_at dksX10_readMay_4 15 rfl rfl)
theorem dX10_readMay_108 : decode cX10_readMay 108 = .ok (.iaload, 1) := dk_46 (dk_at dksX10_readMay_4 18 rfl rfl)
theorem dX10_readMay_109 : decode cX10_readMay 109 = .ok (.iadd, 1) := dk_96 (dk_at dksX10_readMay_4 19 rfl rfl)
theorem dX10_readMay_110 : decode cX10_readMay 110 = .ok (.goto 15, 3) := dk_167 0 15 (dk_at dksX10_readMay_4 20 rfl rfl)
theorem dX10_readMay_113 : decode cX10_readMay 113 = .ok (.bipush 40, 2) := dk_16 40 (dk_at dksX10_readMay_5 0 rfl rfl)
theorem dX10_readMay_115 : decode cX10_readMay 115 = .ok (.aload_n 0, 1) := dk_42 (dk_at dksX10_readMay_5 2 rfl rfl)
theorem dX10_readMay_116 : decode cX10_readMay 116 = .ok (.getfield 27, 3) := dk_180 0 27 (dk_at dksX10_readMay_5 3 rfl rfl)
theorem dX10_readMay_119 : decode cX10_readMay 119 = .ok (.aload_n 0, 1) := dk_42 (dk_at dksX10_readMay_5 6 rfl rfl)
theorem dX10_readMay_120 : decode cX10_readMay 120 = .ok (.getfield 296, 3) := dk_180 1 40 (dk_at dksX10_readMay_5 7 rfl rfl)
theorem dX10_readMay_123 : decode cX10_readMay 123 = .ok (.iaload, 1) := dk_46 (dk_at dksX10_readMay_5 10 rfl rfl)
theorem dX10_readMay_124 : decode cX10_readMay 124 = .ok (.iadd, 1) := dk_96 (dk_at dksX10_readMay_5 11 rfl rfl)
theorem dX10_readMay_125 : decode cX10_readMay 125 = .ok (.iadd, 1) := dk_96 (dk_at dksX10_readMay_5 12 rfl rfl)
theorem dX10_readMay_126 : decode cX10_readMay 126 = .ok (.istore 4, 2) := dk_54 4 (dk_at dksX10_readMay_5 13 rfl rfl)
theorem dX10_readMay_128 : decode cX10_readMay 128 = .ok (.aload_n 0, 1) := dk_42 (dk_at dksX10_readMay_5 15 rfl rfl)
theorem dX10_readMay_129 : decode cX10_readMay 129 = .ok (.iload 4, 2) := dk_21 4 (dk_at dksX10_readMay_5 16 rfl rfl)
theorem dX10_readMay_131 : decode cX10_readMay 131 = .ok (.iload_n 3, 1) := dk_29 (dk_at dksX10_readMay_5 18 rfl rfl)
theorem dX10_readMay_132 : decode cX10_readMay 132 = .ok (.ifCond .eq 8, 3) := dk_153 0 8 (dk_at dksX10_readMay_5 19 rfl rfl)
theorem dX10_readMay_135 : decode cX10_readMay 135 = .ok (.bipush 8, 2) := dk_16 8 (dk_at dksX10_readMay_5 22 rfl rfl)
theorem dX10_readMay_137 : decode cX10_readMay 137 = .ok (.goto 4, 3) := dk_167 0 4 (dk_at dksX10_readMay_6 0 rfl rfl)
theorem dX10_readMay_140 : decode cX10_readMay 140 = .ok (.iload_n 2, 1) := dk_28 (dk_at dksX10_readMay_6 3 rfl rfl)
theorem dX10_readMay_141 : decode cX10_readMay 141 = .ok (.invokevirtual 361, 3) := dk_182 1 105 (dk_at dksX10_readMay_6 4 rfl rfl)
theorem dX10_readMay_144 : decode cX10_readMay 144 = .ok (.iload_n 3, 1) := dk_29 (dk_at dksX10_readMay_6 7 rfl rfl)
theorem dX10_readMay_145 : decode cX10_readMay 145 = .ok (.ifCond .eq 19, 3) := dk_153 0 19 (dk_at dksX10_readMay_6 8 rfl rfl)
theorem dX10_readMay_148 : decode cX10_readMay 148 = .ok (.aload_n 0, 1) := dk_42 (dk_at dksX10_readMay_6 11 rfl rfl)
theorem dX10_readMay_149 : decode cX10_readMay 149 = .ok (.getfield 30, 3) := dk_180 0 30 (dk_at dksX10_readMay_6 12 rfl rfl)
theorem dX10_readMay_152 : decode cX10_readMay 152 = .ok (.aload_n 0, 1) := dk_42 (dk_at dksX10_readMay_6 15 rfl rfl)
theorem dX10_readMay_153 : decode cX10_readMay 153 = .ok (.getfield 296, 3) := dk_180 1 40 (dk_at dksX10_readMay_6 16 rfl rfl)
theorem dX10_readMay_156 : decode cX10_readMay 156 = .ok (.dup2, 1) := dk_92 (dk_at dksX10_readMay_6 19 rfl rfl)
theorem dX10_readMay_157 : decode cX10_readMay 157 = .ok (.iaload, 1) := dk_46 (dk_at dksX10_readMay_6 20 rfl rfl)
theorem dX10_readMay_158 : decode cX10_readMay 158 = .ok (.iconst 1, 1) := dk_4 (dk_at dksX10_readMay_6 21 rfl rfl)
theorem dX10_readMay_159 : decode cX10_readMay 159 = .ok (.iadd, 1) := dk_96 (dk_at dksX10_readMay_6 22 rfl rfl)
theorem dX10_readMay_160 : decode cX10_readMay 160 = .ok (.iastore, 1) := dk_79 (dk_at dksX10_readMay_6 23 rfl rfl)
theorem dX10_readMay_161 : decode cX10_readMay 161 = .ok (.goto 16, 3) := dk_167 0 16 (dk_at dksX10_readMay_7 0 rfl rfl)
theorem dX10_readMay_164 : decode cX10_readMay 164 = .ok (.aload_n 0, 1) := dk_42 (dk_at dksX10_readMay_7 3 rfl rfl)
theorem dX10_readMay_165 : decode cX10_readMay 165 = .ok (.getfield 27, 3) := dk_180 0 27 (dk_at dksX10_readMay_7 4 rfl rfl)
theorem dX10_readMay_168 : decode cX10_readMay 168 = .ok (.aload_n 0, 1) := dk_42 (dk_at dksX10_readMay_7 7 rfl rfl)
theorem dX10_readMay_169 : decode cX10_readMay 169 = .ok (.getfield 296, 3) := dk_180 1 40 (dk_at dksX10_readMay_7 8 rfl rfl)
theorem dX10_readMay_172 : decode cX10_readMay 172 = .ok (.dup2, 1) := dk_92 (dk_at dksX10_readMay_7 11 rfl rfl)
theorem dX10_readMay_173 : decode cX10_readMay 173 = .ok (.iaload, 1) := dk_46 (dk_at dksX10_readMay_7 12 rfl rfl)
theorem dX10_readMay_174 : decode cX10_readMay 174 = .ok (.iconst 1, 1) := dk_4 (dk_at dksX10_readMay_7 13 rfl rfl)
theorem dX10_readMay_175 : decode cX10_readMay 175 = .ok (.iadd, 1) := dk_96 (dk_at dksX10_readMay_7 14 rfl rfl)
theorem dX10_readMay_176 : decode cX10_readMay 176 = .ok (.iastore, 1) := dk_79 (dk_at dksX10_readMay_7 15 rfl rfl)
theorem dX10_readMay_177 : decode cX10_readMay 177 = .ok (.return_, 1) := dk_177 (dk_at dksX10_readMay_7 16 rfl rfl)
abbrev cX10_readMove : ByteArray := prog_32_method_30_code
def yX10_readMove : MethodName := ⟨RX10, "readMove", "(II)V"⟩
def dkwX10_readMove_11 : List UInt8 := [42, 182, 1, 27, 153, 0, 17, 21, 4, 154, 0, 12, 42, 7, 42, 180, 1, 37, 182, 1, 23, 177]
abbrev dktX10_readMove_11 : List UInt8 := dkwX10_readMove_11 ++ []
def dkwX10_readMove_10 : List UInt8 := [167, 0, 22, 3, 167, 0, 18, 29, 4, 164, 0, 12, 29, 8, 162, 0, 7, 4, 167, 0, 4, 3, 54, 4]
abbrev dktX10_readMove_10 : List UInt8 := dkwX10_readMove_10 ++ dktX10_readMove_11
def dkwX10_readMove_9 : List UInt8 := [42, 180, 0, 61, 27, 46, 112, 154, 0, 19, 29, 42, 180, 0, 61, 27, 46, 108, 4, 164, 0, 7, 4]
abbrev dktX10_readMove_9 : List UInt8 := dkwX10_readMove_9 ++ dktX10_readMove_10
def dkwX10_readMove_8 : List UInt8 := [164, 0, 13, 29, 5, 112, 154, 0, 7, 4, 167, 0, 59, 3, 167, 0, 55, 28, 16, 6, 160, 0, 34, 29]
abbrev dktX10_readMove_8 : List UInt8 := dkwX10_readMove_8 ++ dktX10_readMove_9
def dkwX10_readMove_7 : List UInt8 := [160, 0, 16, 29, 4, 164, 0, 7, 4, 167, 0, 83, 3, 167, 0, 79, 28, 8, 160, 0, 22, 29, 4]
abbrev dktX10_readMove_7 : List UInt8 := dkwX10_readMove_7 ++ dktX10_readMove_8
def dkwX10_readMove_6 : List UInt8 := [182, 1, 98, 79, 42, 180, 0, 58, 27, 46, 42, 180, 0, 55, 27, 46, 100, 4, 96, 62, 28, 7]
abbrev dktX10_readMove_6 : List UInt8 := dkwX10_readMove_6 ++ dktX10_readMove_7
def dkwX10_readMove_5 : List UInt8 := [182, 1, 98, 79, 42, 42, 20, 0, 227, 182, 1, 68, 182, 1, 94, 42, 180, 0, 58, 27, 42, 3, 16, 7]
abbrev dktX10_readMove_5 : List UInt8 := dkwX10_readMove_5 ++ dktX10_readMove_6
def dkwX10_readMove_4 : List UInt8 := [182, 1, 98, 79, 42, 42, 20, 0, 233, 182, 1, 68, 182, 1, 94, 42, 180, 0, 55, 27, 42, 3, 16, 7]
abbrev dktX10_readMove_4 : List UInt8 := dkwX10_readMove_4 ++ dktX10_readMove_5
def dkwX10_readMove_3 : List UInt8 := [167, 0, 209, 42, 180, 0, 61, 27, 4, 79, 28, 16, 6, 160, 0, 26, 42, 180, 0, 61, 27, 42, 4, 7]
abbrev dktX10_readMove_3 : List UInt8 := dkwX10_readMove_3 ++ dktX10_readMove_4
def dkwX10_readMove_2 : List UInt8 := [42, 3, 16, 7, 182, 1, 98, 79, 42, 180, 0, 58, 27, 42, 42, 180, 0, 55, 27, 46, 182, 1, 123, 79]
abbrev dktX10_readMove_2 : List UInt8 := dkwX10_readMove_2 ++ dktX10_readMove_3
def dkwX10_readMove_1 : List UInt8 := [160, 0, 7, 4, 167, 0, 4, 3, 182, 1, 126, 167, 0, 246, 28, 5, 160, 0, 35, 42, 180, 0, 55, 27]
abbrev dktX10_readMove_1 : List UInt8 := dkwX10_readMove_1 ++ dktX10_readMove_2
def dkwX10_readMove_0 : List UInt8 := [42, 180, 0, 52, 27, 28, 79, 28, 6, 159, 0, 9, 28, 16, 8, 160, 0, 21, 42, 27, 28, 6]
abbrev dktX10_readMove_0 : List UInt8 := dkwX10_readMove_0 ++ dktX10_readMove_1
theorem dksX10_readMove_0 : cX10_readMove.data.toList.drop 0 = dktX10_readMove_0 := by decide +kernel
theorem dksX10_readMove_1 : cX10_readMove.data.toList.drop 22 = dktX10_readMove_1 := dk_seg dksX10_readMove_0 22 rfl rfl
theorem dksX10_readMove_2 : cX10_readMove.data.toList.drop 46 = dktX10_readMove_2 := dk_seg dksX10_readMove_1 24 rfl rfl
theorem dksX10_readMove_3 : cX10_readMove.data.toList.drop 70 = dktX10_readMove_3 := dk_seg dksX10_readMove_2 24 rfl rfl
theorem dksX10_readMove_4 : cX10_readMove.data.toList.drop 94 = dktX10_readMove_4 := dk_seg dksX10_readMove_3 24 rfl rfl
theorem dksX10_readMove_5 : cX10_readMove.data.toList.drop 118 = dktX10_readMove_5 := dk_seg dksX10_readMove_4 24 rfl rfl
theorem dksX10_readMove_6 : cX10_readMove.data.toList.drop 142 = dktX10_readMove_6 := dk_seg dksX10_readMove_5 24 rfl rfl
theorem dksX10_readMove_7 : cX10_readMove.data.toList.drop 164 = dktX10_readMove_7 := dk_seg dksX10_readMove_6 22 rfl rfl
theorem dksX10_readMove_8 : cX10_readMove.data.toList.drop 187 = dktX10_readMove_8 := dk_seg dksX10_readMove_7 23 rfl rfl
theorem dksX10_readMove_9 : cX10_readMove.data.toList.drop 211 = dktX10_readMove_9 := dk_seg dksX10_readMove_8 24 rfl rfl
theorem dksX10_readMove_10 : cX10_readMove.data.toList.drop 234 = dktX10_readMove_10 := dk_seg dksX10_readMove_9 23 rfl rfl
theorem dksX10_readMove_11 : cX10_readMove.data.toList.drop 258 = dktX10_readMove_11 := dk_seg dksX10_readMove_10 24 rfl rfl
theorem dX10_readMove_0 : decode cX10_readMove 0 = .ok (.aload_n 0, 1) := dk_42 (dk_at dksX10_readMove_0 0 rfl rfl)
theorem dX10_readMove_1 : decode cX10_readMove 1 = .ok (.getfield 52, 3) := dk_180 0 52 (dk_at dksX10_readMove_0 1 rfl rfl)
theorem dX10_readMove_4 : decode cX10_readMove 4 = .ok (.iload_n 1, 1) := dk_27 (dk_at dksX10_readMove_0 4 rfl rfl)
theorem dX10_readMove_5 : decode cX10_readMove 5 = .ok (.iload_n 2, 1) := dk_28 (dk_at dksX10_readMove_0 5 rfl rfl)
theorem dX10_readMove_6 : decode cX10_readMove 6 = .ok (.iastore, 1) := dk_79 (dk_at dksX10_readMove_0 6 rfl rfl)
theorem dX10_readMove_7 : decode cX10_readMove 7 = .ok (.iload_n 2, 1) := dk_28 (dk_at dksX10_readMove_0 7 rfl rfl)
theorem dX10_readMove_8 : decode cX10_readMove 8 = .ok (.iconst 3, 1) := dk_6 (dk_at dksX10_readMove_0 8 rfl rfl)
theorem dX10_readMove_9 : decode cX10_readMove 9 = .ok (.if_icmp .eq 9, 3) := dk_159 0 9 (dk_at dksX10_readMove_0 9 rfl rfl)
theorem dX10_readMove_12 : decode cX10_readMove 12 = .ok (.iload_n 2, 1) := dk_28 (dk_at dksX10_readMove_0 12 rfl rfl)
theorem dX10_readMove_13 : decode cX10_readMove 13 = .ok (.bipush 8, 2) := dk_16 8 (dk_at dksX10_readMove_0 13 rfl rfl)
theorem dX10_readMove_15 : decode cX10_readMove 15 = .ok (.if_icmp .ne 21, 3) := dk_160 0 21 (dk_at dksX10_readMove_0 15 rfl rfl)
theorem dX10_readMove_18 : decode cX10_readMove 18 = .ok (.aload_n 0, 1) := dk_42 (dk_at dksX10_readMove_0 18 rfl rfl)
theorem dX10_readMove_19 : decode cX10_readMove 19 = .ok (.iload_n 1, 1) := dk_27 (dk_at dksX10_readMove_0 19 rfl rfl)
theorem dX10_readMove_20 : decode cX10_readMove 20 = .ok (.iload_n 2, 1) := dk_28 (dk_at dksX10_readMove_0 20 rfl rfl)
theorem dX10_readMove_21 : decode cX10_readMove 21 = .ok (.iconst 3, 1) := dk_6 (dk_at dksX10_readMove_0 21 rfl rfl)
theorem dX10_readMove_22 : decode cX10_readMove 22 = .ok (.if_icmp .ne 7, 3) := dk_160 0 7 (dk_at dksX10_readMove_1 0 rfl rfl)
theorem dX10_readMove_25 : decode cX10_readMove 25 = .ok (.iconst 1, 1) := dk_4 (dk_at dksX10_readMove_1 3 rfl rfl)
theorem dX10_readMove_26 : decode cX10_readMove 26 = .ok (.goto 4, 3) := dk_167 0 4 (dk_at dksX10_readMove_1 4 rfl rfl)
theorem dX10_readMove_29 : decode cX10_readMove 29 = .ok (.iconst 0, 1) := dk_3 (dk_at dksX10_readMove_1 7 rfl rfl)
theorem dX10_readMove_30 : decode cX10_readMove 30 = .ok (.invokevirtual 382, 3) := dk_182 1 126 (dk_at dksX10_readMove_1 8 rfl rfl)
theorem dX10_readMove_33 : decode cX10_readMove 33 = .ok (.goto 246, 3) := dk_167 0 246 (dk_at dksX10_readMove_1 11 rfl rfl)
theorem dX10_readMove_36 : decode cX10_readMove 36 = .ok (.iload_n 2, 1) := dk_28 (dk_at dksX10_readMove_1 14 rfl rfl)
theorem dX10_readMove_37 : decode cX10_readMove 37 = .ok (.iconst 2, 1) := dk_5 (dk_at dksX10_readMove_1 15 rfl rfl)
theorem dX10_readMove_38 : decode cX10_readMove 38 = .ok (.if_icmp .ne 35, 3) := dk_160 0 35 (dk_at dksX10_readMove_1 16 rfl rfl)
theorem dX10_readMove_41 : decode cX10_readMove 41 = .ok (.aload_n 0, 1) := dk_42 (dk_at dksX10_readMove_1 19 rfl rfl)
theorem dX10_readMove_42 : decode cX10_readMove 42 = .ok (.getfield 55, 3) := dk_180 0 55 (dk_at dksX10_readMove_1 20 rfl rfl)
theorem dX10_readMove_45 : decode cX10_readMove 45 = .ok (.iload_n 1, 1) := dk_27 (dk_at dksX10_readMove_1 23 rfl rfl)
theorem dX10_readMove_46 : decode cX10_readMove 46 = .ok (.aload_n 0, 1) := dk_42 (dk_at dksX10_readMove_2 0 rfl rfl)
theorem dX10_readMove_47 : decode cX10_readMove 47 = .ok (.iconst 0, 1) := dk_3 (dk_at dksX10_readMove_2 1 rfl rfl)
theorem dX10_readMove_48 : decode cX10_readMove 48 = .ok (.bipush 7, 2) := dk_16 7 (dk_at dksX10_readMove_2 2 rfl rfl)
theorem dX10_readMove_50 : decode cX10_readMove 50 = .ok (.invokevirtual 354, 3) := dk_182 1 98 (dk_at dksX10_readMove_2 4 rfl rfl)
theorem dX10_readMove_53 : decode cX10_readMove 53 = .ok (.iastore, 1) := dk_79 (dk_at dksX10_readMove_2 7 rfl rfl)
theorem dX10_readMove_54 : decode cX10_readMove 54 = .ok (.aload_n 0, 1) := dk_42 (dk_at dksX10_readMove_2 8 rfl rfl)
theorem dX10_readMove_55 : decode cX10_readMove 55 = .ok (.getfield 58, 3) := dk_180 0 58 (dk_at dksX10_readMove_2 9 rfl rfl)
theorem dX10_readMove_58 : decode cX10_readMove 58 = .ok (.iload_n 1, 1) := dk_27 (dk_at dksX10_readMove_2 12 rfl rfl)
theorem dX10_readMove_59 : decode cX10_readMove 59 = .ok (.aload_n 0, 1) := dk_42 (dk_at dksX10_readMove_2 13 rfl rfl)
theorem dX10_readMove_60 : decode cX10_readMove 60 = .ok (.aload_n 0, 1) := dk_42 (dk_at dksX10_readMove_2 14 rfl rfl)
theorem dX10_readMove_61 : decode cX10_readMove 61 = .ok (.getfield 55, 3) := dk_180 0 55 (dk_at dksX10_readMove_2 15 rfl rfl)
theorem dX10_readMove_64 : decode cX10_readMove 64 = .ok (.iload_n 1, 1) := dk_27 (dk_at dksX10_readMove_2 18 rfl rfl)
theorem dX10_readMove_65 : decode cX10_readMove 65 = .ok (.iaload, 1) := dk_46 (dk_at dksX10_readMove_2 19 rfl rfl)
theorem dX10_readMove_66 : decode cX10_readMove 66 = .ok (.invokevirtual 379, 3) := dk_182 1 123 (dk_at dksX10_readMove_2 20 rfl rfl)
theorem dX10_readMove_69 : decode cX10_readMove 69 = .ok (.iastore, 1) := dk_79 (dk_at dksX10_readMove_2 23 rfl rfl)
theorem dX10_readMove_70 : decode cX10_readMove 70 = .ok (.goto 209, 3) := dk_167 0 209 (dk_at dksX10_readMove_3 0 rfl rfl)
theorem dX10_readMove_73 : decode cX10_readMove 73 = .ok (.aload_n 0, 1) := dk_42 (dk_at dksX10_readMove_3 3 rfl rfl)
theorem dX10_readMove_74 : decode cX10_readMove 74 = .ok (.getfield 61, 3) := dk_180 0 61 (dk_at dksX10_readMove_3 4 rfl rfl)
theorem dX10_readMove_77 : decode cX10_readMove 77 = .ok (.iload_n 1, 1) := dk_27 (dk_at dksX10_readMove_3 7 rfl rfl)
theorem dX10_readMove_78 : decode cX10_readMove 78 = .ok (.iconst 1, 1) := dk_4 (dk_at dksX10_readMove_3 8 rfl rfl)
theorem dX10_readMove_79 : decode cX10_readMove 79 = .ok (.iastore, 1) := dk_79 (dk_at dksX10_readMove_3 9 rfl rfl)
theorem dX10_readMove_80 : decode cX10_readMove 80 = .ok (.iload_n 2, 1) := dk_28 (dk_at dksX10_readMove_3 10 rfl rfl)
theorem dX10_readMove_81 : decode cX10_readMove 81 = .ok (.bipush 6, 2) := dk_16 6 (dk_at dksX10_readMove_3 11 rfl rfl)
theorem dX10_readMove_83 : decode cX10_readMove 83 = .ok (.if_icmp .ne 26, 3) := dk_160 0 26 (dk_at dksX10_readMove_3 13 rfl rfl)
theorem dX10_readMove_86 : decode cX10_readMove 86 = .ok (.aload_n 0, 1) := dk_42 (dk_at dksX10_readMove_3 16 rfl rfl)
theorem dX10_readMove_87 : decode cX10_readMove 87 = .ok (.getfield 61, 3) := dk_180 0 61 (dk_at dksX10_readMove_3 17 rfl rfl)
theorem dX10_readMove_90 : decode cX10_readMove 90 = .ok (.iload_n 1, 1) := dk_27 (dk_at dksX10_readMove_3 20 rfl rfl)
theorem dX10_readMove_91 : decode cX10_readMove 91 = .ok (.aload_n 0, 1) := dk_42 (dk_at dksX10_readMove_3 21 rfl rfl)
theorem dX10_readMove_92 : decode cX10_readMove 92 = .ok (.iconst 1, 1) := dk_4 (dk_at dksX10_readMove_3 22 rfl rfl)
theorem dX10_readMove_93 : decode cX10_readMove 93 = .ok (.iconst 4, 1) := dk_7 (dk_at dksX10_readMove_3 23 rfl rfl)
theorem dX10_readMove_94 : decode cX10_readMove 94 = .ok (.invokevirtual 354, 3) := dk_182 1 98 (dk_at dksX10_readMove_4 0 rfl rfl)
theorem dX10_readMove_97 : decode cX10_readMove 97 = .ok (.iastore, 1) := dk_79 (dk_at dksX10_readMove_4 3 rfl rfl)
theorem dX10_readMove_98 : decode cX10_readMove 98 = .ok (.aload_n 0, 1) := dk_42 (dk_at dksX10_readMove_4 4 rfl rfl)
theorem dX10_readMove_99 : decode cX10_readMove 99 = .ok (.aload_n 0, 1) := dk_42 (dk_at dksX10_readMove_4 5 rfl rfl)
theorem dX10_readMove_100 : decode cX10_readMove 100 = .ok (.ldc2_w 233, 3) := dk_20 0 233 (dk_at dksX10_readMove_4 6 rfl rfl)
theorem dX10_readMove_103 : decode cX10_readMove 103 = .ok (.invokevirtual 324, 3) := dk_182 1 68 (dk_at dksX10_readMove_4 9 rfl rfl)
theorem dX10_readMove_106 : decode cX10_readMove 106 = .ok (.invokevirtual 350, 3) := dk_182 1 94 (dk_at dksX10_readMove_4 12 rfl rfl)
theorem dX10_readMove_109 : decode cX10_readMove 109 = .ok (.aload_n 0, 1) := dk_42 (dk_at dksX10_readMove_4 15 rfl rfl)
theorem dX10_readMove_110 : decode cX10_readMove 110 = .ok (.getfield 55, 3) := dk_180 0 55 (dk_at dksX10_readMove_4 16 rfl rfl)
theorem dX10_readMove_113 : decode cX10_readMove 113 = .ok (.iload_n 1, 1) := dk_27 (dk_at dksX10_readMove_4 19 rfl rfl)
theorem dX10_readMove_114 : decode cX10_readMove 114 = .ok (.aload_n 0, 1) := dk_42 (dk_at dksX10_readMove_4 20 rfl rfl)
theorem dX10_readMove_115 : decode cX10_readMove 115 = .ok (.iconst 0, 1) := dk_3 (dk_at dksX10_readMove_4 21 rfl rfl)
theorem dX10_readMove_116 : decode cX10_readMove 116 = .ok (.bipush 7, 2) := dk_16 7 (dk_at dksX10_readMove_4 22 rfl rfl)
theorem dX10_readMove_118 : decode cX10_readMove 118 = .ok (.invokevirtual 354, 3) := dk_182 1 98 (dk_at dksX10_readMove_5 0 rfl rfl)
theorem dX10_readMove_121 : decode cX10_readMove 121 = .ok (.iastore, 1) := dk_79 (dk_at dksX10_readMove_5 3 rfl rfl)
theorem dX10_readMove_122 : decode cX10_readMove 122 = .ok (.aload_n 0, 1) := dk_42 (dk_at dksX10_readMove_5 4 rfl rfl)
theorem dX10_readMove_123 : decode cX10_readMove 123 = .ok (.aload_n 0, 1) := dk_42 (dk_at dksX10_readMove_5 5 rfl rfl)
theorem dX10_readMove_124 : decode cX10_readMove 124 = .ok (.ldc2_w 227, 3) := dk_20 0 227 (dk_at dksX10_readMove_5 6 rfl rfl)
theorem dX10_readMove_127 : decode cX10_readMove 127 = .ok (.invokevirtual 324, 3) := dk_182 1 68 (dk_at dksX10_readMove_5 9 rfl rfl)
theorem dX10_readMove_130 : decode cX10_readMove 130 = .ok (.invokevirtual 350, 3) := dk_182 1 94 (dk_at dksX10_readMove_5 12 rfl rfl)
theorem dX10_readMove_133 : decode cX10_readMove 133 = .ok (.aload_n 0, 1) := dk_42 (dk_at dksX10_readMove_5 15 rfl rfl)
theorem dX10_readMove_134 : decode cX10_readMove 134 = .ok (.getfield 58, 3) := dk_180 0 58 (dk_at dksX10_readMove_5 16 rfl rfl)
theorem dX10_readMove_137 : decode cX10_readMove 137 = .ok (.iload_n 1, 1) := dk_27 (dk_at dksX10_readMove_5 19 rfl rfl)
theorem dX10_readMove_138 : decode cX10_readMove 138 = .ok (.aload_n 0, 1) := dk_42 (dk_at dksX10_readMove_5 20 rfl rfl)
theorem dX10_readMove_139 : decode cX10_readMove 139 = .ok (.iconst 0, 1) := dk_3 (dk_at dksX10_readMove_5 21 rfl rfl)
theorem dX10_readMove_140 : decode cX10_readMove 140 = .ok (.bipush 7, 2) := dk_16 7 (dk_at dksX10_readMove_5 22 rfl rfl)
theorem dX10_readMove_142 : decode cX10_readMove 142 = .ok (.invokevirtual 354, 3) := dk_182 1 98 (dk_at dksX10_readMove_6 0 rfl rfl)
theorem dX10_readMove_145 : decode cX10_readMove 145 = .ok (.iastore, 1) := dk_79 (dk_at dksX10_readMove_6 3 rfl rfl)
theorem dX10_readMove_146 : decode cX10_readMove 146 = .ok (.aload_n 0, 1) := dk_42 (dk_at dksX10_readMove_6 4 rfl rfl)
theorem dX10_readMove_147 : decode cX10_readMove 147 = .ok (.getfield 58, 3) := dk_180 0 58 (dk_at dksX10_readMove_6 5 rfl rfl)
theorem dX10_readMove_150 : decode cX10_readMove 150 = .ok (.iload_n 1, 1) := dk_27 (dk_at dksX10_readMove_6 8 rfl rfl)
theorem dX10_readMove_151 : decode cX10_readMove 151 = .ok (.iaload, 1) := dk_46 (dk_at dksX10_readMove_6 9 rfl rfl)
theorem dX10_readMove_152 : decode cX10_readMove 152 = .ok (.aload_n 0, 1) := dk_42 (dk_at dksX10_readMove_6 10 rfl rfl)
theorem dX10_readMove_153 : decode cX10_readMove 153 = .ok (.getfield 55, 3) := dk_180 0 55 (dk_at dksX10_readMove_6 11 rfl rfl)
theorem dX10_readMove_156 : decode cX10_readMove 156 = .ok (.iload_n 1, 1) := dk_27 (dk_at dksX10_readMove_6 14 rfl rfl)
theorem dX10_readMove_157 : decode cX10_readMove 157 = .ok (.iaload, 1) := dk_46 (dk_at dksX10_readMove_6 15 rfl rfl)
theorem dX10_readMove_158 : decode cX10_readMove 158 = .ok (.isub, 1) := dk_100 (dk_at dksX10_readMove_6 16 rfl rfl)
theorem dX10_readMove_159 : decode cX10_readMove 159 = .ok (.iconst 1, 1) := dk_4 (dk_at dksX10_readMove_6 17 rfl rfl)
theorem dX10_readMove_160 : decode cX10_readMove 160 = .ok (.iadd, 1) := dk_96 (dk_at dksX10_readMove_6 18 rfl rfl)
theorem dX10_readMove_161 : decode cX10_readMove 161 = .ok (.istore_n 3, 1) := dk_62 (dk_at dksX10_readMove_6 19 rfl rfl)
theorem dX10_readMove_162 : decode cX10_readMove 162 = .ok (.iload_n 2, 1) := dk_28 (dk_at dksX10_readMove_6 20 rfl rfl)
theorem dX10_readMove_163 : decode cX10_readMove 163 = .ok (.iconst 4, 1) := dk_7 (dk_at dksX10_readMove_6 21 rfl rfl)
theorem dX10_readMove_164 : decode cX10_readMove 164 = .ok (.if_icmp .ne 16, 3) := dk_160 0 16 (dk_at dksX10_readMove_7 0 rfl rfl)
theorem dX10_readMove_167 : decode cX10_readMove 167 = .ok (.iload_n 3, 1) := dk_29 (dk_at dksX10_readMove_7 3 rfl rfl)
theorem dX10_readMove_168 : decode cX10_readMove 168 = .ok (.iconst 1, 1) := dk_4 (dk_at dksX10_readMove_7 4 rfl rfl)
theorem dX10_readMove_169 : decode cX10_readMove 169 = .ok (.if_icmp .le 7, 3) := dk_164 0 7 (dk_at dksX10_readMove_7 5 rfl rfl)
theorem dX10_readMove_172 : decode cX10_readMove 172 = .ok (.iconst 1, 1) := dk_4 (dk_at dksX10_readMove_7 8 rfl rfl)
theorem dX10_readMove_173 : decode cX10_readMove 173 = .ok (.goto 83, 3) := dk_167 0 83 (dk_at dksX10_readMove_7 9 rfl rfl)
theorem dX10_readMove_176 : decode cX10_readMove 176 = .ok (.iconst 0, 1) := dk_3 (dk_at dksX10_readMove_7 12 rfl rfl)
theorem dX10_readMove_177 : decode cX10_readMove 177 = .ok (.goto 79, 3) := dk_167 0 79 (dk_at dksX10_readMove_7 13 rfl rfl)
theorem dX10_readMove_180 : decode cX10_readMove 180 = .ok (.iload_n 2, 1) := dk_28 (dk_at dksX10_readMove_7 16 rfl rfl)
theorem dX10_readMove_181 : decode cX10_readMove 181 = .ok (.iconst 5, 1) := dk_8 (dk_at dksX10_readMove_7 17 rfl rfl)
theorem dX10_readMove_182 : decode cX10_readMove 182 = .ok (.if_icmp .ne 22, 3) := dk_160 0 22 (dk_at dksX10_readMove_7 18 rfl rfl)
theorem dX10_readMove_185 : decode cX10_readMove 185 = .ok (.iload_n 3, 1) := dk_29 (dk_at dksX10_readMove_7 21 rfl rfl)
theorem dX10_readMove_186 : decode cX10_readMove 186 = .ok (.iconst 1, 1) := dk_4 (dk_at dksX10_readMove_7 22 rfl rfl)
theorem dX10_readMove_187 : decode cX10_readMove 187 = .ok (.if_icmp .le 13, 3) := dk_164 0 13 (dk_at dksX10_readMove_8 0 rfl rfl)
theorem dX10_readMove_190 : decode cX10_readMove 190 = .ok (.iload_n 3, 1) := dk_29 (dk_at dksX10_readMove_8 3 rfl rfl)
theorem dX10_readMove_191 : decode cX10_readMove 191 = .ok (.iconst 2, 1) := dk_5 (dk_at dksX10_readMove_8 4 rfl rfl)
theorem dX10_readMove_192 : decode cX10_readMove 192 = .ok (.irem, 1) := dk_112 (dk_at dksX10_readMove_8 5 rfl rfl)
theorem dX10_readMove_193 : decode cX10_readMove 193 = .ok (.ifCond .ne 7, 3) := dk_154 0 7 (dk_at dksX10_readMove_8 6 rfl rfl)
theorem dX10_readMove_196 : decode cX10_readMove 196 = .ok (.iconst 1, 1) := dk_4 (dk_at dksX10_readMove_8 9 rfl rfl)
theorem dX10_readMove_197 : decode cX10_readMove 197 = .ok (.goto 59, 3) := dk_167 0 59 (dk_at dksX10_readMove_8 10 rfl rfl)
theorem dX10_readMove_200 : decode cX10_readMove 200 = .ok (.iconst 0, 1) := dk_3 (dk_at dksX10_readMove_8 13 rfl rfl)
theorem dX10_readMove_201 : decode cX10_readMove 201 = .ok (.goto 55, 3) := dk_167 0 55 (dk_at dksX10_readMove_8 14 rfl rfl)
theorem dX10_readMove_204 : decode cX10_readMove 204 = .ok (.iload_n 2, 1) := dk_28 (dk_at dksX10_readMove_8 17 rfl rfl)
theorem dX10_readMove_205 : decode cX10_readMove 205 = .ok (.bipush 6, 2) := dk_16 6 (dk_at dksX10_readMove_8 18 rfl rfl)
theorem dX10_readMove_207 : decode cX10_readMove 207 = .ok (.if_icmp .ne 34, 3) := dk_160 0 34 (dk_at dksX10_readMove_8 20 rfl rfl)
theorem dX10_readMove_210 : decode cX10_readMove 210 = .ok (.iload_n 3, 1) := dk_29 (dk_at dksX10_readMove_8 23 rfl rfl)
theorem dX10_readMove_211 : decode cX10_readMove 211 = .ok (.aload_n 0, 1) := dk_42 (dk_at dksX10_readMove_9 0 rfl rfl)
theorem dX10_readMove_212 : decode cX10_readMove 212 = .ok (.getfield 61, 3) := dk_180 0 61 (dk_at dksX10_readMove_9 1 rfl rfl)
theorem dX10_readMove_215 : decode cX10_readMove 215 = .ok (.iload_n 1, 1) := dk_27 (dk_at dksX10_readMove_9 4 rfl rfl)
theorem dX10_readMove_216 : decode cX10_readMove 216 = .ok (.iaload, 1) := dk_46 (dk_at dksX10_readMove_9 5 rfl rfl)
theorem dX10_readMove_217 : decode cX10_readMove 217 = .ok (.irem, 1) := dk_112 (dk_at dksX10_readMove_9 6 rfl rfl)
theorem dX10_readMove_218 : decode cX10_readMove 218 = .ok (.ifCond .ne 19, 3) := dk_154 0 19 (dk_at dksX10_readMove_9 7 rfl rfl)
theorem dX10_readMove_221 : decode cX10_readMove 221 = .ok (.iload_n 3, 1) := dk_29 (dk_at dksX10_readMove_9 10 rfl rfl)
theorem dX10_readMove_222 : decode cX10_readMove 222 = .ok (.aload_n 0, 1) := dk_42 (dk_at dksX10_readMove_9 11 rfl rfl)
theorem dX10_readMove_223 : decode cX10_readMove 223 = .ok (.getfield 61, 3) := dk_180 0 61 (dk_at dksX10_readMove_9 12 rfl rfl)
theorem dX10_readMove_226 : decode cX10_readMove 226 = .ok (.iload_n 1, 1) := dk_27 (dk_at dksX10_readMove_9 15 rfl rfl)
theorem dX10_readMove_227 : decode cX10_readMove 227 = .ok (.iaload, 1) := dk_46 (dk_at dksX10_readMove_9 16 rfl rfl)
theorem dX10_readMove_228 : decode cX10_readMove 228 = .ok (.idiv, 1) := dk_108 (dk_at dksX10_readMove_9 17 rfl rfl)
theorem dX10_readMove_229 : decode cX10_readMove 229 = .ok (.iconst 1, 1) := dk_4 (dk_at dksX10_readMove_9 18 rfl rfl)
theorem dX10_readMove_230 : decode cX10_readMove 230 = .ok (.if_icmp .le 7, 3) := dk_164 0 7 (dk_at dksX10_readMove_9 19 rfl rfl)
theorem dX10_readMove_233 : decode cX10_readMove 233 = .ok (.iconst 1, 1) := dk_4 (dk_at dksX10_readMove_9 22 rfl rfl)
theorem dX10_readMove_234 : decode cX10_readMove 234 = .ok (.goto 22, 3) := dk_167 0 22 (dk_at dksX10_readMove_10 0 rfl rfl)
theorem dX10_readMove_237 : decode cX10_readMove 237 = .ok (.iconst 0, 1) := dk_3 (dk_at dksX10_readMove_10 3 rfl rfl)
theorem dX10_readMove_238 : decode cX10_readMove 238 = .ok (.goto 18, 3) := dk_167 0 18 (dk_at dksX10_readMove_10 4 rfl rfl)
theorem dX10_readMove_241 : decode cX10_readMove 241 = .ok (.iload_n 3, 1) := dk_29 (dk_at dksX10_readMove_10 7 rfl rfl)
theorem dX10_readMove_242 : decode cX10_readMove 242 = .ok (.iconst 1, 1) := dk_4 (dk_at dksX10_readMove_10 8 rfl rfl)
theorem dX10_readMove_243 : decode cX10_readMove 243 = .ok (.if_icmp .le 12, 3) := dk_164 0 12 (dk_at dksX10_readMove_10 9 rfl rfl)
theorem dX10_readMove_246 : decode cX10_readMove 246 = .ok (.iload_n 3, 1) := dk_29 (dk_at dksX10_readMove_10 12 rfl rfl)
theorem dX10_readMove_247 : decode cX10_readMove 247 = .ok (.iconst 5, 1) := dk_8 (dk_at dksX10_readMove_10 13 rfl rfl)
theorem dX10_readMove_248 : decode cX10_readMove 248 = .ok (.if_icmp .ge 7, 3) := dk_162 0 7 (dk_at dksX10_readMove_10 14 rfl rfl)
theorem dX10_readMove_251 : decode cX10_readMove 251 = .ok (.iconst 1, 1) := dk_4 (dk_at dksX10_readMove_10 17 rfl rfl)
theorem dX10_readMove_252 : decode cX10_readMove 252 = .ok (.goto 4, 3) := dk_167 0 4 (dk_at dksX10_readMove_10 18 rfl rfl)
theorem dX10_readMove_255 : decode cX10_readMove 255 = .ok (.iconst 0, 1) := dk_3 (dk_at dksX10_readMove_10 21 rfl rfl)
theorem dX10_readMove_256 : decode cX10_readMove 256 = .ok (.istore 4, 2) := dk_54 4 (dk_at dksX10_readMove_10 22 rfl rfl)
theorem dX10_readMove_258 : decode cX10_readMove 258 = .ok (.aload_n 0, 1) := dk_42 (dk_at dksX10_readMove_11 0 rfl rfl)
theorem dX10_readMove_259 : decode cX10_readMove 259 = .ok (.invokevirtual 283, 3) := dk_182 1 27 (dk_at dksX10_readMove_11 1 rfl rfl)
theorem dX10_readMove_262 : decode cX10_readMove 262 = .ok (.ifCond .eq 17, 3) := dk_153 0 17 (dk_at dksX10_readMove_11 4 rfl rfl)
theorem dX10_readMove_265 : decode cX10_readMove 265 = .ok (.iload 4, 2) := dk_21 4 (dk_at dksX10_readMove_11 7 rfl rfl)
theorem dX10_readMove_267 : decode cX10_readMove 267 = .ok (.ifCond .ne 12, 3) := dk_154 0 12 (dk_at dksX10_readMove_11 9 rfl rfl)
theorem dX10_readMove_270 : decode cX10_readMove 270 = .ok (.aload_n 0, 1) := dk_42 (dk_at dksX10_readMove_11 12 rfl rfl)
theorem dX10_readMove_271 : decode cX10_readMove 271 = .ok (.iconst 4, 1) := dk_7 (dk_at dksX10_readMove_11 13 rfl rfl)
theorem dX10_readMove_272 : decode cX10_readMove 272 = .ok (.aload_n 0, 1) := dk_42 (dk_at dksX10_readMove_11 14 rfl rfl)
theorem dX10_readMove_273 : decode cX10_readMove 273 = .ok (.getfield 293, 3) := dk_180 1 37 (dk_at dksX10_readMove_11 15 rfl rfl)
theorem dX10_readMove_276 : decode cX10_readMove 276 = .ok (.invokevirtual 279, 3) := dk_182 1 23 (dk_at dksX10_readMove_11 18 rfl rfl)
theorem dX10_readMove_279 : decode cX10_readMove 279 = .ok (.return_, 1) := dk_177 (dk_at dksX10_readMove_11 21 rfl rfl)
abbrev cX10_readList : ByteArray := prog_32_method_31_code
def yX10_readList : MethodName := ⟨RX10, "readList", "(IZ)V"⟩
def dkwX10_readList_8 : List UInt8 := [42, 7, 42, 180, 1, 37, 182, 1, 23, 177]
abbrev dktX10_readList_8 : List UInt8 := dkwX10_readList_8 ++ []
def dkwX10_readList_7 : List UInt8 := [167, 255, 106, 42, 182, 1, 27, 153, 0, 26, 28, 153, 0, 22, 29, 42, 180, 0, 64, 27, 46, 161, 0, 12]
abbrev dktX10_readList_7 : List UInt8 := dkwX10_readList_7 ++ dktX10_readList_8
def dkwX10_readList_6 : List UInt8 := [180, 0, 64, 27, 92, 46, 4, 96, 79, 21, 4, 29, 164, 0, 8, 21, 4, 167, 0, 4, 29, 62]
abbrev dktX10_readList_6 : List UInt8 := dkwX10_readList_6 ++ dktX10_readList_7
def dkwX10_readList_5 : List UInt8 := [154, 0, 4, 177, 42, 180, 0, 67, 16, 8, 27, 104, 42, 180, 0, 64, 27, 46, 96, 21, 4, 79, 42]
abbrev dktX10_readList_5 : List UInt8 := dkwX10_readList_5 ++ dktX10_readList_6
def dkwX10_readList_4 : List UInt8 := [160, 0, 12, 42, 7, 42, 180, 1, 37, 182, 1, 23, 132, 5, 1, 167, 255, 209, 42, 182, 1, 27]
abbrev dktX10_readList_4 : List UInt8 := dkwX10_readList_4 ++ dktX10_readList_5
def dkwX10_readList_3 : List UInt8 := [162, 0, 42, 42, 182, 1, 27, 153, 0, 29, 42, 180, 0, 67, 16, 8, 27, 104, 21, 5, 96, 46, 21, 4]
abbrev dktX10_readList_3 : List UInt8 := dkwX10_readList_3 ++ dktX10_readList_4
def dkwX10_readList_2 : List UInt8 := [182, 1, 34, 42, 3, 16, 7, 182, 1, 98, 54, 4, 3, 54, 5, 21, 5, 42, 180, 0, 64, 27, 46]
abbrev dktX10_readList_2 : List UInt8 := dkwX10_readList_2 ++ dktX10_readList_3
def dkwX10_readList_1 : List UInt8 := [153, 0, 11, 42, 180, 0, 255, 7, 160, 0, 132, 42, 180, 0, 64, 27, 46, 16, 8, 160, 0, 7, 42]
abbrev dktX10_readList_1 : List UInt8 := dkwX10_readList_1 ++ dktX10_readList_2
def dkwX10_readList_0 : List UInt8 := [42, 180, 0, 64, 27, 3, 79, 3, 62, 42, 182, 1, 27, 153, 0, 149, 42, 180, 0, 64, 27, 46]
abbrev dktX10_readList_0 : List UInt8 := dkwX10_readList_0 ++ dktX10_readList_1
theorem dksX10_readList_0 : cX10_readList.data.toList.drop 0 = dktX10_readList_0 := by decide +kernel
theorem dksX10_readList_1 : cX10_readList.data.toList.drop 22 = dktX10_readList_1 := dk_seg dksX10_readList_0 22 rfl rfl
theorem dksX10_readList_2 : cX10_readList.data.toList.drop 45 = dktX10_readList_2 := dk_seg dksX10_readList_1 23 rfl rfl
theorem dksX10_readList_3 : cX10_readList.data.toList.drop 68 = dktX10_readList_3 := dk_seg dksX10_readList_2 23 rfl rfl
theorem dksX10_readList_4 : cX10_readList.data.toList.drop 92 = dktX10_readList_4 := dk_seg dksX10_readList_3 24 rfl rfl
theorem dksX10_readList_5 : cX10_readList.data.toList.drop 114 = dktX10_readList_5 := dk_seg dksX10_readList_4 22 rfl rfl
theorem dksX10_readList_6 : cX10_readList.data.toList.drop 137 = dktX10_readList_6 := dk_seg dksX10_readList_5 23 rfl rfl
theorem dksX10_readList_7 : cX10_readList.data.toList.drop 159 = dktX10_readList_7 := dk_seg dksX10_readList_6 22 rfl rfl
theorem dksX10_readList_8 : cX10_readList.data.toList.drop 183 = dktX10_readList_8 := dk_seg dksX10_readList_7 24 rfl rfl
theorem dX10_readList_0 : decode cX10_readList 0 = .ok (.aload_n 0, 1) := dk_42 (dk_at dksX10_readList_0 0 rfl rfl)
theorem dX10_readList_1 : decode cX10_readList 1 = .ok (.getfield 64, 3) := dk_180 0 64 (dk_at dksX10_readList_0 1 rfl rfl)
theorem dX10_readList_4 : decode cX10_readList 4 = .ok (.iload_n 1, 1) := dk_27 (dk_at dksX10_readList_0 4 rfl rfl)
theorem dX10_readList_5 : decode cX10_readList 5 = .ok (.iconst 0, 1) := dk_3 (dk_at dksX10_readList_0 5 rfl rfl)
theorem dX10_readList_6 : decode cX10_readList 6 = .ok (.iastore, 1) := dk_79 (dk_at dksX10_readList_0 6 rfl rfl)
theorem dX10_readList_7 : decode cX10_readList 7 = .ok (.iconst 0, 1) := dk_3 (dk_at dksX10_readList_0 7 rfl rfl)
theorem dX10_readList_8 : decode cX10_readList 8 = .ok (.istore_n 3, 1) := dk_62 (dk_at dksX10_readList_0 8 rfl rfl)
theorem dX10_readList_9 : decode cX10_readList 9 = .ok (.aload_n 0, 1) := dk_42 (dk_at dksX10_readList_0 9 rfl rfl)
theorem dX10_readList_10 : decode cX10_readList 10 = .ok (.invokevirtual 283, 3) := dk_182 1 27 (dk_at dksX10_readList_0 10 rfl rfl)
theorem dX10_readList_13 : decode cX10_readList 13 = .ok (.ifCond .eq 149, 3) := dk_153 0 149 (dk_at dksX10_readList_0 13 rfl rfl)
theorem dX10_readList_16 : decode cX10_readList 16 = .ok (.aload_n 0, 1) := dk_42 (dk_at dksX10_readList_0 16 rfl rfl)
theorem dX10_readList_17 : decode cX10_readList 17 = .ok (.getfield 64, 3) := dk_180 0 64 (dk_at dksX10_readList_0 17 rfl rfl)
theorem dX10_readList_20 : decode cX10_readList 20 = .ok (.iload_n 1, 1) := dk_27 (dk_at dksX10_readList_0 20 rfl rfl)
theorem dX10_readList_21 : decode cX10_readList 21 = .ok (.iaload, 1) := dk_46 (dk_at dksX10_readList_0 21 rfl rfl)
theorem dX10_readList_22 : decode cX10_readList 22 = .ok (.ifCond .eq 11, 3) := dk_153 0 11 (dk_at dksX10_readList_1 0 rfl rfl)
theorem dX10_readList_25 : decode cX10_readList 25 = .ok (.aload_n 0, 1) := dk_42 (dk_at dksX10_readList_1 3 rfl rfl)
theorem dX10_readList_26 : decode cX10_readList 26 = .ok (.getfield 255, 3) := dk_180 0 255 (dk_at dksX10_readList_1 4 rfl rfl)
theorem dX10_readList_29 : decode cX10_readList 29 = .ok (.iconst 4, 1) := dk_7 (dk_at dksX10_readList_1 7 rfl rfl)
theorem dX10_readList_30 : decode cX10_readList 30 = .ok (.if_icmp .ne 132, 3) := dk_160 0 132 (dk_at dksX10_readList_1 8 rfl rfl)
theorem dX10_readList_33 : decode cX10_readList 33 = .ok (.aload_n 0, 1) := dk_42 (dk_at dksX10_readList_1 11 rfl rfl)
theorem dX10_readList_34 : decode cX10_readList 34 = .ok (.getfield 64, 3) := dk_180 0 64 (dk_at dksX10_readList_1 12 rfl rfl)
theorem dX10_readList_37 : decode cX10_readList 37 = .ok (.iload_n 1, 1) := dk_27 (dk_at dksX10_readList_1 15 rfl rfl)
theorem dX10_readList_38 : decode cX10_readList 38 = .ok (.iaload, 1) := dk_46 (dk_at dksX10_readList_1 16 rfl rfl)
theorem dX10_readList_39 : decode cX10_readList 39 = .ok (.bipush 8, 2) := dk_16 8 (dk_at dksX10_readList_1 17 rfl rfl)
theorem dX10_readList_41 : decode cX10_readList 41 = .ok (.if_icmp .ne 7, 3) := dk_160 0 7 (dk_at dksX10_readList_1 19 rfl rfl)
theorem dX10_readList_44 : decode cX10_readList 44 = .ok (.aload_n 0, 1) := dk_42 (dk_at dksX10_readList_1 22 rfl rfl)
theorem dX10_readList_45 : decode cX10_readList 45 = .ok (.invokevirtual 290, 3) := dk_182 1 34 (dk_at dksX10_readList_2 0 rfl rfl)
theorem dX10_readList_48 : decode cX10_readList 48 = .ok (.aload_n 0, 1) := dk_42 (dk_at dksX10_readList_2 3 rfl rfl)
theorem dX10_readList_49 : decode cX10_readList 49 = .ok (.iconst 0, 1) := dk_3 (dk_at dksX10_readList_2 4 rfl rfl)
theorem dX10_readList_50 : decode cX10_readList 50 = .ok (.bipush 7, 2) := dk_16 7 (dk_at dksX10_readList_2 5 rfl rfl)
theorem dX10_readList_52 : decode cX10_readList 52 = .ok (.invokevirtual 354, 3) := dk_182 1 98 (dk_at dksX10_readList_2 7 rfl rfl)
theorem dX10_readList_55 : decode cX10_readList 55 = .ok (.istore 4, 2) := dk_54 4 (dk_at dksX10_readList_2 10 rfl rfl)
theorem dX10_readList_57 : decode cX10_readList 57 = .ok (.iconst 0, 1) := dk_3 (dk_at dksX10_readList_2 12 rfl rfl)
theorem dX10_readList_58 : decode cX10_readList 58 = .ok (.istore 5, 2) := dk_54 5 (dk_at dksX10_readList_2 13 rfl rfl)
theorem dX10_readList_60 : decode cX10_readList 60 = .ok (.iload 5, 2) := dk_21 5 (dk_at dksX10_readList_2 15 rfl rfl)
theorem dX10_readList_62 : decode cX10_readList 62 = .ok (.aload_n 0, 1) := dk_42 (dk_at dksX10_readList_2 17 rfl rfl)
theorem dX10_readList_63 : decode cX10_readList 63 = .ok (.getfield 64, 3) := dk_180 0 64 (dk_at dksX10_readList_2 18 rfl rfl)
theorem dX10_readList_66 : decode cX10_readList 66 = .ok (.iload_n 1, 1) := dk_27 (dk_at dksX10_readList_2 21 rfl rfl)
theorem dX10_readList_67 : decode cX10_readList 67 = .ok (.iaload, 1) := dk_46 (dk_at dksX10_readList_2 22 rfl rfl)
theorem dX10_readList_68 : decode cX10_readList 68 = .ok (.if_icmp .ge 42, 3) := dk_162 0 42 (dk_at dksX10_readList_3 0 rfl rfl)
theorem dX10_readList_71 : decode cX10_readList 71 = .ok (.aload_n 0, 1) := dk_42 (dk_at dksX10_readList_3 3 rfl rfl)
theorem dX10_readList_72 : decode cX10_readList 72 = .ok (.invokevirtual 283, 3) := dk_182 1 27 (dk_at dksX10_readList_3 4 rfl rfl)
theorem dX10_readList_75 : decode cX10_readList 75 = .ok (.ifCond .eq 29, 3) := dk_153 0 29 (dk_at dksX10_readList_3 7 rfl rfl)
theorem dX10_readList_78 : decode cX10_readList 78 = .ok (.aload_n 0, 1) := dk_42 (dk_at dksX10_readList_3 10 rfl rfl)
theorem dX10_readList_79 : decode cX10_readList 79 = .ok (.getfield 67, 3) := dk_180 0 67 (dk_at dksX10_readList_3 11 rfl rfl)
theorem dX10_readList_82 : decode cX10_readList 82 = .ok (.bipush 8, 2) := dk_16 8 (dk_at dksX10_readList_3 14 rfl rfl)
theorem dX10_readList_84 : decode cX10_readList 84 = .ok (.iload_n 1, 1) := dk_27 (dk_at dksX10_readList_3 16 rfl rfl)
theorem dX10_readList_85 : decode cX10_readList 85 = .ok (.imul, 1) := dk_104 (dk_at dksX10_readList_3 17 rfl rfl)
theorem dX10_readList_86 : decode cX10_readList 86 = .ok (.iload 5, 2) := dk_21 5 (dk_at dksX10_readList_3 18 rfl rfl)
theorem dX10_readList_88 : decode cX10_readList 88 = .ok (.iadd, 1) := dk_96 (dk_at dksX10_readList_3 20 rfl rfl)
theorem dX10_readList_89 : decode cX10_readList 89 = .ok (.iaload, 1) := dk_46 (dk_at dksX10_readList_3 21 rfl rfl)
theorem dX10_readList_90 : decode cX10_readList 90 = .ok (.iload 4, 2) := dk_21 4 (dk_at dksX10_readList_3 22 rfl rfl)
theorem dX10_readList_92 : decode cX10_readList 92 = .ok (.if_icmp .ne 12, 3) := dk_160 0 12 (dk_at dksX10_readList_4 0 rfl rfl)
theorem dX10_readList_95 : decode cX10_readList 95 = .ok (.aload_n 0, 1) := dk_42 (dk_at dksX10_readList_4 3 rfl rfl)
theorem dX10_readList_96 : decode cX10_readList 96 = .ok (.iconst 4, 1) := dk_7 (dk_at dksX10_readList_4 4 rfl rfl)
theorem dX10_readList_97 : decode cX10_readList 97 = .ok (.aload_n 0, 1) := dk_42 (dk_at dksX10_readList_4 5 rfl rfl)
theorem dX10_readList_98 : decode cX10_readList 98 = .ok (.getfield 293, 3) := dk_180 1 37 (dk_at dksX10_readList_4 6 rfl rfl)
theorem dX10_readList_101 : decode cX10_readList 101 = .ok (.invokevirtual 279, 3) := dk_182 1 23 (dk_at dksX10_readList_4 9 rfl rfl)
theorem dX10_readList_104 : decode cX10_readList 104 = .ok (.iinc 5 1, 3) := dk_132 5 1 (dk_at dksX10_readList_4 12 rfl rfl)
theorem dX10_readList_107 : decode cX10_readList 107 = .ok (.goto (-47), 3) := dk_167 255 209 (dk_at dksX10_readList_4 15 rfl rfl)
theorem dX10_readList_110 : decode cX10_readList 110 = .ok (.aload_n 0, 1) := dk_42 (dk_at dksX10_readList_4 18 rfl rfl)
theorem dX10_readList_111 : decode cX10_readList 111 = .ok (.invokevirtual 283, 3) := dk_182 1 27 (dk_at dksX10_readList_4 19 rfl rfl)
theorem dX10_readList_114 : decode cX10_readList 114 = .ok (.ifCond .ne 4, 3) := dk_154 0 4 (dk_at dksX10_readList_5 0 rfl rfl)
theorem dX10_readList_117 : decode cX10_readList 117 = .ok (.return_, 1) := dk_177 (dk_at dksX10_readList_5 3 rfl rfl)
theorem dX10_readList_118 : decode cX10_readList 118 = .ok (.aload_n 0, 1) := dk_42 (dk_at dksX10_readList_5 4 rfl rfl)
theorem dX10_readList_119 : decode cX10_readList 119 = .ok (.getfield 67, 3) := dk_180 0 67 (dk_at dksX10_readList_5 5 rfl rfl)
theorem dX10_readList_122 : decode cX10_readList 122 = .ok (.bipush 8, 2) := dk_16 8 (dk_at dksX10_readList_5 8 rfl rfl)
theorem dX10_readList_124 : decode cX10_readList 124 = .ok (.iload_n 1, 1) := dk_27 (dk_at dksX10_readList_5 10 rfl rfl)
theorem dX10_readList_125 : decode cX10_readList 125 = .ok (.imul, 1) := dk_104 (dk_at dksX10_readList_5 11 rfl rfl)
theorem dX10_readList_126 : decode cX10_readList 126 = .ok (.aload_n 0, 1) := dk_42 (dk_at dksX10_readList_5 12 rfl rfl)
theorem dX10_readList_127 : decode cX10_readList 127 = .ok (.getfield 64, 3) := dk_180 0 64 (dk_at dksX10_readList_5 13 rfl rfl)
theorem dX10_readList_130 : decode cX10_readList 130 = .ok (.iload_n 1, 1) := dk_27 (dk_at dksX10_readList_5 16 rfl rfl)
theorem dX10_readList_131 : decode cX10_readList 131 = .ok (.iaload, 1) := dk_46 (dk_at dksX10_readList_5 17 rfl rfl)
theorem dX10_readList_132 : decode cX10_readList 132 = .ok (.iadd, 1) := dk_96 (dk_at dksX10_readList_5 18 rfl rfl)
theorem dX10_readList_133 : decode cX10_readList 133 = .ok (.iload 4, 2) := dk_21 4 (dk_at dksX10_readList_5 19 rfl rfl)
theorem dX10_readList_135 : decode cX10_readList 135 = .ok (.iastore, 1) := dk_79 (dk_at dksX10_readList_5 21 rfl rfl)
theorem dX10_readList_136 : decode cX10_readList 136 = .ok (.aload_n 0, 1) := dk_42 (dk_at dksX10_readList_5 22 rfl rfl)
theorem dX10_readList_137 : decode cX10_readList 137 = .ok (.getfield 64, 3) := dk_180 0 64 (dk_at dksX10_readList_6 0 rfl rfl)
theorem dX10_readList_140 : decode cX10_readList 140 = .ok (.iload_n 1, 1) := dk_27 (dk_at dksX10_readList_6 3 rfl rfl)
theorem dX10_readList_141 : decode cX10_readList 141 = .ok (.dup2, 1) := dk_92 (dk_at dksX10_readList_6 4 rfl rfl)
theorem dX10_readList_142 : decode cX10_readList 142 = .ok (.iaload, 1) := dk_46 (dk_at dksX10_readList_6 5 rfl rfl)
theorem dX10_readList_143 : decode cX10_readList 143 = .ok (.iconst 1, 1) := dk_4 (dk_at dksX10_readList_6 6 rfl rfl)
theorem dX10_readList_144 : decode cX10_readList 144 = .ok (.iadd, 1) := dk_96 (dk_at dksX10_readList_6 7 rfl rfl)
theorem dX10_readList_145 : decode cX10_readList 145 = .ok (.iastore, 1) := dk_79 (dk_at dksX10_readList_6 8 rfl rfl)
theorem dX10_readList_146 : decode cX10_readList 146 = .ok (.iload 4, 2) := dk_21 4 (dk_at dksX10_readList_6 9 rfl rfl)
theorem dX10_readList_148 : decode cX10_readList 148 = .ok (.iload_n 3, 1) := dk_29 (dk_at dksX10_readList_6 11 rfl rfl)
theorem dX10_readList_149 : decode cX10_readList 149 = .ok (.if_icmp .le 8, 3) := dk_164 0 8 (dk_at dksX10_readList_6 12 rfl rfl)
theorem dX10_readList_152 : decode cX10_readList 152 = .ok (.iload 4, 2) := dk_21 4 (dk_at dksX10_readList_6 15 rfl rfl)
theorem dX10_readList_154 : decode cX10_readList 154 = .ok (.goto 4, 3) := dk_167 0 4 (dk_at dksX10_readList_6 17 rfl rfl)
theorem dX10_readList_157 : decode cX10_readList 157 = .ok (.iload_n 3, 1) := dk_29 (dk_at dksX10_readList_6 20 rfl rfl)
theorem dX10_readList_158 : decode cX10_readList 158 = .ok (.istore_n 3, 1) := dk_62 (dk_at dksX10_readList_6 21 rfl rfl)
theorem dX10_readList_159 : decode cX10_readList 159 = .ok (.goto (-150), 3) := dk_167 255 106 (dk_at dksX10_readList_7 0 rfl rfl)
theorem dX10_readList_162 : decode cX10_readList 162 = .ok (.aload_n 0, 1) := dk_42 (dk_at dksX10_readList_7 3 rfl rfl)
theorem dX10_readList_163 : decode cX10_readList 163 = .ok (.invokevirtual 283, 3) := dk_182 1 27 (dk_at dksX10_readList_7 4 rfl rfl)
theorem dX10_readList_166 : decode cX10_readList 166 = .ok (.ifCond .eq 26, 3) := dk_153 0 26 (dk_at dksX10_readList_7 7 rfl rfl)
theorem dX10_readList_169 : decode cX10_readList 169 = .ok (.iload_n 2, 1) := dk_28 (dk_at dksX10_readList_7 10 rfl rfl)
theorem dX10_readList_170 : decode cX10_readList 170 = .ok (.ifCond .eq 22, 3) := dk_153 0 22 (dk_at dksX10_readList_7 11 rfl rfl)
theorem dX10_readList_173 : decode cX10_readList 173 = .ok (.iload_n 3, 1) := dk_29 (dk_at dksX10_readList_7 14 rfl rfl)
theorem dX10_readList_174 : decode cX10_readList 174 = .ok (.aload_n 0, 1) := dk_42 (dk_at dksX10_readList_7 15 rfl rfl)
theorem dX10_readList_175 : decode cX10_readList 175 = .ok (.getfield 64, 3) := dk_180 0 64 (dk_at dksX10_readList_7 16 rfl rfl)
theorem dX10_readList_178 : decode cX10_readList 178 = .ok (.iload_n 1, 1) := dk_27 (dk_at dksX10_readList_7 19 rfl rfl)
theorem dX10_readList_179 : decode cX10_readList 179 = .ok (.iaload, 1) := dk_46 (dk_at dksX10_readList_7 20 rfl rfl)
theorem dX10_readList_180 : decode cX10_readList 180 = .ok (.if_icmp .lt 12, 3) := dk_161 0 12 (dk_at dksX10_readList_7 21 rfl rfl)
theorem dX10_readList_183 : decode cX10_readList 183 = .ok (.aload_n 0, 1) := dk_42 (dk_at dksX10_readList_8 0 rfl rfl)
theorem dX10_readList_184 : decode cX10_readList 184 = .ok (.iconst 4, 1) := dk_7 (dk_at dksX10_readList_8 1 rfl rfl)
theorem dX10_readList_185 : decode cX10_readList 185 = .ok (.aload_n 0, 1) := dk_42 (dk_at dksX10_readList_8 2 rfl rfl)
theorem dX10_readList_186 : decode cX10_readList 186 = .ok (.getfield 293, 3) := dk_180 1 37 (dk_at dksX10_readList_8 3 rfl rfl)
theorem dX10_readList_189 : decode cX10_readList 189 = .ok (.invokevirtual 279, 3) := dk_182 1 23 (dk_at dksX10_readList_8 6 rfl rfl)
theorem dX10_readList_192 : decode cX10_readList 192 = .ok (.return_, 1) := dk_177 (dk_at dksX10_readList_8 9 rfl rfl)
abbrev cX10_another : ByteArray := prog_32_method_27_code
def yX10_another : MethodName := ⟨RX10, "another", "(I)I"⟩
def dkwX10_another_1 : List UInt8 := [180, 1, 37, 182, 1, 23, 28, 172]
abbrev dktX10_another_1 : List UInt8 := dkwX10_another_1 ++ []
def dkwX10_another_0 : List UInt8 := [42, 3, 16, 7, 182, 1, 98, 61, 42, 182, 1, 27, 153, 0, 17, 28, 27, 160, 0, 12, 42, 7, 42]
abbrev dktX10_another_0 : List UInt8 := dkwX10_another_0 ++ dktX10_another_1
theorem dksX10_another_0 : cX10_another.data.toList.drop 0 = dktX10_another_0 := by decide +kernel
theorem dksX10_another_1 : cX10_another.data.toList.drop 23 = dktX10_another_1 := dk_seg dksX10_another_0 23 rfl rfl
theorem dX10_another_0 : decode cX10_another 0 = .ok (.aload_n 0, 1) := dk_42 (dk_at dksX10_another_0 0 rfl rfl)
theorem dX10_another_1 : decode cX10_another 1 = .ok (.iconst 0, 1) := dk_3 (dk_at dksX10_another_0 1 rfl rfl)
theorem dX10_another_2 : decode cX10_another 2 = .ok (.bipush 7, 2) := dk_16 7 (dk_at dksX10_another_0 2 rfl rfl)
theorem dX10_another_4 : decode cX10_another 4 = .ok (.invokevirtual 354, 3) := dk_182 1 98 (dk_at dksX10_another_0 4 rfl rfl)
theorem dX10_another_7 : decode cX10_another 7 = .ok (.istore_n 2, 1) := dk_61 (dk_at dksX10_another_0 7 rfl rfl)
theorem dX10_another_8 : decode cX10_another 8 = .ok (.aload_n 0, 1) := dk_42 (dk_at dksX10_another_0 8 rfl rfl)
theorem dX10_another_9 : decode cX10_another 9 = .ok (.invokevirtual 283, 3) := dk_182 1 27 (dk_at dksX10_another_0 9 rfl rfl)
theorem dX10_another_12 : decode cX10_another 12 = .ok (.ifCond .eq 17, 3) := dk_153 0 17 (dk_at dksX10_another_0 12 rfl rfl)
theorem dX10_another_15 : decode cX10_another 15 = .ok (.iload_n 2, 1) := dk_28 (dk_at dksX10_another_0 15 rfl rfl)
theorem dX10_another_16 : decode cX10_another 16 = .ok (.iload_n 1, 1) := dk_27 (dk_at dksX10_another_0 16 rfl rfl)
theorem dX10_another_17 : decode cX10_another 17 = .ok (.if_icmp .ne 12, 3) := dk_160 0 12 (dk_at dksX10_another_0 17 rfl rfl)
theorem dX10_another_20 : decode cX10_another 20 = .ok (.aload_n 0, 1) := dk_42 (dk_at dksX10_another_0 20 rfl rfl)
theorem dX10_another_21 : decode cX10_another 21 = .ok (.iconst 4, 1) := dk_7 (dk_at dksX10_another_0 21 rfl rfl)
theorem dX10_another_22 : decode cX10_another 22 = .ok (.aload_n 0, 1) := dk_42 (dk_at dksX10_another_0 22 rfl rfl)
theorem dX10_another_23 : decode cX10_another 23 = .ok (.getfield 293, 3) := dk_180 1 37 (dk_at dksX10_another_1 0 rfl rfl)
theorem dX10_another_26 : decode cX10_another 26 = .ok (.invokevirtual 279, 3) := dk_182 1 23 (dk_at dksX10_another_1 3 rfl rfl)
theorem dX10_another_29 : decode cX10_another 29 = .ok (.iload_n 2, 1) := dk_28 (dk_at dksX10_another_1 6 rfl rfl)
theorem dX10_another_30 : decode cX10_another 30 = .ok (.ireturn, 1) := dk_172 (dk_at dksX10_another_1 7 rfl rfl)
abbrev cX10_readStep : ByteArray := prog_32_method_23_code
def yX10_readStep : MethodName := ⟨RX10, "readStep", "(I)V"⟩
def dkwX10_readStep_7 : List UInt8 := [42, 180, 0, 36, 42, 180, 1, 40, 92, 46, 28, 153, 0, 7, 4, 167, 0, 4, 3, 96, 79, 177]
abbrev dktX10_readStep_7 : List UInt8 := dkwX10_readStep_7 ++ []
def dkwX10_readStep_6 : List UInt8 := [79, 42, 180, 0, 33, 42, 180, 1, 40, 92, 46, 27, 16, 8, 160, 0, 7, 4, 167, 0, 4, 3, 96, 79]
abbrev dktX10_readStep_6 : List UInt8 := dkwX10_readStep_6 ++ dktX10_readStep_7
def dkwX10_readStep_5 : List UInt8 := [182, 1, 105, 167, 0, 9, 42, 29, 27, 182, 1, 108, 42, 180, 0, 24, 42, 180, 1, 40, 92, 46, 4, 96]
abbrev dktX10_readStep_5 : List UInt8 := dkwX10_readStep_5 ++ dktX10_readStep_6
def dkwX10_readStep_4 : List UInt8 := [180, 0, 24, 42, 180, 1, 40, 46, 96, 62, 27, 5, 161, 0, 18, 27, 16, 8, 163, 0, 12, 42, 29, 27]
abbrev dktX10_readStep_4 : List UInt8 := dkwX10_readStep_4 ++ dktX10_readStep_5
def dkwX10_readStep_3 : List UInt8 := [182, 1, 34, 42, 182, 1, 27, 154, 0, 4, 177, 42, 182, 1, 31, 16, 52, 42, 180, 1, 40, 104, 42]
abbrev dktX10_readStep_3 : List UInt8 := dkwX10_readStep_3 ++ dktX10_readStep_4
def dkwX10_readStep_2 : List UInt8 := [16, 6, 159, 0, 21, 28, 153, 0, 21, 42, 180, 0, 36, 42, 180, 1, 40, 46, 16, 8, 160, 0, 7, 42]
abbrev dktX10_readStep_2 : List UInt8 := dkwX10_readStep_2 ++ dktX10_readStep_3
def dkwX10_readStep_1 : List UInt8 := [180, 1, 40, 46, 16, 40, 159, 0, 41, 27, 16, 8, 160, 0, 17, 42, 180, 0, 33, 42, 180, 1, 40, 46]
abbrev dktX10_readStep_1 : List UInt8 := dkwX10_readStep_1 ++ dktX10_readStep_2
def dkwX10_readStep_0 : List UInt8 := [27, 7, 161, 0, 13, 27, 16, 7, 163, 0, 7, 4, 167, 0, 4, 3, 61, 42, 180, 0, 24, 42]
abbrev dktX10_readStep_0 : List UInt8 := dkwX10_readStep_0 ++ dktX10_readStep_1
theorem dksX10_readStep_0 : cX10_readStep.data.toList.drop 0 = dktX10_readStep_0 := by decide +kernel
theorem dksX10_readStep_1 : cX10_readStep.data.toList.drop 22 = dktX10_readStep_1 := dk_seg dksX10_readStep_0 22 rfl rfl
theorem dksX10_readStep_2 : cX10_readStep.data.toList.drop 46 = dktX10_readStep_2 := dk_seg dksX10_readStep_1 24 rfl rfl
theorem dksX10_readStep_3 : cX10_readStep.data.toList.drop 70 = dktX10_readStep_3 := dk_seg dksX10_readStep_2 24 rfl rfl
theorem dksX10_readStep_4 : cX10_readStep.data.toList.drop 93 = dktX10_readStep_4 := dk_seg dksX10_readStep_3 23 rfl rfl
theorem dksX10_readStep_5 : cX10_readStep.data.toList.drop 117 = dktX10_readStep_5 := dk_seg dksX10_readStep_4 24 rfl rfl
theorem dksX10_readStep_6 : cX10_readStep.data.toList.drop 141 = dktX10_readStep_6 := dk_seg dksX10_readStep_5 24 rfl rfl
theorem dksX10_readStep_7 : cX10_readStep.data.toList.drop 165 = dktX10_readStep_7 := dk_seg dksX10_readStep_6 24 rfl rfl
theorem dX10_readStep_0 : decode cX10_readStep 0 = .ok (.iload_n 1, 1) := dk_27 (dk_at dksX10_readStep_0 0 rfl rfl)
theorem dX10_readStep_1 : decode cX10_readStep 1 = .ok (.iconst 4, 1) := dk_7 (dk_at dksX10_readStep_0 1 rfl rfl)
theorem dX10_readStep_2 : decode cX10_readStep 2 = .ok (.if_icmp .lt 13, 3) := dk_161 0 13 (dk_at dksX10_readStep_0 2 rfl rfl)
theorem dX10_readStep_5 : decode cX10_readStep 5 = .ok (.iload_n 1, 1) := dk_27 (dk_at dksX10_readStep_0 5 rfl rfl)
theorem dX10_readStep_6 : decode cX10_readStep 6 = .ok (.bipush 7, 2) := dk_16 7 (dk_at dksX10_readStep_0 6 rfl rfl)
theorem dX10_readStep_8 : decode cX10_readStep 8 = .ok (.if_icmp .gt 7, 3) := dk_163 0 7 (dk_at dksX10_readStep_0 8 rfl rfl)
theorem dX10_readStep_11 : decode cX10_readStep 11 = .ok (.iconst 1, 1) := dk_4 (dk_at dksX10_readStep_0 11 rfl rfl)
theorem dX10_readStep_12 : decode cX10_readStep 12 = .ok (.goto 4, 3) := dk_167 0 4 (dk_at dksX10_readStep_0 12 rfl rfl)
theorem dX10_readStep_15 : decode cX10_readStep 15 = .ok (.iconst 0, 1) := dk_3 (dk_at dksX10_readStep_0 15 rfl rfl)
theorem dX10_readStep_16 : decode cX10_readStep 16 = .ok (.istore_n 2, 1) := dk_61 (dk_at dksX10_readStep_0 16 rfl rfl)
theorem dX10_readStep_17 : decode cX10_readStep 17 = .ok (.aload_n 0, 1) := dk_42 (dk_at dksX10_readStep_0 17 rfl rfl)
theorem dX10_readStep_18 : decode cX10_readStep 18 = .ok (.getfield 24, 3) := dk_180 0 24 (dk_at dksX10_readStep_0 18 rfl rfl)
theorem dX10_readStep_21 : decode cX10_readStep 21 = .ok (.aload_n 0, 1) := dk_42 (dk_at dksX10_readStep_0 21 rfl rfl)
theorem dX10_readStep_22 : decode cX10_readStep 22 = .ok (.getfield 296, 3) := dk_180 1 40 (dk_at dksX10_readStep_1 0 rfl rfl)
theorem dX10_readStep_25 : decode cX10_readStep 25 = .ok (.iaload, 1) := dk_46 (dk_at dksX10_readStep_1 3 rfl rfl)
theorem dX10_readStep_26 : decode cX10_readStep 26 = .ok (.bipush 40, 2) := dk_16 40 (dk_at dksX10_readStep_1 4 rfl rfl)
theorem dX10_readStep_28 : decode cX10_readStep 28 = .ok (.if_icmp .eq 41, 3) := dk_159 0 41 (dk_at dksX10_readStep_1 6 rfl rfl)
theorem dX10_readStep_31 : decode cX10_readStep 31 = .ok (.iload_n 1, 1) := dk_27 (dk_at dksX10_readStep_1 9 rfl rfl)
theorem dX10_readStep_32 : decode cX10_readStep 32 = .ok (.bipush 8, 2) := dk_16 8 (dk_at dksX10_readStep_1 10 rfl rfl)
theorem dX10_readStep_34 : decode cX10_readStep 34 = .ok (.if_icmp .ne 17, 3) := dk_160 0 17 (dk_at dksX10_readStep_1 12 rfl rfl)
theorem dX10_readStep_37 : decode cX10_readStep 37 = .ok (.aload_n 0, 1) := dk_42 (dk_at dksX10_readStep_1 15 rfl rfl)
theorem dX10_readStep_38 : decode cX10_readStep 38 = .ok (.getfield 33, 3) := dk_180 0 33 (dk_at dksX10_readStep_1 16 rfl rfl)
theorem dX10_readStep_41 : decode cX10_readStep 41 = .ok (.aload_n 0, 1) := dk_42 (dk_at dksX10_readStep_1 19 rfl rfl)
theorem dX10_readStep_42 : decode cX10_readStep 42 = .ok (.getfield 296, 3) := dk_180 1 40 (dk_at dksX10_readStep_1 20 rfl rfl)
theorem dX10_readStep_45 : decode cX10_readStep 45 = .ok (.iaload, 1) := dk_46 (dk_at dksX10_readStep_1 23 rfl rfl)
theorem dX10_readStep_46 : decode cX10_readStep 46 = .ok (.bipush 6, 2) := dk_16 6 (dk_at dksX10_readStep_2 0 rfl rfl)
theorem dX10_readStep_48 : decode cX10_readStep 48 = .ok (.if_icmp .eq 21, 3) := dk_159 0 21 (dk_at dksX10_readStep_2 2 rfl rfl)
theorem dX10_readStep_51 : decode cX10_readStep 51 = .ok (.iload_n 2, 1) := dk_28 (dk_at dksX10_readStep_2 5 rfl rfl)
theorem dX10_readStep_52 : decode cX10_readStep 52 = .ok (.ifCond .eq 21, 3) := dk_153 0 21 (dk_at dksX10_readStep_2 6 rfl rfl)
theorem dX10_readStep_55 : decode cX10_readStep 55 = .ok (.aload_n 0, 1) := dk_42 (dk_at dksX10_readStep_2 9 rfl rfl)
theorem dX10_readStep_56 : decode cX10_readStep 56 = .ok (.getfield 36, 3) := dk_180 0 36 (dk_at dksX10_readStep_2 10 rfl rfl)
theorem dX10_readStep_59 : decode cX10_readStep 59 = .ok (.aload_n 0, 1) := dk_42 (dk_at dksX10_readStep_2 13 rfl rfl)
theorem dX10_readStep_60 : decode cX10_readStep 60 = .ok (.getfield 296, 3) := dk_180 1 40 (dk_at dksX10_readStep_2 14 rfl rfl)
theorem dX10_readStep_63 : decode cX10_readStep 63 = .ok (.iaload, 1) := dk_46 (dk_at dksX10_readStep_2 17 rfl rfl)
theorem dX10_readStep_64 : decode cX10_readStep 64 = .ok (.bipush 8, 2) := dk_16 8 (dk_at dksX10_readStep_2 18 rfl rfl)
theorem dX10_readStep_66 : decode cX10_readStep 66 = .ok (.if_icmp .ne 7, 3) := dk_160 0 7 (dk_at dksX10_readStep_2 20 rfl rfl)
theorem dX10_readStep_69 : decode cX10_readStep 69 = .ok (.aload_n 0, 1) := dk_42 (dk_at dksX10_readStep_2 23 rfl rfl)
theorem dX10_readStep_70 : decode cX10_readStep 70 = .ok (.invokevirtual 290, 3) := dk_182 1 34 (dk_at dksX10_readStep_3 0 rfl rfl)
theorem dX10_readStep_73 : decode cX10_readStep 73 = .ok (.aload_n 0, 1) := dk_42 (dk_at dksX10_readStep_3 3 rfl rfl)
theorem dX10_readStep_74 : decode cX10_readStep 74 = .ok (.invokevirtual 283, 3) := dk_182 1 27 (dk_at dksX10_readStep_3 4 rfl rfl)
theorem dX10_readStep_77 : decode cX10_readStep 77 = .ok (.ifCond .ne 4, 3) := dk_154 0 4 (dk_at dksX10_readStep_3 7 rfl rfl)
theorem dX10_readStep_80 : decode cX10_readStep 80 = .ok (.return_, 1) := dk_177 (dk_at dksX10_readStep_3 10 rfl rfl)
theorem dX10_readStep_81 : decode cX10_readStep 81 = .ok (.aload_n 0, 1) := dk_42 (dk_at dksX10_readStep_3 11 rfl rfl)
theorem dX10_readStep_82 : decode cX10_readStep 82 = .ok (.invokevirtual 287, 3) := dk_182 1 31 (dk_at dksX10_readStep_3 12 rfl rfl)
theorem dX10_readStep_85 : decode cX10_readStep 85 = .ok (.bipush 52, 2) := dk_16 52 (dk_at dksX10_readStep_3 15 rfl rfl)
theorem dX10_readStep_87 : decode cX10_readStep 87 = .ok (.aload_n 0, 1) := dk_42 (dk_at dksX10_readStep_3 17 rfl rfl)
theorem dX10_readStep_88 : decode cX10_readStep 88 = .ok (.getfield 296, 3) := dk_180 1 40 (dk_at dksX10_readStep_3 18 rfl rfl)
theorem dX10_readStep_91 : decode cX10_readStep 91 = .ok (.imul, 1) := dk_104 (dk_at dksX10_readStep_3 21 rfl rfl)
theorem dX10_readStep_92 : decode cX10_readStep 92 = .ok (.aload_n 0, 1) := dk_42 (dk_at dksX10_readStep_3 22 rfl rfl)
theorem dX10_readStep_93 : decode cX10_readStep 93 = .ok (.getfield 24, 3) := dk_180 0 24 (dk_at dksX10_readStep_4 0 rfl rfl)
theorem dX10_readStep_96 : decode cX10_readStep 96 = .ok (.aload_n 0, 1) := dk_42 (dk_at dksX10_readStep_4 3 rfl rfl)
theorem dX10_readStep_97 : decode cX10_readStep 97 = .ok (.getfield 296, 3) := dk_180 1 40 (dk_at dksX10_readStep_4 4 rfl rfl)
theorem dX10_readStep_100 : decode cX10_readStep 100 = .ok (.iaload, 1) := dk_46 (dk_at dksX10_readStep_4 7 rfl rfl)
theorem dX10_readStep_101 : decode cX10_readStep 101 = .ok (.iadd, 1) := dk_96 (dk_at dksX10_readStep_4 8 rfl rfl)
theorem dX10_readStep_102 : decode cX10_readStep 102 = .ok (.istore_n 3, 1) := dk_62 (dk_at dksX10_readStep_4 9 rfl rfl)
theorem dX10_readStep_103 : decode cX10_readStep 103 = .ok (.iload_n 1, 1) := dk_27 (dk_at dksX10_readStep_4 10 rfl rfl)
theorem dX10_readStep_104 : decode cX10_readStep 104 = .ok (.iconst 2, 1) := dk_5 (dk_at dksX10_readStep_4 11 rfl rfl)
theorem dX10_readStep_105 : decode cX10_readStep 105 = .ok (.if_icmp .lt 18, 3) := dk_161 0 18 (dk_at dksX10_readStep_4 12 rfl rfl)
theorem dX10_readStep_108 : decode cX10_readStep 108 = .ok (.iload_n 1, 1) := dk_27 (dk_at dksX10_readStep_4 15 rfl rfl)
theorem dX10_readStep_109 : decode cX10_readStep 109 = .ok (.bipush 8, 2) := dk_16 8 (dk_at dksX10_readStep_4 16 rfl rfl)
theorem dX10_readStep_111 : decode cX10_readStep 111 = .ok (.if_icmp .gt 12, 3) := dk_163 0 12 (dk_at dksX10_readStep_4 18 rfl rfl)
theorem dX10_readStep_114 : decode cX10_readStep 114 = .ok (.aload_n 0, 1) := dk_42 (dk_at dksX10_readStep_4 21 rfl rfl)
theorem dX10_readStep_115 : decode cX10_readStep 115 = .ok (.iload_n 3, 1) := dk_29 (dk_at dksX10_readStep_4 22 rfl rfl)
theorem dX10_readStep_116 : decode cX10_readStep 116 = .ok (.iload_n 1, 1) := dk_27 (dk_at dksX10_readStep_4 23 rfl rfl)
theorem dX10_readStep_117 : decode cX10_readStep 117 = .ok (.invokevirtual 361, 3) := dk_182 1 105 (dk_at dksX10_readStep_5 0 rfl rfl)
theorem dX10_readStep_120 : decode cX10_readStep 120 = .ok (.goto 9, 3) := dk_167 0 9 (dk_at dksX10_readStep_5 3 rfl rfl)
theorem dX10_readStep_123 : decode cX10_readStep 123 = .ok (.aload_n 0, 1) := dk_42 (dk_at dksX10_readStep_5 6 rfl rfl)
theorem dX10_readStep_124 : decode cX10_readStep 124 = .ok (.iload_n 3, 1) := dk_29 (dk_at dksX10_readStep_5 7 rfl rfl)
theorem dX10_readStep_125 : decode cX10_readStep 125 = .ok (.iload_n 1, 1) := dk_27 (dk_at dksX10_readStep_5 8 rfl rfl)
theorem dX10_readStep_126 : decode cX10_readStep 126 = .ok (.invokevirtual 364, 3) := dk_182 1 108 (dk_at dksX10_readStep_5 9 rfl rfl)
theorem dX10_readStep_129 : decode cX10_readStep 129 = .ok (.aload_n 0, 1) := dk_42 (dk_at dksX10_readStep_5 12 rfl rfl)
theorem dX10_readStep_130 : decode cX10_readStep 130 = .ok (.getfield 24, 3) := dk_180 0 24 (dk_at dksX10_readStep_5 13 rfl rfl)
theorem dX10_readStep_133 : decode cX10_readStep 133 = .ok (.aload_n 0, 1) := dk_42 (dk_at dksX10_readStep_5 16 rfl rfl)
theorem dX10_readStep_134 : decode cX10_readStep 134 = .ok (.getfield 296, 3) := dk_180 1 40 (dk_at dksX10_readStep_5 17 rfl rfl)
theorem dX10_readStep_137 : decode cX10_readStep 137 = .ok (.dup2, 1) := dk_92 (dk_at dksX10_readStep_5 20 rfl rfl)
theorem dX10_readStep_138 : decode cX10_readStep 138 = .ok (.iaload, 1) := dk_46 (dk_at dksX10_readStep_5 21 rfl rfl)
theorem dX10_readStep_139 : decode cX10_readStep 139 = .ok (.iconst 1, 1) := dk_4 (dk_at dksX10_readStep_5 22 rfl rfl)
theorem dX10_readStep_140 : decode cX10_readStep 140 = .ok (.iadd, 1) := dk_96 (dk_at dksX10_readStep_5 23 rfl rfl)
theorem dX10_readStep_141 : decode cX10_readStep 141 = .ok (.iastore, 1) := dk_79 (dk_at dksX10_readStep_6 0 rfl rfl)
theorem dX10_readStep_142 : decode cX10_readStep 142 = .ok (.aload_n 0, 1) := dk_42 (dk_at dksX10_readStep_6 1 rfl rfl)
theorem dX10_readStep_143 : decode cX10_readStep 143 = .ok (.getfield 33, 3) := dk_180 0 33 (dk_at dksX10_readStep_6 2 rfl rfl)
theorem dX10_readStep_146 : decode cX10_readStep 146 = .ok (.aload_n 0, 1) := dk_42 (dk_at dksX10_readStep_6 5 rfl rfl)
theorem dX10_readStep_147 : decode cX10_readStep 147 = .ok (.getfield 296, 3) := dk_180 1 40 (dk_at dksX10_readStep_6 6 rfl rfl)
theorem dX10_readStep_150 : decode cX10_readStep 150 = .ok (.dup2, 1) := dk_92 (dk_at dksX10_readStep_6 9 rfl rfl)
theorem dX10_readStep_151 : decode cX10_readStep 151 = .ok (.iaload, 1) := dk_46 (dk_at dksX10_readStep_6 10 rfl rfl)
theorem dX10_readStep_152 : decode cX10_readStep 152 = .ok (.iload_n 1, 1) := dk_27 (dk_at dksX10_readStep_6 11 rfl rfl)
theorem dX10_readStep_153 : decode cX10_readStep 153 = .ok (.bipush 8, 2) := dk_16 8 (dk_at dksX10_readStep_6 12 rfl rfl)
theorem dX10_readStep_155 : decode cX10_readStep 155 = .ok (.if_icmp .ne 7, 3) := dk_160 0 7 (dk_at dksX10_readStep_6 14 rfl rfl)
theorem dX10_readStep_158 : decode cX10_readStep 158 = .ok (.iconst 1, 1) := dk_4 (dk_at dksX10_readStep_6 17 rfl rfl)
theorem dX10_readStep_159 : decode cX10_readStep 159 = .ok (.goto 4, 3) := dk_167 0 4 (dk_at dksX10_readStep_6 18 rfl rfl)
theorem dX10_readStep_162 : decode cX10_readStep 162 = .ok (.iconst 0, 1) := dk_3 (dk_at dksX10_readStep_6 21 rfl rfl)
theorem dX10_readStep_163 : decode cX10_readStep 163 = .ok (.iadd, 1) := dk_96 (dk_at dksX10_readStep_6 22 rfl rfl)
theorem dX10_readStep_164 : decode cX10_readStep 164 = .ok (.iastore, 1) := dk_79 (dk_at dksX10_readStep_6 23 rfl rfl)
theorem dX10_readStep_165 : decode cX10_readStep 165 = .ok (.aload_n 0, 1) := dk_42 (dk_at dksX10_readStep_7 0 rfl rfl)
theorem dX10_readStep_166 : decode cX10_readStep 166 = .ok (.getfield 36, 3) := dk_180 0 36 (dk_at dksX10_readStep_7 1 rfl rfl)
theorem dX10_readStep_169 : decode cX10_readStep 169 = .ok (.aload_n 0, 1) := dk_42 (dk_at dksX10_readStep_7 4 rfl rfl)
theorem dX10_readStep_170 : decode cX10_readStep 170 = .ok (.getfield 296, 3) := dk_180 1 40 (dk_at dksX10_readStep_7 5 rfl rfl)
theorem dX10_readStep_173 : decode cX10_readStep 173 = .ok (.dup2, 1) := dk_92 (dk_at dksX10_readStep_7 8 rfl rfl)
theorem dX10_readStep_174 : decode cX10_readStep 174 = .ok (.iaload, 1) := dk_46 (dk_at dksX10_readStep_7 9 rfl rfl)
theorem dX10_readStep_175 : decode cX10_readStep 175 = .ok (.iload_n 2, 1) := dk_28 (dk_at dksX10_readStep_7 10 rfl rfl)
theorem dX10_readStep_176 : decode cX10_readStep 176 = .ok (.ifCond .eq 7, 3) := dk_153 0 7 (dk_at dksX10_readStep_7 11 rfl rfl)
theorem dX10_readStep_179 : decode cX10_readStep 179 = .ok (.iconst 1, 1) := dk_4 (dk_at dksX10_readStep_7 14 rfl rfl)
theorem dX10_readStep_180 : decode cX10_readStep 180 = .ok (.goto 4, 3) := dk_167 0 4 (dk_at dksX10_readStep_7 15 rfl rfl)
theorem dX10_readStep_183 : decode cX10_readStep 183 = .ok (.iconst 0, 1) := dk_3 (dk_at dksX10_readStep_7 18 rfl rfl)
theorem dX10_readStep_184 : decode cX10_readStep 184 = .ok (.iadd, 1) := dk_96 (dk_at dksX10_readStep_7 19 rfl rfl)
theorem dX10_readStep_185 : decode cX10_readStep 185 = .ok (.iastore, 1) := dk_79 (dk_at dksX10_readStep_7 20 rfl rfl)
theorem dX10_readStep_186 : decode cX10_readStep 186 = .ok (.return_, 1) := dk_177 (dk_at dksX10_readStep_7 21 rfl rfl)
abbrev cX10_readOther : ByteArray := prog_32_method_28_code
def yX10_readOther : MethodName := ⟨RX10, "readOther", "(II)V"⟩
def dkwX10_readOther_11 : List UInt8 := [3, 17, 39, 15, 182, 1, 98, 79, 177]
abbrev dktX10_readOther_11 : List UInt8 := dkwX10_readOther_11 ++ []
def dkwX10_readOther_10 : List UInt8 := [180, 0, 58, 27, 42, 42, 180, 0, 55, 27, 46, 182, 1, 123, 79, 167, 0, 17, 42, 180, 0, 55, 27, 42]
abbrev dktX10_readOther_10 : List UInt8 := dkwX10_readOther_10 ++ dktX10_readOther_11
def dkwX10_readOther_9 : List UInt8 := [167, 0, 55, 28, 16, 11, 160, 0, 35, 42, 180, 0, 55, 27, 42, 3, 16, 7, 182, 1, 98, 79, 42]
abbrev dktX10_readOther_9 : List UInt8 := dkwX10_readOther_9 ++ dktX10_readOther_10
def dkwX10_readOther_8 : List UInt8 := [27, 42, 180, 1, 6, 80, 42, 42, 180, 0, 255, 5, 160, 0, 7, 4, 167, 0, 4, 3, 182, 1, 94]
abbrev dktX10_readOther_8 : List UInt8 := dkwX10_readOther_8 ++ dktX10_readOther_9
def dkwX10_readOther_7 : List UInt8 := [153, 0, 20, 42, 27, 182, 1, 120, 153, 0, 12, 42, 6, 42, 180, 0, 248, 182, 1, 23, 42, 180, 0, 73]
abbrev dktX10_readOther_7 : List UInt8 := dkwX10_readOther_7 ++ dktX10_readOther_8
def dkwX10_readOther_6 : List UInt8 := [160, 0, 7, 4, 167, 0, 4, 3, 182, 1, 94, 167, 0, 115, 28, 16, 10, 160, 0, 57, 42, 182, 1, 27]
abbrev dktX10_readOther_6 : List UInt8 := dkwX10_readOther_6 ++ dktX10_readOther_7
def dkwX10_readOther_5 : List UInt8 := [182, 1, 120, 153, 0, 13, 42, 16, 6, 42, 180, 0, 248, 182, 1, 23, 42, 42, 180, 0, 255, 5]
abbrev dktX10_readOther_5 : List UInt8 := dkwX10_readOther_5 ++ dktX10_readOther_6
def dkwX10_readOther_4 : List UInt8 := [180, 0, 248, 79, 42, 180, 0, 73, 27, 42, 180, 1, 6, 80, 42, 182, 1, 27, 153, 0, 21, 42, 27]
abbrev dktX10_readOther_4 : List UInt8 := dkwX10_readOther_4 ++ dktX10_readOther_5
def dkwX10_readOther_3 : List UInt8 := [42, 182, 1, 117, 79, 42, 42, 20, 0, 203, 182, 1, 68, 182, 1, 94, 42, 180, 0, 70, 27, 42]
abbrev dktX10_readOther_3 : List UInt8 := dkwX10_readOther_3 ++ dktX10_readOther_4
def dkwX10_readOther_2 : List UInt8 := [28, 16, 9, 160, 0, 102, 42, 180, 0, 55, 27, 42, 3, 16, 7, 182, 1, 98, 79, 42, 180, 0, 58, 27]
abbrev dktX10_readOther_2 : List UInt8 := dkwX10_readOther_2 ++ dktX10_readOther_3
def dkwX10_readOther_1 : List UInt8 := [181, 1, 43, 167, 0, 238, 28, 4, 160, 0, 16, 42, 180, 0, 55, 27, 42, 182, 1, 117, 79, 167, 0, 220]
abbrev dktX10_readOther_1 : List UInt8 := dkwX10_readOther_1 ++ dktX10_readOther_2
def dkwX10_readOther_0 : List UInt8 := [42, 180, 0, 52, 27, 28, 79, 28, 154, 0, 21, 42, 180, 0, 55, 27, 42, 182, 1, 114, 79, 42, 4]
abbrev dktX10_readOther_0 : List UInt8 := dkwX10_readOther_0 ++ dktX10_readOther_1
theorem dksX10_readOther_0 : cX10_readOther.data.toList.drop 0 = dktX10_readOther_0 := by decide +kernel
theorem dksX10_readOther_1 : cX10_readOther.data.toList.drop 23 = dktX10_readOther_1 := dk_seg dksX10_readOther_0 23 rfl rfl
theorem dksX10_readOther_2 : cX10_readOther.data.toList.drop 47 = dktX10_readOther_2 := dk_seg dksX10_readOther_1 24 rfl rfl
theorem dksX10_readOther_3 : cX10_readOther.data.toList.drop 71 = dktX10_readOther_3 := dk_seg dksX10_readOther_2 24 rfl rfl
theorem dksX10_readOther_4 : cX10_readOther.data.toList.drop 93 = dktX10_readOther_4 := dk_seg dksX10_readOther_3 22 rfl rfl
theorem dksX10_readOther_5 : cX10_readOther.data.toList.drop 116 = dktX10_readOther_5 := dk_seg dksX10_readOther_4 23 rfl rfl
theorem dksX10_readOther_6 : cX10_readOther.data.toList.drop 138 = dktX10_readOther_6 := dk_seg dksX10_readOther_5 22 rfl rfl
theorem dksX10_readOther_7 : cX10_readOther.data.toList.drop 162 = dktX10_readOther_7 := dk_seg dksX10_readOther_6 24 rfl rfl
theorem dksX10_readOther_8 : cX10_readOther.data.toList.drop 186 = dktX10_readOther_8 := dk_seg dksX10_readOther_7 24 rfl rfl
theorem dksX10_readOther_9 : cX10_readOther.data.toList.drop 209 = dktX10_readOther_9 := dk_seg dksX10_readOther_8 23 rfl rfl
theorem dksX10_readOther_10 : cX10_readOther.data.toList.drop 232 = dktX10_readOther_10 := dk_seg dksX10_readOther_9 23 rfl rfl
theorem dksX10_readOther_11 : cX10_readOther.data.toList.drop 256 = dktX10_readOther_11 := dk_seg dksX10_readOther_10 24 rfl rfl
theorem dX10_readOther_0 : decode cX10_readOther 0 = .ok (.aload_n 0, 1) := dk_42 (dk_at dksX10_readOther_0 0 rfl rfl)
theorem dX10_readOther_1 : decode cX10_readOther 1 = .ok (.getfield 52, 3) := dk_180 0 52 (dk_at dksX10_readOther_0 1 rfl rfl)
theorem dX10_readOther_4 : decode cX10_readOther 4 = .ok (.iload_n 1, 1) := dk_27 (dk_at dksX10_readOther_0 4 rfl rfl)
theorem dX10_readOther_5 : decode cX10_readOther 5 = .ok (.iload_n 2, 1) := dk_28 (dk_at dksX10_readOther_0 5 rfl rfl)
theorem dX10_readOther_6 : decode cX10_readOther 6 = .ok (.iastore, 1) := dk_79 (dk_at dksX10_readOther_0 6 rfl rfl)
theorem dX10_readOther_7 : decode cX10_readOther 7 = .ok (.iload_n 2, 1) := dk_28 (dk_at dksX10_readOther_0 7 rfl rfl)
theorem dX10_readOther_8 : decode cX10_readOther 8 = .ok (.ifCond .ne 21, 3) := dk_154 0 21 (dk_at dksX10_readOther_0 8 rfl rfl)
theorem dX10_readOther_11 : decode cX10_readOther 11 = .ok (.aload_n 0, 1) := dk_42 (dk_at dksX10_readOther_0 11 rfl rfl)
theorem dX10_readOther_12 : decode cX10_readOther 12 = .ok (.getfield 55, 3) := dk_180 0 55 (dk_at dksX10_readOther_0 12 rfl rfl)
theorem dX10_readOther_15 : decode cX10_readOther 15 = .ok (.iload_n 1, 1) := dk_27 (dk_at dksX10_readOther_0 15 rfl rfl)
theorem dX10_readOther_16 : decode cX10_readOther 16 = .ok (.aload_n 0, 1) := dk_42 (dk_at dksX10_readOther_0 16 rfl rfl)
theorem dX10_readOther_17 : decode cX10_readOther 17 = .ok (.invokevirtual 370, 3) := dk_182 1 114 (dk_at dksX10_readOther_0 17 rfl rfl)
theorem dX10_readOther_20 : decode cX10_readOther 20 = .ok (.iastore, 1) := dk_79 (dk_at dksX10_readOther_0 20 rfl rfl)
theorem dX10_readOther_21 : decode cX10_readOther 21 = .ok (.aload_n 0, 1) := dk_42 (dk_at dksX10_readOther_0 21 rfl rfl)
theorem dX10_readOther_22 : decode cX10_readOther 22 = .ok (.iconst 1, 1) := dk_4 (dk_at dksX10_readOther_0 22 rfl rfl)
theorem dX10_readOther_23 : decode cX10_readOther 23 = .ok (.putfield 299, 3) := dk_181 1 43 (dk_at dksX10_readOther_1 0 rfl rfl)
theorem dX10_readOther_26 : decode cX10_readOther 26 = .ok (.goto 238, 3) := dk_167 0 238 (dk_at dksX10_readOther_1 3 rfl rfl)
theorem dX10_readOther_29 : decode cX10_readOther 29 = .ok (.iload_n 2, 1) := dk_28 (dk_at dksX10_readOther_1 6 rfl rfl)
theorem dX10_readOther_30 : decode cX10_readOther 30 = .ok (.iconst 1, 1) := dk_4 (dk_at dksX10_readOther_1 7 rfl rfl)
theorem dX10_readOther_31 : decode cX10_readOther 31 = .ok (.if_icmp .ne 16, 3) := dk_160 0 16 (dk_at dksX10_readOther_1 8 rfl rfl)
theorem dX10_readOther_34 : decode cX10_readOther 34 = .ok (.aload_n 0, 1) := dk_42 (dk_at dksX10_readOther_1 11 rfl rfl)
theorem dX10_readOther_35 : decode cX10_readOther 35 = .ok (.getfield 55, 3) := dk_180 0 55 (dk_at dksX10_readOther_1 12 rfl rfl)
theorem dX10_readOther_38 : decode cX10_readOther 38 = .ok (.iload_n 1, 1) := dk_27 (dk_at dksX10_readOther_1 15 rfl rfl)
theorem dX10_readOther_39 : decode cX10_readOther 39 = .ok (.aload_n 0, 1) := dk_42 (dk_at dksX10_readOther_1 16 rfl rfl)
theorem dX10_readOther_40 : decode cX10_readOther 40 = .ok (.invokevirtual 373, 3) := dk_182 1 117 (dk_at dksX10_readOther_1 17 rfl rfl)
theorem dX10_readOther_43 : decode cX10_readOther 43 = .ok (.iastore, 1) := dk_79 (dk_at dksX10_readOther_1 20 rfl rfl)
theorem dX10_readOther_44 : decode cX10_readOther 44 = .ok (.goto 220, 3) := dk_167 0 220 (dk_at dksX10_readOther_1 21 rfl rfl)
theorem dX10_readOther_47 : decode cX10_readOther 47 = .ok (.iload_n 2, 1) := dk_28 (dk_at dksX10_readOther_2 0 rfl rfl)
theorem dX10_readOther_48 : decode cX10_readOther 48 = .ok (.bipush 9, 2) := dk_16 9 (dk_at dksX10_readOther_2 1 rfl rfl)
theorem dX10_readOther_50 : decode cX10_readOther 50 = .ok (.if_icmp .ne 102, 3) := dk_160 0 102 (dk_at dksX10_readOther_2 3 rfl rfl)
theorem dX10_readOther_53 : decode cX10_readOther 53 = .ok (.aload_n 0, 1) := dk_42 (dk_at dksX10_readOther_2 6 rfl rfl)
theorem dX10_readOther_54 : decode cX10_readOther 54 = .ok (.getfield 55, 3) := dk_180 0 55 (dk_at dksX10_readOther_2 7 rfl rfl)
theorem dX10_readOther_57 : decode cX10_readOther 57 = .ok (.iload_n 1, 1) := dk_27 (dk_at dksX10_readOther_2 10 rfl rfl)
theorem dX10_readOther_58 : decode cX10_readOther 58 = .ok (.aload_n 0, 1) := dk_42 (dk_at dksX10_readOther_2 11 rfl rfl)
theorem dX10_readOther_59 : decode cX10_readOther 59 = .ok (.iconst 0, 1) := dk_3 (dk_at dksX10_readOther_2 12 rfl rfl)
theorem dX10_readOther_60 : decode cX10_readOther 60 = .ok (.bipush 7, 2) := dk_16 7 (dk_at dksX10_readOther_2 13 rfl rfl)
theorem dX10_readOther_62 : decode cX10_readOther 62 = .ok (.invokevirtual 354, 3) := dk_182 1 98 (dk_at dksX10_readOther_2 15 rfl rfl)
theorem dX10_readOther_65 : decode cX10_readOther 65 = .ok (.iastore, 1) := dk_79 (dk_at dksX10_readOther_2 18 rfl rfl)
theorem dX10_readOther_66 : decode cX10_readOther 66 = .ok (.aload_n 0, 1) := dk_42 (dk_at dksX10_readOther_2 19 rfl rfl)
theorem dX10_readOther_67 : decode cX10_readOther 67 = .ok (.getfield 58, 3) := dk_180 0 58 (dk_at dksX10_readOther_2 20 rfl rfl)
theorem dX10_readOther_70 : decode cX10_readOther 70 = .ok (.iload_n 1, 1) := dk_27 (dk_at dksX10_readOther_2 23 rfl rfl)
theorem dX10_readOther_71 : decode cX10_readOther 71 = .ok (.aload_n 0, 1) := dk_42 (dk_at dksX10_readOther_3 0 rfl rfl)
theorem dX10_readOther_72 : decode cX10_readOther 72 = .ok (.invokevirtual 373, 3) := dk_182 1 117 (dk_at dksX10_readOther_3 1 rfl rfl)
theorem dX10_readOther_75 : decode cX10_readOther 75 = .ok (.iastore, 1) := dk_79 (dk_at dksX10_readOther_3 4 rfl rfl)
theorem dX10_readOther_76 : decode cX10_readOther 76 = .ok (.aload_n 0, 1) := dk_42 (dk_at dksX10_readOther_3 5 rfl rfl)
theorem dX10_readOther_77 : decode cX10_readOther 77 = .ok (.aload_n 0, 1) := dk_42 (dk_at dksX10_readOther_3 6 rfl rfl)
theorem dX10_readOther_78 : decode cX10_readOther 78 = .ok (.ldc2_w 203, 3) := dk_20 0 203 (dk_at dksX10_readOther_3 7 rfl rfl)
theorem dX10_readOther_81 : decode cX10_readOther 81 = .ok (.invokevirtual 324, 3) := dk_182 1 68 (dk_at dksX10_readOther_3 10 rfl rfl)
theorem dX10_readOther_84 : decode cX10_readOther 84 = .ok (.invokevirtual 350, 3) := dk_182 1 94 (dk_at dksX10_readOther_3 13 rfl rfl)
theorem dX10_readOther_87 : decode cX10_readOther 87 = .ok (.aload_n 0, 1) := dk_42 (dk_at dksX10_readOther_3 16 rfl rfl)
theorem dX10_readOther_88 : decode cX10_readOther 88 = .ok (.getfield 70, 3) := dk_180 0 70 (dk_at dksX10_readOther_3 17 rfl rfl)
theorem dX10_readOther_91 : decode cX10_readOther 91 = .ok (.iload_n 1, 1) := dk_27 (dk_at dksX10_readOther_3 20 rfl rfl)
theorem dX10_readOther_92 : decode cX10_readOther 92 = .ok (.aload_n 0, 1) := dk_42 (dk_at dksX10_readOther_3 21 rfl rfl)
theorem dX10_readOther_93 : decode cX10_readOther 93 = .ok (.getfield 248, 3) := dk_180 0 248 (dk_at dksX10_readOther_4 0 rfl rfl)
theorem dX10_readOther_96 : decode cX10_readOther 96 = .ok (.iastore, 1) := dk_79 (dk_at dksX10_readOther_4 3 rfl rfl)
theorem dX10_readOther_97 : decode cX10_readOther 97 = .ok (.aload_n 0, 1) := dk_42 (dk_at dksX10_readOther_4 4 rfl rfl)
theorem dX10_readOther_98 : decode cX10_readOther 98 = .ok (.getfield 73, 3) := dk_180 0 73 (dk_at dksX10_readOther_4 5 rfl rfl)
theorem dX10_readOther_101 : decode cX10_readOther 101 = .ok (.iload_n 1, 1) := dk_27 (dk_at dksX10_readOther_4 8 rfl rfl)
theorem dX10_readOther_102 : decode cX10_readOther 102 = .ok (.aload_n 0, 1) := dk_42 (dk_at dksX10_readOther_4 9 rfl rfl)
theorem dX10_readOther_103 : decode cX10_readOther 103 = .ok (.getfield 262, 3) := dk_180 1 6 (dk_at dksX10_readOther_4 10 rfl rfl)
theorem dX10_readOther_106 : decode cX10_readOther 106 = .ok (.lastore, 1) := dk_80 (dk_at dksX10_readOther_4 13 rfl rfl)
theorem dX10_readOther_107 : decode cX10_readOther 107 = .ok (.aload_n 0, 1) := dk_42 (dk_at dksX10_readOther_4 14 rfl rfl)
theorem dX10_readOther_108 : decode cX10_readOther 108 = .ok (.invokevirtual 283, 3) := dk_182 1 27 (dk_at dksX10_readOther_4 15 rfl rfl)
theorem dX10_readOther_111 : decode cX10_readOther 111 = .ok (.ifCond .eq 21, 3) := dk_153 0 21 (dk_at dksX10_readOther_4 18 rfl rfl)
theorem dX10_readOther_114 : decode cX10_readOther 114 = .ok (.aload_n 0, 1) := dk_42 (dk_at dksX10_readOther_4 21 rfl rfl)
theorem dX10_readOther_115 : decode cX10_readOther 115 = .ok (.iload_n 1, 1) := dk_27 (dk_at dksX10_readOther_4 22 rfl rfl)
theorem dX10_readOther_116 : decode cX10_readOther 116 = .ok (.invokevirtual 376, 3) := dk_182 1 120 (dk_at dksX10_readOther_5 0 rfl rfl)
theorem dX10_readOther_119 : decode cX10_readOther 119 = .ok (.ifCond .eq 13, 3) := dk_153 0 13 (dk_at dksX10_readOther_5 3 rfl rfl)
theorem dX10_readOther_122 : decode cX10_readOther 122 = .ok (.aload_n 0, 1) := dk_42 (dk_at dksX10_readOther_5 6 rfl rfl)
theorem dX10_readOther_123 : decode cX10_readOther 123 = .ok (.bipush 6, 2) := dk_16 6 (dk_at dksX10_readOther_5 7 rfl rfl)
theorem dX10_readOther_125 : decode cX10_readOther 125 = .ok (.aload_n 0, 1) := dk_42 (dk_at dksX10_readOther_5 9 rfl rfl)
theorem dX10_readOther_126 : decode cX10_readOther 126 = .ok (.getfield 248, 3) := dk_180 0 248 (dk_at dksX10_readOther_5 10 rfl rfl)
theorem dX10_readOther_129 : decode cX10_readOther 129 = .ok (.invokevirtual 279, 3) := dk_182 1 23 (dk_at dksX10_readOther_5 13 rfl rfl)
theorem dX10_readOther_132 : decode cX10_readOther 132 = .ok (.aload_n 0, 1) := dk_42 (dk_at dksX10_readOther_5 16 rfl rfl)
theorem dX10_readOther_133 : decode cX10_readOther 133 = .ok (.aload_n 0, 1) := dk_42 (dk_at dksX10_readOther_5 17 rfl rfl)
theorem dX10_readOther_134 : decode cX10_readOther 134 = .ok (.getfield 255, 3) := dk_180 0 255 (dk_at dksX10_readOther_5 18 rfl rfl)
theorem dX10_readOther_137 : decode cX10_readOther 137 = .ok (.iconst 2, 1) := dk_5 (dk_at dksX10_readOther_5 21 rfl rfl)
theorem dX10_readOther_138 : decode cX10_readOther 138 = .ok (.if_icmp .ne 7, 3) := dk_160 0 7 (dk_at dksX10_readOther_6 0 rfl rfl)
theorem dX10_readOther_141 : decode cX10_readOther 141 = .ok (.iconst 1, 1) := dk_4 (dk_at dksX10_readOther_6 3 rfl rfl)
theorem dX10_readOther_142 : decode cX10_readOther 142 = .ok (.goto 4, 3) := dk_167 0 4 (dk_at dksX10_readOther_6 4 rfl rfl)
theorem dX10_readOther_145 : decode cX10_readOther 145 = .ok (.iconst 0, 1) := dk_3 (dk_at dksX10_readOther_6 7 rfl rfl)
theorem dX10_readOther_146 : decode cX10_readOther 146 = .ok (.invokevirtual 350, 3) := dk_182 1 94 (dk_at dksX10_readOther_6 8 rfl rfl)
theorem dX10_readOther_149 : decode cX10_readOther 149 = .ok (.goto 115, 3) := dk_167 0 115 (dk_at dksX10_readOther_6 11 rfl rfl)
theorem dX10_readOther_152 : decode cX10_readOther 152 = .ok (.iload_n 2, 1) := dk_28 (dk_at dksX10_readOther_6 14 rfl rfl)
theorem dX10_readOther_153 : decode cX10_readOther 153 = .ok (.bipush 10, 2) := dk_16 10 (dk_at dksX10_readOther_6 15 rfl rfl)
theorem dX10_readOther_155 : decode cX10_readOther 155 = .ok (.if_icmp .ne 57, 3) := dk_160 0 57 (dk_at dksX10_readOther_6 17 rfl rfl)
theorem dX10_readOther_158 : decode cX10_readOther 158 = .ok (.aload_n 0, 1) := dk_42 (dk_at dksX10_readOther_6 20 rfl rfl)
theorem dX10_readOther_159 : decode cX10_readOther 159 = .ok (.invokevirtual 283, 3) := dk_182 1 27 (dk_at dksX10_readOther_6 21 rfl rfl)
theorem dX10_readOther_162 : decode cX10_readOther 162 = .ok (.ifCond .eq 20, 3) := dk_153 0 20 (dk_at dksX10_readOther_7 0 rfl rfl)
theorem dX10_readOther_165 : decode cX10_readOther 165 = .ok (.aload_n 0, 1) := dk_42 (dk_at dksX10_readOther_7 3 rfl rfl)
theorem dX10_readOther_166 : decode cX10_readOther 166 = .ok (.iload_n 1, 1) := dk_27 (dk_at dksX10_readOther_7 4 rfl rfl)
theorem dX10_readOther_167 : decode cX10_readOther 167 = .ok (.invokevirtual 376, 3) := dk_182 1 120 (dk_at dksX10_readOther_7 5 rfl rfl)
theorem dX10_readOther_170 : decode cX10_readOther 170 = .ok (.ifCond .eq 12, 3) := dk_153 0 12 (dk_at dksX10_readOther_7 8 rfl rfl)
theorem dX10_readOther_173 : decode cX10_readOther 173 = .ok (.aload_n 0, 1) := dk_42 (dk_at dksX10_readOther_7 11 rfl rfl)
theorem dX10_readOther_174 : decode cX10_readOther 174 = .ok (.iconst 3, 1) := dk_6 (dk_at dksX10_readOther_7 12 rfl rfl)
theorem dX10_readOther_175 : decode cX10_readOther 175 = .ok (.aload_n 0, 1) := dk_42 (dk_at dksX10_readOther_7 13 rfl rfl)
theorem dX10_readOther_176 : decode cX10_readOther 176 = .ok (.getfield 248, 3) := dk_180 0 248 (dk_at dksX10_readOther_7 14 rfl rfl)
theorem dX10_readOther_179 : decode cX10_readOther 179 = .ok (.invokevirtual 279, 3) := dk_182 1 23 (dk_at dksX10_readOther_7 17 rfl rfl)
theorem dX10_readOther_182 : decode cX10_readOther 182 = .ok (.aload_n 0, 1) := dk_42 (dk_at dksX10_readOther_7 20 rfl rfl)
theorem dX10_readOther_183 : decode cX10_readOther 183 = .ok (.getfield 73, 3) := dk_180 0 73 (dk_at dksX10_readOther_7 21 rfl rfl)
theorem dX10_readOther_186 : decode cX10_readOther 186 = .ok (.iload_n 1, 1) := dk_27 (dk_at dksX10_readOther_8 0 rfl rfl)
theorem dX10_readOther_187 : decode cX10_readOther 187 = .ok (.aload_n 0, 1) := dk_42 (dk_at dksX10_readOther_8 1 rfl rfl)
theorem dX10_readOther_188 : decode cX10_readOther 188 = .ok (.getfield 262, 3) := dk_180 1 6 (dk_at dksX10_readOther_8 2 rfl rfl)
theorem dX10_readOther_191 : decode cX10_readOther 191 = .ok (.lastore, 1) := dk_80 (dk_at dksX10_readOther_8 5 rfl rfl)
theorem dX10_readOther_192 : decode cX10_readOther 192 = .ok (.aload_n 0, 1) := dk_42 (dk_at dksX10_readOther_8 6 rfl rfl)
theorem dX10_readOther_193 : decode cX10_readOther 193 = .ok (.aload_n 0, 1) := dk_42 (dk_at dksX10_readOther_8 7 rfl rfl)
theorem dX10_readOther_194 : decode cX10_readOther 194 = .ok (.getfield 255, 3) := dk_180 0 255 (dk_at dksX10_readOther_8 8 rfl rfl)
theorem dX10_readOther_197 : decode cX10_readOther 197 = .ok (.iconst 2, 1) := dk_5 (dk_at dksX10_readOther_8 11 rfl rfl)
theorem dX10_readOther_198 : decode cX10_readOther 198 = .ok (.if_icmp .ne 7, 3) := dk_160 0 7 (dk_at dksX10_readOther_8 12 rfl rfl)
theorem dX10_readOther_201 : decode cX10_readOther 201 = .ok (.iconst 1, 1) := dk_4 (dk_at dksX10_readOther_8 15 rfl rfl)
theorem dX10_readOther_202 : decode cX10_readOther 202 = .ok (.goto 4, 3) := dk_167 0 4 (dk_at dksX10_readOther_8 16 rfl rfl)
theorem dX10_readOther_205 : decode cX10_readOther 205 = .ok (.iconst 0, 1) := dk_3 (dk_at dksX10_readOther_8 19 rfl rfl)
theorem dX10_readOther_206 : decode cX10_readOther 206 = .ok (.invokevirtual 350, 3) := dk_182 1 94 (dk_at dksX10_readOther_8 20 rfl rfl)
theorem dX10_readOther_209 : decode cX10_readOther 209 = .ok (.goto 55, 3) := dk_167 0 55 (dk_at dksX10_readOther_9 0 rfl rfl)
theorem dX10_readOther_212 : decode cX10_readOther 212 = .ok (.iload_n 2, 1) := dk_28 (dk_at dksX10_readOther_9 3 rfl rfl)
theorem dX10_readOther_213 : decode cX10_readOther 213 = .ok (.bipush 11, 2) := dk_16 11 (dk_at dksX10_readOther_9 4 rfl rfl)
theorem dX10_readOther_215 : decode cX10_readOther 215 = .ok (.if_icmp .ne 35, 3) := dk_160 0 35 (dk_at dksX10_readOther_9 6 rfl rfl)
theorem dX10_readOther_218 : decode cX10_readOther 218 = .ok (.aload_n 0, 1) := dk_42 (dk_at dksX10_readOther_9 9 rfl rfl)
theorem dX10_readOther_219 : decode cX10_readOther 219 = .ok (.getfield 55, 3) := dk_180 0 55 (dk_at dksX10_readOther_9 10 rfl rfl)
theorem dX10_readOther_222 : decode cX10_readOther 222 = .ok (.iload_n 1, 1) := dk_27 (dk_at dksX10_readOther_9 13 rfl rfl)
theorem dX10_readOther_223 : decode cX10_readOther 223 = .ok (.aload_n 0, 1) := dk_42 (dk_at dksX10_readOther_9 14 rfl rfl)
theorem dX10_readOther_224 : decode cX10_readOther 224 = .ok (.iconst 0, 1) := dk_3 (dk_at dksX10_readOther_9 15 rfl rfl)
theorem dX10_readOther_225 : decode cX10_readOther 225 = .ok (.bipush 7, 2) := dk_16 7 (dk_at dksX10_readOther_9 16 rfl rfl)
theorem dX10_readOther_227 : decode cX10_readOther 227 = .ok (.invokevirtual 354, 3) := dk_182 1 98 (dk_at dksX10_readOther_9 18 rfl rfl)
theorem dX10_readOther_230 : decode cX10_readOther 230 = .ok (.iastore, 1) := dk_79 (dk_at dksX10_readOther_9 21 rfl rfl)
theorem dX10_readOther_231 : decode cX10_readOther 231 = .ok (.aload_n 0, 1) := dk_42 (dk_at dksX10_readOther_9 22 rfl rfl)
theorem dX10_readOther_232 : decode cX10_readOther 232 = .ok (.getfield 58, 3) := dk_180 0 58 (dk_at dksX10_readOther_10 0 rfl rfl)
theorem dX10_readOther_235 : decode cX10_readOther 235 = .ok (.iload_n 1, 1) := dk_27 (dk_at dksX10_readOther_10 3 rfl rfl)
theorem dX10_readOther_236 : decode cX10_readOther 236 = .ok (.aload_n 0, 1) := dk_42 (dk_at dksX10_readOther_10 4 rfl rfl)
theorem dX10_readOther_237 : decode cX10_readOther 237 = .ok (.aload_n 0, 1) := dk_42 (dk_at dksX10_readOther_10 5 rfl rfl)
theorem dX10_readOther_238 : decode cX10_readOther 238 = .ok (.getfield 55, 3) := dk_180 0 55 (dk_at dksX10_readOther_10 6 rfl rfl)
theorem dX10_readOther_241 : decode cX10_readOther 241 = .ok (.iload_n 1, 1) := dk_27 (dk_at dksX10_readOther_10 9 rfl rfl)
theorem dX10_readOther_242 : decode cX10_readOther 242 = .ok (.iaload, 1) := dk_46 (dk_at dksX10_readOther_10 10 rfl rfl)
theorem dX10_readOther_243 : decode cX10_readOther 243 = .ok (.invokevirtual 379, 3) := dk_182 1 123 (dk_at dksX10_readOther_10 11 rfl rfl)
theorem dX10_readOther_246 : decode cX10_readOther 246 = .ok (.iastore, 1) := dk_79 (dk_at dksX10_readOther_10 14 rfl rfl)
theorem dX10_readOther_247 : decode cX10_readOther 247 = .ok (.goto 17, 3) := dk_167 0 17 (dk_at dksX10_readOther_10 15 rfl rfl)
theorem dX10_readOther_250 : decode cX10_readOther 250 = .ok (.aload_n 0, 1) := dk_42 (dk_at dksX10_readOther_10 18 rfl rfl)
theorem dX10_readOther_251 : decode cX10_readOther 251 = .ok (.getfield 55, 3) := dk_180 0 55 (dk_at dksX10_readOther_10 19 rfl rfl)
theorem dX10_readOther_254 : decode cX10_readOther 254 = .ok (.iload_n 1, 1) := dk_27 (dk_at dksX10_readOther_10 22 rfl rfl)
theorem dX10_readOther_255 : decode cX10_readOther 255 = .ok (.aload_n 0, 1) := dk_42 (dk_at dksX10_readOther_10 23 rfl rfl)
theorem dX10_readOther_256 : decode cX10_readOther 256 = .ok (.iconst 0, 1) := dk_3 (dk_at dksX10_readOther_11 0 rfl rfl)
theorem dX10_readOther_257 : decode cX10_readOther 257 = .ok (.sipush 9999, 3) := dk_17 39 15 (dk_at dksX10_readOther_11 1 rfl rfl)
theorem dX10_readOther_260 : decode cX10_readOther 260 = .ok (.invokevirtual 354, 3) := dk_182 1 98 (dk_at dksX10_readOther_11 4 rfl rfl)
theorem dX10_readOther_263 : decode cX10_readOther 263 = .ok (.iastore, 1) := dk_79 (dk_at dksX10_readOther_11 7 rfl rfl)
theorem dX10_readOther_264 : decode cX10_readOther 264 = .ok (.return_, 1) := dk_177 (dk_at dksX10_readOther_11 8 rfl rfl)
abbrev cX10_who : ByteArray := prog_32_method_25_code
def yX10_who : MethodName := ⟨RX10, "who", "()I"⟩
def dkwX10_who_2 : List UInt8 := [182, 1, 31, 27, 172]
abbrev dktX10_who_2 : List UInt8 := dkwX10_who_2 ++ []
def dkwX10_who_1 : List UInt8 := [180, 1, 40, 46, 161, 0, 12, 42, 7, 42, 180, 0, 248, 182, 1, 23, 42, 182, 1, 27, 153, 0, 7, 42]
abbrev dktX10_who_1 : List UInt8 := dkwX10_who_1 ++ dktX10_who_2
def dkwX10_who_0 : List UInt8 := [42, 182, 1, 111, 60, 27, 156, 0, 10, 42, 182, 1, 34, 167, 0, 25, 27, 42, 180, 0, 20, 42]
abbrev dktX10_who_0 : List UInt8 := dkwX10_who_0 ++ dktX10_who_1
theorem dksX10_who_0 : cX10_who.data.toList.drop 0 = dktX10_who_0 := by decide +kernel
theorem dksX10_who_1 : cX10_who.data.toList.drop 22 = dktX10_who_1 := dk_seg dksX10_who_0 22 rfl rfl
theorem dksX10_who_2 : cX10_who.data.toList.drop 46 = dktX10_who_2 := dk_seg dksX10_who_1 24 rfl rfl
theorem dX10_who_0 : decode cX10_who 0 = .ok (.aload_n 0, 1) := dk_42 (dk_at dksX10_who_0 0 rfl rfl)
theorem dX10_who_1 : decode cX10_who 1 = .ok (.invokevirtual 367, 3) := dk_182 1 111 (dk_at dksX10_who_0 1 rfl rfl)
theorem dX10_who_4 : decode cX10_who 4 = .ok (.istore_n 1, 1) := dk_60 (dk_at dksX10_who_0 4 rfl rfl)
theorem dX10_who_5 : decode cX10_who 5 = .ok (.iload_n 1, 1) := dk_27 (dk_at dksX10_who_0 5 rfl rfl)
theorem dX10_who_6 : decode cX10_who 6 = .ok (.ifCond .ge 10, 3) := dk_156 0 10 (dk_at dksX10_who_0 6 rfl rfl)
theorem dX10_who_9 : decode cX10_who 9 = .ok (.aload_n 0, 1) := dk_42 (dk_at dksX10_who_0 9 rfl rfl)
theorem dX10_who_10 : decode cX10_who 10 = .ok (.invokevirtual 290, 3) := dk_182 1 34 (dk_at dksX10_who_0 10 rfl rfl)
theorem dX10_who_13 : decode cX10_who 13 = .ok (.goto 25, 3) := dk_167 0 25 (dk_at dksX10_who_0 13 rfl rfl)
theorem dX10_who_16 : decode cX10_who 16 = .ok (.iload_n 1, 1) := dk_27 (dk_at dksX10_who_0 16 rfl rfl)
theorem dX10_who_17 : decode cX10_who 17 = .ok (.aload_n 0, 1) := dk_42 (dk_at dksX10_who_0 17 rfl rfl)
theorem dX10_who_18 : decode cX10_who 18 = .ok (.getfield 20, 3) := dk_180 0 20 (dk_at dksX10_who_0 18 rfl rfl)
theorem dX10_who_21 : decode cX10_who 21 = .ok (.aload_n 0, 1) := dk_42 (dk_at dksX10_who_0 21 rfl rfl)
theorem dX10_who_22 : decode cX10_who 22 = .ok (.getfield 296, 3) := dk_180 1 40 (dk_at dksX10_who_1 0 rfl rfl)
theorem dX10_who_25 : decode cX10_who 25 = .ok (.iaload, 1) := dk_46 (dk_at dksX10_who_1 3 rfl rfl)
theorem dX10_who_26 : decode cX10_who 26 = .ok (.if_icmp .lt 12, 3) := dk_161 0 12 (dk_at dksX10_who_1 4 rfl rfl)
theorem dX10_who_29 : decode cX10_who 29 = .ok (.aload_n 0, 1) := dk_42 (dk_at dksX10_who_1 7 rfl rfl)
theorem dX10_who_30 : decode cX10_who 30 = .ok (.iconst 4, 1) := dk_7 (dk_at dksX10_who_1 8 rfl rfl)
theorem dX10_who_31 : decode cX10_who 31 = .ok (.aload_n 0, 1) := dk_42 (dk_at dksX10_who_1 9 rfl rfl)
theorem dX10_who_32 : decode cX10_who 32 = .ok (.getfield 248, 3) := dk_180 0 248 (dk_at dksX10_who_1 10 rfl rfl)
theorem dX10_who_35 : decode cX10_who 35 = .ok (.invokevirtual 279, 3) := dk_182 1 23 (dk_at dksX10_who_1 13 rfl rfl)
theorem dX10_who_38 : decode cX10_who 38 = .ok (.aload_n 0, 1) := dk_42 (dk_at dksX10_who_1 16 rfl rfl)
theorem dX10_who_39 : decode cX10_who 39 = .ok (.invokevirtual 283, 3) := dk_182 1 27 (dk_at dksX10_who_1 17 rfl rfl)
theorem dX10_who_42 : decode cX10_who 42 = .ok (.ifCond .eq 7, 3) := dk_153 0 7 (dk_at dksX10_who_1 20 rfl rfl)
theorem dX10_who_45 : decode cX10_who 45 = .ok (.aload_n 0, 1) := dk_42 (dk_at dksX10_who_1 23 rfl rfl)
theorem dX10_who_46 : decode cX10_who 46 = .ok (.invokevirtual 287, 3) := dk_182 1 31 (dk_at dksX10_who_2 0 rfl rfl)
theorem dX10_who_49 : decode cX10_who 49 = .ok (.iload_n 1, 1) := dk_27 (dk_at dksX10_who_2 3 rfl rfl)
theorem dX10_who_50 : decode cX10_who 50 = .ok (.ireturn, 1) := dk_172 (dk_at dksX10_who_2 4 rfl rfl)
abbrev cX10_colour : ByteArray := prog_32_method_26_code
def yX10_colour : MethodName := ⟨RX10, "colour", "()I"⟩
def dkwX10_colour_2 : List UInt8 := [167, 0, 4, 3, 182, 1, 94, 27, 172]
abbrev dktX10_colour_2 : List UInt8 := dkwX10_colour_2 ++ []
def dkwX10_colour_1 : List UInt8 := [60, 42, 42, 20, 0, 217, 182, 1, 68, 154, 0, 13, 42, 20, 0, 219, 182, 1, 68, 153, 0, 7, 4]
abbrev dktX10_colour_1 : List UInt8 := dkwX10_colour_1 ++ dktX10_colour_2
def dkwX10_colour_0 : List UInt8 := [42, 182, 1, 27, 154, 0, 5, 3, 172, 42, 20, 0, 217, 182, 1, 68, 153, 0, 7, 4, 167, 0, 4, 3]
abbrev dktX10_colour_0 : List UInt8 := dkwX10_colour_0 ++ dktX10_colour_1
theorem dksX10_colour_0 : cX10_colour.data.toList.drop 0 = dktX10_colour_0 := by decide +kernel
theorem dksX10_colour_1 : cX10_colour.data.toList.drop 24 = dktX10_colour_1 := dk_seg dksX10_colour_0 24 rfl rfl
theorem dksX10_colour_2 : cX10_colour.data.toList.drop 47 = dktX10_colour_2 := dk_seg dksX10_colour_1 23 rfl rfl
theorem dX10_colour_0 : decode cX10_colour 0 = .ok (.aload_n 0, 1) := dk_42 (dk_at dksX10_colour_0 0 rfl rfl)
theorem dX10_colour_1 : decode cX10_colour 1 = .ok (.invokevirtual 283, 3) := dk_182 1 27 (dk_at dksX10_colour_0 1 rfl rfl)
theorem dX10_colour_4 : decode cX10_colour 4 = .ok (.ifCond .ne 5, 3) := dk_154 0 5 (dk_at dksX10_colour_0 4 rfl rfl)
theorem dX10_colour_7 : decode cX10_colour 7 = .ok (.iconst 0, 1) := dk_3 (dk_at dksX10_colour_0 7 rfl rfl)
theorem dX10_colour_8 : decode cX10_colour 8 = .ok (.ireturn, 1) := dk_172 (dk_at dksX10_colour_0 8 rfl rfl)
theorem dX10_colour_9 : decode cX10_colour 9 = .ok (.aload_n 0, 1) := dk_42 (dk_at dksX10_colour_0 9 rfl rfl)
theorem dX10_colour_10 : decode cX10_colour 10 = .ok (.ldc2_w 217, 3) := dk_20 0 217 (dk_at dksX10_colour_0 10 rfl rfl)
theorem dX10_colour_13 : decode cX10_colour 13 = .ok (.invokevirtual 324, 3) := dk_182 1 68 (dk_at dksX10_colour_0 13 rfl rfl)
theorem dX10_colour_16 : decode cX10_colour 16 = .ok (.ifCond .eq 7, 3) := dk_153 0 7 (dk_at dksX10_colour_0 16 rfl rfl)
theorem dX10_colour_19 : decode cX10_colour 19 = .ok (.iconst 1, 1) := dk_4 (dk_at dksX10_colour_0 19 rfl rfl)
theorem dX10_colour_20 : decode cX10_colour 20 = .ok (.goto 4, 3) := dk_167 0 4 (dk_at dksX10_colour_0 20 rfl rfl)
theorem dX10_colour_23 : decode cX10_colour 23 = .ok (.iconst 0, 1) := dk_3 (dk_at dksX10_colour_0 23 rfl rfl)
theorem dX10_colour_24 : decode cX10_colour 24 = .ok (.istore_n 1, 1) := dk_60 (dk_at dksX10_colour_1 0 rfl rfl)
theorem dX10_colour_25 : decode cX10_colour 25 = .ok (.aload_n 0, 1) := dk_42 (dk_at dksX10_colour_1 1 rfl rfl)
theorem dX10_colour_26 : decode cX10_colour 26 = .ok (.aload_n 0, 1) := dk_42 (dk_at dksX10_colour_1 2 rfl rfl)
theorem dX10_colour_27 : decode cX10_colour 27 = .ok (.ldc2_w 217, 3) := dk_20 0 217 (dk_at dksX10_colour_1 3 rfl rfl)
theorem dX10_colour_30 : decode cX10_colour 30 = .ok (.invokevirtual 324, 3) := dk_182 1 68 (dk_at dksX10_colour_1 6 rfl rfl)
theorem dX10_colour_33 : decode cX10_colour 33 = .ok (.ifCond .ne 13, 3) := dk_154 0 13 (dk_at dksX10_colour_1 9 rfl rfl)
theorem dX10_colour_36 : decode cX10_colour 36 = .ok (.aload_n 0, 1) := dk_42 (dk_at dksX10_colour_1 12 rfl rfl)
theorem dX10_colour_37 : decode cX10_colour 37 = .ok (.ldc2_w 219, 3) := dk_20 0 219 (dk_at dksX10_colour_1 13 rfl rfl)
theorem dX10_colour_40 : decode cX10_colour 40 = .ok (.invokevirtual 324, 3) := dk_182 1 68 (dk_at dksX10_colour_1 16 rfl rfl)
theorem dX10_colour_43 : decode cX10_colour 43 = .ok (.ifCond .eq 7, 3) := dk_153 0 7 (dk_at dksX10_colour_1 19 rfl rfl)
theorem dX10_colour_46 : decode cX10_colour 46 = .ok (.iconst 1, 1) := dk_4 (dk_at dksX10_colour_1 22 rfl rfl)
theorem dX10_colour_47 : decode cX10_colour 47 = .ok (.goto 4, 3) := dk_167 0 4 (dk_at dksX10_colour_2 0 rfl rfl)
theorem dX10_colour_50 : decode cX10_colour 50 = .ok (.iconst 0, 1) := dk_3 (dk_at dksX10_colour_2 3 rfl rfl)
theorem dX10_colour_51 : decode cX10_colour 51 = .ok (.invokevirtual 350, 3) := dk_182 1 94 (dk_at dksX10_colour_2 4 rfl rfl)
theorem dX10_colour_54 : decode cX10_colour 54 = .ok (.iload_n 1, 1) := dk_27 (dk_at dksX10_colour_2 7 rfl rfl)
theorem dX10_colour_55 : decode cX10_colour 55 = .ok (.ireturn, 1) := dk_172 (dk_at dksX10_colour_2 8 rfl rfl)
abbrev cX10_isMarked : ByteArray := prog_32_method_29_code
def yX10_isMarked : MethodName := ⟨RX10, "isMarked", "(I)Z"⟩
def dkwX10_isMarked_2 : List UInt8 := [4, 172, 132, 2, 1, 167, 255, 213, 3, 172]
abbrev dktX10_isMarked_2 : List UInt8 := dkwX10_isMarked_2 ++ []
def dkwX10_isMarked_1 : List UInt8 := [180, 0, 52, 28, 46, 16, 10, 160, 0, 19, 42, 180, 0, 73, 28, 47, 42, 180, 1, 6, 148, 154, 0, 5]
abbrev dktX10_isMarked_1 : List UInt8 := dkwX10_isMarked_1 ++ dktX10_isMarked_2
def dkwX10_isMarked_0 : List UInt8 := [16, 52, 42, 180, 1, 40, 104, 61, 28, 27, 162, 0, 44, 42, 180, 0, 255, 5, 160, 0, 30, 42]
abbrev dktX10_isMarked_0 : List UInt8 := dkwX10_isMarked_0 ++ dktX10_isMarked_1
theorem dksX10_isMarked_0 : cX10_isMarked.data.toList.drop 0 = dktX10_isMarked_0 := by decide +kernel
theorem dksX10_isMarked_1 : cX10_isMarked.data.toList.drop 22 = dktX10_isMarked_1 := dk_seg dksX10_isMarked_0 22 rfl rfl
theorem dksX10_isMarked_2 : cX10_isMarked.data.toList.drop 46 = dktX10_isMarked_2 := dk_seg dksX10_isMarked_1 24 rfl rfl
theorem dX10_isMarked_0 : decode cX10_isMarked 0 = .ok (.bipush 52, 2) := dk_16 52 (dk_at dksX10_isMarked_0 0 rfl rfl)
theorem dX10_isMarked_2 : decode cX10_isMarked 2 = .ok (.aload_n 0, 1) := dk_42 (dk_at dksX10_isMarked_0 2 rfl rfl)
theorem dX10_isMarked_3 : decode cX10_isMarked 3 = .ok (.getfield 296, 3) := dk_180 1 40 (dk_at dksX10_isMarked_0 3 rfl rfl)
theorem dX10_isMarked_6 : decode cX10_isMarked 6 = .ok (.imul, 1) := dk_104 (dk_at dksX10_isMarked_0 6 rfl rfl)
theorem dX10_isMarked_7 : decode cX10_isMarked 7 = .ok (.istore_n 2, 1) := dk_61 (dk_at dksX10_isMarked_0 7 rfl rfl)
theorem dX10_isMarked_8 : decode cX10_isMarked 8 = .ok (.iload_n 2, 1) := dk_28 (dk_at dksX10_isMarked_0 8 rfl rfl)
theorem dX10_isMarked_9 : decode cX10_isMarked 9 = .ok (.iload_n 1, 1) := dk_27 (dk_at dksX10_isMarked_0 9 rfl rfl)
theorem dX10_isMarked_10 : decode cX10_isMarked 10 = .ok (.if_icmp .ge 44, 3) := dk_162 0 44 (dk_at dksX10_isMarked_0 10 rfl rfl)
theorem dX10_isMarked_13 : decode cX10_isMarked 13 = .ok (.aload_n 0, 1) := dk_42 (dk_at dksX10_isMarked_0 13 rfl rfl)
theorem dX10_isMarked_14 : decode cX10_isMarked 14 = .ok (.getfield 255, 3) := dk_180 0 255 (dk_at dksX10_isMarked_0 14 rfl rfl)
theorem dX10_isMarked_17 : decode cX10_isMarked 17 = .ok (.iconst 2, 1) := dk_5 (dk_at dksX10_isMarked_0 17 rfl rfl)
theorem dX10_isMarked_18 : decode cX10_isMarked 18 = .ok (.if_icmp .ne 30, 3) := dk_160 0 30 (dk_at dksX10_isMarked_0 18 rfl rfl)
theorem dX10_isMarked_21 : decode cX10_isMarked 21 = .ok (.aload_n 0, 1) := dk_42 (dk_at dksX10_isMarked_0 21 rfl rfl)
theorem dX10_isMarked_22 : decode cX10_isMarked 22 = .ok (.getfield 52, 3) := dk_180 0 52 (dk_at dksX10_isMarked_1 0 rfl rfl)
theorem dX10_isMarked_25 : decode cX10_isMarked 25 = .ok (.iload_n 2, 1) := dk_28 (dk_at dksX10_isMarked_1 3 rfl rfl)
theorem dX10_isMarked_26 : decode cX10_isMarked 26 = .ok (.iaload, 1) := dk_46 (dk_at dksX10_isMarked_1 4 rfl rfl)
theorem dX10_isMarked_27 : decode cX10_isMarked 27 = .ok (.bipush 10, 2) := dk_16 10 (dk_at dksX10_isMarked_1 5 rfl rfl)
theorem dX10_isMarked_29 : decode cX10_isMarked 29 = .ok (.if_icmp .ne 19, 3) := dk_160 0 19 (dk_at dksX10_isMarked_1 7 rfl rfl)
theorem dX10_isMarked_32 : decode cX10_isMarked 32 = .ok (.aload_n 0, 1) := dk_42 (dk_at dksX10_isMarked_1 10 rfl rfl)
theorem dX10_isMarked_33 : decode cX10_isMarked 33 = .ok (.getfield 73, 3) := dk_180 0 73 (dk_at dksX10_isMarked_1 11 rfl rfl)
theorem dX10_isMarked_36 : decode cX10_isMarked 36 = .ok (.iload_n 2, 1) := dk_28 (dk_at dksX10_isMarked_1 14 rfl rfl)
theorem dX10_isMarked_37 : decode cX10_isMarked 37 = .ok (.laload, 1) := dk_47 (dk_at dksX10_isMarked_1 15 rfl rfl)
theorem dX10_isMarked_38 : decode cX10_isMarked 38 = .ok (.aload_n 0, 1) := dk_42 (dk_at dksX10_isMarked_1 16 rfl rfl)
theorem dX10_isMarked_39 : decode cX10_isMarked 39 = .ok (.getfield 262, 3) := dk_180 1 6 (dk_at dksX10_isMarked_1 17 rfl rfl)
theorem dX10_isMarked_42 : decode cX10_isMarked 42 = .ok (.lcmp, 1) := dk_148 (dk_at dksX10_isMarked_1 20 rfl rfl)
theorem dX10_isMarked_43 : decode cX10_isMarked 43 = .ok (.ifCond .ne 5, 3) := dk_154 0 5 (dk_at dksX10_isMarked_1 21 rfl rfl)
theorem dX10_isMarked_46 : decode cX10_isMarked 46 = .ok (.iconst 1, 1) := dk_4 (dk_at dksX10_isMarked_2 0 rfl rfl)
theorem dX10_isMarked_47 : decode cX10_isMarked 47 = .ok (.ireturn, 1) := dk_172 (dk_at dksX10_isMarked_2 1 rfl rfl)
theorem dX10_isMarked_48 : decode cX10_isMarked 48 = .ok (.iinc 2 1, 3) := dk_132 2 1 (dk_at dksX10_isMarked_2 2 rfl rfl)
theorem dX10_isMarked_51 : decode cX10_isMarked 51 = .ok (.goto (-43), 3) := dk_167 255 213 (dk_at dksX10_isMarked_2 5 rfl rfl)
theorem dX10_isMarked_54 : decode cX10_isMarked 54 = .ok (.iconst 0, 1) := dk_3 (dk_at dksX10_isMarked_2 8 rfl rfl)
theorem dX10_isMarked_55 : decode cX10_isMarked 55 = .ok (.ireturn, 1) := dk_172 (dk_at dksX10_isMarked_2 9 rfl rfl)
abbrev cX10_settleMarks : ByteArray := prog_32_method_32_code
def yX10_settleMarks : MethodName := ⟨RX10, "settleMarks", "()V"⟩
def dkwX10_settleMarks_6 : List UInt8 := [180, 0, 70, 27, 46, 182, 1, 23, 132, 1, 1, 167, 255, 112, 177]
abbrev dktX10_settleMarks_6 : List UInt8 := dkwX10_settleMarks_6 ++ []
def dkwX10_settleMarks_5 : List UInt8 := [104, 100, 79, 132, 2, 1, 167, 255, 190, 42, 180, 0, 61, 27, 46, 156, 0, 15, 42, 16, 6, 42]
abbrev dktX10_settleMarks_5 : List UInt8 := dkwX10_settleMarks_5 ++ dktX10_settleMarks_6
def dkwX10_settleMarks_4 : List UInt8 := [28, 47, 42, 180, 0, 73, 27, 47, 148, 154, 0, 18, 42, 180, 0, 61, 27, 28, 16, 52, 42, 180, 1, 40]
abbrev dktX10_settleMarks_4 : List UInt8 := dkwX10_settleMarks_4 ++ dktX10_settleMarks_5
def dkwX10_settleMarks_3 : List UInt8 := [42, 180, 1, 40, 46, 96, 162, 0, 51, 42, 180, 0, 52, 28, 46, 16, 10, 160, 0, 34, 42, 180, 0, 73]
abbrev dktX10_settleMarks_3 : List UInt8 := dkwX10_settleMarks_3 ++ dktX10_settleMarks_4
def dkwX10_settleMarks_2 : List UInt8 := [167, 0, 102, 42, 180, 0, 61, 27, 2, 79, 27, 61, 28, 16, 52, 42, 180, 1, 40, 104, 42, 180, 0, 24]
abbrev dktX10_settleMarks_2 : List UInt8 := dkwX10_settleMarks_2 ++ dktX10_settleMarks_3
def dkwX10_settleMarks_1 : List UInt8 := [46, 96, 162, 0, 129, 42, 182, 1, 27, 153, 0, 122, 42, 180, 0, 52, 27, 46, 16, 9, 159, 0, 6]
abbrev dktX10_settleMarks_1 : List UInt8 := dkwX10_settleMarks_1 ++ dktX10_settleMarks_2
def dkwX10_settleMarks_0 : List UInt8 := [16, 52, 42, 180, 1, 40, 104, 60, 27, 16, 52, 42, 180, 1, 40, 104, 42, 180, 0, 24, 42, 180, 1, 40]
abbrev dktX10_settleMarks_0 : List UInt8 := dkwX10_settleMarks_0 ++ dktX10_settleMarks_1
theorem dksX10_settleMarks_0 : cX10_settleMarks.data.toList.drop 0 = dktX10_settleMarks_0 := by decide +kernel
theorem dksX10_settleMarks_1 : cX10_settleMarks.data.toList.drop 24 = dktX10_settleMarks_1 := dk_seg dksX10_settleMarks_0 24 rfl rfl
theorem dksX10_settleMarks_2 : cX10_settleMarks.data.toList.drop 47 = dktX10_settleMarks_2 := dk_seg dksX10_settleMarks_1 23 rfl rfl
theorem dksX10_settleMarks_3 : cX10_settleMarks.data.toList.drop 71 = dktX10_settleMarks_3 := dk_seg dksX10_settleMarks_2 24 rfl rfl
theorem dksX10_settleMarks_4 : cX10_settleMarks.data.toList.drop 95 = dktX10_settleMarks_4 := dk_seg dksX10_settleMarks_3 24 rfl rfl
theorem dksX10_settleMarks_5 : cX10_settleMarks.data.toList.drop 119 = dktX10_settleMarks_5 := dk_seg dksX10_settleMarks_4 24 rfl rfl
theorem dksX10_settleMarks_6 : cX10_settleMarks.data.toList.drop 141 = dktX10_settleMarks_6 := dk_seg dksX10_settleMarks_5 22 rfl rfl
theorem dX10_settleMarks_0 : decode cX10_settleMarks 0 = .ok (.bipush 52, 2) := dk_16 52 (dk_at dksX10_settleMarks_0 0 rfl rfl)
theorem dX10_settleMarks_2 : decode cX10_settleMarks 2 = .ok (.aload_n 0, 1) := dk_42 (dk_at dksX10_settleMarks_0 2 rfl rfl)
theorem dX10_settleMarks_3 : decode cX10_settleMarks 3 = .ok (.getfield 296, 3) := dk_180 1 40 (dk_at dksX10_settleMarks_0 3 rfl rfl)
theorem dX10_settleMarks_6 : decode cX10_settleMarks 6 = .ok (.imul, 1) := dk_104 (dk_at dksX10_settleMarks_0 6 rfl rfl)
theorem dX10_settleMarks_7 : decode cX10_settleMarks 7 = .ok (.istore_n 1, 1) := dk_60 (dk_at dksX10_settleMarks_0 7 rfl rfl)
theorem dX10_settleMarks_8 : decode cX10_settleMarks 8 = .ok (.iload_n 1, 1) := dk_27 (dk_at dksX10_settleMarks_0 8 rfl rfl)
theorem dX10_settleMarks_9 : decode cX10_settleMarks 9 = .ok (.bipush 52, 2) := dk_16 52 (dk_at dksX10_settleMarks_0 9 rfl rfl)
theorem dX10_settleMarks_11 : decode cX10_settleMarks 11 = .ok (.aload_n 0, 1) := dk_42 (dk_at dksX10_settleMarks_0 11 rfl rfl)
theorem dX10_settleMarks_12 : decode cX10_settleMarks 12 = .ok (.getfield 296, 3) := dk_180 1 40 (dk_at dksX10_settleMarks_0 12 rfl rfl)
theorem dX10_settleMarks_15 : decode cX10_settleMarks 15 = .ok (.imul, 1) := dk_104 (dk_at dksX10_settleMarks_0 15 rfl rfl)
theorem dX10_settleMarks_16 : decode cX10_settleMarks 16 = .ok (.aload_n 0, 1) := dk_42 (dk_at dksX10_settleMarks_0 16 rfl rfl)
theorem dX10_settleMarks_17 : decode cX10_settleMarks 17 = .ok (.getfield 24, 3) := dk_180 0 24 (dk_at dksX10_settleMarks_0 17 rfl rfl)
theorem dX10_settleMarks_20 : decode cX10_settleMarks 20 = .ok (.aload_n 0, 1) := dk_42 (dk_at dksX10_settleMarks_0 20 rfl rfl)
theorem dX10_settleMarks_21 : decode cX10_settleMarks 21 = .ok (.getfield 296, 3) := dk_180 1 40 (dk_at dksX10_settleMarks_0 21 rfl rfl)
theorem dX10_settleMarks_24 : decode cX10_settleMarks 24 = .ok (.iaload, 1) := dk_46 (dk_at dksX10_settleMarks_1 0 rfl rfl)
theorem dX10_settleMarks_25 : decode cX10_settleMarks 25 = .ok (.iadd, 1) := dk_96 (dk_at dksX10_settleMarks_1 1 rfl rfl)
theorem dX10_settleMarks_26 : decode cX10_settleMarks 26 = .ok (.if_icmp .ge 129, 3) := dk_162 0 129 (dk_at dksX10_settleMarks_1 2 rfl rfl)
theorem dX10_settleMarks_29 : decode cX10_settleMarks 29 = .ok (.aload_n 0, 1) := dk_42 (dk_at dksX10_settleMarks_1 5 rfl rfl)
theorem dX10_settleMarks_30 : decode cX10_settleMarks 30 = .ok (.invokevirtual 283, 3) := dk_182 1 27 (dk_at dksX10_settleMarks_1 6 rfl rfl)
theorem dX10_settleMarks_33 : decode cX10_settleMarks 33 = .ok (.ifCond .eq 122, 3) := dk_153 0 122 (dk_at dksX10_settleMarks_1 9 rfl rfl)
theorem dX10_settleMarks_36 : decode cX10_settleMarks 36 = .ok (.aload_n 0, 1) := dk_42 (dk_at dksX10_settleMarks_1 12 rfl rfl)
theorem dX10_settleMarks_37 : decode cX10_settleMarks 37 = .ok (.getfield 52, 3) := dk_180 0 52 (dk_at dksX10_settleMarks_1 13 rfl rfl)
theorem dX10_settleMarks_40 : decode cX10_settleMarks 40 = .ok (.iload_n 1, 1) := dk_27 (dk_at dksX10_settleMarks_1 16 rfl rfl)
theorem dX10_settleMarks_41 : decode cX10_settleMarks 41 = .ok (.iaload, 1) := dk_46 (dk_at dksX10_settleMarks_1 17 rfl rfl)
theorem dX10_settleMarks_42 : decode cX10_settleMarks 42 = .ok (.bipush 9, 2) := dk_16 9 (dk_at dksX10_settleMarks_1 18 rfl rfl)
theorem dX10_settleMarks_44 : decode cX10_settleMarks 44 = .ok (.if_icmp .eq 6, 3) := dk_159 0 6 (dk_at dksX10_settleMarks_1 20 rfl rfl)
theorem dX10_settleMarks_47 : decode cX10_settleMarks 47 = .ok (.goto 102, 3) := dk_167 0 102 (dk_at dksX10_settleMarks_2 0 rfl rfl)
theorem dX10_settleMarks_50 : decode cX10_settleMarks 50 = .ok (.aload_n 0, 1) := dk_42 (dk_at dksX10_settleMarks_2 3 rfl rfl)
theorem dX10_settleMarks_51 : decode cX10_settleMarks 51 = .ok (.getfield 61, 3) := dk_180 0 61 (dk_at dksX10_settleMarks_2 4 rfl rfl)
theorem dX10_settleMarks_54 : decode cX10_settleMarks 54 = .ok (.iload_n 1, 1) := dk_27 (dk_at dksX10_settleMarks_2 7 rfl rfl)
theorem dX10_settleMarks_55 : decode cX10_settleMarks 55 = .ok (.iconst (-1), 1) := dk_2 (dk_at dksX10_settleMarks_2 8 rfl rfl)
theorem dX10_settleMarks_56 : decode cX10_settleMarks 56 = .ok (.iastore, 1) := dk_79 (dk_at dksX10_settleMarks_2 9 rfl rfl)
theorem dX10_settleMarks_57 : decode cX10_settleMarks 57 = .ok (.iload_n 1, 1) := dk_27 (dk_at dksX10_settleMarks_2 10 rfl rfl)
theorem dX10_settleMarks_58 : decode cX10_settleMarks 58 = .ok (.istore_n 2, 1) := dk_61 (dk_at dksX10_settleMarks_2 11 rfl rfl)
theorem dX10_settleMarks_59 : decode cX10_settleMarks 59 = .ok (.iload_n 2, 1) := dk_28 (dk_at dksX10_settleMarks_2 12 rfl rfl)
theorem dX10_settleMarks_60 : decode cX10_settleMarks 60 = .ok (.bipush 52, 2) := dk_16 52 (dk_at dksX10_settleMarks_2 13 rfl rfl)
theorem dX10_settleMarks_62 : decode cX10_settleMarks 62 = .ok (.aload_n 0, 1) := dk_42 (dk_at dksX10_settleMarks_2 15 rfl rfl)
theorem dX10_settleMarks_63 : decode cX10_settleMarks 63 = .ok (.getfield 296, 3) := dk_180 1 40 (dk_at dksX10_settleMarks_2 16 rfl rfl)
theorem dX10_settleMarks_66 : decode cX10_settleMarks 66 = .ok (.imul, 1) := dk_104 (dk_at dksX10_settleMarks_2 19 rfl rfl)
theorem dX10_settleMarks_67 : decode cX10_settleMarks 67 = .ok (.aload_n 0, 1) := dk_42 (dk_at dksX10_settleMarks_2 20 rfl rfl)
theorem dX10_settleMarks_68 : decode cX10_settleMarks 68 = .ok (.getfield 24, 3) := dk_180 0 24 (dk_at dksX10_settleMarks_2 21 rfl rfl)
theorem dX10_settleMarks_71 : decode cX10_settleMarks 71 = .ok (.aload_n 0, 1) := dk_42 (dk_at dksX10_settleMarks_3 0 rfl rfl)
theorem dX10_settleMarks_72 : decode cX10_settleMarks 72 = .ok (.getfield 296, 3) := dk_180 1 40 (dk_at dksX10_settleMarks_3 1 rfl rfl)
theorem dX10_settleMarks_75 : decode cX10_settleMarks 75 = .ok (.iaload, 1) := dk_46 (dk_at dksX10_settleMarks_3 4 rfl rfl)
theorem dX10_settleMarks_76 : decode cX10_settleMarks 76 = .ok (.iadd, 1) := dk_96 (dk_at dksX10_settleMarks_3 5 rfl rfl)
theorem dX10_settleMarks_77 : decode cX10_settleMarks 77 = .ok (.if_icmp .ge 51, 3) := dk_162 0 51 (dk_at dksX10_settleMarks_3 6 rfl rfl)
theorem dX10_settleMarks_80 : decode cX10_settleMarks 80 = .ok (.aload_n 0, 1) := dk_42 (dk_at dksX10_settleMarks_3 9 rfl rfl)
theorem dX10_settleMarks_81 : decode cX10_settleMarks 81 = .ok (.getfield 52, 3) := dk_180 0 52 (dk_at dksX10_settleMarks_3 10 rfl rfl)
theorem dX10_settleMarks_84 : decode cX10_settleMarks 84 = .ok (.iload_n 2, 1) := dk_28 (dk_at dksX10_settleMarks_3 13 rfl rfl)
theorem dX10_settleMarks_85 : decode cX10_settleMarks 85 = .ok (.iaload, 1) := dk_46 (dk_at dksX10_settleMarks_3 14 rfl rfl)
theorem dX10_settleMarks_86 : decode cX10_settleMarks 86 = .ok (.bipush 10, 2) := dk_16 10 (dk_at dksX10_settleMarks_3 15 rfl rfl)
theorem dX10_settleMarks_88 : decode cX10_settleMarks 88 = .ok (.if_icmp .ne 34, 3) := dk_160 0 34 (dk_at dksX10_settleMarks_3 17 rfl rfl)
theorem dX10_settleMarks_91 : decode cX10_settleMarks 91 = .ok (.aload_n 0, 1) := dk_42 (dk_at dksX10_settleMarks_3 20 rfl rfl)
theorem dX10_settleMarks_92 : decode cX10_settleMarks 92 = .ok (.getfield 73, 3) := dk_180 0 73 (dk_at dksX10_settleMarks_3 21 rfl rfl)
theorem dX10_settleMarks_95 : decode cX10_settleMarks 95 = .ok (.iload_n 2, 1) := dk_28 (dk_at dksX10_settleMarks_4 0 rfl rfl)
theorem dX10_settleMarks_96 : decode cX10_settleMarks 96 = .ok (.laload, 1) := dk_47 (dk_at dksX10_settleMarks_4 1 rfl rfl)
theorem dX10_settleMarks_97 : decode cX10_settleMarks 97 = .ok (.aload_n 0, 1) := dk_42 (dk_at dksX10_settleMarks_4 2 rfl rfl)
theorem dX10_settleMarks_98 : decode cX10_settleMarks 98 = .ok (.getfield 73, 3) := dk_180 0 73 (dk_at dksX10_settleMarks_4 3 rfl rfl)
theorem dX10_settleMarks_101 : decode cX10_settleMarks 101 = .ok (.iload_n 1, 1) := dk_27 (dk_at dksX10_settleMarks_4 6 rfl rfl)
theorem dX10_settleMarks_102 : decode cX10_settleMarks 102 = .ok (.laload, 1) := dk_47 (dk_at dksX10_settleMarks_4 7 rfl rfl)
theorem dX10_settleMarks_103 : decode cX10_settleMarks 103 = .ok (.lcmp, 1) := dk_148 (dk_at dksX10_settleMarks_4 8 rfl rfl)
theorem dX10_settleMarks_104 : decode cX10_settleMarks 104 = .ok (.ifCond .ne 18, 3) := dk_154 0 18 (dk_at dksX10_settleMarks_4 9 rfl rfl)
theorem dX10_settleMarks_107 : decode cX10_settleMarks 107 = .ok (.aload_n 0, 1) := dk_42 (dk_at dksX10_settleMarks_4 12 rfl rfl)
theorem dX10_settleMarks_108 : decode cX10_settleMarks 108 = .ok (.getfield 61, 3) := dk_180 0 61 (dk_at dksX10_settleMarks_4 13 rfl rfl)
theorem dX10_settleMarks_111 : decode cX10_settleMarks 111 = .ok (.iload_n 1, 1) := dk_27 (dk_at dksX10_settleMarks_4 16 rfl rfl)
theorem dX10_settleMarks_112 : decode cX10_settleMarks 112 = .ok (.iload_n 2, 1) := dk_28 (dk_at dksX10_settleMarks_4 17 rfl rfl)
theorem dX10_settleMarks_113 : decode cX10_settleMarks 113 = .ok (.bipush 52, 2) := dk_16 52 (dk_at dksX10_settleMarks_4 18 rfl rfl)
theorem dX10_settleMarks_115 : decode cX10_settleMarks 115 = .ok (.aload_n 0, 1) := dk_42 (dk_at dksX10_settleMarks_4 20 rfl rfl)
theorem dX10_settleMarks_116 : decode cX10_settleMarks 116 = .ok (.getfield 296, 3) := dk_180 1 40 (dk_at dksX10_settleMarks_4 21 rfl rfl)
theorem dX10_settleMarks_119 : decode cX10_settleMarks 119 = .ok (.imul, 1) := dk_104 (dk_at dksX10_settleMarks_5 0 rfl rfl)
theorem dX10_settleMarks_120 : decode cX10_settleMarks 120 = .ok (.isub, 1) := dk_100 (dk_at dksX10_settleMarks_5 1 rfl rfl)
theorem dX10_settleMarks_121 : decode cX10_settleMarks 121 = .ok (.iastore, 1) := dk_79 (dk_at dksX10_settleMarks_5 2 rfl rfl)
theorem dX10_settleMarks_122 : decode cX10_settleMarks 122 = .ok (.iinc 2 1, 3) := dk_132 2 1 (dk_at dksX10_settleMarks_5 3 rfl rfl)
theorem dX10_settleMarks_125 : decode cX10_settleMarks 125 = .ok (.goto (-66), 3) := dk_167 255 190 (dk_at dksX10_settleMarks_5 6 rfl rfl)
theorem dX10_settleMarks_128 : decode cX10_settleMarks 128 = .ok (.aload_n 0, 1) := dk_42 (dk_at dksX10_settleMarks_5 9 rfl rfl)
theorem dX10_settleMarks_129 : decode cX10_settleMarks 129 = .ok (.getfield 61, 3) := dk_180 0 61 (dk_at dksX10_settleMarks_5 10 rfl rfl)
theorem dX10_settleMarks_132 : decode cX10_settleMarks 132 = .ok (.iload_n 1, 1) := dk_27 (dk_at dksX10_settleMarks_5 13 rfl rfl)
theorem dX10_settleMarks_133 : decode cX10_settleMarks 133 = .ok (.iaload, 1) := dk_46 (dk_at dksX10_settleMarks_5 14 rfl rfl)
theorem dX10_settleMarks_134 : decode cX10_settleMarks 134 = .ok (.ifCond .ge 15, 3) := dk_156 0 15 (dk_at dksX10_settleMarks_5 15 rfl rfl)
theorem dX10_settleMarks_137 : decode cX10_settleMarks 137 = .ok (.aload_n 0, 1) := dk_42 (dk_at dksX10_settleMarks_5 18 rfl rfl)
theorem dX10_settleMarks_138 : decode cX10_settleMarks 138 = .ok (.bipush 6, 2) := dk_16 6 (dk_at dksX10_settleMarks_5 19 rfl rfl)
theorem dX10_settleMarks_140 : decode cX10_settleMarks 140 = .ok (.aload_n 0, 1) := dk_42 (dk_at dksX10_settleMarks_5 21 rfl rfl)
theorem dX10_settleMarks_141 : decode cX10_settleMarks 141 = .ok (.getfield 70, 3) := dk_180 0 70 (dk_at dksX10_settleMarks_6 0 rfl rfl)
theorem dX10_settleMarks_144 : decode cX10_settleMarks 144 = .ok (.iload_n 1, 1) := dk_27 (dk_at dksX10_settleMarks_6 3 rfl rfl)
theorem dX10_settleMarks_145 : decode cX10_settleMarks 145 = .ok (.iaload, 1) := dk_46 (dk_at dksX10_settleMarks_6 4 rfl rfl)
theorem dX10_settleMarks_146 : decode cX10_settleMarks 146 = .ok (.invokevirtual 279, 3) := dk_182 1 23 (dk_at dksX10_settleMarks_6 5 rfl rfl)
theorem dX10_settleMarks_149 : decode cX10_settleMarks 149 = .ok (.iinc 1 1, 3) := dk_132 1 1 (dk_at dksX10_settleMarks_6 8 rfl rfl)
theorem dX10_settleMarks_152 : decode cX10_settleMarks 152 = .ok (.goto (-144), 3) := dk_167 255 112 (dk_at dksX10_settleMarks_6 11 rfl rfl)
theorem dX10_settleMarks_155 : decode cX10_settleMarks 155 = .ok (.return_, 1) := dk_177 (dk_at dksX10_settleMarks_6 14 rfl rfl)
abbrev cX10_fault : ByteArray := prog_32_method_43_code
def yX10_fault : MethodName := ⟨RX10, "fault", "(I)I"⟩
def dkwX10_fault_1 : List UInt8 := [172]
abbrev dktX10_fault_1 : List UInt8 := dkwX10_fault_1 ++ []
def dkwX10_fault_0 : List UInt8 := [27, 154, 0, 10, 42, 180, 0, 186, 167, 0, 16, 27, 4, 160, 0, 10, 42, 180, 0, 16, 167, 0, 4, 2]
abbrev dktX10_fault_0 : List UInt8 := dkwX10_fault_0 ++ dktX10_fault_1
theorem dksX10_fault_0 : cX10_fault.data.toList.drop 0 = dktX10_fault_0 := by decide +kernel
theorem dksX10_fault_1 : cX10_fault.data.toList.drop 24 = dktX10_fault_1 := dk_seg dksX10_fault_0 24 rfl rfl
theorem dX10_fault_0 : decode cX10_fault 0 = .ok (.iload_n 1, 1) := dk_27 (dk_at dksX10_fault_0 0 rfl rfl)
theorem dX10_fault_1 : decode cX10_fault 1 = .ok (.ifCond .ne 10, 3) := dk_154 0 10 (dk_at dksX10_fault_0 1 rfl rfl)
theorem dX10_fault_4 : decode cX10_fault 4 = .ok (.aload_n 0, 1) := dk_42 (dk_at dksX10_fault_0 4 rfl rfl)
theorem dX10_fault_5 : decode cX10_fault 5 = .ok (.getfield 186, 3) := dk_180 0 186 (dk_at dksX10_fault_0 5 rfl rfl)
theorem dX10_fault_8 : decode cX10_fault 8 = .ok (.goto 16, 3) := dk_167 0 16 (dk_at dksX10_fault_0 8 rfl rfl)
theorem dX10_fault_11 : decode cX10_fault 11 = .ok (.iload_n 1, 1) := dk_27 (dk_at dksX10_fault_0 11 rfl rfl)
theorem dX10_fault_12 : decode cX10_fault 12 = .ok (.iconst 1, 1) := dk_4 (dk_at dksX10_fault_0 12 rfl rfl)
theorem dX10_fault_13 : decode cX10_fault 13 = .ok (.if_icmp .ne 10, 3) := dk_160 0 10 (dk_at dksX10_fault_0 13 rfl rfl)
theorem dX10_fault_16 : decode cX10_fault 16 = .ok (.aload_n 0, 1) := dk_42 (dk_at dksX10_fault_0 16 rfl rfl)
theorem dX10_fault_17 : decode cX10_fault 17 = .ok (.getfield 16, 3) := dk_180 0 16 (dk_at dksX10_fault_0 17 rfl rfl)
theorem dX10_fault_20 : decode cX10_fault 20 = .ok (.goto 4, 3) := dk_167 0 4 (dk_at dksX10_fault_0 20 rfl rfl)
theorem dX10_fault_23 : decode cX10_fault 23 = .ok (.iconst (-1), 1) := dk_2 (dk_at dksX10_fault_0 23 rfl rfl)
theorem dX10_fault_24 : decode cX10_fault 24 = .ok (.ireturn, 1) := dk_172 (dk_at dksX10_fault_1 0 rfl rfl)
abbrev cX10_asked : ByteArray := prog_32_method_47_code
def yX10_asked : MethodName := ⟨RX10, "asked", "(I)I"⟩
def dkwX10_asked_0 : List UInt8 := [42, 27, 182, 1, 168, 153, 0, 11, 42, 27, 182, 1, 171, 167, 0, 6, 19, 1, 174, 172]
abbrev dktX10_asked_0 : List UInt8 := dkwX10_asked_0 ++ []
theorem dksX10_asked_0 : cX10_asked.data.toList.drop 0 = dktX10_asked_0 := by decide +kernel
theorem dX10_asked_0 : decode cX10_asked 0 = .ok (.aload_n 0, 1) := dk_42 (dk_at dksX10_asked_0 0 rfl rfl)
theorem dX10_asked_1 : decode cX10_asked 1 = .ok (.iload_n 1, 1) := dk_27 (dk_at dksX10_asked_0 1 rfl rfl)
theorem dX10_asked_2 : decode cX10_asked 2 = .ok (.invokevirtual 424, 3) := dk_182 1 168 (dk_at dksX10_asked_0 2 rfl rfl)
theorem dX10_asked_5 : decode cX10_asked 5 = .ok (.ifCond .eq 11, 3) := dk_153 0 11 (dk_at dksX10_asked_0 5 rfl rfl)
theorem dX10_asked_8 : decode cX10_asked 8 = .ok (.aload_n 0, 1) := dk_42 (dk_at dksX10_asked_0 8 rfl rfl)
theorem dX10_asked_9 : decode cX10_asked 9 = .ok (.iload_n 1, 1) := dk_27 (dk_at dksX10_asked_0 9 rfl rfl)
theorem dX10_asked_10 : decode cX10_asked 10 = .ok (.invokevirtual 427, 3) := dk_182 1 171 (dk_at dksX10_asked_0 10 rfl rfl)
theorem dX10_asked_13 : decode cX10_asked 13 = .ok (.goto 6, 3) := dk_167 0 6 (dk_at dksX10_asked_0 13 rfl rfl)
theorem dX10_asked_16 : decode cX10_asked 16 = .ok (.ldc_w 430, 3) := dk_19 1 174 (dk_at dksX10_asked_0 16 rfl rfl)
theorem dX10_asked_19 : decode cX10_asked 19 = .ok (.ireturn, 1) := dk_172 (dk_at dksX10_asked_0 19 rfl rfl)
abbrev cX10_isInput : ByteArray := prog_32_method_46_code
def yX10_isInput : MethodName := ⟨RX10, "isInput", "(I)Z"⟩
def dkwX10_isInput_0 : List UInt8 := [27, 3, 42, 182, 1, 161, 4, 100, 184, 1, 164, 172]
abbrev dktX10_isInput_0 : List UInt8 := dkwX10_isInput_0 ++ []
theorem dksX10_isInput_0 : cX10_isInput.data.toList.drop 0 = dktX10_isInput_0 := by decide +kernel
theorem dX10_isInput_0 : decode cX10_isInput 0 = .ok (.iload_n 1, 1) := dk_27 (dk_at dksX10_isInput_0 0 rfl rfl)
theorem dX10_isInput_1 : decode cX10_isInput 1 = .ok (.iconst 0, 1) := dk_3 (dk_at dksX10_isInput_0 1 rfl rfl)
theorem dX10_isInput_2 : decode cX10_isInput 2 = .ok (.aload_n 0, 1) := dk_42 (dk_at dksX10_isInput_0 2 rfl rfl)
theorem dX10_isInput_3 : decode cX10_isInput 3 = .ok (.invokevirtual 417, 3) := dk_182 1 161 (dk_at dksX10_isInput_0 3 rfl rfl)
theorem dX10_isInput_6 : decode cX10_isInput 6 = .ok (.iconst 1, 1) := dk_4 (dk_at dksX10_isInput_0 6 rfl rfl)
theorem dX10_isInput_7 : decode cX10_isInput 7 = .ok (.isub, 1) := dk_100 (dk_at dksX10_isInput_0 7 rfl rfl)
theorem dX10_isInput_8 : decode cX10_isInput 8 = .ok (.invokestatic 420, 3) := dk_184 1 164 (dk_at dksX10_isInput_0 8 rfl rfl)
theorem dX10_isInput_11 : decode cX10_isInput 11 = .ok (.ireturn, 1) := dk_172 (dk_at dksX10_isInput_0 11 rfl rfl)
abbrev cX10_isIn : ByteArray := prog_32_method_44_code
def yX10_isIn : MethodName := ⟨RX10, "isIn", "(III)Z"⟩
def dkwX10_isIn_0 : List UInt8 := [26, 27, 161, 0, 12, 26, 28, 163, 0, 7, 4, 167, 0, 4, 3, 172]
abbrev dktX10_isIn_0 : List UInt8 := dkwX10_isIn_0 ++ []
theorem dksX10_isIn_0 : cX10_isIn.data.toList.drop 0 = dktX10_isIn_0 := by decide +kernel
theorem dX10_isIn_0 : decode cX10_isIn 0 = .ok (.iload_n 0, 1) := dk_26 (dk_at dksX10_isIn_0 0 rfl rfl)
theorem dX10_isIn_1 : decode cX10_isIn 1 = .ok (.iload_n 1, 1) := dk_27 (dk_at dksX10_isIn_0 1 rfl rfl)
theorem dX10_isIn_2 : decode cX10_isIn 2 = .ok (.if_icmp .lt 12, 3) := dk_161 0 12 (dk_at dksX10_isIn_0 2 rfl rfl)
theorem dX10_isIn_5 : decode cX10_isIn 5 = .ok (.iload_n 0, 1) := dk_26 (dk_at dksX10_isIn_0 5 rfl rfl)
theorem dX10_isIn_6 : decode cX10_isIn 6 = .ok (.iload_n 2, 1) := dk_28 (dk_at dksX10_isIn_0 6 rfl rfl)
theorem dX10_isIn_7 : decode cX10_isIn 7 = .ok (.if_icmp .gt 7, 3) := dk_163 0 7 (dk_at dksX10_isIn_0 7 rfl rfl)
theorem dX10_isIn_10 : decode cX10_isIn 10 = .ok (.iconst 1, 1) := dk_4 (dk_at dksX10_isIn_0 10 rfl rfl)
theorem dX10_isIn_11 : decode cX10_isIn 11 = .ok (.goto 4, 3) := dk_167 0 4 (dk_at dksX10_isIn_0 11 rfl rfl)
theorem dX10_isIn_14 : decode cX10_isIn 14 = .ok (.iconst 0, 1) := dk_3 (dk_at dksX10_isIn_0 14 rfl rfl)
theorem dX10_isIn_15 : decode cX10_isIn 15 = .ok (.ireturn, 1) := dk_172 (dk_at dksX10_isIn_0 15 rfl rfl)
abbrev cX10_paths : ByteArray := prog_32_method_76_code
def yX10_paths : MethodName := ⟨RX10, "paths", "()I"⟩
def dkwX10_paths_0 : List UInt8 := [42, 180, 2, 28, 153, 0, 8, 16, 254, 167, 0, 7, 42, 180, 2, 31, 172]
abbrev dktX10_paths_0 : List UInt8 := dkwX10_paths_0 ++ []
theorem dksX10_paths_0 : cX10_paths.data.toList.drop 0 = dktX10_paths_0 := by decide +kernel
theorem dX10_paths_0 : decode cX10_paths 0 = .ok (.aload_n 0, 1) := dk_42 (dk_at dksX10_paths_0 0 rfl rfl)
theorem dX10_paths_1 : decode cX10_paths 1 = .ok (.getfield 540, 3) := dk_180 2 28 (dk_at dksX10_paths_0 1 rfl rfl)
theorem dX10_paths_4 : decode cX10_paths 4 = .ok (.ifCond .eq 8, 3) := dk_153 0 8 (dk_at dksX10_paths_0 4 rfl rfl)
theorem dX10_paths_7 : decode cX10_paths 7 = .ok (.bipush (-2), 2) := dk_16 254 (dk_at dksX10_paths_0 7 rfl rfl)
theorem dX10_paths_9 : decode cX10_paths 9 = .ok (.goto 7, 3) := dk_167 0 7 (dk_at dksX10_paths_0 9 rfl rfl)
theorem dX10_paths_12 : decode cX10_paths 12 = .ok (.aload_n 0, 1) := dk_42 (dk_at dksX10_paths_0 12 rfl rfl)
theorem dX10_paths_13 : decode cX10_paths 13 = .ok (.getfield 543, 3) := dk_180 2 31 (dk_at dksX10_paths_0 13 rfl rfl)
theorem dX10_paths_16 : decode cX10_paths 16 = .ok (.ireturn, 1) := dk_172 (dk_at dksX10_paths_0 16 rfl rfl)
abbrev cX10_look : ByteArray := prog_32_method_78_code
def yX10_look : MethodName := ⟨RX10, "look", "(II)I"⟩
def dkwX10_look_2 : List UInt8 := [167, 0, 4, 2, 172]
abbrev dktX10_look_2 : List UInt8 := dkwX10_look_2 ++ []
def dkwX10_look_1 : List UInt8 := [180, 0, 126, 27, 46, 4, 100, 184, 1, 164, 153, 0, 17, 42, 180, 0, 129, 16, 6, 27, 104, 28, 96, 46]
abbrev dktX10_look_1 : List UInt8 := dkwX10_look_1 ++ dktX10_look_2
def dkwX10_look_0 : List UInt8 := [42, 180, 2, 28, 153, 0, 8, 16, 254, 167, 0, 42, 42, 27, 182, 2, 34, 153, 0, 33, 28, 3, 42]
abbrev dktX10_look_0 : List UInt8 := dkwX10_look_0 ++ dktX10_look_1
theorem dksX10_look_0 : cX10_look.data.toList.drop 0 = dktX10_look_0 := by decide +kernel
theorem dksX10_look_1 : cX10_look.data.toList.drop 23 = dktX10_look_1 := dk_seg dksX10_look_0 23 rfl rfl
theorem dksX10_look_2 : cX10_look.data.toList.drop 47 = dktX10_look_2 := dk_seg dksX10_look_1 24 rfl rfl
theorem dX10_look_0 : decode cX10_look 0 = .ok (.aload_n 0, 1) := dk_42 (dk_at dksX10_look_0 0 rfl rfl)
theorem dX10_look_1 : decode cX10_look 1 = .ok (.getfield 540, 3) := dk_180 2 28 (dk_at dksX10_look_0 1 rfl rfl)
theorem dX10_look_4 : decode cX10_look 4 = .ok (.ifCond .eq 8, 3) := dk_153 0 8 (dk_at dksX10_look_0 4 rfl rfl)
theorem dX10_look_7 : decode cX10_look 7 = .ok (.bipush (-2), 2) := dk_16 254 (dk_at dksX10_look_0 7 rfl rfl)
theorem dX10_look_9 : decode cX10_look 9 = .ok (.goto 42, 3) := dk_167 0 42 (dk_at dksX10_look_0 9 rfl rfl)
theorem dX10_look_12 : decode cX10_look 12 = .ok (.aload_n 0, 1) := dk_42 (dk_at dksX10_look_0 12 rfl rfl)
theorem dX10_look_13 : decode cX10_look 13 = .ok (.iload_n 1, 1) := dk_27 (dk_at dksX10_look_0 13 rfl rfl)
theorem dX10_look_14 : decode cX10_look 14 = .ok (.invokevirtual 546, 3) := dk_182 2 34 (dk_at dksX10_look_0 14 rfl rfl)
theorem dX10_look_17 : decode cX10_look 17 = .ok (.ifCond .eq 33, 3) := dk_153 0 33 (dk_at dksX10_look_0 17 rfl rfl)
theorem dX10_look_20 : decode cX10_look 20 = .ok (.iload_n 2, 1) := dk_28 (dk_at dksX10_look_0 20 rfl rfl)
theorem dX10_look_21 : decode cX10_look 21 = .ok (.iconst 0, 1) := dk_3 (dk_at dksX10_look_0 21 rfl rfl)
theorem dX10_look_22 : decode cX10_look 22 = .ok (.aload_n 0, 1) := dk_42 (dk_at dksX10_look_0 22 rfl rfl)
theorem dX10_look_23 : decode cX10_look 23 = .ok (.getfield 126, 3) := dk_180 0 126 (dk_at dksX10_look_1 0 rfl rfl)
theorem dX10_look_26 : decode cX10_look 26 = .ok (.iload_n 1, 1) := dk_27 (dk_at dksX10_look_1 3 rfl rfl)
theorem dX10_look_27 : decode cX10_look 27 = .ok (.iaload, 1) := dk_46 (dk_at dksX10_look_1 4 rfl rfl)
theorem dX10_look_28 : decode cX10_look 28 = .ok (.iconst 1, 1) := dk_4 (dk_at dksX10_look_1 5 rfl rfl)
theorem dX10_look_29 : decode cX10_look 29 = .ok (.isub, 1) := dk_100 (dk_at dksX10_look_1 6 rfl rfl)
theorem dX10_look_30 : decode cX10_look 30 = .ok (.invokestatic 420, 3) := dk_184 1 164 (dk_at dksX10_look_1 7 rfl rfl)
theorem dX10_look_33 : decode cX10_look 33 = .ok (.ifCond .eq 17, 3) := dk_153 0 17 (dk_at dksX10_look_1 10 rfl rfl)
theorem dX10_look_36 : decode cX10_look 36 = .ok (.aload_n 0, 1) := dk_42 (dk_at dksX10_look_1 13 rfl rfl)
theorem dX10_look_37 : decode cX10_look 37 = .ok (.getfield 129, 3) := dk_180 0 129 (dk_at dksX10_look_1 14 rfl rfl)
theorem dX10_look_40 : decode cX10_look 40 = .ok (.bipush 6, 2) := dk_16 6 (dk_at dksX10_look_1 17 rfl rfl)
theorem dX10_look_42 : decode cX10_look 42 = .ok (.iload_n 1, 1) := dk_27 (dk_at dksX10_look_1 19 rfl rfl)
theorem dX10_look_43 : decode cX10_look 43 = .ok (.imul, 1) := dk_104 (dk_at dksX10_look_1 20 rfl rfl)
theorem dX10_look_44 : decode cX10_look 44 = .ok (.iload_n 2, 1) := dk_28 (dk_at dksX10_look_1 21 rfl rfl)
theorem dX10_look_45 : decode cX10_look 45 = .ok (.iadd, 1) := dk_96 (dk_at dksX10_look_1 22 rfl rfl)
theorem dX10_look_46 : decode cX10_look 46 = .ok (.iaload, 1) := dk_46 (dk_at dksX10_look_1 23 rfl rfl)
theorem dX10_look_47 : decode cX10_look 47 = .ok (.goto 4, 3) := dk_167 0 4 (dk_at dksX10_look_2 0 rfl rfl)
theorem dX10_look_50 : decode cX10_look 50 = .ok (.iconst (-1), 1) := dk_2 (dk_at dksX10_look_2 3 rfl rfl)
theorem dX10_look_51 : decode cX10_look 51 = .ok (.ireturn, 1) := dk_172 (dk_at dksX10_look_2 4 rfl rfl)
abbrev cX10_isPath : ByteArray := prog_32_method_77_code
def yX10_isPath : MethodName := ⟨RX10, "isPath", "(I)Z"⟩
def dkwX10_isPath_0 : List UInt8 := [27, 3, 42, 180, 2, 31, 4, 100, 184, 1, 164, 172]
abbrev dktX10_isPath_0 : List UInt8 := dkwX10_isPath_0 ++ []
theorem dksX10_isPath_0 : cX10_isPath.data.toList.drop 0 = dktX10_isPath_0 := by decide +kernel
theorem dX10_isPath_0 : decode cX10_isPath 0 = .ok (.iload_n 1, 1) := dk_27 (dk_at dksX10_isPath_0 0 rfl rfl)
theorem dX10_isPath_1 : decode cX10_isPath 1 = .ok (.iconst 0, 1) := dk_3 (dk_at dksX10_isPath_0 1 rfl rfl)
theorem dX10_isPath_2 : decode cX10_isPath 2 = .ok (.aload_n 0, 1) := dk_42 (dk_at dksX10_isPath_0 2 rfl rfl)
theorem dX10_isPath_3 : decode cX10_isPath 3 = .ok (.getfield 543, 3) := dk_180 2 31 (dk_at dksX10_isPath_0 3 rfl rfl)
theorem dX10_isPath_6 : decode cX10_isPath 6 = .ok (.iconst 1, 1) := dk_4 (dk_at dksX10_isPath_0 6 rfl rfl)
theorem dX10_isPath_7 : decode cX10_isPath 7 = .ok (.isub, 1) := dk_100 (dk_at dksX10_isPath_0 7 rfl rfl)
theorem dX10_isPath_8 : decode cX10_isPath 8 = .ok (.invokestatic 420, 3) := dk_184 1 164 (dk_at dksX10_isPath_0 8 rfl rfl)
theorem dX10_isPath_11 : decode cX10_isPath 11 = .ok (.ireturn, 1) := dk_172 (dk_at dksX10_isPath_0 11 rfl rfl)
abbrev cX10_odds : ByteArray := prog_32_method_80_code
def yX10_odds : MethodName := ⟨RX10, "odds", "(III)J"⟩
def dkwX10_odds_2 : List UInt8 := [180, 0, 141, 27, 47, 29, 184, 2, 39, 167, 0, 6, 20, 2, 43, 173]
abbrev dktX10_odds_2 : List UInt8 := dkwX10_odds_2 ++ []
def dkwX10_odds_1 : List UInt8 := [153, 0, 36, 29, 3, 4, 184, 1, 164, 153, 0, 27, 42, 180, 0, 138, 16, 8, 27, 104, 28, 96, 47, 42]
abbrev dktX10_odds_1 : List UInt8 := dkwX10_odds_1 ++ dktX10_odds_2
def dkwX10_odds_0 : List UInt8 := [42, 180, 2, 28, 153, 0, 7, 20, 2, 37, 173, 42, 27, 182, 2, 34, 153, 0, 44, 42, 28, 182, 1, 168]
abbrev dktX10_odds_0 : List UInt8 := dkwX10_odds_0 ++ dktX10_odds_1
theorem dksX10_odds_0 : cX10_odds.data.toList.drop 0 = dktX10_odds_0 := by decide +kernel
theorem dksX10_odds_1 : cX10_odds.data.toList.drop 24 = dktX10_odds_1 := dk_seg dksX10_odds_0 24 rfl rfl
theorem dksX10_odds_2 : cX10_odds.data.toList.drop 48 = dktX10_odds_2 := dk_seg dksX10_odds_1 24 rfl rfl
theorem dX10_odds_0 : decode cX10_odds 0 = .ok (.aload_n 0, 1) := dk_42 (dk_at dksX10_odds_0 0 rfl rfl)
theorem dX10_odds_1 : decode cX10_odds 1 = .ok (.getfield 540, 3) := dk_180 2 28 (dk_at dksX10_odds_0 1 rfl rfl)
theorem dX10_odds_4 : decode cX10_odds 4 = .ok (.ifCond .eq 7, 3) := dk_153 0 7 (dk_at dksX10_odds_0 4 rfl rfl)
theorem dX10_odds_7 : decode cX10_odds 7 = .ok (.ldc2_w 549, 3) := dk_20 2 37 (dk_at dksX10_odds_0 7 rfl rfl)
theorem dX10_odds_10 : decode cX10_odds 10 = .ok (.lreturn, 1) := dk_173 (dk_at dksX10_odds_0 10 rfl rfl)
theorem dX10_odds_11 : decode cX10_odds 11 = .ok (.aload_n 0, 1) := dk_42 (dk_at dksX10_odds_0 11 rfl rfl)
theorem dX10_odds_12 : decode cX10_odds 12 = .ok (.iload_n 1, 1) := dk_27 (dk_at dksX10_odds_0 12 rfl rfl)
theorem dX10_odds_13 : decode cX10_odds 13 = .ok (.invokevirtual 546, 3) := dk_182 2 34 (dk_at dksX10_odds_0 13 rfl rfl)
theorem dX10_odds_16 : decode cX10_odds 16 = .ok (.ifCond .eq 44, 3) := dk_153 0 44 (dk_at dksX10_odds_0 16 rfl rfl)
theorem dX10_odds_19 : decode cX10_odds 19 = .ok (.aload_n 0, 1) := dk_42 (dk_at dksX10_odds_0 19 rfl rfl)
theorem dX10_odds_20 : decode cX10_odds 20 = .ok (.iload_n 2, 1) := dk_28 (dk_at dksX10_odds_0 20 rfl rfl)
theorem dX10_odds_21 : decode cX10_odds 21 = .ok (.invokevirtual 424, 3) := dk_182 1 168 (dk_at dksX10_odds_0 21 rfl rfl)
theorem dX10_odds_24 : decode cX10_odds 24 = .ok (.ifCond .eq 36, 3) := dk_153 0 36 (dk_at dksX10_odds_1 0 rfl rfl)
theorem dX10_odds_27 : decode cX10_odds 27 = .ok (.iload_n 3, 1) := dk_29 (dk_at dksX10_odds_1 3 rfl rfl)
theorem dX10_odds_28 : decode cX10_odds 28 = .ok (.iconst 0, 1) := dk_3 (dk_at dksX10_odds_1 4 rfl rfl)
theorem dX10_odds_29 : decode cX10_odds 29 = .ok (.iconst 1, 1) := dk_4 (dk_at dksX10_odds_1 5 rfl rfl)
theorem dX10_odds_30 : decode cX10_odds 30 = .ok (.invokestatic 420, 3) := dk_184 1 164 (dk_at dksX10_odds_1 6 rfl rfl)
theorem dX10_odds_33 : decode cX10_odds 33 = .ok (.ifCond .eq 27, 3) := dk_153 0 27 (dk_at dksX10_odds_1 9 rfl rfl)
theorem dX10_odds_36 : decode cX10_odds 36 = .ok (.aload_n 0, 1) := dk_42 (dk_at dksX10_odds_1 12 rfl rfl)
theorem dX10_odds_37 : decode cX10_odds 37 = .ok (.getfield 138, 3) := dk_180 0 138 (dk_at dksX10_odds_1 13 rfl rfl)
theorem dX10_odds_40 : decode cX10_odds 40 = .ok (.bipush 8, 2) := dk_16 8 (dk_at dksX10_odds_1 16 rfl rfl)
theorem dX10_odds_42 : decode cX10_odds 42 = .ok (.iload_n 1, 1) := dk_27 (dk_at dksX10_odds_1 18 rfl rfl)
theorem dX10_odds_43 : decode cX10_odds 43 = .ok (.imul, 1) := dk_104 (dk_at dksX10_odds_1 19 rfl rfl)
theorem dX10_odds_44 : decode cX10_odds 44 = .ok (.iload_n 2, 1) := dk_28 (dk_at dksX10_odds_1 20 rfl rfl)
theorem dX10_odds_45 : decode cX10_odds 45 = .ok (.iadd, 1) := dk_96 (dk_at dksX10_odds_1 21 rfl rfl)
theorem dX10_odds_46 : decode cX10_odds 46 = .ok (.laload, 1) := dk_47 (dk_at dksX10_odds_1 22 rfl rfl)
theorem dX10_odds_47 : decode cX10_odds 47 = .ok (.aload_n 0, 1) := dk_42 (dk_at dksX10_odds_1 23 rfl rfl)
theorem dX10_odds_48 : decode cX10_odds 48 = .ok (.getfield 141, 3) := dk_180 0 141 (dk_at dksX10_odds_2 0 rfl rfl)
theorem dX10_odds_51 : decode cX10_odds 51 = .ok (.iload_n 1, 1) := dk_27 (dk_at dksX10_odds_2 3 rfl rfl)
theorem dX10_odds_52 : decode cX10_odds 52 = .ok (.laload, 1) := dk_47 (dk_at dksX10_odds_2 4 rfl rfl)
theorem dX10_odds_53 : decode cX10_odds 53 = .ok (.iload_n 3, 1) := dk_29 (dk_at dksX10_odds_2 5 rfl rfl)
theorem dX10_odds_54 : decode cX10_odds 54 = .ok (.invokestatic 551, 3) := dk_184 2 39 (dk_at dksX10_odds_2 6 rfl rfl)
theorem dX10_odds_57 : decode cX10_odds 57 = .ok (.goto 6, 3) := dk_167 0 6 (dk_at dksX10_odds_2 9 rfl rfl)
theorem dX10_odds_60 : decode cX10_odds 60 = .ok (.ldc2_w 555, 3) := dk_20 2 43 (dk_at dksX10_odds_2 12 rfl rfl)
theorem dX10_odds_63 : decode cX10_odds 63 = .ok (.lreturn, 1) := dk_173 (dk_at dksX10_odds_2 15 rfl rfl)
abbrev cX10_lowest : ByteArray := prog_32_method_79_code
def yX10_lowest : MethodName := ⟨RX10, "lowest", "(JJI)J"⟩
def dkwX10_lowest_1 : List UInt8 := [22, 9, 55, 7, 167, 255, 234, 21, 4, 154, 0, 10, 30, 22, 5, 109, 167, 0, 7, 32, 22, 5, 109, 173]
abbrev dktX10_lowest_1 : List UInt8 := dkwX10_lowest_1 ++ []
def dkwX10_lowest_0 : List UInt8 := [30, 55, 5, 32, 55, 7, 22, 7, 9, 148, 153, 0, 21, 22, 5, 22, 7, 113, 55, 9, 22, 7, 55, 5]
abbrev dktX10_lowest_0 : List UInt8 := dkwX10_lowest_0 ++ dktX10_lowest_1
theorem dksX10_lowest_0 : cX10_lowest.data.toList.drop 0 = dktX10_lowest_0 := by decide +kernel
theorem dksX10_lowest_1 : cX10_lowest.data.toList.drop 24 = dktX10_lowest_1 := dk_seg dksX10_lowest_0 24 rfl rfl
theorem dX10_lowest_0 : decode cX10_lowest 0 = .ok (.lload_n 0, 1) := dk_30 (dk_at dksX10_lowest_0 0 rfl rfl)
theorem dX10_lowest_1 : decode cX10_lowest 1 = .ok (.lstore 5, 2) := dk_55 5 (dk_at dksX10_lowest_0 1 rfl rfl)
theorem dX10_lowest_3 : decode cX10_lowest 3 = .ok (.lload_n 2, 1) := dk_32 (dk_at dksX10_lowest_0 3 rfl rfl)
theorem dX10_lowest_4 : decode cX10_lowest 4 = .ok (.lstore 7, 2) := dk_55 7 (dk_at dksX10_lowest_0 4 rfl rfl)
theorem dX10_lowest_6 : decode cX10_lowest 6 = .ok (.lload 7, 2) := dk_22 7 (dk_at dksX10_lowest_0 6 rfl rfl)
theorem dX10_lowest_8 : decode cX10_lowest 8 = .ok (.lconst 0, 1) := dk_9 (dk_at dksX10_lowest_0 8 rfl rfl)
theorem dX10_lowest_9 : decode cX10_lowest 9 = .ok (.lcmp, 1) := dk_148 (dk_at dksX10_lowest_0 9 rfl rfl)
theorem dX10_lowest_10 : decode cX10_lowest 10 = .ok (.ifCond .eq 21, 3) := dk_153 0 21 (dk_at dksX10_lowest_0 10 rfl rfl)
theorem dX10_lowest_13 : decode cX10_lowest 13 = .ok (.lload 5, 2) := dk_22 5 (dk_at dksX10_lowest_0 13 rfl rfl)
theorem dX10_lowest_15 : decode cX10_lowest 15 = .ok (.lload 7, 2) := dk_22 7 (dk_at dksX10_lowest_0 15 rfl rfl)
theorem dX10_lowest_17 : decode cX10_lowest 17 = .ok (.lrem, 1) := dk_113 (dk_at dksX10_lowest_0 17 rfl rfl)
theorem dX10_lowest_18 : decode cX10_lowest 18 = .ok (.lstore 9, 2) := dk_55 9 (dk_at dksX10_lowest_0 18 rfl rfl)
theorem dX10_lowest_20 : decode cX10_lowest 20 = .ok (.lload 7, 2) := dk_22 7 (dk_at dksX10_lowest_0 20 rfl rfl)
theorem dX10_lowest_22 : decode cX10_lowest 22 = .ok (.lstore 5, 2) := dk_55 5 (dk_at dksX10_lowest_0 22 rfl rfl)
theorem dX10_lowest_24 : decode cX10_lowest 24 = .ok (.lload 9, 2) := dk_22 9 (dk_at dksX10_lowest_1 0 rfl rfl)
theorem dX10_lowest_26 : decode cX10_lowest 26 = .ok (.lstore 7, 2) := dk_55 7 (dk_at dksX10_lowest_1 2 rfl rfl)
theorem dX10_lowest_28 : decode cX10_lowest 28 = .ok (.goto (-22), 3) := dk_167 255 234 (dk_at dksX10_lowest_1 4 rfl rfl)
theorem dX10_lowest_31 : decode cX10_lowest 31 = .ok (.iload 4, 2) := dk_21 4 (dk_at dksX10_lowest_1 7 rfl rfl)
theorem dX10_lowest_33 : decode cX10_lowest 33 = .ok (.ifCond .ne 10, 3) := dk_154 0 10 (dk_at dksX10_lowest_1 9 rfl rfl)
theorem dX10_lowest_36 : decode cX10_lowest 36 = .ok (.lload_n 0, 1) := dk_30 (dk_at dksX10_lowest_1 12 rfl rfl)
theorem dX10_lowest_37 : decode cX10_lowest 37 = .ok (.lload 5, 2) := dk_22 5 (dk_at dksX10_lowest_1 13 rfl rfl)
theorem dX10_lowest_39 : decode cX10_lowest 39 = .ok (.ldiv, 1) := dk_109 (dk_at dksX10_lowest_1 15 rfl rfl)
theorem dX10_lowest_40 : decode cX10_lowest 40 = .ok (.goto 7, 3) := dk_167 0 7 (dk_at dksX10_lowest_1 16 rfl rfl)
theorem dX10_lowest_43 : decode cX10_lowest 43 = .ok (.lload_n 2, 1) := dk_32 (dk_at dksX10_lowest_1 19 rfl rfl)
theorem dX10_lowest_44 : decode cX10_lowest 44 = .ok (.lload 5, 2) := dk_22 5 (dk_at dksX10_lowest_1 20 rfl rfl)
theorem dX10_lowest_46 : decode cX10_lowest 46 = .ok (.ldiv, 1) := dk_109 (dk_at dksX10_lowest_1 22 rfl rfl)
theorem dX10_lowest_47 : decode cX10_lowest 47 = .ok (.lreturn, 1) := dk_173 (dk_at dksX10_lowest_1 23 rfl rfl)
abbrev cX10_ends : ByteArray := prog_32_method_81_code
def yX10_ends : MethodName := ⟨RX10, "ends", "(II)I"⟩
def dkwX10_ends_1 : List UInt8 := [182, 1, 168, 153, 0, 17, 42, 180, 0, 132, 16, 8, 27, 104, 28, 96, 46, 167, 0, 4, 2, 172]
abbrev dktX10_ends_1 : List UInt8 := dkwX10_ends_1 ++ []
def dkwX10_ends_0 : List UInt8 := [42, 180, 2, 28, 153, 0, 8, 16, 254, 167, 0, 34, 42, 27, 182, 2, 34, 153, 0, 25, 42, 28]
abbrev dktX10_ends_0 : List UInt8 := dkwX10_ends_0 ++ dktX10_ends_1
theorem dksX10_ends_0 : cX10_ends.data.toList.drop 0 = dktX10_ends_0 := by decide +kernel
theorem dksX10_ends_1 : cX10_ends.data.toList.drop 22 = dktX10_ends_1 := dk_seg dksX10_ends_0 22 rfl rfl
theorem dX10_ends_0 : decode cX10_ends 0 = .ok (.aload_n 0, 1) := dk_42 (dk_at dksX10_ends_0 0 rfl rfl)
theorem dX10_ends_1 : decode cX10_ends 1 = .ok (.getfield 540, 3) := dk_180 2 28 (dk_at dksX10_ends_0 1 rfl rfl)
theorem dX10_ends_4 : decode cX10_ends 4 = .ok (.ifCond .eq 8, 3) := dk_153 0 8 (dk_at dksX10_ends_0 4 rfl rfl)
theorem dX10_ends_7 : decode cX10_ends 7 = .ok (.bipush (-2), 2) := dk_16 254 (dk_at dksX10_ends_0 7 rfl rfl)
theorem dX10_ends_9 : decode cX10_ends 9 = .ok (.goto 34, 3) := dk_167 0 34 (dk_at dksX10_ends_0 9 rfl rfl)
theorem dX10_ends_12 : decode cX10_ends 12 = .ok (.aload_n 0, 1) := dk_42 (dk_at dksX10_ends_0 12 rfl rfl)
theorem dX10_ends_13 : decode cX10_ends 13 = .ok (.iload_n 1, 1) := dk_27 (dk_at dksX10_ends_0 13 rfl rfl)
theorem dX10_ends_14 : decode cX10_ends 14 = .ok (.invokevirtual 546, 3) := dk_182 2 34 (dk_at dksX10_ends_0 14 rfl rfl)
theorem dX10_ends_17 : decode cX10_ends 17 = .ok (.ifCond .eq 25, 3) := dk_153 0 25 (dk_at dksX10_ends_0 17 rfl rfl)
theorem dX10_ends_20 : decode cX10_ends 20 = .ok (.aload_n 0, 1) := dk_42 (dk_at dksX10_ends_0 20 rfl rfl)
theorem dX10_ends_21 : decode cX10_ends 21 = .ok (.iload_n 2, 1) := dk_28 (dk_at dksX10_ends_0 21 rfl rfl)
theorem dX10_ends_22 : decode cX10_ends 22 = .ok (.invokevirtual 424, 3) := dk_182 1 168 (dk_at dksX10_ends_1 0 rfl rfl)
theorem dX10_ends_25 : decode cX10_ends 25 = .ok (.ifCond .eq 17, 3) := dk_153 0 17 (dk_at dksX10_ends_1 3 rfl rfl)
theorem dX10_ends_28 : decode cX10_ends 28 = .ok (.aload_n 0, 1) := dk_42 (dk_at dksX10_ends_1 6 rfl rfl)
theorem dX10_ends_29 : decode cX10_ends 29 = .ok (.getfield 132, 3) := dk_180 0 132 (dk_at dksX10_ends_1 7 rfl rfl)
theorem dX10_ends_32 : decode cX10_ends 32 = .ok (.bipush 8, 2) := dk_16 8 (dk_at dksX10_ends_1 10 rfl rfl)
theorem dX10_ends_34 : decode cX10_ends 34 = .ok (.iload_n 1, 1) := dk_27 (dk_at dksX10_ends_1 12 rfl rfl)
theorem dX10_ends_35 : decode cX10_ends 35 = .ok (.imul, 1) := dk_104 (dk_at dksX10_ends_1 13 rfl rfl)
theorem dX10_ends_36 : decode cX10_ends 36 = .ok (.iload_n 2, 1) := dk_28 (dk_at dksX10_ends_1 14 rfl rfl)
theorem dX10_ends_37 : decode cX10_ends 37 = .ok (.iadd, 1) := dk_96 (dk_at dksX10_ends_1 15 rfl rfl)
theorem dX10_ends_38 : decode cX10_ends 38 = .ok (.iaload, 1) := dk_46 (dk_at dksX10_ends_1 16 rfl rfl)
theorem dX10_ends_39 : decode cX10_ends 39 = .ok (.goto 4, 3) := dk_167 0 4 (dk_at dksX10_ends_1 17 rfl rfl)
theorem dX10_ends_42 : decode cX10_ends 42 = .ok (.iconst (-1), 1) := dk_2 (dk_at dksX10_ends_1 20 rfl rfl)
theorem dX10_ends_43 : decode cX10_ends 43 = .ok (.ireturn, 1) := dk_172 (dk_at dksX10_ends_1 21 rfl rfl)
abbrev cX10_wrong : ByteArray := prog_32_method_83_code
def yX10_wrong : MethodName := ⟨RX10, "wrong", "()I"⟩
def dkwX10_wrong_2 : List UInt8 := [132, 1, 1, 167, 255, 218, 2, 172]
abbrev dktX10_wrong_2 : List UInt8 := dkwX10_wrong_2 ++ []
def dkwX10_wrong_1 : List UInt8 := [180, 2, 31, 162, 0, 20, 42, 28, 27, 182, 2, 45, 154, 0, 5, 27, 172, 132, 2, 1, 167, 255, 234]
abbrev dktX10_wrong_1 : List UInt8 := dkwX10_wrong_1 ++ dktX10_wrong_2
def dkwX10_wrong_0 : List UInt8 := [42, 180, 2, 28, 153, 0, 6, 16, 254, 172, 3, 60, 27, 42, 182, 1, 161, 162, 0, 36, 3, 61, 28, 42]
abbrev dktX10_wrong_0 : List UInt8 := dkwX10_wrong_0 ++ dktX10_wrong_1
theorem dksX10_wrong_0 : cX10_wrong.data.toList.drop 0 = dktX10_wrong_0 := by decide +kernel
theorem dksX10_wrong_1 : cX10_wrong.data.toList.drop 24 = dktX10_wrong_1 := dk_seg dksX10_wrong_0 24 rfl rfl
theorem dksX10_wrong_2 : cX10_wrong.data.toList.drop 47 = dktX10_wrong_2 := dk_seg dksX10_wrong_1 23 rfl rfl
theorem dX10_wrong_0 : decode cX10_wrong 0 = .ok (.aload_n 0, 1) := dk_42 (dk_at dksX10_wrong_0 0 rfl rfl)
theorem dX10_wrong_1 : decode cX10_wrong 1 = .ok (.getfield 540, 3) := dk_180 2 28 (dk_at dksX10_wrong_0 1 rfl rfl)
theorem dX10_wrong_4 : decode cX10_wrong 4 = .ok (.ifCond .eq 6, 3) := dk_153 0 6 (dk_at dksX10_wrong_0 4 rfl rfl)
theorem dX10_wrong_7 : decode cX10_wrong 7 = .ok (.bipush (-2), 2) := dk_16 254 (dk_at dksX10_wrong_0 7 rfl rfl)
theorem dX10_wrong_9 : decode cX10_wrong 9 = .ok (.ireturn, 1) := dk_172 (dk_at dksX10_wrong_0 9 rfl rfl)
theorem dX10_wrong_10 : decode cX10_wrong 10 = .ok (.iconst 0, 1) := dk_3 (dk_at dksX10_wrong_0 10 rfl rfl)
theorem dX10_wrong_11 : decode cX10_wrong 11 = .ok (.istore_n 1, 1) := dk_60 (dk_at dksX10_wrong_0 11 rfl rfl)
theorem dX10_wrong_12 : decode cX10_wrong 12 = .ok (.iload_n 1, 1) := dk_27 (dk_at dksX10_wrong_0 12 rfl rfl)
theorem dX10_wrong_13 : decode cX10_wrong 13 = .ok (.aload_n 0, 1) := dk_42 (dk_at dksX10_wrong_0 13 rfl rfl)
theorem dX10_wrong_14 : decode cX10_wrong 14 = .ok (.invokevirtual 417, 3) := dk_182 1 161 (dk_at dksX10_wrong_0 14 rfl rfl)
theorem dX10_wrong_17 : decode cX10_wrong 17 = .ok (.if_icmp .ge 36, 3) := dk_162 0 36 (dk_at dksX10_wrong_0 17 rfl rfl)
theorem dX10_wrong_20 : decode cX10_wrong 20 = .ok (.iconst 0, 1) := dk_3 (dk_at dksX10_wrong_0 20 rfl rfl)
theorem dX10_wrong_21 : decode cX10_wrong 21 = .ok (.istore_n 2, 1) := dk_61 (dk_at dksX10_wrong_0 21 rfl rfl)
theorem dX10_wrong_22 : decode cX10_wrong 22 = .ok (.iload_n 2, 1) := dk_28 (dk_at dksX10_wrong_0 22 rfl rfl)
theorem dX10_wrong_23 : decode cX10_wrong 23 = .ok (.aload_n 0, 1) := dk_42 (dk_at dksX10_wrong_0 23 rfl rfl)
theorem dX10_wrong_24 : decode cX10_wrong 24 = .ok (.getfield 543, 3) := dk_180 2 31 (dk_at dksX10_wrong_1 0 rfl rfl)
theorem dX10_wrong_27 : decode cX10_wrong 27 = .ok (.if_icmp .ge 20, 3) := dk_162 0 20 (dk_at dksX10_wrong_1 3 rfl rfl)
theorem dX10_wrong_30 : decode cX10_wrong 30 = .ok (.aload_n 0, 1) := dk_42 (dk_at dksX10_wrong_1 6 rfl rfl)
theorem dX10_wrong_31 : decode cX10_wrong 31 = .ok (.iload_n 2, 1) := dk_28 (dk_at dksX10_wrong_1 7 rfl rfl)
theorem dX10_wrong_32 : decode cX10_wrong 32 = .ok (.iload_n 1, 1) := dk_27 (dk_at dksX10_wrong_1 8 rfl rfl)
theorem dX10_wrong_33 : decode cX10_wrong 33 = .ok (.invokevirtual 557, 3) := dk_182 2 45 (dk_at dksX10_wrong_1 9 rfl rfl)
theorem dX10_wrong_36 : decode cX10_wrong 36 = .ok (.ifCond .ne 5, 3) := dk_154 0 5 (dk_at dksX10_wrong_1 12 rfl rfl)
theorem dX10_wrong_39 : decode cX10_wrong 39 = .ok (.iload_n 1, 1) := dk_27 (dk_at dksX10_wrong_1 15 rfl rfl)
theorem dX10_wrong_40 : decode cX10_wrong 40 = .ok (.ireturn, 1) := dk_172 (dk_at dksX10_wrong_1 16 rfl rfl)
theorem dX10_wrong_41 : decode cX10_wrong 41 = .ok (.iinc 2 1, 3) := dk_132 2 1 (dk_at dksX10_wrong_1 17 rfl rfl)
theorem dX10_wrong_44 : decode cX10_wrong 44 = .ok (.goto (-22), 3) := dk_167 255 234 (dk_at dksX10_wrong_1 20 rfl rfl)
theorem dX10_wrong_47 : decode cX10_wrong 47 = .ok (.iinc 1 1, 3) := dk_132 1 1 (dk_at dksX10_wrong_2 0 rfl rfl)
theorem dX10_wrong_50 : decode cX10_wrong 50 = .ok (.goto (-38), 3) := dk_167 255 218 (dk_at dksX10_wrong_2 3 rfl rfl)
theorem dX10_wrong_53 : decode cX10_wrong 53 = .ok (.iconst (-1), 1) := dk_2 (dk_at dksX10_wrong_2 6 rfl rfl)
theorem dX10_wrong_54 : decode cX10_wrong 54 = .ok (.ireturn, 1) := dk_172 (dk_at dksX10_wrong_2 7 rfl rfl)
abbrev cX10_isRight : ByteArray := prog_32_method_82_code
def yX10_isRight : MethodName := ⟨RX10, "isRight", "(II)Z"⟩
def dkwX10_isRight_3 : List UInt8 := [29, 120, 160, 0, 7, 4, 167, 0, 4, 3, 172]
abbrev dktX10_isRight_3 : List UInt8 := dkwX10_isRight_3 ++ []
def dkwX10_isRight_2 : List UInt8 := [167, 0, 34, 29, 153, 0, 8, 29, 4, 160, 0, 24, 42, 180, 0, 132, 16, 8, 27, 104, 28, 96, 46, 4]
abbrev dktX10_isRight_2 : List UInt8 := dkwX10_isRight_2 ++ dktX10_isRight_3
def dkwX10_isRight_1 : List UInt8 := [42, 180, 0, 135, 27, 46, 155, 0, 21, 42, 180, 0, 135, 27, 46, 29, 160, 0, 7, 4, 167, 0, 38, 3]
abbrev dktX10_isRight_1 : List UInt8 := dkwX10_isRight_1 ++ dktX10_isRight_2
def dkwX10_isRight_0 : List UInt8 := [42, 180, 0, 138, 16, 8, 27, 104, 28, 96, 47, 9, 148, 154, 0, 5, 4, 172, 42, 28, 182, 1, 171, 62]
abbrev dktX10_isRight_0 : List UInt8 := dkwX10_isRight_0 ++ dktX10_isRight_1
theorem dksX10_isRight_0 : cX10_isRight.data.toList.drop 0 = dktX10_isRight_0 := by decide +kernel
theorem dksX10_isRight_1 : cX10_isRight.data.toList.drop 24 = dktX10_isRight_1 := dk_seg dksX10_isRight_0 24 rfl rfl
theorem dksX10_isRight_2 : cX10_isRight.data.toList.drop 48 = dktX10_isRight_2 := dk_seg dksX10_isRight_1 24 rfl rfl
theorem dksX10_isRight_3 : cX10_isRight.data.toList.drop 72 = dktX10_isRight_3 := dk_seg dksX10_isRight_2 24 rfl rfl
theorem dX10_isRight_0 : decode cX10_isRight 0 = .ok (.aload_n 0, 1) := dk_42 (dk_at dksX10_isRight_0 0 rfl rfl)
theorem dX10_isRight_1 : decode cX10_isRight 1 = .ok (.getfield 138, 3) := dk_180 0 138 (dk_at dksX10_isRight_0 1 rfl rfl)
theorem dX10_isRight_4 : decode cX10_isRight 4 = .ok (.bipush 8, 2) := dk_16 8 (dk_at dksX10_isRight_0 4 rfl rfl)
theorem dX10_isRight_6 : decode cX10_isRight 6 = .ok (.iload_n 1, 1) := dk_27 (dk_at dksX10_isRight_0 6 rfl rfl)
theorem dX10_isRight_7 : decode cX10_isRight 7 = .ok (.imul, 1) := dk_104 (dk_at dksX10_isRight_0 7 rfl rfl)
theorem dX10_isRight_8 : decode cX10_isRight 8 = .ok (.iload_n 2, 1) := dk_28 (dk_at dksX10_isRight_0 8 rfl rfl)
theorem dX10_isRight_9 : decode cX10_isRight 9 = .ok (.iadd, 1) := dk_96 (dk_at dksX10_isRight_0 9 rfl rfl)
theorem dX10_isRight_10 : decode cX10_isRight 10 = .ok (.laload, 1) := dk_47 (dk_at dksX10_isRight_0 10 rfl rfl)
theorem dX10_isRight_11 : decode cX10_isRight 11 = .ok (.lconst 0, 1) := dk_9 (dk_at dksX10_isRight_0 11 rfl rfl)
theorem dX10_isRight_12 : decode cX10_isRight 12 = .ok (.lcmp, 1) := dk_148 (dk_at dksX10_isRight_0 12 rfl rfl)
theorem dX10_isRight_13 : decode cX10_isRight 13 = .ok (.ifCond .ne 5, 3) := dk_154 0 5 (dk_at dksX10_isRight_0 13 rfl rfl)
theorem dX10_isRight_16 : decode cX10_isRight 16 = .ok (.iconst 1, 1) := dk_4 (dk_at dksX10_isRight_0 16 rfl rfl)
theorem dX10_isRight_17 : decode cX10_isRight 17 = .ok (.ireturn, 1) := dk_172 (dk_at dksX10_isRight_0 17 rfl rfl)
theorem dX10_isRight_18 : decode cX10_isRight 18 = .ok (.aload_n 0, 1) := dk_42 (dk_at dksX10_isRight_0 18 rfl rfl)
theorem dX10_isRight_19 : decode cX10_isRight 19 = .ok (.iload_n 2, 1) := dk_28 (dk_at dksX10_isRight_0 19 rfl rfl)
theorem dX10_isRight_20 : decode cX10_isRight 20 = .ok (.invokevirtual 427, 3) := dk_182 1 171 (dk_at dksX10_isRight_0 20 rfl rfl)
theorem dX10_isRight_23 : decode cX10_isRight 23 = .ok (.istore_n 3, 1) := dk_62 (dk_at dksX10_isRight_0 23 rfl rfl)
theorem dX10_isRight_24 : decode cX10_isRight 24 = .ok (.aload_n 0, 1) := dk_42 (dk_at dksX10_isRight_1 0 rfl rfl)
theorem dX10_isRight_25 : decode cX10_isRight 25 = .ok (.getfield 135, 3) := dk_180 0 135 (dk_at dksX10_isRight_1 1 rfl rfl)
theorem dX10_isRight_28 : decode cX10_isRight 28 = .ok (.iload_n 1, 1) := dk_27 (dk_at dksX10_isRight_1 4 rfl rfl)
theorem dX10_isRight_29 : decode cX10_isRight 29 = .ok (.iaload, 1) := dk_46 (dk_at dksX10_isRight_1 5 rfl rfl)
theorem dX10_isRight_30 : decode cX10_isRight 30 = .ok (.ifCond .lt 21, 3) := dk_155 0 21 (dk_at dksX10_isRight_1 6 rfl rfl)
theorem dX10_isRight_33 : decode cX10_isRight 33 = .ok (.aload_n 0, 1) := dk_42 (dk_at dksX10_isRight_1 9 rfl rfl)
theorem dX10_isRight_34 : decode cX10_isRight 34 = .ok (.getfield 135, 3) := dk_180 0 135 (dk_at dksX10_isRight_1 10 rfl rfl)
theorem dX10_isRight_37 : decode cX10_isRight 37 = .ok (.iload_n 1, 1) := dk_27 (dk_at dksX10_isRight_1 13 rfl rfl)
theorem dX10_isRight_38 : decode cX10_isRight 38 = .ok (.iaload, 1) := dk_46 (dk_at dksX10_isRight_1 14 rfl rfl)
theorem dX10_isRight_39 : decode cX10_isRight 39 = .ok (.iload_n 3, 1) := dk_29 (dk_at dksX10_isRight_1 15 rfl rfl)
theorem dX10_isRight_40 : decode cX10_isRight 40 = .ok (.if_icmp .ne 7, 3) := dk_160 0 7 (dk_at dksX10_isRight_1 16 rfl rfl)
theorem dX10_isRight_43 : decode cX10_isRight 43 = .ok (.iconst 1, 1) := dk_4 (dk_at dksX10_isRight_1 19 rfl rfl)
theorem dX10_isRight_44 : decode cX10_isRight 44 = .ok (.goto 38, 3) := dk_167 0 38 (dk_at dksX10_isRight_1 20 rfl rfl)
theorem dX10_isRight_47 : decode cX10_isRight 47 = .ok (.iconst 0, 1) := dk_3 (dk_at dksX10_isRight_1 23 rfl rfl)
theorem dX10_isRight_48 : decode cX10_isRight 48 = .ok (.goto 34, 3) := dk_167 0 34 (dk_at dksX10_isRight_2 0 rfl rfl)
theorem dX10_isRight_51 : decode cX10_isRight 51 = .ok (.iload_n 3, 1) := dk_29 (dk_at dksX10_isRight_2 3 rfl rfl)
theorem dX10_isRight_52 : decode cX10_isRight 52 = .ok (.ifCond .eq 8, 3) := dk_153 0 8 (dk_at dksX10_isRight_2 4 rfl rfl)
theorem dX10_isRight_55 : decode cX10_isRight 55 = .ok (.iload_n 3, 1) := dk_29 (dk_at dksX10_isRight_2 7 rfl rfl)
theorem dX10_isRight_56 : decode cX10_isRight 56 = .ok (.iconst 1, 1) := dk_4 (dk_at dksX10_isRight_2 8 rfl rfl)
theorem dX10_isRight_57 : decode cX10_isRight 57 = .ok (.if_icmp .ne 24, 3) := dk_160 0 24 (dk_at dksX10_isRight_2 9 rfl rfl)
theorem dX10_isRight_60 : decode cX10_isRight 60 = .ok (.aload_n 0, 1) := dk_42 (dk_at dksX10_isRight_2 12 rfl rfl)
theorem dX10_isRight_61 : decode cX10_isRight 61 = .ok (.getfield 132, 3) := dk_180 0 132 (dk_at dksX10_isRight_2 13 rfl rfl)
theorem dX10_isRight_64 : decode cX10_isRight 64 = .ok (.bipush 8, 2) := dk_16 8 (dk_at dksX10_isRight_2 16 rfl rfl)
theorem dX10_isRight_66 : decode cX10_isRight 66 = .ok (.iload_n 1, 1) := dk_27 (dk_at dksX10_isRight_2 18 rfl rfl)
theorem dX10_isRight_67 : decode cX10_isRight 67 = .ok (.imul, 1) := dk_104 (dk_at dksX10_isRight_2 19 rfl rfl)
theorem dX10_isRight_68 : decode cX10_isRight 68 = .ok (.iload_n 2, 1) := dk_28 (dk_at dksX10_isRight_2 20 rfl rfl)
theorem dX10_isRight_69 : decode cX10_isRight 69 = .ok (.iadd, 1) := dk_96 (dk_at dksX10_isRight_2 21 rfl rfl)
theorem dX10_isRight_70 : decode cX10_isRight 70 = .ok (.iaload, 1) := dk_46 (dk_at dksX10_isRight_2 22 rfl rfl)
theorem dX10_isRight_71 : decode cX10_isRight 71 = .ok (.iconst 1, 1) := dk_4 (dk_at dksX10_isRight_2 23 rfl rfl)
theorem dX10_isRight_72 : decode cX10_isRight 72 = .ok (.iload_n 3, 1) := dk_29 (dk_at dksX10_isRight_3 0 rfl rfl)
theorem dX10_isRight_73 : decode cX10_isRight 73 = .ok (.ishl, 1) := dk_120 (dk_at dksX10_isRight_3 1 rfl rfl)
theorem dX10_isRight_74 : decode cX10_isRight 74 = .ok (.if_icmp .ne 7, 3) := dk_160 0 7 (dk_at dksX10_isRight_3 2 rfl rfl)
theorem dX10_isRight_77 : decode cX10_isRight 77 = .ok (.iconst 1, 1) := dk_4 (dk_at dksX10_isRight_3 5 rfl rfl)
theorem dX10_isRight_78 : decode cX10_isRight 78 = .ok (.goto 4, 3) := dk_167 0 4 (dk_at dksX10_isRight_3 6 rfl rfl)
theorem dX10_isRight_81 : decode cX10_isRight 81 = .ok (.iconst 0, 1) := dk_3 (dk_at dksX10_isRight_3 9 rfl rfl)
theorem dX10_isRight_82 : decode cX10_isRight 82 = .ok (.ireturn, 1) := dk_172 (dk_at dksX10_isRight_3 10 rfl rfl)
abbrev cX10_leaks : ByteArray := prog_32_method_84_code
def yX10_leaks : MethodName := ⟨RX10, "leaks", "(Z)I"⟩
def dkwX10_leaks_5 : List UInt8 := [132, 2, 1, 167, 255, 147, 2, 172]
abbrev dktX10_leaks_5 : List UInt8 := dkwX10_leaks_5 ++ []
def dkwX10_leaks_4 : List UInt8 := [29, 104, 96, 16, 10, 21, 4, 104, 96, 172, 132, 4, 1, 167, 255, 182, 132, 3, 1, 167, 255, 163]
abbrev dktX10_leaks_4 : List UInt8 := dkwX10_leaks_4 ++ dktX10_leaks_5
def dkwX10_leaks_3 : List UInt8 := [154, 0, 17, 42, 29, 182, 1, 171, 42, 21, 4, 182, 1, 171, 160, 0, 20, 17, 3, 232, 28, 104, 16, 100]
abbrev dktX10_leaks_3 : List UInt8 := dkwX10_leaks_3 ++ dktX10_leaks_4
def dkwX10_leaks_2 : List UInt8 := [16, 8, 28, 104, 29, 96, 47, 42, 180, 0, 138, 16, 8, 28, 104, 21, 4, 96, 47, 148, 153, 0, 38, 27]
abbrev dktX10_leaks_2 : List UInt8 := dkwX10_leaks_2 ++ dktX10_leaks_3
def dkwX10_leaks_1 : List UInt8 := [182, 1, 161, 162, 0, 91, 29, 4, 96, 54, 4, 21, 4, 42, 182, 1, 161, 162, 0, 71, 42, 180, 0, 138]
abbrev dktX10_leaks_1 : List UInt8 := dkwX10_leaks_1 ++ dktX10_leaks_2
def dkwX10_leaks_0 : List UInt8 := [42, 180, 2, 28, 153, 0, 6, 16, 254, 172, 3, 61, 28, 42, 180, 2, 31, 162, 0, 107, 3, 62, 29, 42]
abbrev dktX10_leaks_0 : List UInt8 := dkwX10_leaks_0 ++ dktX10_leaks_1
theorem dksX10_leaks_0 : cX10_leaks.data.toList.drop 0 = dktX10_leaks_0 := by decide +kernel
theorem dksX10_leaks_1 : cX10_leaks.data.toList.drop 24 = dktX10_leaks_1 := dk_seg dksX10_leaks_0 24 rfl rfl
theorem dksX10_leaks_2 : cX10_leaks.data.toList.drop 48 = dktX10_leaks_2 := dk_seg dksX10_leaks_1 24 rfl rfl
theorem dksX10_leaks_3 : cX10_leaks.data.toList.drop 72 = dktX10_leaks_3 := dk_seg dksX10_leaks_2 24 rfl rfl
theorem dksX10_leaks_4 : cX10_leaks.data.toList.drop 96 = dktX10_leaks_4 := dk_seg dksX10_leaks_3 24 rfl rfl
theorem dksX10_leaks_5 : cX10_leaks.data.toList.drop 118 = dktX10_leaks_5 := dk_seg dksX10_leaks_4 22 rfl rfl
theorem dX10_leaks_0 : decode cX10_leaks 0 = .ok (.aload_n 0, 1) := dk_42 (dk_at dksX10_leaks_0 0 rfl rfl)
theorem dX10_leaks_1 : decode cX10_leaks 1 = .ok (.getfield 540, 3) := dk_180 2 28 (dk_at dksX10_leaks_0 1 rfl rfl)
theorem dX10_leaks_4 : decode cX10_leaks 4 = .ok (.ifCond .eq 6, 3) := dk_153 0 6 (dk_at dksX10_leaks_0 4 rfl rfl)
theorem dX10_leaks_7 : decode cX10_leaks 7 = .ok (.bipush (-2), 2) := dk_16 254 (dk_at dksX10_leaks_0 7 rfl rfl)
theorem dX10_leaks_9 : decode cX10_leaks 9 = .ok (.ireturn, 1) := dk_172 (dk_at dksX10_leaks_0 9 rfl rfl)
theorem dX10_leaks_10 : decode cX10_leaks 10 = .ok (.iconst 0, 1) := dk_3 (dk_at dksX10_leaks_0 10 rfl rfl)
theorem dX10_leaks_11 : decode cX10_leaks 11 = .ok (.istore_n 2, 1) := dk_61 (dk_at dksX10_leaks_0 11 rfl rfl)
theorem dX10_leaks_12 : decode cX10_leaks 12 = .ok (.iload_n 2, 1) := dk_28 (dk_at dksX10_leaks_0 12 rfl rfl)
theorem dX10_leaks_13 : decode cX10_leaks 13 = .ok (.aload_n 0, 1) := dk_42 (dk_at dksX10_leaks_0 13 rfl rfl)
theorem dX10_leaks_14 : decode cX10_leaks 14 = .ok (.getfield 543, 3) := dk_180 2 31 (dk_at dksX10_leaks_0 14 rfl rfl)
theorem dX10_leaks_17 : decode cX10_leaks 17 = .ok (.if_icmp .ge 107, 3) := dk_162 0 107 (dk_at dksX10_leaks_0 17 rfl rfl)
theorem dX10_leaks_20 : decode cX10_leaks 20 = .ok (.iconst 0, 1) := dk_3 (dk_at dksX10_leaks_0 20 rfl rfl)
theorem dX10_leaks_21 : decode cX10_leaks 21 = .ok (.istore_n 3, 1) := dk_62 (dk_at dksX10_leaks_0 21 rfl rfl)
theorem dX10_leaks_22 : decode cX10_leaks 22 = .ok (.iload_n 3, 1) := dk_29 (dk_at dksX10_leaks_0 22 rfl rfl)
theorem dX10_leaks_23 : decode cX10_leaks 23 = .ok (.aload_n 0, 1) := dk_42 (dk_at dksX10_leaks_0 23 rfl rfl)
theorem dX10_leaks_24 : decode cX10_leaks 24 = .ok (.invokevirtual 417, 3) := dk_182 1 161 (dk_at dksX10_leaks_1 0 rfl rfl)
theorem dX10_leaks_27 : decode cX10_leaks 27 = .ok (.if_icmp .ge 91, 3) := dk_162 0 91 (dk_at dksX10_leaks_1 3 rfl rfl)
theorem dX10_leaks_30 : decode cX10_leaks 30 = .ok (.iload_n 3, 1) := dk_29 (dk_at dksX10_leaks_1 6 rfl rfl)
theorem dX10_leaks_31 : decode cX10_leaks 31 = .ok (.iconst 1, 1) := dk_4 (dk_at dksX10_leaks_1 7 rfl rfl)
theorem dX10_leaks_32 : decode cX10_leaks 32 = .ok (.iadd, 1) := dk_96 (dk_at dksX10_leaks_1 8 rfl rfl)
theorem dX10_leaks_33 : decode cX10_leaks 33 = .ok (.istore 4, 2) := dk_54 4 (dk_at dksX10_leaks_1 9 rfl rfl)
theorem dX10_leaks_35 : decode cX10_leaks 35 = .ok (.iload 4, 2) := dk_21 4 (dk_at dksX10_leaks_1 11 rfl rfl)
theorem dX10_leaks_37 : decode cX10_leaks 37 = .ok (.aload_n 0, 1) := dk_42 (dk_at dksX10_leaks_1 13 rfl rfl)
theorem dX10_leaks_38 : decode cX10_leaks 38 = .ok (.invokevirtual 417, 3) := dk_182 1 161 (dk_at dksX10_leaks_1 14 rfl rfl)
theorem dX10_leaks_41 : decode cX10_leaks 41 = .ok (.if_icmp .ge 71, 3) := dk_162 0 71 (dk_at dksX10_leaks_1 17 rfl rfl)
theorem dX10_leaks_44 : decode cX10_leaks 44 = .ok (.aload_n 0, 1) := dk_42 (dk_at dksX10_leaks_1 20 rfl rfl)
theorem dX10_leaks_45 : decode cX10_leaks 45 = .ok (.getfield 138, 3) := dk_180 0 138 (dk_at dksX10_leaks_1 21 rfl rfl)
theorem dX10_leaks_48 : decode cX10_leaks 48 = .ok (.bipush 8, 2) := dk_16 8 (dk_at dksX10_leaks_2 0 rfl rfl)
theorem dX10_leaks_50 : decode cX10_leaks 50 = .ok (.iload_n 2, 1) := dk_28 (dk_at dksX10_leaks_2 2 rfl rfl)
theorem dX10_leaks_51 : decode cX10_leaks 51 = .ok (.imul, 1) := dk_104 (dk_at dksX10_leaks_2 3 rfl rfl)
theorem dX10_leaks_52 : decode cX10_leaks 52 = .ok (.iload_n 3, 1) := dk_29 (dk_at dksX10_leaks_2 4 rfl rfl)
theorem dX10_leaks_53 : decode cX10_leaks 53 = .ok (.iadd, 1) := dk_96 (dk_at dksX10_leaks_2 5 rfl rfl)
theorem dX10_leaks_54 : decode cX10_leaks 54 = .ok (.laload, 1) := dk_47 (dk_at dksX10_leaks_2 6 rfl rfl)
theorem dX10_leaks_55 : decode cX10_leaks 55 = .ok (.aload_n 0, 1) := dk_42 (dk_at dksX10_leaks_2 7 rfl rfl)
theorem dX10_leaks_56 : decode cX10_leaks 56 = .ok (.getfield 138, 3) := dk_180 0 138 (dk_at dksX10_leaks_2 8 rfl rfl)
theorem dX10_leaks_59 : decode cX10_leaks 59 = .ok (.bipush 8, 2) := dk_16 8 (dk_at dksX10_leaks_2 11 rfl rfl)
theorem dX10_leaks_61 : decode cX10_leaks 61 = .ok (.iload_n 2, 1) := dk_28 (dk_at dksX10_leaks_2 13 rfl rfl)
theorem dX10_leaks_62 : decode cX10_leaks 62 = .ok (.imul, 1) := dk_104 (dk_at dksX10_leaks_2 14 rfl rfl)
theorem dX10_leaks_63 : decode cX10_leaks 63 = .ok (.iload 4, 2) := dk_21 4 (dk_at dksX10_leaks_2 15 rfl rfl)
theorem dX10_leaks_65 : decode cX10_leaks 65 = .ok (.iadd, 1) := dk_96 (dk_at dksX10_leaks_2 17 rfl rfl)
theorem dX10_leaks_66 : decode cX10_leaks 66 = .ok (.laload, 1) := dk_47 (dk_at dksX10_leaks_2 18 rfl rfl)
theorem dX10_leaks_67 : decode cX10_leaks 67 = .ok (.lcmp, 1) := dk_148 (dk_at dksX10_leaks_2 19 rfl rfl)
theorem dX10_leaks_68 : decode cX10_leaks 68 = .ok (.ifCond .eq 38, 3) := dk_153 0 38 (dk_at dksX10_leaks_2 20 rfl rfl)
theorem dX10_leaks_71 : decode cX10_leaks 71 = .ok (.iload_n 1, 1) := dk_27 (dk_at dksX10_leaks_2 23 rfl rfl)
theorem dX10_leaks_72 : decode cX10_leaks 72 = .ok (.ifCond .ne 17, 3) := dk_154 0 17 (dk_at dksX10_leaks_3 0 rfl rfl)
theorem dX10_leaks_75 : decode cX10_leaks 75 = .ok (.aload_n 0, 1) := dk_42 (dk_at dksX10_leaks_3 3 rfl rfl)
theorem dX10_leaks_76 : decode cX10_leaks 76 = .ok (.iload_n 3, 1) := dk_29 (dk_at dksX10_leaks_3 4 rfl rfl)
theorem dX10_leaks_77 : decode cX10_leaks 77 = .ok (.invokevirtual 427, 3) := dk_182 1 171 (dk_at dksX10_leaks_3 5 rfl rfl)
theorem dX10_leaks_80 : decode cX10_leaks 80 = .ok (.aload_n 0, 1) := dk_42 (dk_at dksX10_leaks_3 8 rfl rfl)
theorem dX10_leaks_81 : decode cX10_leaks 81 = .ok (.iload 4, 2) := dk_21 4 (dk_at dksX10_leaks_3 9 rfl rfl)
theorem dX10_leaks_83 : decode cX10_leaks 83 = .ok (.invokevirtual 427, 3) := dk_182 1 171 (dk_at dksX10_leaks_3 11 rfl rfl)
theorem dX10_leaks_86 : decode cX10_leaks 86 = .ok (.if_icmp .ne 20, 3) := dk_160 0 20 (dk_at dksX10_leaks_3 14 rfl rfl)
theorem dX10_leaks_89 : decode cX10_leaks 89 = .ok (.sipush 1000, 3) := dk_17 3 232 (dk_at dksX10_leaks_3 17 rfl rfl)
theorem dX10_leaks_92 : decode cX10_leaks 92 = .ok (.iload_n 2, 1) := dk_28 (dk_at dksX10_leaks_3 20 rfl rfl)
theorem dX10_leaks_93 : decode cX10_leaks 93 = .ok (.imul, 1) := dk_104 (dk_at dksX10_leaks_3 21 rfl rfl)
theorem dX10_leaks_94 : decode cX10_leaks 94 = .ok (.bipush 100, 2) := dk_16 100 (dk_at dksX10_leaks_3 22 rfl rfl)
theorem dX10_leaks_96 : decode cX10_leaks 96 = .ok (.iload_n 3, 1) := dk_29 (dk_at dksX10_leaks_4 0 rfl rfl)
theorem dX10_leaks_97 : decode cX10_leaks 97 = .ok (.imul, 1) := dk_104 (dk_at dksX10_leaks_4 1 rfl rfl)
theorem dX10_leaks_98 : decode cX10_leaks 98 = .ok (.iadd, 1) := dk_96 (dk_at dksX10_leaks_4 2 rfl rfl)
theorem dX10_leaks_99 : decode cX10_leaks 99 = .ok (.bipush 10, 2) := dk_16 10 (dk_at dksX10_leaks_4 3 rfl rfl)
theorem dX10_leaks_101 : decode cX10_leaks 101 = .ok (.iload 4, 2) := dk_21 4 (dk_at dksX10_leaks_4 5 rfl rfl)
theorem dX10_leaks_103 : decode cX10_leaks 103 = .ok (.imul, 1) := dk_104 (dk_at dksX10_leaks_4 7 rfl rfl)
theorem dX10_leaks_104 : decode cX10_leaks 104 = .ok (.iadd, 1) := dk_96 (dk_at dksX10_leaks_4 8 rfl rfl)
theorem dX10_leaks_105 : decode cX10_leaks 105 = .ok (.ireturn, 1) := dk_172 (dk_at dksX10_leaks_4 9 rfl rfl)
theorem dX10_leaks_106 : decode cX10_leaks 106 = .ok (.iinc 4 1, 3) := dk_132 4 1 (dk_at dksX10_leaks_4 10 rfl rfl)
theorem dX10_leaks_109 : decode cX10_leaks 109 = .ok (.goto (-74), 3) := dk_167 255 182 (dk_at dksX10_leaks_4 13 rfl rfl)
theorem dX10_leaks_112 : decode cX10_leaks 112 = .ok (.iinc 3 1, 3) := dk_132 3 1 (dk_at dksX10_leaks_4 16 rfl rfl)
theorem dX10_leaks_115 : decode cX10_leaks 115 = .ok (.goto (-93), 3) := dk_167 255 163 (dk_at dksX10_leaks_4 19 rfl rfl)
theorem dX10_leaks_118 : decode cX10_leaks 118 = .ok (.iinc 2 1, 3) := dk_132 2 1 (dk_at dksX10_leaks_5 0 rfl rfl)
theorem dX10_leaks_121 : decode cX10_leaks 121 = .ok (.goto (-109), 3) := dk_167 255 147 (dk_at dksX10_leaks_5 3 rfl rfl)
theorem dX10_leaks_124 : decode cX10_leaks 124 = .ok (.iconst (-1), 1) := dk_2 (dk_at dksX10_leaks_5 6 rfl rfl)
theorem dX10_leaks_125 : decode cX10_leaks 125 = .ok (.ireturn, 1) := dk_172 (dk_at dksX10_leaks_5 7 rfl rfl)
abbrev cX10_bent : ByteArray := prog_32_method_86_code
def yX10_bent : MethodName := ⟨RX10, "bent", "(IZ)I"⟩
def dkwX10_bent_0 : List UInt8 := [27, 3, 16, 7, 184, 1, 164, 153, 0, 13, 42, 4, 27, 28, 182, 2, 48, 167, 0, 4, 2, 172]
abbrev dktX10_bent_0 : List UInt8 := dkwX10_bent_0 ++ []
theorem dksX10_bent_0 : cX10_bent.data.toList.drop 0 = dktX10_bent_0 := by decide +kernel
theorem dX10_bent_0 : decode cX10_bent 0 = .ok (.iload_n 1, 1) := dk_27 (dk_at dksX10_bent_0 0 rfl rfl)
theorem dX10_bent_1 : decode cX10_bent 1 = .ok (.iconst 0, 1) := dk_3 (dk_at dksX10_bent_0 1 rfl rfl)
theorem dX10_bent_2 : decode cX10_bent 2 = .ok (.bipush 7, 2) := dk_16 7 (dk_at dksX10_bent_0 2 rfl rfl)
theorem dX10_bent_4 : decode cX10_bent 4 = .ok (.invokestatic 420, 3) := dk_184 1 164 (dk_at dksX10_bent_0 4 rfl rfl)
theorem dX10_bent_7 : decode cX10_bent 7 = .ok (.ifCond .eq 13, 3) := dk_153 0 13 (dk_at dksX10_bent_0 7 rfl rfl)
theorem dX10_bent_10 : decode cX10_bent 10 = .ok (.aload_n 0, 1) := dk_42 (dk_at dksX10_bent_0 10 rfl rfl)
theorem dX10_bent_11 : decode cX10_bent 11 = .ok (.iconst 1, 1) := dk_4 (dk_at dksX10_bent_0 11 rfl rfl)
theorem dX10_bent_12 : decode cX10_bent 12 = .ok (.iload_n 1, 1) := dk_27 (dk_at dksX10_bent_0 12 rfl rfl)
theorem dX10_bent_13 : decode cX10_bent 13 = .ok (.iload_n 2, 1) := dk_28 (dk_at dksX10_bent_0 13 rfl rfl)
theorem dX10_bent_14 : decode cX10_bent 14 = .ok (.invokevirtual 560, 3) := dk_182 2 48 (dk_at dksX10_bent_0 14 rfl rfl)
theorem dX10_bent_17 : decode cX10_bent 17 = .ok (.goto 4, 3) := dk_167 0 4 (dk_at dksX10_bent_0 17 rfl rfl)
theorem dX10_bent_20 : decode cX10_bent 20 = .ok (.iconst (-1), 1) := dk_2 (dk_at dksX10_bent_0 20 rfl rfl)
theorem dX10_bent_21 : decode cX10_bent 21 = .ok (.ireturn, 1) := dk_172 (dk_at dksX10_bent_0 21 rfl rfl)
abbrev cX10_isClosed : ByteArray := prog_32_method_85_code
def yX10_isClosed : MethodName := ⟨RX10, "isClosed", "(IIZ)I"⟩
def dkwX10_isClosed_1 : List UInt8 := [154, 0, 8, 16, 254, 167, 0, 15, 42, 180, 2, 22, 153, 0, 7, 3, 167, 0, 4, 4, 172]
abbrev dktX10_isClosed_1 : List UInt8 := dkwX10_isClosed_1 ++ []
def dkwX10_isClosed_0 : List UInt8 := [42, 29, 181, 2, 15, 42, 3, 181, 2, 22, 42, 27, 28, 17, 19, 136, 182, 2, 25, 54, 4, 21, 4]
abbrev dktX10_isClosed_0 : List UInt8 := dkwX10_isClosed_0 ++ dktX10_isClosed_1
theorem dksX10_isClosed_0 : cX10_isClosed.data.toList.drop 0 = dktX10_isClosed_0 := by decide +kernel
theorem dksX10_isClosed_1 : cX10_isClosed.data.toList.drop 23 = dktX10_isClosed_1 := dk_seg dksX10_isClosed_0 23 rfl rfl
theorem dX10_isClosed_0 : decode cX10_isClosed 0 = .ok (.aload_n 0, 1) := dk_42 (dk_at dksX10_isClosed_0 0 rfl rfl)
theorem dX10_isClosed_1 : decode cX10_isClosed 1 = .ok (.iload_n 3, 1) := dk_29 (dk_at dksX10_isClosed_0 1 rfl rfl)
theorem dX10_isClosed_2 : decode cX10_isClosed 2 = .ok (.putfield 527, 3) := dk_181 2 15 (dk_at dksX10_isClosed_0 2 rfl rfl)
theorem dX10_isClosed_5 : decode cX10_isClosed 5 = .ok (.aload_n 0, 1) := dk_42 (dk_at dksX10_isClosed_0 5 rfl rfl)
theorem dX10_isClosed_6 : decode cX10_isClosed 6 = .ok (.iconst 0, 1) := dk_3 (dk_at dksX10_isClosed_0 6 rfl rfl)
theorem dX10_isClosed_7 : decode cX10_isClosed 7 = .ok (.putfield 534, 3) := dk_181 2 22 (dk_at dksX10_isClosed_0 7 rfl rfl)
theorem dX10_isClosed_10 : decode cX10_isClosed 10 = .ok (.aload_n 0, 1) := dk_42 (dk_at dksX10_isClosed_0 10 rfl rfl)
theorem dX10_isClosed_11 : decode cX10_isClosed 11 = .ok (.iload_n 1, 1) := dk_27 (dk_at dksX10_isClosed_0 11 rfl rfl)
theorem dX10_isClosed_12 : decode cX10_isClosed 12 = .ok (.iload_n 2, 1) := dk_28 (dk_at dksX10_isClosed_0 12 rfl rfl)
theorem dX10_isClosed_13 : decode cX10_isClosed 13 = .ok (.sipush 5000, 3) := dk_17 19 136 (dk_at dksX10_isClosed_0 13 rfl rfl)
theorem dX10_isClosed_16 : decode cX10_isClosed 16 = .ok (.invokevirtual 537, 3) := dk_182 2 25 (dk_at dksX10_isClosed_0 16 rfl rfl)
theorem dX10_isClosed_19 : decode cX10_isClosed 19 = .ok (.istore 4, 2) := dk_54 4 (dk_at dksX10_isClosed_0 19 rfl rfl)
theorem dX10_isClosed_21 : decode cX10_isClosed 21 = .ok (.iload 4, 2) := dk_21 4 (dk_at dksX10_isClosed_0 21 rfl rfl)
theorem dX10_isClosed_23 : decode cX10_isClosed 23 = .ok (.ifCond .ne 8, 3) := dk_154 0 8 (dk_at dksX10_isClosed_1 0 rfl rfl)
theorem dX10_isClosed_26 : decode cX10_isClosed 26 = .ok (.bipush (-2), 2) := dk_16 254 (dk_at dksX10_isClosed_1 3 rfl rfl)
theorem dX10_isClosed_28 : decode cX10_isClosed 28 = .ok (.goto 15, 3) := dk_167 0 15 (dk_at dksX10_isClosed_1 5 rfl rfl)
theorem dX10_isClosed_31 : decode cX10_isClosed 31 = .ok (.aload_n 0, 1) := dk_42 (dk_at dksX10_isClosed_1 8 rfl rfl)
theorem dX10_isClosed_32 : decode cX10_isClosed 32 = .ok (.getfield 534, 3) := dk_180 2 22 (dk_at dksX10_isClosed_1 9 rfl rfl)
theorem dX10_isClosed_35 : decode cX10_isClosed 35 = .ok (.ifCond .eq 7, 3) := dk_153 0 7 (dk_at dksX10_isClosed_1 12 rfl rfl)
theorem dX10_isClosed_38 : decode cX10_isClosed 38 = .ok (.iconst 0, 1) := dk_3 (dk_at dksX10_isClosed_1 15 rfl rfl)
theorem dX10_isClosed_39 : decode cX10_isClosed 39 = .ok (.goto 4, 3) := dk_167 0 4 (dk_at dksX10_isClosed_1 16 rfl rfl)
theorem dX10_isClosed_42 : decode cX10_isClosed 42 = .ok (.iconst 1, 1) := dk_4 (dk_at dksX10_isClosed_1 19 rfl rfl)
theorem dX10_isClosed_43 : decode cX10_isClosed 43 = .ok (.ireturn, 1) := dk_172 (dk_at dksX10_isClosed_1 20 rfl rfl)
abbrev cX10_counted : ByteArray := prog_32_method_87_code
def yX10_counted : MethodName := ⟨RX10, "counted", "(IZ)I"⟩
def dkwX10_counted_1 : List UInt8 := [182, 2, 48, 167, 0, 4, 2, 172]
abbrev dktX10_counted_1 : List UInt8 := dkwX10_counted_1 ++ []
def dkwX10_counted_0 : List UInt8 := [27, 3, 42, 180, 0, 36, 42, 180, 1, 53, 46, 4, 100, 184, 1, 164, 153, 0, 13, 42, 5, 27, 28]
abbrev dktX10_counted_0 : List UInt8 := dkwX10_counted_0 ++ dktX10_counted_1
theorem dksX10_counted_0 : cX10_counted.data.toList.drop 0 = dktX10_counted_0 := by decide +kernel
theorem dksX10_counted_1 : cX10_counted.data.toList.drop 23 = dktX10_counted_1 := dk_seg dksX10_counted_0 23 rfl rfl
theorem dX10_counted_0 : decode cX10_counted 0 = .ok (.iload_n 1, 1) := dk_27 (dk_at dksX10_counted_0 0 rfl rfl)
theorem dX10_counted_1 : decode cX10_counted 1 = .ok (.iconst 0, 1) := dk_3 (dk_at dksX10_counted_0 1 rfl rfl)
theorem dX10_counted_2 : decode cX10_counted 2 = .ok (.aload_n 0, 1) := dk_42 (dk_at dksX10_counted_0 2 rfl rfl)
theorem dX10_counted_3 : decode cX10_counted 3 = .ok (.getfield 36, 3) := dk_180 0 36 (dk_at dksX10_counted_0 3 rfl rfl)
theorem dX10_counted_6 : decode cX10_counted 6 = .ok (.aload_n 0, 1) := dk_42 (dk_at dksX10_counted_0 6 rfl rfl)
theorem dX10_counted_7 : decode cX10_counted 7 = .ok (.getfield 309, 3) := dk_180 1 53 (dk_at dksX10_counted_0 7 rfl rfl)
theorem dX10_counted_10 : decode cX10_counted 10 = .ok (.iaload, 1) := dk_46 (dk_at dksX10_counted_0 10 rfl rfl)
theorem dX10_counted_11 : decode cX10_counted 11 = .ok (.iconst 1, 1) := dk_4 (dk_at dksX10_counted_0 11 rfl rfl)
theorem dX10_counted_12 : decode cX10_counted 12 = .ok (.isub, 1) := dk_100 (dk_at dksX10_counted_0 12 rfl rfl)
theorem dX10_counted_13 : decode cX10_counted 13 = .ok (.invokestatic 420, 3) := dk_184 1 164 (dk_at dksX10_counted_0 13 rfl rfl)
theorem dX10_counted_16 : decode cX10_counted 16 = .ok (.ifCond .eq 13, 3) := dk_153 0 13 (dk_at dksX10_counted_0 16 rfl rfl)
theorem dX10_counted_19 : decode cX10_counted 19 = .ok (.aload_n 0, 1) := dk_42 (dk_at dksX10_counted_0 19 rfl rfl)
theorem dX10_counted_20 : decode cX10_counted 20 = .ok (.iconst 2, 1) := dk_5 (dk_at dksX10_counted_0 20 rfl rfl)
theorem dX10_counted_21 : decode cX10_counted 21 = .ok (.iload_n 1, 1) := dk_27 (dk_at dksX10_counted_0 21 rfl rfl)
theorem dX10_counted_22 : decode cX10_counted 22 = .ok (.iload_n 2, 1) := dk_28 (dk_at dksX10_counted_0 22 rfl rfl)
theorem dX10_counted_23 : decode cX10_counted 23 = .ok (.invokevirtual 560, 3) := dk_182 2 48 (dk_at dksX10_counted_1 0 rfl rfl)
theorem dX10_counted_26 : decode cX10_counted 26 = .ok (.goto 4, 3) := dk_167 0 4 (dk_at dksX10_counted_1 3 rfl rfl)
theorem dX10_counted_29 : decode cX10_counted 29 = .ok (.iconst (-1), 1) := dk_2 (dk_at dksX10_counted_1 6 rfl rfl)
theorem dX10_counted_30 : decode cX10_counted 30 = .ok (.ireturn, 1) := dk_172 (dk_at dksX10_counted_1 7 rfl rfl)
abbrev cX10_cheat : ByteArray := prog_32_method_88_code
def yX10_cheat : MethodName := ⟨RX10, "cheat", "(IZ)I"⟩
def dkwX10_cheat_2 : List UInt8 := [182, 2, 25, 153, 0, 10, 42, 180, 2, 6, 167, 0, 5, 16, 254, 172]
abbrev dktX10_cheat_2 : List UInt8 := dkwX10_cheat_2 ++ []
def dkwX10_cheat_1 : List UInt8 := [181, 2, 6, 42, 28, 153, 0, 7, 4, 167, 0, 4, 3, 181, 1, 207, 42, 6, 27, 17, 19, 136]
abbrev dktX10_cheat_1 : List UInt8 := dkwX10_cheat_1 ++ dktX10_cheat_2
def dkwX10_cheat_0 : List UInt8 := [27, 3, 42, 180, 0, 20, 42, 180, 1, 53, 46, 4, 100, 184, 1, 164, 154, 0, 5, 2, 172, 42, 3]
abbrev dktX10_cheat_0 : List UInt8 := dkwX10_cheat_0 ++ dktX10_cheat_1
theorem dksX10_cheat_0 : cX10_cheat.data.toList.drop 0 = dktX10_cheat_0 := by decide +kernel
theorem dksX10_cheat_1 : cX10_cheat.data.toList.drop 23 = dktX10_cheat_1 := dk_seg dksX10_cheat_0 23 rfl rfl
theorem dksX10_cheat_2 : cX10_cheat.data.toList.drop 45 = dktX10_cheat_2 := dk_seg dksX10_cheat_1 22 rfl rfl
theorem dX10_cheat_0 : decode cX10_cheat 0 = .ok (.iload_n 1, 1) := dk_27 (dk_at dksX10_cheat_0 0 rfl rfl)
theorem dX10_cheat_1 : decode cX10_cheat 1 = .ok (.iconst 0, 1) := dk_3 (dk_at dksX10_cheat_0 1 rfl rfl)
theorem dX10_cheat_2 : decode cX10_cheat 2 = .ok (.aload_n 0, 1) := dk_42 (dk_at dksX10_cheat_0 2 rfl rfl)
theorem dX10_cheat_3 : decode cX10_cheat 3 = .ok (.getfield 20, 3) := dk_180 0 20 (dk_at dksX10_cheat_0 3 rfl rfl)
theorem dX10_cheat_6 : decode cX10_cheat 6 = .ok (.aload_n 0, 1) := dk_42 (dk_at dksX10_cheat_0 6 rfl rfl)
theorem dX10_cheat_7 : decode cX10_cheat 7 = .ok (.getfield 309, 3) := dk_180 1 53 (dk_at dksX10_cheat_0 7 rfl rfl)
theorem dX10_cheat_10 : decode cX10_cheat 10 = .ok (.iaload, 1) := dk_46 (dk_at dksX10_cheat_0 10 rfl rfl)
theorem dX10_cheat_11 : decode cX10_cheat 11 = .ok (.iconst 1, 1) := dk_4 (dk_at dksX10_cheat_0 11 rfl rfl)
theorem dX10_cheat_12 : decode cX10_cheat 12 = .ok (.isub, 1) := dk_100 (dk_at dksX10_cheat_0 12 rfl rfl)
theorem dX10_cheat_13 : decode cX10_cheat 13 = .ok (.invokestatic 420, 3) := dk_184 1 164 (dk_at dksX10_cheat_0 13 rfl rfl)
theorem dX10_cheat_16 : decode cX10_cheat 16 = .ok (.ifCond .ne 5, 3) := dk_154 0 5 (dk_at dksX10_cheat_0 16 rfl rfl)
theorem dX10_cheat_19 : decode cX10_cheat 19 = .ok (.iconst (-1), 1) := dk_2 (dk_at dksX10_cheat_0 19 rfl rfl)
theorem dX10_cheat_20 : decode cX10_cheat 20 = .ok (.ireturn, 1) := dk_172 (dk_at dksX10_cheat_0 20 rfl rfl)
theorem dX10_cheat_21 : decode cX10_cheat 21 = .ok (.aload_n 0, 1) := dk_42 (dk_at dksX10_cheat_0 21 rfl rfl)
theorem dX10_cheat_22 : decode cX10_cheat 22 = .ok (.iconst 0, 1) := dk_3 (dk_at dksX10_cheat_0 22 rfl rfl)
theorem dX10_cheat_23 : decode cX10_cheat 23 = .ok (.putfield 518, 3) := dk_181 2 6 (dk_at dksX10_cheat_1 0 rfl rfl)
theorem dX10_cheat_26 : decode cX10_cheat 26 = .ok (.aload_n 0, 1) := dk_42 (dk_at dksX10_cheat_1 3 rfl rfl)
theorem dX10_cheat_27 : decode cX10_cheat 27 = .ok (.iload_n 2, 1) := dk_28 (dk_at dksX10_cheat_1 4 rfl rfl)
theorem dX10_cheat_28 : decode cX10_cheat 28 = .ok (.ifCond .eq 7, 3) := dk_153 0 7 (dk_at dksX10_cheat_1 5 rfl rfl)
theorem dX10_cheat_31 : decode cX10_cheat 31 = .ok (.iconst 1, 1) := dk_4 (dk_at dksX10_cheat_1 8 rfl rfl)
theorem dX10_cheat_32 : decode cX10_cheat 32 = .ok (.goto 4, 3) := dk_167 0 4 (dk_at dksX10_cheat_1 9 rfl rfl)
theorem dX10_cheat_35 : decode cX10_cheat 35 = .ok (.iconst 0, 1) := dk_3 (dk_at dksX10_cheat_1 12 rfl rfl)
theorem dX10_cheat_36 : decode cX10_cheat 36 = .ok (.putfield 463, 3) := dk_181 1 207 (dk_at dksX10_cheat_1 13 rfl rfl)
theorem dX10_cheat_39 : decode cX10_cheat 39 = .ok (.aload_n 0, 1) := dk_42 (dk_at dksX10_cheat_1 16 rfl rfl)
theorem dX10_cheat_40 : decode cX10_cheat 40 = .ok (.iconst 3, 1) := dk_6 (dk_at dksX10_cheat_1 17 rfl rfl)
theorem dX10_cheat_41 : decode cX10_cheat 41 = .ok (.iload_n 1, 1) := dk_27 (dk_at dksX10_cheat_1 18 rfl rfl)
theorem dX10_cheat_42 : decode cX10_cheat 42 = .ok (.sipush 5000, 3) := dk_17 19 136 (dk_at dksX10_cheat_1 19 rfl rfl)
theorem dX10_cheat_45 : decode cX10_cheat 45 = .ok (.invokevirtual 537, 3) := dk_182 2 25 (dk_at dksX10_cheat_2 0 rfl rfl)
theorem dX10_cheat_48 : decode cX10_cheat 48 = .ok (.ifCond .eq 10, 3) := dk_153 0 10 (dk_at dksX10_cheat_2 3 rfl rfl)
theorem dX10_cheat_51 : decode cX10_cheat 51 = .ok (.aload_n 0, 1) := dk_42 (dk_at dksX10_cheat_2 6 rfl rfl)
theorem dX10_cheat_52 : decode cX10_cheat 52 = .ok (.getfield 518, 3) := dk_180 2 6 (dk_at dksX10_cheat_2 7 rfl rfl)
theorem dX10_cheat_55 : decode cX10_cheat 55 = .ok (.goto 5, 3) := dk_167 0 5 (dk_at dksX10_cheat_2 10 rfl rfl)
theorem dX10_cheat_58 : decode cX10_cheat 58 = .ok (.bipush (-2), 2) := dk_16 254 (dk_at dksX10_cheat_2 13 rfl rfl)
theorem dX10_cheat_60 : decode cX10_cheat 60 = .ok (.ireturn, 1) := dk_172 (dk_at dksX10_cheat_2 15 rfl rfl)
abbrev cX10_seek : ByteArray := prog_32_method_94_code
def yX10_seek : MethodName := ⟨RX10, "seek", "(II)I"⟩
def dkwX10_seek_3 : List UInt8 := [172]
abbrev dktX10_seek_3 : List UInt8 := dkwX10_seek_3 ++ []
def dkwX10_seek_2 : List UInt8 := [4, 160, 0, 11, 42, 29, 182, 2, 73, 167, 0, 7, 42, 180, 2, 64, 172, 132, 3, 1, 167, 255, 214, 2]
abbrev dktX10_seek_2 : List UInt8 := dkwX10_seek_2 ++ dktX10_seek_3
def dkwX10_seek_1 : List UInt8 := [3, 62, 29, 27, 163, 0, 43, 42, 29, 182, 2, 70, 153, 0, 29, 28, 154, 0, 7, 29, 167, 0, 20, 28]
abbrev dktX10_seek_1 : List UInt8 := dkwX10_seek_1 ++ dktX10_seek_2
def dkwX10_seek_0 : List UInt8 := [27, 3, 6, 184, 1, 164, 153, 0, 12, 28, 3, 5, 184, 1, 164, 154, 0, 5, 2, 172, 42, 182, 2, 67]
abbrev dktX10_seek_0 : List UInt8 := dkwX10_seek_0 ++ dktX10_seek_1
theorem dksX10_seek_0 : cX10_seek.data.toList.drop 0 = dktX10_seek_0 := by decide +kernel
theorem dksX10_seek_1 : cX10_seek.data.toList.drop 24 = dktX10_seek_1 := dk_seg dksX10_seek_0 24 rfl rfl
theorem dksX10_seek_2 : cX10_seek.data.toList.drop 48 = dktX10_seek_2 := dk_seg dksX10_seek_1 24 rfl rfl
theorem dksX10_seek_3 : cX10_seek.data.toList.drop 72 = dktX10_seek_3 := dk_seg dksX10_seek_2 24 rfl rfl
theorem dX10_seek_0 : decode cX10_seek 0 = .ok (.iload_n 1, 1) := dk_27 (dk_at dksX10_seek_0 0 rfl rfl)
theorem dX10_seek_1 : decode cX10_seek 1 = .ok (.iconst 0, 1) := dk_3 (dk_at dksX10_seek_0 1 rfl rfl)
theorem dX10_seek_2 : decode cX10_seek 2 = .ok (.iconst 3, 1) := dk_6 (dk_at dksX10_seek_0 2 rfl rfl)
theorem dX10_seek_3 : decode cX10_seek 3 = .ok (.invokestatic 420, 3) := dk_184 1 164 (dk_at dksX10_seek_0 3 rfl rfl)
theorem dX10_seek_6 : decode cX10_seek 6 = .ok (.ifCond .eq 12, 3) := dk_153 0 12 (dk_at dksX10_seek_0 6 rfl rfl)
theorem dX10_seek_9 : decode cX10_seek 9 = .ok (.iload_n 2, 1) := dk_28 (dk_at dksX10_seek_0 9 rfl rfl)
theorem dX10_seek_10 : decode cX10_seek 10 = .ok (.iconst 0, 1) := dk_3 (dk_at dksX10_seek_0 10 rfl rfl)
theorem dX10_seek_11 : decode cX10_seek 11 = .ok (.iconst 2, 1) := dk_5 (dk_at dksX10_seek_0 11 rfl rfl)
theorem dX10_seek_12 : decode cX10_seek 12 = .ok (.invokestatic 420, 3) := dk_184 1 164 (dk_at dksX10_seek_0 12 rfl rfl)
theorem dX10_seek_15 : decode cX10_seek 15 = .ok (.ifCond .ne 5, 3) := dk_154 0 5 (dk_at dksX10_seek_0 15 rfl rfl)
theorem dX10_seek_18 : decode cX10_seek 18 = .ok (.iconst (-1), 1) := dk_2 (dk_at dksX10_seek_0 18 rfl rfl)
theorem dX10_seek_19 : decode cX10_seek 19 = .ok (.ireturn, 1) := dk_172 (dk_at dksX10_seek_0 19 rfl rfl)
theorem dX10_seek_20 : decode cX10_seek 20 = .ok (.aload_n 0, 1) := dk_42 (dk_at dksX10_seek_0 20 rfl rfl)
theorem dX10_seek_21 : decode cX10_seek 21 = .ok (.invokevirtual 579, 3) := dk_182 2 67 (dk_at dksX10_seek_0 21 rfl rfl)
theorem dX10_seek_24 : decode cX10_seek 24 = .ok (.iconst 0, 1) := dk_3 (dk_at dksX10_seek_1 0 rfl rfl)
theorem dX10_seek_25 : decode cX10_seek 25 = .ok (.istore_n 3, 1) := dk_62 (dk_at dksX10_seek_1 1 rfl rfl)
theorem dX10_seek_26 : decode cX10_seek 26 = .ok (.iload_n 3, 1) := dk_29 (dk_at dksX10_seek_1 2 rfl rfl)
theorem dX10_seek_27 : decode cX10_seek 27 = .ok (.iload_n 1, 1) := dk_27 (dk_at dksX10_seek_1 3 rfl rfl)
theorem dX10_seek_28 : decode cX10_seek 28 = .ok (.if_icmp .gt 43, 3) := dk_163 0 43 (dk_at dksX10_seek_1 4 rfl rfl)
theorem dX10_seek_31 : decode cX10_seek 31 = .ok (.aload_n 0, 1) := dk_42 (dk_at dksX10_seek_1 7 rfl rfl)
theorem dX10_seek_32 : decode cX10_seek 32 = .ok (.iload_n 3, 1) := dk_29 (dk_at dksX10_seek_1 8 rfl rfl)
theorem dX10_seek_33 : decode cX10_seek 33 = .ok (.invokevirtual 582, 3) := dk_182 2 70 (dk_at dksX10_seek_1 9 rfl rfl)
theorem dX10_seek_36 : decode cX10_seek 36 = .ok (.ifCond .eq 29, 3) := dk_153 0 29 (dk_at dksX10_seek_1 12 rfl rfl)
theorem dX10_seek_39 : decode cX10_seek 39 = .ok (.iload_n 2, 1) := dk_28 (dk_at dksX10_seek_1 15 rfl rfl)
theorem dX10_seek_40 : decode cX10_seek 40 = .ok (.ifCond .ne 7, 3) := dk_154 0 7 (dk_at dksX10_seek_1 16 rfl rfl)
theorem dX10_seek_43 : decode cX10_seek 43 = .ok (.iload_n 3, 1) := dk_29 (dk_at dksX10_seek_1 19 rfl rfl)
theorem dX10_seek_44 : decode cX10_seek 44 = .ok (.goto 20, 3) := dk_167 0 20 (dk_at dksX10_seek_1 20 rfl rfl)
theorem dX10_seek_47 : decode cX10_seek 47 = .ok (.iload_n 2, 1) := dk_28 (dk_at dksX10_seek_1 23 rfl rfl)
theorem dX10_seek_48 : decode cX10_seek 48 = .ok (.iconst 1, 1) := dk_4 (dk_at dksX10_seek_2 0 rfl rfl)
theorem dX10_seek_49 : decode cX10_seek 49 = .ok (.if_icmp .ne 11, 3) := dk_160 0 11 (dk_at dksX10_seek_2 1 rfl rfl)
theorem dX10_seek_52 : decode cX10_seek 52 = .ok (.aload_n 0, 1) := dk_42 (dk_at dksX10_seek_2 4 rfl rfl)
theorem dX10_seek_53 : decode cX10_seek 53 = .ok (.iload_n 3, 1) := dk_29 (dk_at dksX10_seek_2 5 rfl rfl)
theorem dX10_seek_54 : decode cX10_seek 54 = .ok (.invokevirtual 585, 3) := dk_182 2 73 (dk_at dksX10_seek_2 6 rfl rfl)
theorem dX10_seek_57 : decode cX10_seek 57 = .ok (.goto 7, 3) := dk_167 0 7 (dk_at dksX10_seek_2 9 rfl rfl)
theorem dX10_seek_60 : decode cX10_seek 60 = .ok (.aload_n 0, 1) := dk_42 (dk_at dksX10_seek_2 12 rfl rfl)
theorem dX10_seek_61 : decode cX10_seek 61 = .ok (.getfield 576, 3) := dk_180 2 64 (dk_at dksX10_seek_2 13 rfl rfl)
theorem dX10_seek_64 : decode cX10_seek 64 = .ok (.ireturn, 1) := dk_172 (dk_at dksX10_seek_2 16 rfl rfl)
theorem dX10_seek_65 : decode cX10_seek 65 = .ok (.iinc 3 1, 3) := dk_132 3 1 (dk_at dksX10_seek_2 17 rfl rfl)
theorem dX10_seek_68 : decode cX10_seek 68 = .ok (.goto (-42), 3) := dk_167 255 214 (dk_at dksX10_seek_2 20 rfl rfl)
theorem dX10_seek_71 : decode cX10_seek 71 = .ok (.iconst (-1), 1) := dk_2 (dk_at dksX10_seek_2 23 rfl rfl)
theorem dX10_seek_72 : decode cX10_seek 72 = .ok (.ireturn, 1) := dk_172 (dk_at dksX10_seek_3 0 rfl rfl)
abbrev cX10_layStart : ByteArray := prog_32_method_89_code
def yX10_layStart : MethodName := ⟨RX10, "layStart", "()V"⟩
def dkwX10_layStart_6 : List UInt8 := [3, 16, 17, 182, 1, 194, 177]
abbrev dktX10_layStart_6 : List UInt8 := dkwX10_layStart_6 ++ []
def dkwX10_layStart_5 : List UInt8 := [42, 3, 29, 3, 182, 1, 215, 132, 2, 1, 167, 255, 142, 42, 42, 180, 0, 108, 3, 46, 181, 2, 52, 42]
abbrev dktX10_layStart_5 : List UInt8 := dkwX10_layStart_5 ++ dktX10_layStart_6
def dkwX10_layStart_4 : List UInt8 := [60, 27, 154, 0, 6, 167, 0, 26, 42, 3, 29, 4, 182, 1, 215, 42, 180, 0, 52, 29, 46, 154, 0, 10]
abbrev dktX10_layStart_4 : List UInt8 := dkwX10_layStart_4 ++ dktX10_layStart_5
def dkwX10_layStart_3 : List UInt8 := [180, 0, 52, 29, 46, 154, 0, 7, 5, 167, 0, 4, 4, 96, 16, 8, 163, 0, 7, 4, 167, 0, 4, 3]
abbrev dktX10_layStart_3 : List UInt8 := dkwX10_layStart_3 ++ dktX10_layStart_4
def dkwX10_layStart_2 : List UInt8 := [153, 0, 16, 42, 180, 0, 52, 29, 46, 4, 159, 0, 6, 167, 0, 65, 42, 180, 0, 108, 3, 46, 42]
abbrev dktX10_layStart_2 : List UInt8 := dkwX10_layStart_2 ++ dktX10_layStart_3
def dkwX10_layStart_1 : List UInt8 := [162, 0, 107, 27, 153, 0, 103, 16, 52, 42, 180, 1, 53, 104, 28, 96, 62, 42, 180, 0, 52, 29, 46]
abbrev dktX10_layStart_1 : List UInt8 := dkwX10_layStart_1 ++ dktX10_layStart_2
def dkwX10_layStart_0 : List UInt8 := [42, 3, 181, 1, 201, 42, 182, 1, 247, 4, 60, 3, 61, 28, 42, 180, 0, 24, 42, 180, 1, 53, 46]
abbrev dktX10_layStart_0 : List UInt8 := dkwX10_layStart_0 ++ dktX10_layStart_1
theorem dksX10_layStart_0 : cX10_layStart.data.toList.drop 0 = dktX10_layStart_0 := by decide +kernel
theorem dksX10_layStart_1 : cX10_layStart.data.toList.drop 23 = dktX10_layStart_1 := dk_seg dksX10_layStart_0 23 rfl rfl
theorem dksX10_layStart_2 : cX10_layStart.data.toList.drop 46 = dktX10_layStart_2 := dk_seg dksX10_layStart_1 23 rfl rfl
theorem dksX10_layStart_3 : cX10_layStart.data.toList.drop 69 = dktX10_layStart_3 := dk_seg dksX10_layStart_2 23 rfl rfl
theorem dksX10_layStart_4 : cX10_layStart.data.toList.drop 93 = dktX10_layStart_4 := dk_seg dksX10_layStart_3 24 rfl rfl
theorem dksX10_layStart_5 : cX10_layStart.data.toList.drop 117 = dktX10_layStart_5 := dk_seg dksX10_layStart_4 24 rfl rfl
theorem dksX10_layStart_6 : cX10_layStart.data.toList.drop 141 = dktX10_layStart_6 := dk_seg dksX10_layStart_5 24 rfl rfl
theorem dX10_layStart_0 : decode cX10_layStart 0 = .ok (.aload_n 0, 1) := dk_42 (dk_at dksX10_layStart_0 0 rfl rfl)
theorem dX10_layStart_1 : decode cX10_layStart 1 = .ok (.iconst 0, 1) := dk_3 (dk_at dksX10_layStart_0 1 rfl rfl)
theorem dX10_layStart_2 : decode cX10_layStart 2 = .ok (.putfield 457, 3) := dk_181 1 201 (dk_at dksX10_layStart_0 2 rfl rfl)
theorem dX10_layStart_5 : decode cX10_layStart 5 = .ok (.aload_n 0, 1) := dk_42 (dk_at dksX10_layStart_0 5 rfl rfl)
theorem dX10_layStart_6 : decode cX10_layStart 6 = .ok (.invokevirtual 503, 3) := dk_182 1 247 (dk_at dksX10_layStart_0 6 rfl rfl)
theorem dX10_layStart_9 : decode cX10_layStart 9 = .ok (.iconst 1, 1) := dk_4 (dk_at dksX10_layStart_0 9 rfl rfl)
theorem dX10_layStart_10 : decode cX10_layStart 10 = .ok (.istore_n 1, 1) := dk_60 (dk_at dksX10_layStart_0 10 rfl rfl)
theorem dX10_layStart_11 : decode cX10_layStart 11 = .ok (.iconst 0, 1) := dk_3 (dk_at dksX10_layStart_0 11 rfl rfl)
theorem dX10_layStart_12 : decode cX10_layStart 12 = .ok (.istore_n 2, 1) := dk_61 (dk_at dksX10_layStart_0 12 rfl rfl)
theorem dX10_layStart_13 : decode cX10_layStart 13 = .ok (.iload_n 2, 1) := dk_28 (dk_at dksX10_layStart_0 13 rfl rfl)
theorem dX10_layStart_14 : decode cX10_layStart 14 = .ok (.aload_n 0, 1) := dk_42 (dk_at dksX10_layStart_0 14 rfl rfl)
theorem dX10_layStart_15 : decode cX10_layStart 15 = .ok (.getfield 24, 3) := dk_180 0 24 (dk_at dksX10_layStart_0 15 rfl rfl)
theorem dX10_layStart_18 : decode cX10_layStart 18 = .ok (.aload_n 0, 1) := dk_42 (dk_at dksX10_layStart_0 18 rfl rfl)
theorem dX10_layStart_19 : decode cX10_layStart 19 = .ok (.getfield 309, 3) := dk_180 1 53 (dk_at dksX10_layStart_0 19 rfl rfl)
theorem dX10_layStart_22 : decode cX10_layStart 22 = .ok (.iaload, 1) := dk_46 (dk_at dksX10_layStart_0 22 rfl rfl)
theorem dX10_layStart_23 : decode cX10_layStart 23 = .ok (.if_icmp .ge 107, 3) := dk_162 0 107 (dk_at dksX10_layStart_1 0 rfl rfl)
theorem dX10_layStart_26 : decode cX10_layStart 26 = .ok (.iload_n 1, 1) := dk_27 (dk_at dksX10_layStart_1 3 rfl rfl)
theorem dX10_layStart_27 : decode cX10_layStart 27 = .ok (.ifCond .eq 103, 3) := dk_153 0 103 (dk_at dksX10_layStart_1 4 rfl rfl)
theorem dX10_layStart_30 : decode cX10_layStart 30 = .ok (.bipush 52, 2) := dk_16 52 (dk_at dksX10_layStart_1 7 rfl rfl)
theorem dX10_layStart_32 : decode cX10_layStart 32 = .ok (.aload_n 0, 1) := dk_42 (dk_at dksX10_layStart_1 9 rfl rfl)
theorem dX10_layStart_33 : decode cX10_layStart 33 = .ok (.getfield 309, 3) := dk_180 1 53 (dk_at dksX10_layStart_1 10 rfl rfl)
theorem dX10_layStart_36 : decode cX10_layStart 36 = .ok (.imul, 1) := dk_104 (dk_at dksX10_layStart_1 13 rfl rfl)
theorem dX10_layStart_37 : decode cX10_layStart 37 = .ok (.iload_n 2, 1) := dk_28 (dk_at dksX10_layStart_1 14 rfl rfl)
theorem dX10_layStart_38 : decode cX10_layStart 38 = .ok (.iadd, 1) := dk_96 (dk_at dksX10_layStart_1 15 rfl rfl)
theorem dX10_layStart_39 : decode cX10_layStart 39 = .ok (.istore_n 3, 1) := dk_62 (dk_at dksX10_layStart_1 16 rfl rfl)
theorem dX10_layStart_40 : decode cX10_layStart 40 = .ok (.aload_n 0, 1) := dk_42 (dk_at dksX10_layStart_1 17 rfl rfl)
theorem dX10_layStart_41 : decode cX10_layStart 41 = .ok (.getfield 52, 3) := dk_180 0 52 (dk_at dksX10_layStart_1 18 rfl rfl)
theorem dX10_layStart_44 : decode cX10_layStart 44 = .ok (.iload_n 3, 1) := dk_29 (dk_at dksX10_layStart_1 21 rfl rfl)
theorem dX10_layStart_45 : decode cX10_layStart 45 = .ok (.iaload, 1) := dk_46 (dk_at dksX10_layStart_1 22 rfl rfl)
theorem dX10_layStart_46 : decode cX10_layStart 46 = .ok (.ifCond .eq 16, 3) := dk_153 0 16 (dk_at dksX10_layStart_2 0 rfl rfl)
theorem dX10_layStart_49 : decode cX10_layStart 49 = .ok (.aload_n 0, 1) := dk_42 (dk_at dksX10_layStart_2 3 rfl rfl)
theorem dX10_layStart_50 : decode cX10_layStart 50 = .ok (.getfield 52, 3) := dk_180 0 52 (dk_at dksX10_layStart_2 4 rfl rfl)
theorem dX10_layStart_53 : decode cX10_layStart 53 = .ok (.iload_n 3, 1) := dk_29 (dk_at dksX10_layStart_2 7 rfl rfl)
theorem dX10_layStart_54 : decode cX10_layStart 54 = .ok (.iaload, 1) := dk_46 (dk_at dksX10_layStart_2 8 rfl rfl)
theorem dX10_layStart_55 : decode cX10_layStart 55 = .ok (.iconst 1, 1) := dk_4 (dk_at dksX10_layStart_2 9 rfl rfl)
theorem dX10_layStart_56 : decode cX10_layStart 56 = .ok (.if_icmp .eq 6, 3) := dk_159 0 6 (dk_at dksX10_layStart_2 10 rfl rfl)
theorem dX10_layStart_59 : decode cX10_layStart 59 = .ok (.goto 65, 3) := dk_167 0 65 (dk_at dksX10_layStart_2 13 rfl rfl)
theorem dX10_layStart_62 : decode cX10_layStart 62 = .ok (.aload_n 0, 1) := dk_42 (dk_at dksX10_layStart_2 16 rfl rfl)
theorem dX10_layStart_63 : decode cX10_layStart 63 = .ok (.getfield 108, 3) := dk_180 0 108 (dk_at dksX10_layStart_2 17 rfl rfl)
theorem dX10_layStart_66 : decode cX10_layStart 66 = .ok (.iconst 0, 1) := dk_3 (dk_at dksX10_layStart_2 20 rfl rfl)
theorem dX10_layStart_67 : decode cX10_layStart 67 = .ok (.iaload, 1) := dk_46 (dk_at dksX10_layStart_2 21 rfl rfl)
theorem dX10_layStart_68 : decode cX10_layStart 68 = .ok (.aload_n 0, 1) := dk_42 (dk_at dksX10_layStart_2 22 rfl rfl)
theorem dX10_layStart_69 : decode cX10_layStart 69 = .ok (.getfield 52, 3) := dk_180 0 52 (dk_at dksX10_layStart_3 0 rfl rfl)
theorem dX10_layStart_72 : decode cX10_layStart 72 = .ok (.iload_n 3, 1) := dk_29 (dk_at dksX10_layStart_3 3 rfl rfl)
theorem dX10_layStart_73 : decode cX10_layStart 73 = .ok (.iaload, 1) := dk_46 (dk_at dksX10_layStart_3 4 rfl rfl)
theorem dX10_layStart_74 : decode cX10_layStart 74 = .ok (.ifCond .ne 7, 3) := dk_154 0 7 (dk_at dksX10_layStart_3 5 rfl rfl)
theorem dX10_layStart_77 : decode cX10_layStart 77 = .ok (.iconst 2, 1) := dk_5 (dk_at dksX10_layStart_3 8 rfl rfl)
theorem dX10_layStart_78 : decode cX10_layStart 78 = .ok (.goto 4, 3) := dk_167 0 4 (dk_at dksX10_layStart_3 9 rfl rfl)
theorem dX10_layStart_81 : decode cX10_layStart 81 = .ok (.iconst 1, 1) := dk_4 (dk_at dksX10_layStart_3 12 rfl rfl)
theorem dX10_layStart_82 : decode cX10_layStart 82 = .ok (.iadd, 1) := dk_96 (dk_at dksX10_layStart_3 13 rfl rfl)
theorem dX10_layStart_83 : decode cX10_layStart 83 = .ok (.bipush 8, 2) := dk_16 8 (dk_at dksX10_layStart_3 14 rfl rfl)
theorem dX10_layStart_85 : decode cX10_layStart 85 = .ok (.if_icmp .gt 7, 3) := dk_163 0 7 (dk_at dksX10_layStart_3 16 rfl rfl)
theorem dX10_layStart_88 : decode cX10_layStart 88 = .ok (.iconst 1, 1) := dk_4 (dk_at dksX10_layStart_3 19 rfl rfl)
theorem dX10_layStart_89 : decode cX10_layStart 89 = .ok (.goto 4, 3) := dk_167 0 4 (dk_at dksX10_layStart_3 20 rfl rfl)
theorem dX10_layStart_92 : decode cX10_layStart 92 = .ok (.iconst 0, 1) := dk_3 (dk_at dksX10_layStart_3 23 rfl rfl)
theorem dX10_layStart_93 : decode cX10_layStart 93 = .ok (.istore_n 1, 1) := dk_60 (dk_at dksX10_layStart_4 0 rfl rfl)
theorem dX10_layStart_94 : decode cX10_layStart 94 = .ok (.iload_n 1, 1) := dk_27 (dk_at dksX10_layStart_4 1 rfl rfl)
theorem dX10_layStart_95 : decode cX10_layStart 95 = .ok (.ifCond .ne 6, 3) := dk_154 0 6 (dk_at dksX10_layStart_4 2 rfl rfl)
theorem dX10_layStart_98 : decode cX10_layStart 98 = .ok (.goto 26, 3) := dk_167 0 26 (dk_at dksX10_layStart_4 5 rfl rfl)
theorem dX10_layStart_101 : decode cX10_layStart 101 = .ok (.aload_n 0, 1) := dk_42 (dk_at dksX10_layStart_4 8 rfl rfl)
theorem dX10_layStart_102 : decode cX10_layStart 102 = .ok (.iconst 0, 1) := dk_3 (dk_at dksX10_layStart_4 9 rfl rfl)
theorem dX10_layStart_103 : decode cX10_layStart 103 = .ok (.iload_n 3, 1) := dk_29 (dk_at dksX10_layStart_4 10 rfl rfl)
theorem dX10_layStart_104 : decode cX10_layStart 104 = .ok (.iconst 1, 1) := dk_4 (dk_at dksX10_layStart_4 11 rfl rfl)
theorem dX10_layStart_105 : decode cX10_layStart 105 = .ok (.invokevirtual 471, 3) := dk_182 1 215 (dk_at dksX10_layStart_4 12 rfl rfl)
theorem dX10_layStart_108 : decode cX10_layStart 108 = .ok (.aload_n 0, 1) := dk_42 (dk_at dksX10_layStart_4 15 rfl rfl)
theorem dX10_layStart_109 : decode cX10_layStart 109 = .ok (.getfield 52, 3) := dk_180 0 52 (dk_at dksX10_layStart_4 16 rfl rfl)
theorem dX10_layStart_112 : decode cX10_layStart 112 = .ok (.iload_n 3, 1) := dk_29 (dk_at dksX10_layStart_4 19 rfl rfl)
theorem dX10_layStart_113 : decode cX10_layStart 113 = .ok (.iaload, 1) := dk_46 (dk_at dksX10_layStart_4 20 rfl rfl)
theorem dX10_layStart_114 : decode cX10_layStart 114 = .ok (.ifCond .ne 10, 3) := dk_154 0 10 (dk_at dksX10_layStart_4 21 rfl rfl)
theorem dX10_layStart_117 : decode cX10_layStart 117 = .ok (.aload_n 0, 1) := dk_42 (dk_at dksX10_layStart_5 0 rfl rfl)
theorem dX10_layStart_118 : decode cX10_layStart 118 = .ok (.iconst 0, 1) := dk_3 (dk_at dksX10_layStart_5 1 rfl rfl)
theorem dX10_layStart_119 : decode cX10_layStart 119 = .ok (.iload_n 3, 1) := dk_29 (dk_at dksX10_layStart_5 2 rfl rfl)
theorem dX10_layStart_120 : decode cX10_layStart 120 = .ok (.iconst 0, 1) := dk_3 (dk_at dksX10_layStart_5 3 rfl rfl)
theorem dX10_layStart_121 : decode cX10_layStart 121 = .ok (.invokevirtual 471, 3) := dk_182 1 215 (dk_at dksX10_layStart_5 4 rfl rfl)
theorem dX10_layStart_124 : decode cX10_layStart 124 = .ok (.iinc 2 1, 3) := dk_132 2 1 (dk_at dksX10_layStart_5 7 rfl rfl)
theorem dX10_layStart_127 : decode cX10_layStart 127 = .ok (.goto (-114), 3) := dk_167 255 142 (dk_at dksX10_layStart_5 10 rfl rfl)
theorem dX10_layStart_130 : decode cX10_layStart 130 = .ok (.aload_n 0, 1) := dk_42 (dk_at dksX10_layStart_5 13 rfl rfl)
theorem dX10_layStart_131 : decode cX10_layStart 131 = .ok (.aload_n 0, 1) := dk_42 (dk_at dksX10_layStart_5 14 rfl rfl)
theorem dX10_layStart_132 : decode cX10_layStart 132 = .ok (.getfield 108, 3) := dk_180 0 108 (dk_at dksX10_layStart_5 15 rfl rfl)
theorem dX10_layStart_135 : decode cX10_layStart 135 = .ok (.iconst 0, 1) := dk_3 (dk_at dksX10_layStart_5 18 rfl rfl)
theorem dX10_layStart_136 : decode cX10_layStart 136 = .ok (.iaload, 1) := dk_46 (dk_at dksX10_layStart_5 19 rfl rfl)
theorem dX10_layStart_137 : decode cX10_layStart 137 = .ok (.putfield 564, 3) := dk_181 2 52 (dk_at dksX10_layStart_5 20 rfl rfl)
theorem dX10_layStart_140 : decode cX10_layStart 140 = .ok (.aload_n 0, 1) := dk_42 (dk_at dksX10_layStart_5 23 rfl rfl)
theorem dX10_layStart_141 : decode cX10_layStart 141 = .ok (.iconst 0, 1) := dk_3 (dk_at dksX10_layStart_6 0 rfl rfl)
theorem dX10_layStart_142 : decode cX10_layStart 142 = .ok (.bipush 17, 2) := dk_16 17 (dk_at dksX10_layStart_6 1 rfl rfl)
theorem dX10_layStart_144 : decode cX10_layStart 144 = .ok (.invokevirtual 450, 3) := dk_182 1 194 (dk_at dksX10_layStart_6 3 rfl rfl)
theorem dX10_layStart_147 : decode cX10_layStart 147 = .ok (.return_, 1) := dk_177 (dk_at dksX10_layStart_6 6 rfl rfl)
abbrev cX10_seeks : ByteArray := prog_32_method_92_code
def yX10_seeks : MethodName := ⟨RX10, "seeks", "(I)Z"⟩
def dkwX10_seeks_5 : List UInt8 := [132, 4, 1, 167, 255, 186, 132, 3, 1, 167, 255, 160, 3, 172]
abbrev dktX10_seeks_5 : List UInt8 := dkwX10_seeks_5 ++ []
def dkwX10_seeks_4 : List UInt8 := [182, 2, 58, 154, 0, 6, 167, 0, 16, 42, 29, 181, 2, 61, 42, 21, 4, 181, 2, 64, 4, 172]
abbrev dktX10_seeks_4 : List UInt8 := dkwX10_seeks_4 ++ dktX10_seeks_5
def dkwX10_seeks_3 : List UInt8 := [16, 48, 96, 21, 4, 96, 54, 5, 42, 21, 5, 42, 180, 2, 52, 182, 1, 219, 153, 0, 28, 42, 21, 5]
abbrev dktX10_seeks_3 : List UInt8 := dkwX10_seeks_3 ++ dktX10_seeks_4
def dkwX10_seeks_2 : List UInt8 := [54, 4, 21, 4, 42, 180, 0, 30, 42, 180, 1, 53, 46, 162, 0, 62, 16, 52, 42, 180, 1, 53, 104]
abbrev dktX10_seeks_2 : List UInt8 := dkwX10_seeks_2 ++ dktX10_seeks_3
def dkwX10_seeks_1 : List UInt8 := [167, 255, 236, 3, 62, 29, 28, 162, 0, 97, 42, 27, 29, 182, 2, 55, 154, 0, 6, 167, 0, 79, 3]
abbrev dktX10_seeks_1 : List UInt8 := dkwX10_seeks_1 ++ dktX10_seeks_2
def dkwX10_seeks_0 : List UInt8 := [4, 61, 3, 62, 29, 27, 162, 0, 21, 28, 42, 180, 0, 27, 42, 180, 1, 53, 46, 104, 61, 132, 3, 1]
abbrev dktX10_seeks_0 : List UInt8 := dkwX10_seeks_0 ++ dktX10_seeks_1
theorem dksX10_seeks_0 : cX10_seeks.data.toList.drop 0 = dktX10_seeks_0 := by decide +kernel
theorem dksX10_seeks_1 : cX10_seeks.data.toList.drop 24 = dktX10_seeks_1 := dk_seg dksX10_seeks_0 24 rfl rfl
theorem dksX10_seeks_2 : cX10_seeks.data.toList.drop 47 = dktX10_seeks_2 := dk_seg dksX10_seeks_1 23 rfl rfl
theorem dksX10_seeks_3 : cX10_seeks.data.toList.drop 70 = dktX10_seeks_3 := dk_seg dksX10_seeks_2 23 rfl rfl
theorem dksX10_seeks_4 : cX10_seeks.data.toList.drop 94 = dktX10_seeks_4 := dk_seg dksX10_seeks_3 24 rfl rfl
theorem dksX10_seeks_5 : cX10_seeks.data.toList.drop 116 = dktX10_seeks_5 := dk_seg dksX10_seeks_4 22 rfl rfl
theorem dX10_seeks_0 : decode cX10_seeks 0 = .ok (.iconst 1, 1) := dk_4 (dk_at dksX10_seeks_0 0 rfl rfl)
theorem dX10_seeks_1 : decode cX10_seeks 1 = .ok (.istore_n 2, 1) := dk_61 (dk_at dksX10_seeks_0 1 rfl rfl)
theorem dX10_seeks_2 : decode cX10_seeks 2 = .ok (.iconst 0, 1) := dk_3 (dk_at dksX10_seeks_0 2 rfl rfl)
theorem dX10_seeks_3 : decode cX10_seeks 3 = .ok (.istore_n 3, 1) := dk_62 (dk_at dksX10_seeks_0 3 rfl rfl)
theorem dX10_seeks_4 : decode cX10_seeks 4 = .ok (.iload_n 3, 1) := dk_29 (dk_at dksX10_seeks_0 4 rfl rfl)
theorem dX10_seeks_5 : decode cX10_seeks 5 = .ok (.iload_n 1, 1) := dk_27 (dk_at dksX10_seeks_0 5 rfl rfl)
theorem dX10_seeks_6 : decode cX10_seeks 6 = .ok (.if_icmp .ge 21, 3) := dk_162 0 21 (dk_at dksX10_seeks_0 6 rfl rfl)
theorem dX10_seeks_9 : decode cX10_seeks 9 = .ok (.iload_n 2, 1) := dk_28 (dk_at dksX10_seeks_0 9 rfl rfl)
theorem dX10_seeks_10 : decode cX10_seeks 10 = .ok (.aload_n 0, 1) := dk_42 (dk_at dksX10_seeks_0 10 rfl rfl)
theorem dX10_seeks_11 : decode cX10_seeks 11 = .ok (.getfield 27, 3) := dk_180 0 27 (dk_at dksX10_seeks_0 11 rfl rfl)
theorem dX10_seeks_14 : decode cX10_seeks 14 = .ok (.aload_n 0, 1) := dk_42 (dk_at dksX10_seeks_0 14 rfl rfl)
theorem dX10_seeks_15 : decode cX10_seeks 15 = .ok (.getfield 309, 3) := dk_180 1 53 (dk_at dksX10_seeks_0 15 rfl rfl)
theorem dX10_seeks_18 : decode cX10_seeks 18 = .ok (.iaload, 1) := dk_46 (dk_at dksX10_seeks_0 18 rfl rfl)
theorem dX10_seeks_19 : decode cX10_seeks 19 = .ok (.imul, 1) := dk_104 (dk_at dksX10_seeks_0 19 rfl rfl)
theorem dX10_seeks_20 : decode cX10_seeks 20 = .ok (.istore_n 2, 1) := dk_61 (dk_at dksX10_seeks_0 20 rfl rfl)
theorem dX10_seeks_21 : decode cX10_seeks 21 = .ok (.iinc 3 1, 3) := dk_132 3 1 (dk_at dksX10_seeks_0 21 rfl rfl)
theorem dX10_seeks_24 : decode cX10_seeks 24 = .ok (.goto (-20), 3) := dk_167 255 236 (dk_at dksX10_seeks_1 0 rfl rfl)
theorem dX10_seeks_27 : decode cX10_seeks 27 = .ok (.iconst 0, 1) := dk_3 (dk_at dksX10_seeks_1 3 rfl rfl)
theorem dX10_seeks_28 : decode cX10_seeks 28 = .ok (.istore_n 3, 1) := dk_62 (dk_at dksX10_seeks_1 4 rfl rfl)
theorem dX10_seeks_29 : decode cX10_seeks 29 = .ok (.iload_n 3, 1) := dk_29 (dk_at dksX10_seeks_1 5 rfl rfl)
theorem dX10_seeks_30 : decode cX10_seeks 30 = .ok (.iload_n 2, 1) := dk_28 (dk_at dksX10_seeks_1 6 rfl rfl)
theorem dX10_seeks_31 : decode cX10_seeks 31 = .ok (.if_icmp .ge 97, 3) := dk_162 0 97 (dk_at dksX10_seeks_1 7 rfl rfl)
theorem dX10_seeks_34 : decode cX10_seeks 34 = .ok (.aload_n 0, 1) := dk_42 (dk_at dksX10_seeks_1 10 rfl rfl)
theorem dX10_seeks_35 : decode cX10_seeks 35 = .ok (.iload_n 1, 1) := dk_27 (dk_at dksX10_seeks_1 11 rfl rfl)
theorem dX10_seeks_36 : decode cX10_seeks 36 = .ok (.iload_n 3, 1) := dk_29 (dk_at dksX10_seeks_1 12 rfl rfl)
theorem dX10_seeks_37 : decode cX10_seeks 37 = .ok (.invokevirtual 567, 3) := dk_182 2 55 (dk_at dksX10_seeks_1 13 rfl rfl)
theorem dX10_seeks_40 : decode cX10_seeks 40 = .ok (.ifCond .ne 6, 3) := dk_154 0 6 (dk_at dksX10_seeks_1 16 rfl rfl)
theorem dX10_seeks_43 : decode cX10_seeks 43 = .ok (.goto 79, 3) := dk_167 0 79 (dk_at dksX10_seeks_1 19 rfl rfl)
theorem dX10_seeks_46 : decode cX10_seeks 46 = .ok (.iconst 0, 1) := dk_3 (dk_at dksX10_seeks_1 22 rfl rfl)
theorem dX10_seeks_47 : decode cX10_seeks 47 = .ok (.istore 4, 2) := dk_54 4 (dk_at dksX10_seeks_2 0 rfl rfl)
theorem dX10_seeks_49 : decode cX10_seeks 49 = .ok (.iload 4, 2) := dk_21 4 (dk_at dksX10_seeks_2 2 rfl rfl)
theorem dX10_seeks_51 : decode cX10_seeks 51 = .ok (.aload_n 0, 1) := dk_42 (dk_at dksX10_seeks_2 4 rfl rfl)
theorem dX10_seeks_52 : decode cX10_seeks 52 = .ok (.getfield 30, 3) := dk_180 0 30 (dk_at dksX10_seeks_2 5 rfl rfl)
theorem dX10_seeks_55 : decode cX10_seeks 55 = .ok (.aload_n 0, 1) := dk_42 (dk_at dksX10_seeks_2 8 rfl rfl)
theorem dX10_seeks_56 : decode cX10_seeks 56 = .ok (.getfield 309, 3) := dk_180 1 53 (dk_at dksX10_seeks_2 9 rfl rfl)
theorem dX10_seeks_59 : decode cX10_seeks 59 = .ok (.iaload, 1) := dk_46 (dk_at dksX10_seeks_2 12 rfl rfl)
theorem dX10_seeks_60 : decode cX10_seeks 60 = .ok (.if_icmp .ge 62, 3) := dk_162 0 62 (dk_at dksX10_seeks_2 13 rfl rfl)
theorem dX10_seeks_63 : decode cX10_seeks 63 = .ok (.bipush 52, 2) := dk_16 52 (dk_at dksX10_seeks_2 16 rfl rfl)
theorem dX10_seeks_65 : decode cX10_seeks 65 = .ok (.aload_n 0, 1) := dk_42 (dk_at dksX10_seeks_2 18 rfl rfl)
theorem dX10_seeks_66 : decode cX10_seeks 66 = .ok (.getfield 309, 3) := dk_180 1 53 (dk_at dksX10_seeks_2 19 rfl rfl)
theorem dX10_seeks_69 : decode cX10_seeks 69 = .ok (.imul, 1) := dk_104 (dk_at dksX10_seeks_2 22 rfl rfl)
theorem dX10_seeks_70 : decode cX10_seeks 70 = .ok (.bipush 48, 2) := dk_16 48 (dk_at dksX10_seeks_3 0 rfl rfl)
theorem dX10_seeks_72 : decode cX10_seeks 72 = .ok (.iadd, 1) := dk_96 (dk_at dksX10_seeks_3 2 rfl rfl)
theorem dX10_seeks_73 : decode cX10_seeks 73 = .ok (.iload 4, 2) := dk_21 4 (dk_at dksX10_seeks_3 3 rfl rfl)
theorem dX10_seeks_75 : decode cX10_seeks 75 = .ok (.iadd, 1) := dk_96 (dk_at dksX10_seeks_3 5 rfl rfl)
theorem dX10_seeks_76 : decode cX10_seeks 76 = .ok (.istore 5, 2) := dk_54 5 (dk_at dksX10_seeks_3 6 rfl rfl)
theorem dX10_seeks_78 : decode cX10_seeks 78 = .ok (.aload_n 0, 1) := dk_42 (dk_at dksX10_seeks_3 8 rfl rfl)
theorem dX10_seeks_79 : decode cX10_seeks 79 = .ok (.iload 5, 2) := dk_21 5 (dk_at dksX10_seeks_3 9 rfl rfl)
theorem dX10_seeks_81 : decode cX10_seeks 81 = .ok (.aload_n 0, 1) := dk_42 (dk_at dksX10_seeks_3 11 rfl rfl)
theorem dX10_seeks_82 : decode cX10_seeks 82 = .ok (.getfield 564, 3) := dk_180 2 52 (dk_at dksX10_seeks_3 12 rfl rfl)
theorem dX10_seeks_85 : decode cX10_seeks 85 = .ok (.invokevirtual 475, 3) := dk_182 1 219 (dk_at dksX10_seeks_3 15 rfl rfl)
theorem dX10_seeks_88 : decode cX10_seeks 88 = .ok (.ifCond .eq 28, 3) := dk_153 0 28 (dk_at dksX10_seeks_3 18 rfl rfl)
theorem dX10_seeks_91 : decode cX10_seeks 91 = .ok (.aload_n 0, 1) := dk_42 (dk_at dksX10_seeks_3 21 rfl rfl)
theorem dX10_seeks_92 : decode cX10_seeks 92 = .ok (.iload 5, 2) := dk_21 5 (dk_at dksX10_seeks_3 22 rfl rfl)
theorem dX10_seeks_94 : decode cX10_seeks 94 = .ok (.invokevirtual 570, 3) := dk_182 2 58 (dk_at dksX10_seeks_4 0 rfl rfl)
theorem dX10_seeks_97 : decode cX10_seeks 97 = .ok (.ifCond .ne 6, 3) := dk_154 0 6 (dk_at dksX10_seeks_4 3 rfl rfl)
theorem dX10_seeks_100 : decode cX10_seeks 100 = .ok (.goto 16, 3) := dk_167 0 16 (dk_at dksX10_seeks_4 6 rfl rfl)
theorem dX10_seeks_103 : decode cX10_seeks 103 = .ok (.aload_n 0, 1) := dk_42 (dk_at dksX10_seeks_4 9 rfl rfl)
theorem dX10_seeks_104 : decode cX10_seeks 104 = .ok (.iload_n 3, 1) := dk_29 (dk_at dksX10_seeks_4 10 rfl rfl)
theorem dX10_seeks_105 : decode cX10_seeks 105 = .ok (.putfield 573, 3) := dk_181 2 61 (dk_at dksX10_seeks_4 11 rfl rfl)
theorem dX10_seeks_108 : decode cX10_seeks 108 = .ok (.aload_n 0, 1) := dk_42 (dk_at dksX10_seeks_4 14 rfl rfl)
theorem dX10_seeks_109 : decode cX10_seeks 109 = .ok (.iload 4, 2) := dk_21 4 (dk_at dksX10_seeks_4 15 rfl rfl)
theorem dX10_seeks_111 : decode cX10_seeks 111 = .ok (.putfield 576, 3) := dk_181 2 64 (dk_at dksX10_seeks_4 17 rfl rfl)
theorem dX10_seeks_114 : decode cX10_seeks 114 = .ok (.iconst 1, 1) := dk_4 (dk_at dksX10_seeks_4 20 rfl rfl)
theorem dX10_seeks_115 : decode cX10_seeks 115 = .ok (.ireturn, 1) := dk_172 (dk_at dksX10_seeks_4 21 rfl rfl)
theorem dX10_seeks_116 : decode cX10_seeks 116 = .ok (.iinc 4 1, 3) := dk_132 4 1 (dk_at dksX10_seeks_5 0 rfl rfl)
theorem dX10_seeks_119 : decode cX10_seeks 119 = .ok (.goto (-70), 3) := dk_167 255 186 (dk_at dksX10_seeks_5 3 rfl rfl)
theorem dX10_seeks_122 : decode cX10_seeks 122 = .ok (.iinc 3 1, 3) := dk_132 3 1 (dk_at dksX10_seeks_5 6 rfl rfl)
theorem dX10_seeks_125 : decode cX10_seeks 125 = .ok (.goto (-96), 3) := dk_167 255 160 (dk_at dksX10_seeks_5 9 rfl rfl)
theorem dX10_seeks_128 : decode cX10_seeks 128 = .ok (.iconst 0, 1) := dk_3 (dk_at dksX10_seeks_5 12 rfl rfl)
theorem dX10_seeks_129 : decode cX10_seeks 129 = .ok (.ireturn, 1) := dk_172 (dk_at dksX10_seeks_5 13 rfl rfl)
abbrev cX10_isMoved : ByteArray := prog_32_method_91_code
def yX10_isMoved : MethodName := ⟨RX10, "isMoved", "(II)Z"⟩
def dkwX10_isMoved_5 : List UInt8 := [182, 1, 226, 132, 5, 1, 167, 255, 172, 4, 172]
abbrev dktX10_isMoved_5 : List UInt8 := dkwX10_isMoved_5 ++ []
def dkwX10_isMoved_4 : List UInt8 := [167, 0, 4, 4, 62, 42, 21, 6, 42, 180, 2, 52, 182, 1, 219, 154, 0, 5, 3, 172, 42, 3, 21, 6]
abbrev dktX10_isMoved_4 : List UInt8 := dkwX10_isMoved_4 ++ dktX10_isMoved_5
def dkwX10_isMoved_3 : List UInt8 := [42, 180, 0, 27, 42, 180, 1, 53, 46, 108, 158, 0, 17, 29, 42, 180, 0, 27, 42, 180, 1, 53, 46, 108]
abbrev dktX10_isMoved_3 : List UInt8 := dkwX10_isMoved_3 ++ dktX10_isMoved_4
def dkwX10_isMoved_2 : List UInt8 := [16, 52, 42, 180, 1, 53, 104, 16, 40, 96, 21, 4, 29, 108, 96, 54, 6, 21, 4, 29, 112, 54, 4, 29]
abbrev dktX10_isMoved_2 : List UInt8 := dkwX10_isMoved_2 ++ dktX10_isMoved_3
def dkwX10_isMoved_1 : List UInt8 := [180, 1, 53, 46, 104, 62, 132, 4, 1, 167, 255, 235, 28, 54, 4, 3, 54, 5, 21, 5, 27, 162, 0, 84]
abbrev dktX10_isMoved_1 : List UInt8 := dkwX10_isMoved_1 ++ dktX10_isMoved_2
def dkwX10_isMoved_0 : List UInt8 := [42, 16, 17, 3, 182, 1, 194, 4, 62, 4, 54, 4, 21, 4, 27, 162, 0, 21, 29, 42, 180, 0, 27, 42]
abbrev dktX10_isMoved_0 : List UInt8 := dkwX10_isMoved_0 ++ dktX10_isMoved_1
theorem dksX10_isMoved_0 : cX10_isMoved.data.toList.drop 0 = dktX10_isMoved_0 := by decide +kernel
theorem dksX10_isMoved_1 : cX10_isMoved.data.toList.drop 24 = dktX10_isMoved_1 := dk_seg dksX10_isMoved_0 24 rfl rfl
theorem dksX10_isMoved_2 : cX10_isMoved.data.toList.drop 48 = dktX10_isMoved_2 := dk_seg dksX10_isMoved_1 24 rfl rfl
theorem dksX10_isMoved_3 : cX10_isMoved.data.toList.drop 72 = dktX10_isMoved_3 := dk_seg dksX10_isMoved_2 24 rfl rfl
theorem dksX10_isMoved_4 : cX10_isMoved.data.toList.drop 96 = dktX10_isMoved_4 := dk_seg dksX10_isMoved_3 24 rfl rfl
theorem dksX10_isMoved_5 : cX10_isMoved.data.toList.drop 120 = dktX10_isMoved_5 := dk_seg dksX10_isMoved_4 24 rfl rfl
theorem dX10_isMoved_0 : decode cX10_isMoved 0 = .ok (.aload_n 0, 1) := dk_42 (dk_at dksX10_isMoved_0 0 rfl rfl)
theorem dX10_isMoved_1 : decode cX10_isMoved 1 = .ok (.bipush 17, 2) := dk_16 17 (dk_at dksX10_isMoved_0 1 rfl rfl)
theorem dX10_isMoved_3 : decode cX10_isMoved 3 = .ok (.iconst 0, 1) := dk_3 (dk_at dksX10_isMoved_0 3 rfl rfl)
theorem dX10_isMoved_4 : decode cX10_isMoved 4 = .ok (.invokevirtual 450, 3) := dk_182 1 194 (dk_at dksX10_isMoved_0 4 rfl rfl)
theorem dX10_isMoved_7 : decode cX10_isMoved 7 = .ok (.iconst 1, 1) := dk_4 (dk_at dksX10_isMoved_0 7 rfl rfl)
theorem dX10_isMoved_8 : decode cX10_isMoved 8 = .ok (.istore_n 3, 1) := dk_62 (dk_at dksX10_isMoved_0 8 rfl rfl)
theorem dX10_isMoved_9 : decode cX10_isMoved 9 = .ok (.iconst 1, 1) := dk_4 (dk_at dksX10_isMoved_0 9 rfl rfl)
theorem dX10_isMoved_10 : decode cX10_isMoved 10 = .ok (.istore 4, 2) := dk_54 4 (dk_at dksX10_isMoved_0 10 rfl rfl)
theorem dX10_isMoved_12 : decode cX10_isMoved 12 = .ok (.iload 4, 2) := dk_21 4 (dk_at dksX10_isMoved_0 12 rfl rfl)
theorem dX10_isMoved_14 : decode cX10_isMoved 14 = .ok (.iload_n 1, 1) := dk_27 (dk_at dksX10_isMoved_0 14 rfl rfl)
theorem dX10_isMoved_15 : decode cX10_isMoved 15 = .ok (.if_icmp .ge 21, 3) := dk_162 0 21 (dk_at dksX10_isMoved_0 15 rfl rfl)
theorem dX10_isMoved_18 : decode cX10_isMoved 18 = .ok (.iload_n 3, 1) := dk_29 (dk_at dksX10_isMoved_0 18 rfl rfl)
theorem dX10_isMoved_19 : decode cX10_isMoved 19 = .ok (.aload_n 0, 1) := dk_42 (dk_at dksX10_isMoved_0 19 rfl rfl)
theorem dX10_isMoved_20 : decode cX10_isMoved 20 = .ok (.getfield 27, 3) := dk_180 0 27 (dk_at dksX10_isMoved_0 20 rfl rfl)
theorem dX10_isMoved_23 : decode cX10_isMoved 23 = .ok (.aload_n 0, 1) := dk_42 (dk_at dksX10_isMoved_0 23 rfl rfl)
theorem dX10_isMoved_24 : decode cX10_isMoved 24 = .ok (.getfield 309, 3) := dk_180 1 53 (dk_at dksX10_isMoved_1 0 rfl rfl)
theorem dX10_isMoved_27 : decode cX10_isMoved 27 = .ok (.iaload, 1) := dk_46 (dk_at dksX10_isMoved_1 3 rfl rfl)
theorem dX10_isMoved_28 : decode cX10_isMoved 28 = .ok (.imul, 1) := dk_104 (dk_at dksX10_isMoved_1 4 rfl rfl)
theorem dX10_isMoved_29 : decode cX10_isMoved 29 = .ok (.istore_n 3, 1) := dk_62 (dk_at dksX10_isMoved_1 5 rfl rfl)
theorem dX10_isMoved_30 : decode cX10_isMoved 30 = .ok (.iinc 4 1, 3) := dk_132 4 1 (dk_at dksX10_isMoved_1 6 rfl rfl)
theorem dX10_isMoved_33 : decode cX10_isMoved 33 = .ok (.goto (-21), 3) := dk_167 255 235 (dk_at dksX10_isMoved_1 9 rfl rfl)
theorem dX10_isMoved_36 : decode cX10_isMoved 36 = .ok (.iload_n 2, 1) := dk_28 (dk_at dksX10_isMoved_1 12 rfl rfl)
theorem dX10_isMoved_37 : decode cX10_isMoved 37 = .ok (.istore 4, 2) := dk_54 4 (dk_at dksX10_isMoved_1 13 rfl rfl)
theorem dX10_isMoved_39 : decode cX10_isMoved 39 = .ok (.iconst 0, 1) := dk_3 (dk_at dksX10_isMoved_1 15 rfl rfl)
theorem dX10_isMoved_40 : decode cX10_isMoved 40 = .ok (.istore 5, 2) := dk_54 5 (dk_at dksX10_isMoved_1 16 rfl rfl)
theorem dX10_isMoved_42 : decode cX10_isMoved 42 = .ok (.iload 5, 2) := dk_21 5 (dk_at dksX10_isMoved_1 18 rfl rfl)
theorem dX10_isMoved_44 : decode cX10_isMoved 44 = .ok (.iload_n 1, 1) := dk_27 (dk_at dksX10_isMoved_1 20 rfl rfl)
theorem dX10_isMoved_45 : decode cX10_isMoved 45 = .ok (.if_icmp .ge 84, 3) := dk_162 0 84 (dk_at dksX10_isMoved_1 21 rfl rfl)
theorem dX10_isMoved_48 : decode cX10_isMoved 48 = .ok (.bipush 52, 2) := dk_16 52 (dk_at dksX10_isMoved_2 0 rfl rfl)
theorem dX10_isMoved_50 : decode cX10_isMoved 50 = .ok (.aload_n 0, 1) := dk_42 (dk_at dksX10_isMoved_2 2 rfl rfl)
theorem dX10_isMoved_51 : decode cX10_isMoved 51 = .ok (.getfield 309, 3) := dk_180 1 53 (dk_at dksX10_isMoved_2 3 rfl rfl)
theorem dX10_isMoved_54 : decode cX10_isMoved 54 = .ok (.imul, 1) := dk_104 (dk_at dksX10_isMoved_2 6 rfl rfl)
theorem dX10_isMoved_55 : decode cX10_isMoved 55 = .ok (.bipush 40, 2) := dk_16 40 (dk_at dksX10_isMoved_2 7 rfl rfl)
theorem dX10_isMoved_57 : decode cX10_isMoved 57 = .ok (.iadd, 1) := dk_96 (dk_at dksX10_isMoved_2 9 rfl rfl)
theorem dX10_isMoved_58 : decode cX10_isMoved 58 = .ok (.iload 4, 2) := dk_21 4 (dk_at dksX10_isMoved_2 10 rfl rfl)
theorem dX10_isMoved_60 : decode cX10_isMoved 60 = .ok (.iload_n 3, 1) := dk_29 (dk_at dksX10_isMoved_2 12 rfl rfl)
theorem dX10_isMoved_61 : decode cX10_isMoved 61 = .ok (.idiv, 1) := dk_108 (dk_at dksX10_isMoved_2 13 rfl rfl)
theorem dX10_isMoved_62 : decode cX10_isMoved 62 = .ok (.iadd, 1) := dk_96 (dk_at dksX10_isMoved_2 14 rfl rfl)
theorem dX10_isMoved_63 : decode cX10_isMoved 63 = .ok (.istore 6, 2) := dk_54 6 (dk_at dksX10_isMoved_2 15 rfl rfl)
theorem dX10_isMoved_65 : decode cX10_isMoved 65 = .ok (.iload 4, 2) := dk_21 4 (dk_at dksX10_isMoved_2 17 rfl rfl)
theorem dX10_isMoved_67 : decode cX10_isMoved 67 = .ok (.iload_n 3, 1) := dk_29 (dk_at dksX10_isMoved_2 19 rfl rfl)
theorem dX10_isMoved_68 : decode cX10_isMoved 68 = .ok (.irem, 1) := dk_112 (dk_at dksX10_isMoved_2 20 rfl rfl)
theorem dX10_isMoved_69 : decode cX10_isMoved 69 = .ok (.istore 4, 2) := dk_54 4 (dk_at dksX10_isMoved_2 21 rfl rfl)
theorem dX10_isMoved_71 : decode cX10_isMoved 71 = .ok (.iload_n 3, 1) := dk_29 (dk_at dksX10_isMoved_2 23 rfl rfl)
theorem dX10_isMoved_72 : decode cX10_isMoved 72 = .ok (.aload_n 0, 1) := dk_42 (dk_at dksX10_isMoved_3 0 rfl rfl)
theorem dX10_isMoved_73 : decode cX10_isMoved 73 = .ok (.getfield 27, 3) := dk_180 0 27 (dk_at dksX10_isMoved_3 1 rfl rfl)
theorem dX10_isMoved_76 : decode cX10_isMoved 76 = .ok (.aload_n 0, 1) := dk_42 (dk_at dksX10_isMoved_3 4 rfl rfl)
theorem dX10_isMoved_77 : decode cX10_isMoved 77 = .ok (.getfield 309, 3) := dk_180 1 53 (dk_at dksX10_isMoved_3 5 rfl rfl)
theorem dX10_isMoved_80 : decode cX10_isMoved 80 = .ok (.iaload, 1) := dk_46 (dk_at dksX10_isMoved_3 8 rfl rfl)
theorem dX10_isMoved_81 : decode cX10_isMoved 81 = .ok (.idiv, 1) := dk_108 (dk_at dksX10_isMoved_3 9 rfl rfl)
theorem dX10_isMoved_82 : decode cX10_isMoved 82 = .ok (.ifCond .le 17, 3) := dk_158 0 17 (dk_at dksX10_isMoved_3 10 rfl rfl)
theorem dX10_isMoved_85 : decode cX10_isMoved 85 = .ok (.iload_n 3, 1) := dk_29 (dk_at dksX10_isMoved_3 13 rfl rfl)
theorem dX10_isMoved_86 : decode cX10_isMoved 86 = .ok (.aload_n 0, 1) := dk_42 (dk_at dksX10_isMoved_3 14 rfl rfl)
theorem dX10_isMoved_87 : decode cX10_isMoved 87 = .ok (.getfield 27, 3) := dk_180 0 27 (dk_at dksX10_isMoved_3 15 rfl rfl)
theorem dX10_isMoved_90 : decode cX10_isMoved 90 = .ok (.aload_n 0, 1) := dk_42 (dk_at dksX10_isMoved_3 18 rfl rfl)
theorem dX10_isMoved_91 : decode cX10_isMoved 91 = .ok (.getfield 309, 3) := dk_180 1 53 (dk_at dksX10_isMoved_3 19 rfl rfl)
theorem dX10_isMoved_94 : decode cX10_isMoved 94 = .ok (.iaload, 1) := dk_46 (dk_at dksX10_isMoved_3 22 rfl rfl)
theorem dX10_isMoved_95 : decode cX10_isMoved 95 = .ok (.idiv, 1) := dk_108 (dk_at dksX10_isMoved_3 23 rfl rfl)
theorem dX10_isMoved_96 : decode cX10_isMoved 96 = .ok (.goto 4, 3) := dk_167 0 4 (dk_at dksX10_isMoved_4 0 rfl rfl)
theorem dX10_isMoved_99 : decode cX10_isMoved 99 = .ok (.iconst 1, 1) := dk_4 (dk_at dksX10_isMoved_4 3 rfl rfl)
theorem dX10_isMoved_100 : decode cX10_isMoved 100 = .ok (.istore_n 3, 1) := dk_62 (dk_at dksX10_isMoved_4 4 rfl rfl)
theorem dX10_isMoved_101 : decode cX10_isMoved 101 = .ok (.aload_n 0, 1) := dk_42 (dk_at dksX10_isMoved_4 5 rfl rfl)
theorem dX10_isMoved_102 : decode cX10_isMoved 102 = .ok (.iload 6, 2) := dk_21 6 (dk_at dksX10_isMoved_4 6 rfl rfl)
theorem dX10_isMoved_104 : decode cX10_isMoved 104 = .ok (.aload_n 0, 1) := dk_42 (dk_at dksX10_isMoved_4 8 rfl rfl)
theorem dX10_isMoved_105 : decode cX10_isMoved 105 = .ok (.getfield 564, 3) := dk_180 2 52 (dk_at dksX10_isMoved_4 9 rfl rfl)
theorem dX10_isMoved_108 : decode cX10_isMoved 108 = .ok (.invokevirtual 475, 3) := dk_182 1 219 (dk_at dksX10_isMoved_4 12 rfl rfl)
theorem dX10_isMoved_111 : decode cX10_isMoved 111 = .ok (.ifCond .ne 5, 3) := dk_154 0 5 (dk_at dksX10_isMoved_4 15 rfl rfl)
theorem dX10_isMoved_114 : decode cX10_isMoved 114 = .ok (.iconst 0, 1) := dk_3 (dk_at dksX10_isMoved_4 18 rfl rfl)
theorem dX10_isMoved_115 : decode cX10_isMoved 115 = .ok (.ireturn, 1) := dk_172 (dk_at dksX10_isMoved_4 19 rfl rfl)
theorem dX10_isMoved_116 : decode cX10_isMoved 116 = .ok (.aload_n 0, 1) := dk_42 (dk_at dksX10_isMoved_4 20 rfl rfl)
theorem dX10_isMoved_117 : decode cX10_isMoved 117 = .ok (.iconst 0, 1) := dk_3 (dk_at dksX10_isMoved_4 21 rfl rfl)
theorem dX10_isMoved_118 : decode cX10_isMoved 118 = .ok (.iload 6, 2) := dk_21 6 (dk_at dksX10_isMoved_4 22 rfl rfl)
theorem dX10_isMoved_120 : decode cX10_isMoved 120 = .ok (.invokevirtual 482, 3) := dk_182 1 226 (dk_at dksX10_isMoved_5 0 rfl rfl)
theorem dX10_isMoved_123 : decode cX10_isMoved 123 = .ok (.iinc 5 1, 3) := dk_132 5 1 (dk_at dksX10_isMoved_5 3 rfl rfl)
theorem dX10_isMoved_126 : decode cX10_isMoved 126 = .ok (.goto (-84), 3) := dk_167 255 172 (dk_at dksX10_isMoved_5 6 rfl rfl)
theorem dX10_isMoved_129 : decode cX10_isMoved 129 = .ok (.iconst 1, 1) := dk_4 (dk_at dksX10_isMoved_5 9 rfl rfl)
theorem dX10_isMoved_130 : decode cX10_isMoved 130 = .ok (.ireturn, 1) := dk_172 (dk_at dksX10_isMoved_5 10 rfl rfl)
abbrev cX10_tells : ByteArray := prog_32_method_90_code
def yX10_tells : MethodName := ⟨RX10, "tells", "(I)Z"⟩
def dkwX10_tells_9 : List UInt8 := [132, 4, 1, 167, 255, 175, 132, 3, 1, 167, 255, 158, 132, 2, 1, 167, 255, 138, 4, 172]
abbrev dktX10_tells_9 : List UInt8 := dkwX10_tells_9 ++ []
def dkwX10_tells_8 : List UInt8 := [153, 0, 22, 167, 0, 17, 22, 5, 9, 148, 153, 0, 12, 22, 7, 9, 148, 153, 0, 5, 3, 172]
abbrev dktX10_tells_8 : List UInt8 := dkwX10_tells_8 ++ dktX10_tells_9
def dkwX10_tells_7 : List UInt8 := [55, 7, 42, 180, 0, 123, 29, 46, 42, 180, 0, 123, 21, 4, 46, 160, 0, 14, 22, 5, 22, 7, 148]
abbrev dktX10_tells_7 : List UInt8 := dkwX10_tells_7 ++ dktX10_tells_8
def dkwX10_tells_6 : List UInt8 := [17, 1, 0, 29, 104, 28, 96, 47, 55, 5, 42, 180, 0, 144, 17, 1, 0, 21, 4, 104, 28, 96, 47]
abbrev dktX10_tells_6 : List UInt8 := dkwX10_tells_6 ++ dktX10_tells_7
def dkwX10_tells_5 : List UInt8 := [62, 29, 42, 182, 1, 161, 162, 0, 96, 3, 54, 4, 21, 4, 29, 162, 0, 81, 42, 180, 0, 144]
abbrev dktX10_tells_5 : List UInt8 := dkwX10_tells_5 ++ dktX10_tells_6
def dkwX10_tells_4 : List UInt8 := [167, 255, 197, 132, 2, 1, 167, 255, 181, 3, 61, 28, 4, 42, 180, 0, 64, 27, 46, 120, 162, 0, 112, 3]
abbrev dktX10_tells_4 : List UInt8 := dkwX10_tells_4 ++ dktX10_tells_5
def dkwX10_tells_3 : List UInt8 := [182, 1, 241, 96, 92, 47, 42, 180, 0, 99, 17, 1, 0, 28, 104, 29, 96, 47, 97, 80, 132, 3, 1]
abbrev dktX10_tells_3 : List UInt8 := dkwX10_tells_3 ++ dktX10_tells_4
def dkwX10_tells_2 : List UInt8 := [28, 104, 29, 96, 47, 9, 148, 153, 0, 35, 42, 180, 0, 144, 17, 1, 0, 28, 104, 42, 27, 29]
abbrev dktX10_tells_2 : List UInt8 := dkwX10_tells_2 ++ dktX10_tells_3
def dkwX10_tells_1 : List UInt8 := [28, 42, 182, 1, 161, 162, 0, 73, 3, 62, 29, 17, 1, 0, 162, 0, 58, 42, 180, 0, 99, 17, 1, 0]
abbrev dktX10_tells_1 : List UInt8 := dkwX10_tells_1 ++ dktX10_tells_2
def dkwX10_tells_0 : List UInt8 := [3, 61, 28, 17, 8, 0, 162, 0, 16, 42, 180, 0, 144, 28, 9, 80, 132, 2, 1, 167, 255, 239, 3, 61]
abbrev dktX10_tells_0 : List UInt8 := dkwX10_tells_0 ++ dktX10_tells_1
theorem dksX10_tells_0 : cX10_tells.data.toList.drop 0 = dktX10_tells_0 := by decide +kernel
theorem dksX10_tells_1 : cX10_tells.data.toList.drop 24 = dktX10_tells_1 := dk_seg dksX10_tells_0 24 rfl rfl
theorem dksX10_tells_2 : cX10_tells.data.toList.drop 48 = dktX10_tells_2 := dk_seg dksX10_tells_1 24 rfl rfl
theorem dksX10_tells_3 : cX10_tells.data.toList.drop 70 = dktX10_tells_3 := dk_seg dksX10_tells_2 22 rfl rfl
theorem dksX10_tells_4 : cX10_tells.data.toList.drop 93 = dktX10_tells_4 := dk_seg dksX10_tells_3 23 rfl rfl
theorem dksX10_tells_5 : cX10_tells.data.toList.drop 117 = dktX10_tells_5 := dk_seg dksX10_tells_4 24 rfl rfl
theorem dksX10_tells_6 : cX10_tells.data.toList.drop 139 = dktX10_tells_6 := dk_seg dksX10_tells_5 22 rfl rfl
theorem dksX10_tells_7 : cX10_tells.data.toList.drop 162 = dktX10_tells_7 := dk_seg dksX10_tells_6 23 rfl rfl
theorem dksX10_tells_8 : cX10_tells.data.toList.drop 185 = dktX10_tells_8 := dk_seg dksX10_tells_7 23 rfl rfl
theorem dksX10_tells_9 : cX10_tells.data.toList.drop 207 = dktX10_tells_9 := dk_seg dksX10_tells_8 22 rfl rfl
theorem dX10_tells_0 : decode cX10_tells 0 = .ok (.iconst 0, 1) := dk_3 (dk_at dksX10_tells_0 0 rfl rfl)
theorem dX10_tells_1 : decode cX10_tells 1 = .ok (.istore_n 2, 1) := dk_61 (dk_at dksX10_tells_0 1 rfl rfl)
theorem dX10_tells_2 : decode cX10_tells 2 = .ok (.iload_n 2, 1) := dk_28 (dk_at dksX10_tells_0 2 rfl rfl)
theorem dX10_tells_3 : decode cX10_tells 3 = .ok (.sipush 2048, 3) := dk_17 8 0 (dk_at dksX10_tells_0 3 rfl rfl)
theorem dX10_tells_6 : decode cX10_tells 6 = .ok (.if_icmp .ge 16, 3) := dk_162 0 16 (dk_at dksX10_tells_0 6 rfl rfl)
theorem dX10_tells_9 : decode cX10_tells 9 = .ok (.aload_n 0, 1) := dk_42 (dk_at dksX10_tells_0 9 rfl rfl)
theorem dX10_tells_10 : decode cX10_tells 10 = .ok (.getfield 144, 3) := dk_180 0 144 (dk_at dksX10_tells_0 10 rfl rfl)
theorem dX10_tells_13 : decode cX10_tells 13 = .ok (.iload_n 2, 1) := dk_28 (dk_at dksX10_tells_0 13 rfl rfl)
theorem dX10_tells_14 : decode cX10_tells 14 = .ok (.lconst 0, 1) := dk_9 (dk_at dksX10_tells_0 14 rfl rfl)
theorem dX10_tells_15 : decode cX10_tells 15 = .ok (.lastore, 1) := dk_80 (dk_at dksX10_tells_0 15 rfl rfl)
theorem dX10_tells_16 : decode cX10_tells 16 = .ok (.iinc 2 1, 3) := dk_132 2 1 (dk_at dksX10_tells_0 16 rfl rfl)
theorem dX10_tells_19 : decode cX10_tells 19 = .ok (.goto (-17), 3) := dk_167 255 239 (dk_at dksX10_tells_0 19 rfl rfl)
theorem dX10_tells_22 : decode cX10_tells 22 = .ok (.iconst 0, 1) := dk_3 (dk_at dksX10_tells_0 22 rfl rfl)
theorem dX10_tells_23 : decode cX10_tells 23 = .ok (.istore_n 2, 1) := dk_61 (dk_at dksX10_tells_0 23 rfl rfl)
theorem dX10_tells_24 : decode cX10_tells 24 = .ok (.iload_n 2, 1) := dk_28 (dk_at dksX10_tells_1 0 rfl rfl)
theorem dX10_tells_25 : decode cX10_tells 25 = .ok (.aload_n 0, 1) := dk_42 (dk_at dksX10_tells_1 1 rfl rfl)
theorem dX10_tells_26 : decode cX10_tells 26 = .ok (.invokevirtual 417, 3) := dk_182 1 161 (dk_at dksX10_tells_1 2 rfl rfl)
theorem dX10_tells_29 : decode cX10_tells 29 = .ok (.if_icmp .ge 73, 3) := dk_162 0 73 (dk_at dksX10_tells_1 5 rfl rfl)
theorem dX10_tells_32 : decode cX10_tells 32 = .ok (.iconst 0, 1) := dk_3 (dk_at dksX10_tells_1 8 rfl rfl)
theorem dX10_tells_33 : decode cX10_tells 33 = .ok (.istore_n 3, 1) := dk_62 (dk_at dksX10_tells_1 9 rfl rfl)
theorem dX10_tells_34 : decode cX10_tells 34 = .ok (.iload_n 3, 1) := dk_29 (dk_at dksX10_tells_1 10 rfl rfl)
theorem dX10_tells_35 : decode cX10_tells 35 = .ok (.sipush 256, 3) := dk_17 1 0 (dk_at dksX10_tells_1 11 rfl rfl)
theorem dX10_tells_38 : decode cX10_tells 38 = .ok (.if_icmp .ge 58, 3) := dk_162 0 58 (dk_at dksX10_tells_1 14 rfl rfl)
theorem dX10_tells_41 : decode cX10_tells 41 = .ok (.aload_n 0, 1) := dk_42 (dk_at dksX10_tells_1 17 rfl rfl)
theorem dX10_tells_42 : decode cX10_tells 42 = .ok (.getfield 99, 3) := dk_180 0 99 (dk_at dksX10_tells_1 18 rfl rfl)
theorem dX10_tells_45 : decode cX10_tells 45 = .ok (.sipush 256, 3) := dk_17 1 0 (dk_at dksX10_tells_1 21 rfl rfl)
theorem dX10_tells_48 : decode cX10_tells 48 = .ok (.iload_n 2, 1) := dk_28 (dk_at dksX10_tells_2 0 rfl rfl)
theorem dX10_tells_49 : decode cX10_tells 49 = .ok (.imul, 1) := dk_104 (dk_at dksX10_tells_2 1 rfl rfl)
theorem dX10_tells_50 : decode cX10_tells 50 = .ok (.iload_n 3, 1) := dk_29 (dk_at dksX10_tells_2 2 rfl rfl)
theorem dX10_tells_51 : decode cX10_tells 51 = .ok (.iadd, 1) := dk_96 (dk_at dksX10_tells_2 3 rfl rfl)
theorem dX10_tells_52 : decode cX10_tells 52 = .ok (.laload, 1) := dk_47 (dk_at dksX10_tells_2 4 rfl rfl)
theorem dX10_tells_53 : decode cX10_tells 53 = .ok (.lconst 0, 1) := dk_9 (dk_at dksX10_tells_2 5 rfl rfl)
theorem dX10_tells_54 : decode cX10_tells 54 = .ok (.lcmp, 1) := dk_148 (dk_at dksX10_tells_2 6 rfl rfl)
theorem dX10_tells_55 : decode cX10_tells 55 = .ok (.ifCond .eq 35, 3) := dk_153 0 35 (dk_at dksX10_tells_2 7 rfl rfl)
theorem dX10_tells_58 : decode cX10_tells 58 = .ok (.aload_n 0, 1) := dk_42 (dk_at dksX10_tells_2 10 rfl rfl)
theorem dX10_tells_59 : decode cX10_tells 59 = .ok (.getfield 144, 3) := dk_180 0 144 (dk_at dksX10_tells_2 11 rfl rfl)
theorem dX10_tells_62 : decode cX10_tells 62 = .ok (.sipush 256, 3) := dk_17 1 0 (dk_at dksX10_tells_2 14 rfl rfl)
theorem dX10_tells_65 : decode cX10_tells 65 = .ok (.iload_n 2, 1) := dk_28 (dk_at dksX10_tells_2 17 rfl rfl)
theorem dX10_tells_66 : decode cX10_tells 66 = .ok (.imul, 1) := dk_104 (dk_at dksX10_tells_2 18 rfl rfl)
theorem dX10_tells_67 : decode cX10_tells 67 = .ok (.aload_n 0, 1) := dk_42 (dk_at dksX10_tells_2 19 rfl rfl)
theorem dX10_tells_68 : decode cX10_tells 68 = .ok (.iload_n 1, 1) := dk_27 (dk_at dksX10_tells_2 20 rfl rfl)
theorem dX10_tells_69 : decode cX10_tells 69 = .ok (.iload_n 3, 1) := dk_29 (dk_at dksX10_tells_2 21 rfl rfl)
theorem dX10_tells_70 : decode cX10_tells 70 = .ok (.invokevirtual 497, 3) := dk_182 1 241 (dk_at dksX10_tells_3 0 rfl rfl)
theorem dX10_tells_73 : decode cX10_tells 73 = .ok (.iadd, 1) := dk_96 (dk_at dksX10_tells_3 3 rfl rfl)
theorem dX10_tells_74 : decode cX10_tells 74 = .ok (.dup2, 1) := dk_92 (dk_at dksX10_tells_3 4 rfl rfl)
theorem dX10_tells_75 : decode cX10_tells 75 = .ok (.laload, 1) := dk_47 (dk_at dksX10_tells_3 5 rfl rfl)
theorem dX10_tells_76 : decode cX10_tells 76 = .ok (.aload_n 0, 1) := dk_42 (dk_at dksX10_tells_3 6 rfl rfl)
theorem dX10_tells_77 : decode cX10_tells 77 = .ok (.getfield 99, 3) := dk_180 0 99 (dk_at dksX10_tells_3 7 rfl rfl)
theorem dX10_tells_80 : decode cX10_tells 80 = .ok (.sipush 256, 3) := dk_17 1 0 (dk_at dksX10_tells_3 10 rfl rfl)
theorem dX10_tells_83 : decode cX10_tells 83 = .ok (.iload_n 2, 1) := dk_28 (dk_at dksX10_tells_3 13 rfl rfl)
theorem dX10_tells_84 : decode cX10_tells 84 = .ok (.imul, 1) := dk_104 (dk_at dksX10_tells_3 14 rfl rfl)
theorem dX10_tells_85 : decode cX10_tells 85 = .ok (.iload_n 3, 1) := dk_29 (dk_at dksX10_tells_3 15 rfl rfl)
theorem dX10_tells_86 : decode cX10_tells 86 = .ok (.iadd, 1) := dk_96 (dk_at dksX10_tells_3 16 rfl rfl)
theorem dX10_tells_87 : decode cX10_tells 87 = .ok (.laload, 1) := dk_47 (dk_at dksX10_tells_3 17 rfl rfl)
theorem dX10_tells_88 : decode cX10_tells 88 = .ok (.ladd, 1) := dk_97 (dk_at dksX10_tells_3 18 rfl rfl)
theorem dX10_tells_89 : decode cX10_tells 89 = .ok (.lastore, 1) := dk_80 (dk_at dksX10_tells_3 19 rfl rfl)
theorem dX10_tells_90 : decode cX10_tells 90 = .ok (.iinc 3 1, 3) := dk_132 3 1 (dk_at dksX10_tells_3 20 rfl rfl)
theorem dX10_tells_93 : decode cX10_tells 93 = .ok (.goto (-59), 3) := dk_167 255 197 (dk_at dksX10_tells_4 0 rfl rfl)
theorem dX10_tells_96 : decode cX10_tells 96 = .ok (.iinc 2 1, 3) := dk_132 2 1 (dk_at dksX10_tells_4 3 rfl rfl)
theorem dX10_tells_99 : decode cX10_tells 99 = .ok (.goto (-75), 3) := dk_167 255 181 (dk_at dksX10_tells_4 6 rfl rfl)
theorem dX10_tells_102 : decode cX10_tells 102 = .ok (.iconst 0, 1) := dk_3 (dk_at dksX10_tells_4 9 rfl rfl)
theorem dX10_tells_103 : decode cX10_tells 103 = .ok (.istore_n 2, 1) := dk_61 (dk_at dksX10_tells_4 10 rfl rfl)
theorem dX10_tells_104 : decode cX10_tells 104 = .ok (.iload_n 2, 1) := dk_28 (dk_at dksX10_tells_4 11 rfl rfl)
theorem dX10_tells_105 : decode cX10_tells 105 = .ok (.iconst 1, 1) := dk_4 (dk_at dksX10_tells_4 12 rfl rfl)
theorem dX10_tells_106 : decode cX10_tells 106 = .ok (.aload_n 0, 1) := dk_42 (dk_at dksX10_tells_4 13 rfl rfl)
theorem dX10_tells_107 : decode cX10_tells 107 = .ok (.getfield 64, 3) := dk_180 0 64 (dk_at dksX10_tells_4 14 rfl rfl)
theorem dX10_tells_110 : decode cX10_tells 110 = .ok (.iload_n 1, 1) := dk_27 (dk_at dksX10_tells_4 17 rfl rfl)
theorem dX10_tells_111 : decode cX10_tells 111 = .ok (.iaload, 1) := dk_46 (dk_at dksX10_tells_4 18 rfl rfl)
theorem dX10_tells_112 : decode cX10_tells 112 = .ok (.ishl, 1) := dk_120 (dk_at dksX10_tells_4 19 rfl rfl)
theorem dX10_tells_113 : decode cX10_tells 113 = .ok (.if_icmp .ge 112, 3) := dk_162 0 112 (dk_at dksX10_tells_4 20 rfl rfl)
theorem dX10_tells_116 : decode cX10_tells 116 = .ok (.iconst 0, 1) := dk_3 (dk_at dksX10_tells_4 23 rfl rfl)
theorem dX10_tells_117 : decode cX10_tells 117 = .ok (.istore_n 3, 1) := dk_62 (dk_at dksX10_tells_5 0 rfl rfl)
theorem dX10_tells_118 : decode cX10_tells 118 = .ok (.iload_n 3, 1) := dk_29 (dk_at dksX10_tells_5 1 rfl rfl)
theorem dX10_tells_119 : decode cX10_tells 119 = .ok (.aload_n 0, 1) := dk_42 (dk_at dksX10_tells_5 2 rfl rfl)
theorem dX10_tells_120 : decode cX10_tells 120 = .ok (.invokevirtual 417, 3) := dk_182 1 161 (dk_at dksX10_tells_5 3 rfl rfl)
theorem dX10_tells_123 : decode cX10_tells 123 = .ok (.if_icmp .ge 96, 3) := dk_162 0 96 (dk_at dksX10_tells_5 6 rfl rfl)
theorem dX10_tells_126 : decode cX10_tells 126 = .ok (.iconst 0, 1) := dk_3 (dk_at dksX10_tells_5 9 rfl rfl)
theorem dX10_tells_127 : decode cX10_tells 127 = .ok (.istore 4, 2) := dk_54 4 (dk_at dksX10_tells_5 10 rfl rfl)
theorem dX10_tells_129 : decode cX10_tells 129 = .ok (.iload 4, 2) := dk_21 4 (dk_at dksX10_tells_5 12 rfl rfl)
theorem dX10_tells_131 : decode cX10_tells 131 = .ok (.iload_n 3, 1) := dk_29 (dk_at dksX10_tells_5 14 rfl rfl)
theorem dX10_tells_132 : decode cX10_tells 132 = .ok (.if_icmp .ge 81, 3) := dk_162 0 81 (dk_at dksX10_tells_5 15 rfl rfl)
theorem dX10_tells_135 : decode cX10_tells 135 = .ok (.aload_n 0, 1) := dk_42 (dk_at dksX10_tells_5 18 rfl rfl)
theorem dX10_tells_136 : decode cX10_tells 136 = .ok (.getfield 144, 3) := dk_180 0 144 (dk_at dksX10_tells_5 19 rfl rfl)
theorem dX10_tells_139 : decode cX10_tells 139 = .ok (.sipush 256, 3) := dk_17 1 0 (dk_at dksX10_tells_6 0 rfl rfl)
theorem dX10_tells_142 : decode cX10_tells 142 = .ok (.iload_n 3, 1) := dk_29 (dk_at dksX10_tells_6 3 rfl rfl)
theorem dX10_tells_143 : decode cX10_tells 143 = .ok (.imul, 1) := dk_104 (dk_at dksX10_tells_6 4 rfl rfl)
theorem dX10_tells_144 : decode cX10_tells 144 = .ok (.iload_n 2, 1) := dk_28 (dk_at dksX10_tells_6 5 rfl rfl)
theorem dX10_tells_145 : decode cX10_tells 145 = .ok (.iadd, 1) := dk_96 (dk_at dksX10_tells_6 6 rfl rfl)
theorem dX10_tells_146 : decode cX10_tells 146 = .ok (.laload, 1) := dk_47 (dk_at dksX10_tells_6 7 rfl rfl)
theorem dX10_tells_147 : decode cX10_tells 147 = .ok (.lstore 5, 2) := dk_55 5 (dk_at dksX10_tells_6 8 rfl rfl)
theorem dX10_tells_149 : decode cX10_tells 149 = .ok (.aload_n 0, 1) := dk_42 (dk_at dksX10_tells_6 10 rfl rfl)
theorem dX10_tells_150 : decode cX10_tells 150 = .ok (.getfield 144, 3) := dk_180 0 144 (dk_at dksX10_tells_6 11 rfl rfl)
theorem dX10_tells_153 : decode cX10_tells 153 = .ok (.sipush 256, 3) := dk_17 1 0 (dk_at dksX10_tells_6 14 rfl rfl)
theorem dX10_tells_156 : decode cX10_tells 156 = .ok (.iload 4, 2) := dk_21 4 (dk_at dksX10_tells_6 17 rfl rfl)
theorem dX10_tells_158 : decode cX10_tells 158 = .ok (.imul, 1) := dk_104 (dk_at dksX10_tells_6 19 rfl rfl)
theorem dX10_tells_159 : decode cX10_tells 159 = .ok (.iload_n 2, 1) := dk_28 (dk_at dksX10_tells_6 20 rfl rfl)
theorem dX10_tells_160 : decode cX10_tells 160 = .ok (.iadd, 1) := dk_96 (dk_at dksX10_tells_6 21 rfl rfl)
theorem dX10_tells_161 : decode cX10_tells 161 = .ok (.laload, 1) := dk_47 (dk_at dksX10_tells_6 22 rfl rfl)
theorem dX10_tells_162 : decode cX10_tells 162 = .ok (.lstore 7, 2) := dk_55 7 (dk_at dksX10_tells_7 0 rfl rfl)
theorem dX10_tells_164 : decode cX10_tells 164 = .ok (.aload_n 0, 1) := dk_42 (dk_at dksX10_tells_7 2 rfl rfl)
theorem dX10_tells_165 : decode cX10_tells 165 = .ok (.getfield 123, 3) := dk_180 0 123 (dk_at dksX10_tells_7 3 rfl rfl)
theorem dX10_tells_168 : decode cX10_tells 168 = .ok (.iload_n 3, 1) := dk_29 (dk_at dksX10_tells_7 6 rfl rfl)
theorem dX10_tells_169 : decode cX10_tells 169 = .ok (.iaload, 1) := dk_46 (dk_at dksX10_tells_7 7 rfl rfl)
theorem dX10_tells_170 : decode cX10_tells 170 = .ok (.aload_n 0, 1) := dk_42 (dk_at dksX10_tells_7 8 rfl rfl)
theorem dX10_tells_171 : decode cX10_tells 171 = .ok (.getfield 123, 3) := dk_180 0 123 (dk_at dksX10_tells_7 9 rfl rfl)
theorem dX10_tells_174 : decode cX10_tells 174 = .ok (.iload 4, 2) := dk_21 4 (dk_at dksX10_tells_7 12 rfl rfl)
theorem dX10_tells_176 : decode cX10_tells 176 = .ok (.iaload, 1) := dk_46 (dk_at dksX10_tells_7 14 rfl rfl)
theorem dX10_tells_177 : decode cX10_tells 177 = .ok (.if_icmp .ne 14, 3) := dk_160 0 14 (dk_at dksX10_tells_7 15 rfl rfl)
theorem dX10_tells_180 : decode cX10_tells 180 = .ok (.lload 5, 2) := dk_22 5 (dk_at dksX10_tells_7 18 rfl rfl)
theorem dX10_tells_182 : decode cX10_tells 182 = .ok (.lload 7, 2) := dk_22 7 (dk_at dksX10_tells_7 20 rfl rfl)
theorem dX10_tells_184 : decode cX10_tells 184 = .ok (.lcmp, 1) := dk_148 (dk_at dksX10_tells_7 22 rfl rfl)
theorem dX10_tells_185 : decode cX10_tells 185 = .ok (.ifCond .eq 22, 3) := dk_153 0 22 (dk_at dksX10_tells_8 0 rfl rfl)
theorem dX10_tells_188 : decode cX10_tells 188 = .ok (.goto 17, 3) := dk_167 0 17 (dk_at dksX10_tells_8 3 rfl rfl)
theorem dX10_tells_191 : decode cX10_tells 191 = .ok (.lload 5, 2) := dk_22 5 (dk_at dksX10_tells_8 6 rfl rfl)
theorem dX10_tells_193 : decode cX10_tells 193 = .ok (.lconst 0, 1) := dk_9 (dk_at dksX10_tells_8 8 rfl rfl)
theorem dX10_tells_194 : decode cX10_tells 194 = .ok (.lcmp, 1) := dk_148 (dk_at dksX10_tells_8 9 rfl rfl)
theorem dX10_tells_195 : decode cX10_tells 195 = .ok (.ifCond .eq 12, 3) := dk_153 0 12 (dk_at dksX10_tells_8 10 rfl rfl)
theorem dX10_tells_198 : decode cX10_tells 198 = .ok (.lload 7, 2) := dk_22 7 (dk_at dksX10_tells_8 13 rfl rfl)
theorem dX10_tells_200 : decode cX10_tells 200 = .ok (.lconst 0, 1) := dk_9 (dk_at dksX10_tells_8 15 rfl rfl)
theorem dX10_tells_201 : decode cX10_tells 201 = .ok (.lcmp, 1) := dk_148 (dk_at dksX10_tells_8 16 rfl rfl)
theorem dX10_tells_202 : decode cX10_tells 202 = .ok (.ifCond .eq 5, 3) := dk_153 0 5 (dk_at dksX10_tells_8 17 rfl rfl)
theorem dX10_tells_205 : decode cX10_tells 205 = .ok (.iconst 0, 1) := dk_3 (dk_at dksX10_tells_8 20 rfl rfl)
theorem dX10_tells_206 : decode cX10_tells 206 = .ok (.ireturn, 1) := dk_172 (dk_at dksX10_tells_8 21 rfl rfl)
theorem dX10_tells_207 : decode cX10_tells 207 = .ok (.iinc 4 1, 3) := dk_132 4 1 (dk_at dksX10_tells_9 0 rfl rfl)
theorem dX10_tells_210 : decode cX10_tells 210 = .ok (.goto (-81), 3) := dk_167 255 175 (dk_at dksX10_tells_9 3 rfl rfl)
theorem dX10_tells_213 : decode cX10_tells 213 = .ok (.iinc 3 1, 3) := dk_132 3 1 (dk_at dksX10_tells_9 6 rfl rfl)
theorem dX10_tells_216 : decode cX10_tells 216 = .ok (.goto (-98), 3) := dk_167 255 158 (dk_at dksX10_tells_9 9 rfl rfl)
theorem dX10_tells_219 : decode cX10_tells 219 = .ok (.iinc 2 1, 3) := dk_132 2 1 (dk_at dksX10_tells_9 12 rfl rfl)
theorem dX10_tells_222 : decode cX10_tells 222 = .ok (.goto (-118), 3) := dk_167 255 138 (dk_at dksX10_tells_9 15 rfl rfl)
theorem dX10_tells_225 : decode cX10_tells 225 = .ok (.iconst 1, 1) := dk_4 (dk_at dksX10_tells_9 18 rfl rfl)
theorem dX10_tells_226 : decode cX10_tells 226 = .ok (.ireturn, 1) := dk_172 (dk_at dksX10_tells_9 19 rfl rfl)
abbrev cX10_written : ByteArray := prog_32_method_93_code
def yX10_written : MethodName := ⟨RX10, "written", "(I)I"⟩
def dkwX10_written_2 : List UInt8 := [46, 108, 54, 4, 29, 16, 10, 104, 62, 132, 5, 1, 167, 255, 209, 28, 172]
abbrev dktX10_written_2 : List UInt8 := dkwX10_written_2 ++ []
def dkwX10_written_1 : List UInt8 := [180, 0, 27, 42, 180, 1, 53, 46, 112, 4, 96, 104, 96, 61, 21, 4, 42, 180, 0, 27, 42, 180, 1, 53]
abbrev dktX10_written_1 : List UInt8 := dkwX10_written_1 ++ dktX10_written_2
def dkwX10_written_0 : List UInt8 := [3, 61, 4, 62, 42, 180, 2, 61, 54, 4, 3, 54, 5, 21, 5, 27, 162, 0, 47, 28, 29, 21, 4, 42]
abbrev dktX10_written_0 : List UInt8 := dkwX10_written_0 ++ dktX10_written_1
theorem dksX10_written_0 : cX10_written.data.toList.drop 0 = dktX10_written_0 := by decide +kernel
theorem dksX10_written_1 : cX10_written.data.toList.drop 24 = dktX10_written_1 := dk_seg dksX10_written_0 24 rfl rfl
theorem dksX10_written_2 : cX10_written.data.toList.drop 48 = dktX10_written_2 := dk_seg dksX10_written_1 24 rfl rfl
theorem dX10_written_0 : decode cX10_written 0 = .ok (.iconst 0, 1) := dk_3 (dk_at dksX10_written_0 0 rfl rfl)
theorem dX10_written_1 : decode cX10_written 1 = .ok (.istore_n 2, 1) := dk_61 (dk_at dksX10_written_0 1 rfl rfl)
theorem dX10_written_2 : decode cX10_written 2 = .ok (.iconst 1, 1) := dk_4 (dk_at dksX10_written_0 2 rfl rfl)
theorem dX10_written_3 : decode cX10_written 3 = .ok (.istore_n 3, 1) := dk_62 (dk_at dksX10_written_0 3 rfl rfl)
theorem dX10_written_4 : decode cX10_written 4 = .ok (.aload_n 0, 1) := dk_42 (dk_at dksX10_written_0 4 rfl rfl)
theorem dX10_written_5 : decode cX10_written 5 = .ok (.getfield 573, 3) := dk_180 2 61 (dk_at dksX10_written_0 5 rfl rfl)
theorem dX10_written_8 : decode cX10_written 8 = .ok (.istore 4, 2) := dk_54 4 (dk_at dksX10_written_0 8 rfl rfl)
theorem dX10_written_10 : decode cX10_written 10 = .ok (.iconst 0, 1) := dk_3 (dk_at dksX10_written_0 10 rfl rfl)
theorem dX10_written_11 : decode cX10_written 11 = .ok (.istore 5, 2) := dk_54 5 (dk_at dksX10_written_0 11 rfl rfl)
theorem dX10_written_13 : decode cX10_written 13 = .ok (.iload 5, 2) := dk_21 5 (dk_at dksX10_written_0 13 rfl rfl)
theorem dX10_written_15 : decode cX10_written 15 = .ok (.iload_n 1, 1) := dk_27 (dk_at dksX10_written_0 15 rfl rfl)
theorem dX10_written_16 : decode cX10_written 16 = .ok (.if_icmp .ge 47, 3) := dk_162 0 47 (dk_at dksX10_written_0 16 rfl rfl)
theorem dX10_written_19 : decode cX10_written 19 = .ok (.iload_n 2, 1) := dk_28 (dk_at dksX10_written_0 19 rfl rfl)
theorem dX10_written_20 : decode cX10_written 20 = .ok (.iload_n 3, 1) := dk_29 (dk_at dksX10_written_0 20 rfl rfl)
theorem dX10_written_21 : decode cX10_written 21 = .ok (.iload 4, 2) := dk_21 4 (dk_at dksX10_written_0 21 rfl rfl)
theorem dX10_written_23 : decode cX10_written 23 = .ok (.aload_n 0, 1) := dk_42 (dk_at dksX10_written_0 23 rfl rfl)
theorem dX10_written_24 : decode cX10_written 24 = .ok (.getfield 27, 3) := dk_180 0 27 (dk_at dksX10_written_1 0 rfl rfl)
theorem dX10_written_27 : decode cX10_written 27 = .ok (.aload_n 0, 1) := dk_42 (dk_at dksX10_written_1 3 rfl rfl)
theorem dX10_written_28 : decode cX10_written 28 = .ok (.getfield 309, 3) := dk_180 1 53 (dk_at dksX10_written_1 4 rfl rfl)
theorem dX10_written_31 : decode cX10_written 31 = .ok (.iaload, 1) := dk_46 (dk_at dksX10_written_1 7 rfl rfl)
theorem dX10_written_32 : decode cX10_written 32 = .ok (.irem, 1) := dk_112 (dk_at dksX10_written_1 8 rfl rfl)
theorem dX10_written_33 : decode cX10_written 33 = .ok (.iconst 1, 1) := dk_4 (dk_at dksX10_written_1 9 rfl rfl)
theorem dX10_written_34 : decode cX10_written 34 = .ok (.iadd, 1) := dk_96 (dk_at dksX10_written_1 10 rfl rfl)
theorem dX10_written_35 : decode cX10_written 35 = .ok (.imul, 1) := dk_104 (dk_at dksX10_written_1 11 rfl rfl)
theorem dX10_written_36 : decode cX10_written 36 = .ok (.iadd, 1) := dk_96 (dk_at dksX10_written_1 12 rfl rfl)
theorem dX10_written_37 : decode cX10_written 37 = .ok (.istore_n 2, 1) := dk_61 (dk_at dksX10_written_1 13 rfl rfl)
theorem dX10_written_38 : decode cX10_written 38 = .ok (.iload 4, 2) := dk_21 4 (dk_at dksX10_written_1 14 rfl rfl)
theorem dX10_written_40 : decode cX10_written 40 = .ok (.aload_n 0, 1) := dk_42 (dk_at dksX10_written_1 16 rfl rfl)
theorem dX10_written_41 : decode cX10_written 41 = .ok (.getfield 27, 3) := dk_180 0 27 (dk_at dksX10_written_1 17 rfl rfl)
theorem dX10_written_44 : decode cX10_written 44 = .ok (.aload_n 0, 1) := dk_42 (dk_at dksX10_written_1 20 rfl rfl)
theorem dX10_written_45 : decode cX10_written 45 = .ok (.getfield 309, 3) := dk_180 1 53 (dk_at dksX10_written_1 21 rfl rfl)
theorem dX10_written_48 : decode cX10_written 48 = .ok (.iaload, 1) := dk_46 (dk_at dksX10_written_2 0 rfl rfl)
theorem dX10_written_49 : decode cX10_written 49 = .ok (.idiv, 1) := dk_108 (dk_at dksX10_written_2 1 rfl rfl)
theorem dX10_written_50 : decode cX10_written 50 = .ok (.istore 4, 2) := dk_54 4 (dk_at dksX10_written_2 2 rfl rfl)
theorem dX10_written_52 : decode cX10_written 52 = .ok (.iload_n 3, 1) := dk_29 (dk_at dksX10_written_2 4 rfl rfl)
theorem dX10_written_53 : decode cX10_written 53 = .ok (.bipush 10, 2) := dk_16 10 (dk_at dksX10_written_2 5 rfl rfl)
theorem dX10_written_55 : decode cX10_written 55 = .ok (.imul, 1) := dk_104 (dk_at dksX10_written_2 7 rfl rfl)
theorem dX10_written_56 : decode cX10_written 56 = .ok (.istore_n 3, 1) := dk_62 (dk_at dksX10_written_2 8 rfl rfl)
theorem dX10_written_57 : decode cX10_written 57 = .ok (.iinc 5 1, 3) := dk_132 5 1 (dk_at dksX10_written_2 9 rfl rfl)
theorem dX10_written_60 : decode cX10_written 60 = .ok (.goto (-47), 3) := dk_167 255 209 (dk_at dksX10_written_2 12 rfl rfl)
theorem dX10_written_63 : decode cX10_written 63 = .ok (.iload_n 2, 1) := dk_28 (dk_at dksX10_written_2 15 rfl rfl)
theorem dX10_written_64 : decode cX10_written 64 = .ok (.ireturn, 1) := dk_172 (dk_at dksX10_written_2 16 rfl rfl)
abbrev cX10_play : ByteArray := prog_32_method_98_code
def yX10_play : MethodName := ⟨RX10, "play", "(I)I"⟩
def dkwX10_play_21 : List UInt8 := [172]
abbrev dktX10_play_21 : List UInt8 := dkwX10_play_21 ++ []
def dkwX10_play_20 : List UInt8 := [160, 0, 16, 3, 54, 5, 42, 42, 21, 6, 182, 2, 95, 181, 2, 83, 167, 254, 86, 42, 29, 182, 2, 98]
abbrev dktX10_play_20 : List UInt8 := dkwX10_play_20 ++ dktX10_play_21
def dkwX10_play_19 : List UInt8 := [180, 0, 61, 21, 6, 46, 4, 96, 54, 4, 167, 0, 30, 21, 7, 16, 11, 159, 0, 10, 21, 7, 16, 12]
abbrev dktX10_play_19 : List UInt8 := dkwX10_play_19 ++ dktX10_play_20
def dkwX10_play_18 : List UInt8 := [180, 0, 55, 21, 6, 46, 104, 122, 6, 126, 42, 180, 0, 58, 21, 6, 46, 4, 96, 160, 0, 44, 42]
abbrev dktX10_play_18 : List UInt8 := dkwX10_play_18 ++ dktX10_play_19
def dkwX10_play_17 : List UInt8 := [61, 132, 8, 1, 167, 255, 189, 132, 3, 1, 167, 0, 76, 21, 7, 16, 9, 160, 0, 42, 28, 5, 42]
abbrev dktX10_play_17 : List UInt8 := dkwX10_play_17 ++ dktX10_play_18
def dkwX10_play_16 : List UInt8 := [21, 8, 122, 4, 126, 4, 96, 5, 42, 180, 0, 67, 16, 8, 21, 6, 104, 21, 8, 96, 46, 104, 120, 128]
abbrev dktX10_play_16 : List UInt8 := dkwX10_play_16 ++ dktX10_play_17
def dkwX10_play_15 : List UInt8 := [180, 0, 67, 16, 8, 21, 6, 104, 21, 8, 96, 46, 104, 120, 2, 130, 126, 42, 180, 0, 150, 29, 46]
abbrev dktX10_play_15 : List UInt8 := dkwX10_play_15 ++ dktX10_play_16
def dkwX10_play_14 : List UInt8 := [182, 1, 241, 79, 3, 54, 8, 21, 8, 42, 180, 0, 64, 21, 6, 46, 162, 0, 61, 28, 6, 5, 42]
abbrev dktX10_play_14 : List UInt8 := dkwX10_play_14 ++ dktX10_play_15
def dkwX10_play_13 : List UInt8 := [54, 5, 21, 5, 154, 0, 6, 167, 255, 1, 42, 180, 0, 150, 29, 42, 21, 6, 42, 180, 2, 77]
abbrev dktX10_play_13 : List UInt8 := dkwX10_play_13 ++ dktX10_play_14
def dkwX10_play_12 : List UInt8 := [181, 2, 77, 167, 0, 198, 21, 7, 16, 8, 160, 0, 118, 42, 21, 6, 42, 180, 2, 80, 182, 1, 219]
abbrev dktX10_play_12 : List UInt8 := dkwX10_play_12 ++ dktX10_play_13
def dkwX10_play_11 : List UInt8 := [21, 6, 182, 1, 185, 182, 2, 92, 167, 0, 4, 3, 182, 1, 188, 42, 42, 42, 180, 2, 77, 182, 1, 179]
abbrev dktX10_play_11 : List UInt8 := dkwX10_play_11 ++ dktX10_play_12
def dkwX10_play_10 : List UInt8 := [182, 1, 219, 54, 5, 21, 5, 154, 0, 6, 167, 255, 69, 42, 21, 6, 21, 7, 7, 161, 0, 16, 42, 42]
abbrev dktX10_play_10 : List UInt8 := dkwX10_play_10 ++ dktX10_play_11
def dkwX10_play_9 : List UInt8 := [167, 1, 16, 21, 7, 5, 161, 0, 71, 21, 7, 16, 7, 163, 0, 64, 42, 21, 6, 42, 180, 2, 80]
abbrev dktX10_play_9 : List UInt8 := dkwX10_play_9 ++ dktX10_play_10
def dkwX10_play_8 : List UInt8 := [21, 7, 154, 1, 36, 42, 4, 27, 42, 180, 0, 55, 21, 6, 46, 122, 4, 126, 100, 182, 2, 89]
abbrev dktX10_play_8 : List UInt8 := dkwX10_play_8 ++ dktX10_play_9
def dkwX10_play_7 : List UInt8 := [46, 167, 0, 14, 27, 42, 180, 0, 55, 21, 6, 46, 122, 4, 126, 182, 2, 89, 21, 5, 153, 1, 41]
abbrev dktX10_play_7 : List UInt8 := dkwX10_play_7 ++ dktX10_play_8
def dkwX10_play_6 : List UInt8 := [167, 0, 4, 3, 54, 5, 21, 5, 153, 0, 34, 42, 21, 7, 4, 160, 0, 13, 42, 180, 0, 55, 21, 6]
abbrev dktX10_play_6 : List UInt8 := dkwX10_play_6 ++ dktX10_play_7
def dkwX10_play_5 : List UInt8 := [160, 0, 96, 42, 180, 2, 80, 21, 7, 154, 0, 7, 5, 167, 0, 4, 4, 96, 16, 8, 163, 0, 7, 4]
abbrev dktX10_play_5 : List UInt8 := dkwX10_play_5 ++ dktX10_play_6
def dkwX10_play_4 : List UInt8 := [54, 7, 42, 89, 180, 2, 86, 4, 96, 181, 2, 86, 132, 4, 1, 21, 7, 153, 0, 9, 21, 7, 4]
abbrev dktX10_play_4 : List UInt8 := dkwX10_play_4 ++ dktX10_play_5
def dkwX10_play_3 : List UInt8 := [46, 162, 1, 157, 16, 52, 42, 180, 1, 53, 104, 21, 4, 96, 54, 6, 42, 180, 0, 52, 21, 6, 46]
abbrev dktX10_play_3 : List UInt8 := dkwX10_play_3 ++ dktX10_play_4
def dkwX10_play_2 : List UInt8 := [61, 3, 62, 3, 54, 4, 4, 54, 5, 21, 5, 153, 1, 171, 21, 4, 42, 180, 0, 24, 42, 180, 1, 53]
abbrev dktX10_play_2 : List UInt8 := dkwX10_play_2 ++ dktX10_play_3
def dkwX10_play_1 : List UInt8 := [181, 1, 65, 42, 2, 181, 2, 83, 42, 3, 181, 2, 86, 42, 3, 181, 2, 77, 42, 3, 181, 2, 80, 3]
abbrev dktX10_play_1 : List UInt8 := dkwX10_play_1 ++ dktX10_play_2
def dkwX10_play_0 : List UInt8 := [42, 27, 182, 1, 168, 154, 0, 5, 2, 172, 42, 180, 2, 28, 153, 0, 6, 16, 254, 172, 42, 4]
abbrev dktX10_play_0 : List UInt8 := dkwX10_play_0 ++ dktX10_play_1
theorem dksX10_play_0 : cX10_play.data.toList.drop 0 = dktX10_play_0 := by decide +kernel
theorem dksX10_play_1 : cX10_play.data.toList.drop 22 = dktX10_play_1 := dk_seg dksX10_play_0 22 rfl rfl
theorem dksX10_play_2 : cX10_play.data.toList.drop 46 = dktX10_play_2 := dk_seg dksX10_play_1 24 rfl rfl
theorem dksX10_play_3 : cX10_play.data.toList.drop 70 = dktX10_play_3 := dk_seg dksX10_play_2 24 rfl rfl
theorem dksX10_play_4 : cX10_play.data.toList.drop 93 = dktX10_play_4 := dk_seg dksX10_play_3 23 rfl rfl
theorem dksX10_play_5 : cX10_play.data.toList.drop 116 = dktX10_play_5 := dk_seg dksX10_play_4 23 rfl rfl
theorem dksX10_play_6 : cX10_play.data.toList.drop 140 = dktX10_play_6 := dk_seg dksX10_play_5 24 rfl rfl
theorem dksX10_play_7 : cX10_play.data.toList.drop 164 = dktX10_play_7 := dk_seg dksX10_play_6 24 rfl rfl
theorem dksX10_play_8 : cX10_play.data.toList.drop 187 = dktX10_play_8 := dk_seg dksX10_play_7 23 rfl rfl
theorem dksX10_play_9 : cX10_play.data.toList.drop 209 = dktX10_play_9 := dk_seg dksX10_play_8 22 rfl rfl
theorem dksX10_play_10 : cX10_play.data.toList.drop 232 = dktX10_play_10 := dk_seg dksX10_play_9 23 rfl rfl
theorem dksX10_play_11 : cX10_play.data.toList.drop 256 = dktX10_play_11 := dk_seg dksX10_play_10 24 rfl rfl
theorem dksX10_play_12 : cX10_play.data.toList.drop 280 = dktX10_play_12 := dk_seg dksX10_play_11 24 rfl rfl
theorem dksX10_play_13 : cX10_play.data.toList.drop 303 = dktX10_play_13 := dk_seg dksX10_play_12 23 rfl rfl
theorem dksX10_play_14 : cX10_play.data.toList.drop 325 = dktX10_play_14 := dk_seg dksX10_play_13 22 rfl rfl
theorem dksX10_play_15 : cX10_play.data.toList.drop 348 = dktX10_play_15 := dk_seg dksX10_play_14 23 rfl rfl
theorem dksX10_play_16 : cX10_play.data.toList.drop 371 = dktX10_play_16 := dk_seg dksX10_play_15 23 rfl rfl
theorem dksX10_play_17 : cX10_play.data.toList.drop 395 = dktX10_play_17 := dk_seg dksX10_play_16 24 rfl rfl
theorem dksX10_play_18 : cX10_play.data.toList.drop 418 = dktX10_play_18 := dk_seg dksX10_play_17 23 rfl rfl
theorem dksX10_play_19 : cX10_play.data.toList.drop 441 = dktX10_play_19 := dk_seg dksX10_play_18 23 rfl rfl
theorem dksX10_play_20 : cX10_play.data.toList.drop 465 = dktX10_play_20 := dk_seg dksX10_play_19 24 rfl rfl
theorem dksX10_play_21 : cX10_play.data.toList.drop 489 = dktX10_play_21 := dk_seg dksX10_play_20 24 rfl rfl
theorem dX10_play_0 : decode cX10_play 0 = .ok (.aload_n 0, 1) := dk_42 (dk_at dksX10_play_0 0 rfl rfl)
theorem dX10_play_1 : decode cX10_play 1 = .ok (.iload_n 1, 1) := dk_27 (dk_at dksX10_play_0 1 rfl rfl)
theorem dX10_play_2 : decode cX10_play 2 = .ok (.invokevirtual 424, 3) := dk_182 1 168 (dk_at dksX10_play_0 2 rfl rfl)
theorem dX10_play_5 : decode cX10_play 5 = .ok (.ifCond .ne 5, 3) := dk_154 0 5 (dk_at dksX10_play_0 5 rfl rfl)
theorem dX10_play_8 : decode cX10_play 8 = .ok (.iconst (-1), 1) := dk_2 (dk_at dksX10_play_0 8 rfl rfl)
theorem dX10_play_9 : decode cX10_play 9 = .ok (.ireturn, 1) := dk_172 (dk_at dksX10_play_0 9 rfl rfl)
theorem dX10_play_10 : decode cX10_play 10 = .ok (.aload_n 0, 1) := dk_42 (dk_at dksX10_play_0 10 rfl rfl)
theorem dX10_play_11 : decode cX10_play 11 = .ok (.getfield 540, 3) := dk_180 2 28 (dk_at dksX10_play_0 11 rfl rfl)
theorem dX10_play_14 : decode cX10_play 14 = .ok (.ifCond .eq 6, 3) := dk_153 0 6 (dk_at dksX10_play_0 14 rfl rfl)
theorem dX10_play_17 : decode cX10_play 17 = .ok (.bipush (-2), 2) := dk_16 254 (dk_at dksX10_play_0 17 rfl rfl)
theorem dX10_play_19 : decode cX10_play 19 = .ok (.ireturn, 1) := dk_172 (dk_at dksX10_play_0 19 rfl rfl)
theorem dX10_play_20 : decode cX10_play 20 = .ok (.aload_n 0, 1) := dk_42 (dk_at dksX10_play_0 20 rfl rfl)
theorem dX10_play_21 : decode cX10_play 21 = .ok (.iconst 1, 1) := dk_4 (dk_at dksX10_play_0 21 rfl rfl)
theorem dX10_play_22 : decode cX10_play 22 = .ok (.putfield 321, 3) := dk_181 1 65 (dk_at dksX10_play_1 0 rfl rfl)
theorem dX10_play_25 : decode cX10_play 25 = .ok (.aload_n 0, 1) := dk_42 (dk_at dksX10_play_1 3 rfl rfl)
theorem dX10_play_26 : decode cX10_play 26 = .ok (.iconst (-1), 1) := dk_2 (dk_at dksX10_play_1 4 rfl rfl)
theorem dX10_play_27 : decode cX10_play 27 = .ok (.putfield 595, 3) := dk_181 2 83 (dk_at dksX10_play_1 5 rfl rfl)
theorem dX10_play_30 : decode cX10_play 30 = .ok (.aload_n 0, 1) := dk_42 (dk_at dksX10_play_1 8 rfl rfl)
theorem dX10_play_31 : decode cX10_play 31 = .ok (.iconst 0, 1) := dk_3 (dk_at dksX10_play_1 9 rfl rfl)
theorem dX10_play_32 : decode cX10_play 32 = .ok (.putfield 598, 3) := dk_181 2 86 (dk_at dksX10_play_1 10 rfl rfl)
theorem dX10_play_35 : decode cX10_play 35 = .ok (.aload_n 0, 1) := dk_42 (dk_at dksX10_play_1 13 rfl rfl)
theorem dX10_play_36 : decode cX10_play 36 = .ok (.iconst 0, 1) := dk_3 (dk_at dksX10_play_1 14 rfl rfl)
theorem dX10_play_37 : decode cX10_play 37 = .ok (.putfield 589, 3) := dk_181 2 77 (dk_at dksX10_play_1 15 rfl rfl)
theorem dX10_play_40 : decode cX10_play 40 = .ok (.aload_n 0, 1) := dk_42 (dk_at dksX10_play_1 18 rfl rfl)
theorem dX10_play_41 : decode cX10_play 41 = .ok (.iconst 0, 1) := dk_3 (dk_at dksX10_play_1 19 rfl rfl)
theorem dX10_play_42 : decode cX10_play 42 = .ok (.putfield 592, 3) := dk_181 2 80 (dk_at dksX10_play_1 20 rfl rfl)
theorem dX10_play_45 : decode cX10_play 45 = .ok (.iconst 0, 1) := dk_3 (dk_at dksX10_play_1 23 rfl rfl)
theorem dX10_play_46 : decode cX10_play 46 = .ok (.istore_n 2, 1) := dk_61 (dk_at dksX10_play_2 0 rfl rfl)
theorem dX10_play_47 : decode cX10_play 47 = .ok (.iconst 0, 1) := dk_3 (dk_at dksX10_play_2 1 rfl rfl)
theorem dX10_play_48 : decode cX10_play 48 = .ok (.istore_n 3, 1) := dk_62 (dk_at dksX10_play_2 2 rfl rfl)
theorem dX10_play_49 : decode cX10_play 49 = .ok (.iconst 0, 1) := dk_3 (dk_at dksX10_play_2 3 rfl rfl)
theorem dX10_play_50 : decode cX10_play 50 = .ok (.istore 4, 2) := dk_54 4 (dk_at dksX10_play_2 4 rfl rfl)
theorem dX10_play_52 : decode cX10_play 52 = .ok (.iconst 1, 1) := dk_4 (dk_at dksX10_play_2 6 rfl rfl)
theorem dX10_play_53 : decode cX10_play 53 = .ok (.istore 5, 2) := dk_54 5 (dk_at dksX10_play_2 7 rfl rfl)
theorem dX10_play_55 : decode cX10_play 55 = .ok (.iload 5, 2) := dk_21 5 (dk_at dksX10_play_2 9 rfl rfl)
theorem dX10_play_57 : decode cX10_play 57 = .ok (.ifCond .eq 427, 3) := dk_153 1 171 (dk_at dksX10_play_2 11 rfl rfl)
theorem dX10_play_60 : decode cX10_play 60 = .ok (.iload 4, 2) := dk_21 4 (dk_at dksX10_play_2 14 rfl rfl)
theorem dX10_play_62 : decode cX10_play 62 = .ok (.aload_n 0, 1) := dk_42 (dk_at dksX10_play_2 16 rfl rfl)
theorem dX10_play_63 : decode cX10_play 63 = .ok (.getfield 24, 3) := dk_180 0 24 (dk_at dksX10_play_2 17 rfl rfl)
theorem dX10_play_66 : decode cX10_play 66 = .ok (.aload_n 0, 1) := dk_42 (dk_at dksX10_play_2 20 rfl rfl)
theorem dX10_play_67 : decode cX10_play 67 = .ok (.getfield 309, 3) := dk_180 1 53 (dk_at dksX10_play_2 21 rfl rfl)
theorem dX10_play_70 : decode cX10_play 70 = .ok (.iaload, 1) := dk_46 (dk_at dksX10_play_3 0 rfl rfl)
theorem dX10_play_71 : decode cX10_play 71 = .ok (.if_icmp .ge 413, 3) := dk_162 1 157 (dk_at dksX10_play_3 1 rfl rfl)
theorem dX10_play_74 : decode cX10_play 74 = .ok (.bipush 52, 2) := dk_16 52 (dk_at dksX10_play_3 4 rfl rfl)
theorem dX10_play_76 : decode cX10_play 76 = .ok (.aload_n 0, 1) := dk_42 (dk_at dksX10_play_3 6 rfl rfl)
theorem dX10_play_77 : decode cX10_play 77 = .ok (.getfield 309, 3) := dk_180 1 53 (dk_at dksX10_play_3 7 rfl rfl)
theorem dX10_play_80 : decode cX10_play 80 = .ok (.imul, 1) := dk_104 (dk_at dksX10_play_3 10 rfl rfl)
theorem dX10_play_81 : decode cX10_play 81 = .ok (.iload 4, 2) := dk_21 4 (dk_at dksX10_play_3 11 rfl rfl)
theorem dX10_play_83 : decode cX10_play 83 = .ok (.iadd, 1) := dk_96 (dk_at dksX10_play_3 13 rfl rfl)
theorem dX10_play_84 : decode cX10_play 84 = .ok (.istore 6, 2) := dk_54 6 (dk_at dksX10_play_3 14 rfl rfl)
theorem dX10_play_86 : decode cX10_play 86 = .ok (.aload_n 0, 1) := dk_42 (dk_at dksX10_play_3 16 rfl rfl)
theorem dX10_play_87 : decode cX10_play 87 = .ok (.getfield 52, 3) := dk_180 0 52 (dk_at dksX10_play_3 17 rfl rfl)
theorem dX10_play_90 : decode cX10_play 90 = .ok (.iload 6, 2) := dk_21 6 (dk_at dksX10_play_3 20 rfl rfl)
theorem dX10_play_92 : decode cX10_play 92 = .ok (.iaload, 1) := dk_46 (dk_at dksX10_play_3 22 rfl rfl)
theorem dX10_play_93 : decode cX10_play 93 = .ok (.istore 7, 2) := dk_54 7 (dk_at dksX10_play_4 0 rfl rfl)
theorem dX10_play_95 : decode cX10_play 95 = .ok (.aload_n 0, 1) := dk_42 (dk_at dksX10_play_4 2 rfl rfl)
theorem dX10_play_96 : decode cX10_play 96 = .ok (.dup, 1) := dk_89 (dk_at dksX10_play_4 3 rfl rfl)
theorem dX10_play_97 : decode cX10_play 97 = .ok (.getfield 598, 3) := dk_180 2 86 (dk_at dksX10_play_4 4 rfl rfl)
theorem dX10_play_100 : decode cX10_play 100 = .ok (.iconst 1, 1) := dk_4 (dk_at dksX10_play_4 7 rfl rfl)
theorem dX10_play_101 : decode cX10_play 101 = .ok (.iadd, 1) := dk_96 (dk_at dksX10_play_4 8 rfl rfl)
theorem dX10_play_102 : decode cX10_play 102 = .ok (.putfield 598, 3) := dk_181 2 86 (dk_at dksX10_play_4 9 rfl rfl)
theorem dX10_play_105 : decode cX10_play 105 = .ok (.iinc 4 1, 3) := dk_132 4 1 (dk_at dksX10_play_4 12 rfl rfl)
theorem dX10_play_108 : decode cX10_play 108 = .ok (.iload 7, 2) := dk_21 7 (dk_at dksX10_play_4 15 rfl rfl)
theorem dX10_play_110 : decode cX10_play 110 = .ok (.ifCond .eq 9, 3) := dk_153 0 9 (dk_at dksX10_play_4 17 rfl rfl)
theorem dX10_play_113 : decode cX10_play 113 = .ok (.iload 7, 2) := dk_21 7 (dk_at dksX10_play_4 20 rfl rfl)
theorem dX10_play_115 : decode cX10_play 115 = .ok (.iconst 1, 1) := dk_4 (dk_at dksX10_play_4 22 rfl rfl)
theorem dX10_play_116 : decode cX10_play 116 = .ok (.if_icmp .ne 96, 3) := dk_160 0 96 (dk_at dksX10_play_5 0 rfl rfl)
theorem dX10_play_119 : decode cX10_play 119 = .ok (.aload_n 0, 1) := dk_42 (dk_at dksX10_play_5 3 rfl rfl)
theorem dX10_play_120 : decode cX10_play 120 = .ok (.getfield 592, 3) := dk_180 2 80 (dk_at dksX10_play_5 4 rfl rfl)
theorem dX10_play_123 : decode cX10_play 123 = .ok (.iload 7, 2) := dk_21 7 (dk_at dksX10_play_5 7 rfl rfl)
theorem dX10_play_125 : decode cX10_play 125 = .ok (.ifCond .ne 7, 3) := dk_154 0 7 (dk_at dksX10_play_5 9 rfl rfl)
theorem dX10_play_128 : decode cX10_play 128 = .ok (.iconst 2, 1) := dk_5 (dk_at dksX10_play_5 12 rfl rfl)
theorem dX10_play_129 : decode cX10_play 129 = .ok (.goto 4, 3) := dk_167 0 4 (dk_at dksX10_play_5 13 rfl rfl)
theorem dX10_play_132 : decode cX10_play 132 = .ok (.iconst 1, 1) := dk_4 (dk_at dksX10_play_5 16 rfl rfl)
theorem dX10_play_133 : decode cX10_play 133 = .ok (.iadd, 1) := dk_96 (dk_at dksX10_play_5 17 rfl rfl)
theorem dX10_play_134 : decode cX10_play 134 = .ok (.bipush 8, 2) := dk_16 8 (dk_at dksX10_play_5 18 rfl rfl)
theorem dX10_play_136 : decode cX10_play 136 = .ok (.if_icmp .gt 7, 3) := dk_163 0 7 (dk_at dksX10_play_5 20 rfl rfl)
theorem dX10_play_139 : decode cX10_play 139 = .ok (.iconst 1, 1) := dk_4 (dk_at dksX10_play_5 23 rfl rfl)
theorem dX10_play_140 : decode cX10_play 140 = .ok (.goto 4, 3) := dk_167 0 4 (dk_at dksX10_play_6 0 rfl rfl)
theorem dX10_play_143 : decode cX10_play 143 = .ok (.iconst 0, 1) := dk_3 (dk_at dksX10_play_6 3 rfl rfl)
theorem dX10_play_144 : decode cX10_play 144 = .ok (.istore 5, 2) := dk_54 5 (dk_at dksX10_play_6 4 rfl rfl)
theorem dX10_play_146 : decode cX10_play 146 = .ok (.iload 5, 2) := dk_21 5 (dk_at dksX10_play_6 6 rfl rfl)
theorem dX10_play_148 : decode cX10_play 148 = .ok (.ifCond .eq 34, 3) := dk_153 0 34 (dk_at dksX10_play_6 8 rfl rfl)
theorem dX10_play_151 : decode cX10_play 151 = .ok (.aload_n 0, 1) := dk_42 (dk_at dksX10_play_6 11 rfl rfl)
theorem dX10_play_152 : decode cX10_play 152 = .ok (.iload 7, 2) := dk_21 7 (dk_at dksX10_play_6 12 rfl rfl)
theorem dX10_play_154 : decode cX10_play 154 = .ok (.iconst 1, 1) := dk_4 (dk_at dksX10_play_6 14 rfl rfl)
theorem dX10_play_155 : decode cX10_play 155 = .ok (.if_icmp .ne 13, 3) := dk_160 0 13 (dk_at dksX10_play_6 15 rfl rfl)
theorem dX10_play_158 : decode cX10_play 158 = .ok (.aload_n 0, 1) := dk_42 (dk_at dksX10_play_6 18 rfl rfl)
theorem dX10_play_159 : decode cX10_play 159 = .ok (.getfield 55, 3) := dk_180 0 55 (dk_at dksX10_play_6 19 rfl rfl)
theorem dX10_play_162 : decode cX10_play 162 = .ok (.iload 6, 2) := dk_21 6 (dk_at dksX10_play_6 22 rfl rfl)
theorem dX10_play_164 : decode cX10_play 164 = .ok (.iaload, 1) := dk_46 (dk_at dksX10_play_7 0 rfl rfl)
theorem dX10_play_165 : decode cX10_play 165 = .ok (.goto 14, 3) := dk_167 0 14 (dk_at dksX10_play_7 1 rfl rfl)
theorem dX10_play_168 : decode cX10_play 168 = .ok (.iload_n 1, 1) := dk_27 (dk_at dksX10_play_7 4 rfl rfl)
theorem dX10_play_169 : decode cX10_play 169 = .ok (.aload_n 0, 1) := dk_42 (dk_at dksX10_play_7 5 rfl rfl)
theorem dX10_play_170 : decode cX10_play 170 = .ok (.getfield 55, 3) := dk_180 0 55 (dk_at dksX10_play_7 6 rfl rfl)
theorem dX10_play_173 : decode cX10_play 173 = .ok (.iload 6, 2) := dk_21 6 (dk_at dksX10_play_7 9 rfl rfl)
theorem dX10_play_175 : decode cX10_play 175 = .ok (.iaload, 1) := dk_46 (dk_at dksX10_play_7 11 rfl rfl)
theorem dX10_play_176 : decode cX10_play 176 = .ok (.ishr, 1) := dk_122 (dk_at dksX10_play_7 12 rfl rfl)
theorem dX10_play_177 : decode cX10_play 177 = .ok (.iconst 1, 1) := dk_4 (dk_at dksX10_play_7 13 rfl rfl)
theorem dX10_play_178 : decode cX10_play 178 = .ok (.iand, 1) := dk_126 (dk_at dksX10_play_7 14 rfl rfl)
theorem dX10_play_179 : decode cX10_play 179 = .ok (.invokevirtual 601, 3) := dk_182 2 89 (dk_at dksX10_play_7 15 rfl rfl)
theorem dX10_play_182 : decode cX10_play 182 = .ok (.iload 5, 2) := dk_21 5 (dk_at dksX10_play_7 18 rfl rfl)
theorem dX10_play_184 : decode cX10_play 184 = .ok (.ifCond .eq 297, 3) := dk_153 1 41 (dk_at dksX10_play_7 20 rfl rfl)
theorem dX10_play_187 : decode cX10_play 187 = .ok (.iload 7, 2) := dk_21 7 (dk_at dksX10_play_8 0 rfl rfl)
theorem dX10_play_189 : decode cX10_play 189 = .ok (.ifCond .ne 292, 3) := dk_154 1 36 (dk_at dksX10_play_8 2 rfl rfl)
theorem dX10_play_192 : decode cX10_play 192 = .ok (.aload_n 0, 1) := dk_42 (dk_at dksX10_play_8 5 rfl rfl)
theorem dX10_play_193 : decode cX10_play 193 = .ok (.iconst 1, 1) := dk_4 (dk_at dksX10_play_8 6 rfl rfl)
theorem dX10_play_194 : decode cX10_play 194 = .ok (.iload_n 1, 1) := dk_27 (dk_at dksX10_play_8 7 rfl rfl)
theorem dX10_play_195 : decode cX10_play 195 = .ok (.aload_n 0, 1) := dk_42 (dk_at dksX10_play_8 8 rfl rfl)
theorem dX10_play_196 : decode cX10_play 196 = .ok (.getfield 55, 3) := dk_180 0 55 (dk_at dksX10_play_8 9 rfl rfl)
theorem dX10_play_199 : decode cX10_play 199 = .ok (.iload 6, 2) := dk_21 6 (dk_at dksX10_play_8 12 rfl rfl)
theorem dX10_play_201 : decode cX10_play 201 = .ok (.iaload, 1) := dk_46 (dk_at dksX10_play_8 14 rfl rfl)
theorem dX10_play_202 : decode cX10_play 202 = .ok (.ishr, 1) := dk_122 (dk_at dksX10_play_8 15 rfl rfl)
theorem dX10_play_203 : decode cX10_play 203 = .ok (.iconst 1, 1) := dk_4 (dk_at dksX10_play_8 16 rfl rfl)
theorem dX10_play_204 : decode cX10_play 204 = .ok (.iand, 1) := dk_126 (dk_at dksX10_play_8 17 rfl rfl)
theorem dX10_play_205 : decode cX10_play 205 = .ok (.isub, 1) := dk_100 (dk_at dksX10_play_8 18 rfl rfl)
theorem dX10_play_206 : decode cX10_play 206 = .ok (.invokevirtual 601, 3) := dk_182 2 89 (dk_at dksX10_play_8 19 rfl rfl)
theorem dX10_play_209 : decode cX10_play 209 = .ok (.goto 272, 3) := dk_167 1 16 (dk_at dksX10_play_9 0 rfl rfl)
theorem dX10_play_212 : decode cX10_play 212 = .ok (.iload 7, 2) := dk_21 7 (dk_at dksX10_play_9 3 rfl rfl)
theorem dX10_play_214 : decode cX10_play 214 = .ok (.iconst 2, 1) := dk_5 (dk_at dksX10_play_9 5 rfl rfl)
theorem dX10_play_215 : decode cX10_play 215 = .ok (.if_icmp .lt 71, 3) := dk_161 0 71 (dk_at dksX10_play_9 6 rfl rfl)
theorem dX10_play_218 : decode cX10_play 218 = .ok (.iload 7, 2) := dk_21 7 (dk_at dksX10_play_9 9 rfl rfl)
theorem dX10_play_220 : decode cX10_play 220 = .ok (.bipush 7, 2) := dk_16 7 (dk_at dksX10_play_9 11 rfl rfl)
theorem dX10_play_222 : decode cX10_play 222 = .ok (.if_icmp .gt 64, 3) := dk_163 0 64 (dk_at dksX10_play_9 13 rfl rfl)
theorem dX10_play_225 : decode cX10_play 225 = .ok (.aload_n 0, 1) := dk_42 (dk_at dksX10_play_9 16 rfl rfl)
theorem dX10_play_226 : decode cX10_play 226 = .ok (.iload 6, 2) := dk_21 6 (dk_at dksX10_play_9 17 rfl rfl)
theorem dX10_play_228 : decode cX10_play 228 = .ok (.aload_n 0, 1) := dk_42 (dk_at dksX10_play_9 19 rfl rfl)
theorem dX10_play_229 : decode cX10_play 229 = .ok (.getfield 592, 3) := dk_180 2 80 (dk_at dksX10_play_9 20 rfl rfl)
theorem dX10_play_232 : decode cX10_play 232 = .ok (.invokevirtual 475, 3) := dk_182 1 219 (dk_at dksX10_play_10 0 rfl rfl)
theorem dX10_play_235 : decode cX10_play 235 = .ok (.istore 5, 2) := dk_54 5 (dk_at dksX10_play_10 3 rfl rfl)
theorem dX10_play_237 : decode cX10_play 237 = .ok (.iload 5, 2) := dk_21 5 (dk_at dksX10_play_10 5 rfl rfl)
theorem dX10_play_239 : decode cX10_play 239 = .ok (.ifCond .ne 6, 3) := dk_154 0 6 (dk_at dksX10_play_10 7 rfl rfl)
theorem dX10_play_242 : decode cX10_play 242 = .ok (.goto (-187), 3) := dk_167 255 69 (dk_at dksX10_play_10 10 rfl rfl)
theorem dX10_play_245 : decode cX10_play 245 = .ok (.aload_n 0, 1) := dk_42 (dk_at dksX10_play_10 13 rfl rfl)
theorem dX10_play_246 : decode cX10_play 246 = .ok (.iload 6, 2) := dk_21 6 (dk_at dksX10_play_10 14 rfl rfl)
theorem dX10_play_248 : decode cX10_play 248 = .ok (.iload 7, 2) := dk_21 7 (dk_at dksX10_play_10 16 rfl rfl)
theorem dX10_play_250 : decode cX10_play 250 = .ok (.iconst 4, 1) := dk_7 (dk_at dksX10_play_10 18 rfl rfl)
theorem dX10_play_251 : decode cX10_play 251 = .ok (.if_icmp .lt 16, 3) := dk_161 0 16 (dk_at dksX10_play_10 19 rfl rfl)
theorem dX10_play_254 : decode cX10_play 254 = .ok (.aload_n 0, 1) := dk_42 (dk_at dksX10_play_10 22 rfl rfl)
theorem dX10_play_255 : decode cX10_play 255 = .ok (.aload_n 0, 1) := dk_42 (dk_at dksX10_play_10 23 rfl rfl)
theorem dX10_play_256 : decode cX10_play 256 = .ok (.iload 6, 2) := dk_21 6 (dk_at dksX10_play_11 0 rfl rfl)
theorem dX10_play_258 : decode cX10_play 258 = .ok (.invokevirtual 441, 3) := dk_182 1 185 (dk_at dksX10_play_11 2 rfl rfl)
theorem dX10_play_261 : decode cX10_play 261 = .ok (.invokevirtual 604, 3) := dk_182 2 92 (dk_at dksX10_play_11 5 rfl rfl)
theorem dX10_play_264 : decode cX10_play 264 = .ok (.goto 4, 3) := dk_167 0 4 (dk_at dksX10_play_11 8 rfl rfl)
theorem dX10_play_267 : decode cX10_play 267 = .ok (.iconst 0, 1) := dk_3 (dk_at dksX10_play_11 11 rfl rfl)
theorem dX10_play_268 : decode cX10_play 268 = .ok (.invokevirtual 444, 3) := dk_182 1 188 (dk_at dksX10_play_11 12 rfl rfl)
theorem dX10_play_271 : decode cX10_play 271 = .ok (.aload_n 0, 1) := dk_42 (dk_at dksX10_play_11 15 rfl rfl)
theorem dX10_play_272 : decode cX10_play 272 = .ok (.aload_n 0, 1) := dk_42 (dk_at dksX10_play_11 16 rfl rfl)
theorem dX10_play_273 : decode cX10_play 273 = .ok (.aload_n 0, 1) := dk_42 (dk_at dksX10_play_11 17 rfl rfl)
theorem dX10_play_274 : decode cX10_play 274 = .ok (.getfield 589, 3) := dk_180 2 77 (dk_at dksX10_play_11 18 rfl rfl)
theorem dX10_play_277 : decode cX10_play 277 = .ok (.invokevirtual 435, 3) := dk_182 1 179 (dk_at dksX10_play_11 21 rfl rfl)
theorem dX10_play_280 : decode cX10_play 280 = .ok (.putfield 589, 3) := dk_181 2 77 (dk_at dksX10_play_12 0 rfl rfl)
theorem dX10_play_283 : decode cX10_play 283 = .ok (.goto 198, 3) := dk_167 0 198 (dk_at dksX10_play_12 3 rfl rfl)
theorem dX10_play_286 : decode cX10_play 286 = .ok (.iload 7, 2) := dk_21 7 (dk_at dksX10_play_12 6 rfl rfl)
theorem dX10_play_288 : decode cX10_play 288 = .ok (.bipush 8, 2) := dk_16 8 (dk_at dksX10_play_12 8 rfl rfl)
theorem dX10_play_290 : decode cX10_play 290 = .ok (.if_icmp .ne 118, 3) := dk_160 0 118 (dk_at dksX10_play_12 10 rfl rfl)
theorem dX10_play_293 : decode cX10_play 293 = .ok (.aload_n 0, 1) := dk_42 (dk_at dksX10_play_12 13 rfl rfl)
theorem dX10_play_294 : decode cX10_play 294 = .ok (.iload 6, 2) := dk_21 6 (dk_at dksX10_play_12 14 rfl rfl)
theorem dX10_play_296 : decode cX10_play 296 = .ok (.aload_n 0, 1) := dk_42 (dk_at dksX10_play_12 16 rfl rfl)
theorem dX10_play_297 : decode cX10_play 297 = .ok (.getfield 592, 3) := dk_180 2 80 (dk_at dksX10_play_12 17 rfl rfl)
theorem dX10_play_300 : decode cX10_play 300 = .ok (.invokevirtual 475, 3) := dk_182 1 219 (dk_at dksX10_play_12 20 rfl rfl)
theorem dX10_play_303 : decode cX10_play 303 = .ok (.istore 5, 2) := dk_54 5 (dk_at dksX10_play_13 0 rfl rfl)
theorem dX10_play_305 : decode cX10_play 305 = .ok (.iload 5, 2) := dk_21 5 (dk_at dksX10_play_13 2 rfl rfl)
theorem dX10_play_307 : decode cX10_play 307 = .ok (.ifCond .ne 6, 3) := dk_154 0 6 (dk_at dksX10_play_13 4 rfl rfl)
theorem dX10_play_310 : decode cX10_play 310 = .ok (.goto (-255), 3) := dk_167 255 1 (dk_at dksX10_play_13 7 rfl rfl)
theorem dX10_play_313 : decode cX10_play 313 = .ok (.aload_n 0, 1) := dk_42 (dk_at dksX10_play_13 10 rfl rfl)
theorem dX10_play_314 : decode cX10_play 314 = .ok (.getfield 150, 3) := dk_180 0 150 (dk_at dksX10_play_13 11 rfl rfl)
theorem dX10_play_317 : decode cX10_play 317 = .ok (.iload_n 3, 1) := dk_29 (dk_at dksX10_play_13 14 rfl rfl)
theorem dX10_play_318 : decode cX10_play 318 = .ok (.aload_n 0, 1) := dk_42 (dk_at dksX10_play_13 15 rfl rfl)
theorem dX10_play_319 : decode cX10_play 319 = .ok (.iload 6, 2) := dk_21 6 (dk_at dksX10_play_13 16 rfl rfl)
theorem dX10_play_321 : decode cX10_play 321 = .ok (.aload_n 0, 1) := dk_42 (dk_at dksX10_play_13 18 rfl rfl)
theorem dX10_play_322 : decode cX10_play 322 = .ok (.getfield 589, 3) := dk_180 2 77 (dk_at dksX10_play_13 19 rfl rfl)
theorem dX10_play_325 : decode cX10_play 325 = .ok (.invokevirtual 497, 3) := dk_182 1 241 (dk_at dksX10_play_14 0 rfl rfl)
theorem dX10_play_328 : decode cX10_play 328 = .ok (.iastore, 1) := dk_79 (dk_at dksX10_play_14 3 rfl rfl)
theorem dX10_play_329 : decode cX10_play 329 = .ok (.iconst 0, 1) := dk_3 (dk_at dksX10_play_14 4 rfl rfl)
theorem dX10_play_330 : decode cX10_play 330 = .ok (.istore 8, 2) := dk_54 8 (dk_at dksX10_play_14 5 rfl rfl)
theorem dX10_play_332 : decode cX10_play 332 = .ok (.iload 8, 2) := dk_21 8 (dk_at dksX10_play_14 7 rfl rfl)
theorem dX10_play_334 : decode cX10_play 334 = .ok (.aload_n 0, 1) := dk_42 (dk_at dksX10_play_14 9 rfl rfl)
theorem dX10_play_335 : decode cX10_play 335 = .ok (.getfield 64, 3) := dk_180 0 64 (dk_at dksX10_play_14 10 rfl rfl)
theorem dX10_play_338 : decode cX10_play 338 = .ok (.iload 6, 2) := dk_21 6 (dk_at dksX10_play_14 13 rfl rfl)
theorem dX10_play_340 : decode cX10_play 340 = .ok (.iaload, 1) := dk_46 (dk_at dksX10_play_14 15 rfl rfl)
theorem dX10_play_341 : decode cX10_play 341 = .ok (.if_icmp .ge 61, 3) := dk_162 0 61 (dk_at dksX10_play_14 16 rfl rfl)
theorem dX10_play_344 : decode cX10_play 344 = .ok (.iload_n 2, 1) := dk_28 (dk_at dksX10_play_14 19 rfl rfl)
theorem dX10_play_345 : decode cX10_play 345 = .ok (.iconst 3, 1) := dk_6 (dk_at dksX10_play_14 20 rfl rfl)
theorem dX10_play_346 : decode cX10_play 346 = .ok (.iconst 2, 1) := dk_5 (dk_at dksX10_play_14 21 rfl rfl)
theorem dX10_play_347 : decode cX10_play 347 = .ok (.aload_n 0, 1) := dk_42 (dk_at dksX10_play_14 22 rfl rfl)
theorem dX10_play_348 : decode cX10_play 348 = .ok (.getfield 67, 3) := dk_180 0 67 (dk_at dksX10_play_15 0 rfl rfl)
theorem dX10_play_351 : decode cX10_play 351 = .ok (.bipush 8, 2) := dk_16 8 (dk_at dksX10_play_15 3 rfl rfl)
theorem dX10_play_353 : decode cX10_play 353 = .ok (.iload 6, 2) := dk_21 6 (dk_at dksX10_play_15 5 rfl rfl)
theorem dX10_play_355 : decode cX10_play 355 = .ok (.imul, 1) := dk_104 (dk_at dksX10_play_15 7 rfl rfl)
theorem dX10_play_356 : decode cX10_play 356 = .ok (.iload 8, 2) := dk_21 8 (dk_at dksX10_play_15 8 rfl rfl)
theorem dX10_play_358 : decode cX10_play 358 = .ok (.iadd, 1) := dk_96 (dk_at dksX10_play_15 10 rfl rfl)
theorem dX10_play_359 : decode cX10_play 359 = .ok (.iaload, 1) := dk_46 (dk_at dksX10_play_15 11 rfl rfl)
theorem dX10_play_360 : decode cX10_play 360 = .ok (.imul, 1) := dk_104 (dk_at dksX10_play_15 12 rfl rfl)
theorem dX10_play_361 : decode cX10_play 361 = .ok (.ishl, 1) := dk_120 (dk_at dksX10_play_15 13 rfl rfl)
theorem dX10_play_362 : decode cX10_play 362 = .ok (.iconst (-1), 1) := dk_2 (dk_at dksX10_play_15 14 rfl rfl)
theorem dX10_play_363 : decode cX10_play 363 = .ok (.ixor, 1) := dk_130 (dk_at dksX10_play_15 15 rfl rfl)
theorem dX10_play_364 : decode cX10_play 364 = .ok (.iand, 1) := dk_126 (dk_at dksX10_play_15 16 rfl rfl)
theorem dX10_play_365 : decode cX10_play 365 = .ok (.aload_n 0, 1) := dk_42 (dk_at dksX10_play_15 17 rfl rfl)
theorem dX10_play_366 : decode cX10_play 366 = .ok (.getfield 150, 3) := dk_180 0 150 (dk_at dksX10_play_15 18 rfl rfl)
theorem dX10_play_369 : decode cX10_play 369 = .ok (.iload_n 3, 1) := dk_29 (dk_at dksX10_play_15 21 rfl rfl)
theorem dX10_play_370 : decode cX10_play 370 = .ok (.iaload, 1) := dk_46 (dk_at dksX10_play_15 22 rfl rfl)
theorem dX10_play_371 : decode cX10_play 371 = .ok (.iload 8, 2) := dk_21 8 (dk_at dksX10_play_16 0 rfl rfl)
theorem dX10_play_373 : decode cX10_play 373 = .ok (.ishr, 1) := dk_122 (dk_at dksX10_play_16 2 rfl rfl)
theorem dX10_play_374 : decode cX10_play 374 = .ok (.iconst 1, 1) := dk_4 (dk_at dksX10_play_16 3 rfl rfl)
theorem dX10_play_375 : decode cX10_play 375 = .ok (.iand, 1) := dk_126 (dk_at dksX10_play_16 4 rfl rfl)
theorem dX10_play_376 : decode cX10_play 376 = .ok (.iconst 1, 1) := dk_4 (dk_at dksX10_play_16 5 rfl rfl)
theorem dX10_play_377 : decode cX10_play 377 = .ok (.iadd, 1) := dk_96 (dk_at dksX10_play_16 6 rfl rfl)
theorem dX10_play_378 : decode cX10_play 378 = .ok (.iconst 2, 1) := dk_5 (dk_at dksX10_play_16 7 rfl rfl)
theorem dX10_play_379 : decode cX10_play 379 = .ok (.aload_n 0, 1) := dk_42 (dk_at dksX10_play_16 8 rfl rfl)
theorem dX10_play_380 : decode cX10_play 380 = .ok (.getfield 67, 3) := dk_180 0 67 (dk_at dksX10_play_16 9 rfl rfl)
theorem dX10_play_383 : decode cX10_play 383 = .ok (.bipush 8, 2) := dk_16 8 (dk_at dksX10_play_16 12 rfl rfl)
theorem dX10_play_385 : decode cX10_play 385 = .ok (.iload 6, 2) := dk_21 6 (dk_at dksX10_play_16 14 rfl rfl)
theorem dX10_play_387 : decode cX10_play 387 = .ok (.imul, 1) := dk_104 (dk_at dksX10_play_16 16 rfl rfl)
theorem dX10_play_388 : decode cX10_play 388 = .ok (.iload 8, 2) := dk_21 8 (dk_at dksX10_play_16 17 rfl rfl)
theorem dX10_play_390 : decode cX10_play 390 = .ok (.iadd, 1) := dk_96 (dk_at dksX10_play_16 19 rfl rfl)
theorem dX10_play_391 : decode cX10_play 391 = .ok (.iaload, 1) := dk_46 (dk_at dksX10_play_16 20 rfl rfl)
theorem dX10_play_392 : decode cX10_play 392 = .ok (.imul, 1) := dk_104 (dk_at dksX10_play_16 21 rfl rfl)
theorem dX10_play_393 : decode cX10_play 393 = .ok (.ishl, 1) := dk_120 (dk_at dksX10_play_16 22 rfl rfl)
theorem dX10_play_394 : decode cX10_play 394 = .ok (.ior, 1) := dk_128 (dk_at dksX10_play_16 23 rfl rfl)
theorem dX10_play_395 : decode cX10_play 395 = .ok (.istore_n 2, 1) := dk_61 (dk_at dksX10_play_17 0 rfl rfl)
theorem dX10_play_396 : decode cX10_play 396 = .ok (.iinc 8 1, 3) := dk_132 8 1 (dk_at dksX10_play_17 1 rfl rfl)
theorem dX10_play_399 : decode cX10_play 399 = .ok (.goto (-67), 3) := dk_167 255 189 (dk_at dksX10_play_17 4 rfl rfl)
theorem dX10_play_402 : decode cX10_play 402 = .ok (.iinc 3 1, 3) := dk_132 3 1 (dk_at dksX10_play_17 7 rfl rfl)
theorem dX10_play_405 : decode cX10_play 405 = .ok (.goto 76, 3) := dk_167 0 76 (dk_at dksX10_play_17 10 rfl rfl)
theorem dX10_play_408 : decode cX10_play 408 = .ok (.iload 7, 2) := dk_21 7 (dk_at dksX10_play_17 13 rfl rfl)
theorem dX10_play_410 : decode cX10_play 410 = .ok (.bipush 9, 2) := dk_16 9 (dk_at dksX10_play_17 15 rfl rfl)
theorem dX10_play_412 : decode cX10_play 412 = .ok (.if_icmp .ne 42, 3) := dk_160 0 42 (dk_at dksX10_play_17 17 rfl rfl)
theorem dX10_play_415 : decode cX10_play 415 = .ok (.iload_n 2, 1) := dk_28 (dk_at dksX10_play_17 20 rfl rfl)
theorem dX10_play_416 : decode cX10_play 416 = .ok (.iconst 2, 1) := dk_5 (dk_at dksX10_play_17 21 rfl rfl)
theorem dX10_play_417 : decode cX10_play 417 = .ok (.aload_n 0, 1) := dk_42 (dk_at dksX10_play_17 22 rfl rfl)
theorem dX10_play_418 : decode cX10_play 418 = .ok (.getfield 55, 3) := dk_180 0 55 (dk_at dksX10_play_18 0 rfl rfl)
theorem dX10_play_421 : decode cX10_play 421 = .ok (.iload 6, 2) := dk_21 6 (dk_at dksX10_play_18 3 rfl rfl)
theorem dX10_play_423 : decode cX10_play 423 = .ok (.iaload, 1) := dk_46 (dk_at dksX10_play_18 5 rfl rfl)
theorem dX10_play_424 : decode cX10_play 424 = .ok (.imul, 1) := dk_104 (dk_at dksX10_play_18 6 rfl rfl)
theorem dX10_play_425 : decode cX10_play 425 = .ok (.ishr, 1) := dk_122 (dk_at dksX10_play_18 7 rfl rfl)
theorem dX10_play_426 : decode cX10_play 426 = .ok (.iconst 3, 1) := dk_6 (dk_at dksX10_play_18 8 rfl rfl)
theorem dX10_play_427 : decode cX10_play 427 = .ok (.iand, 1) := dk_126 (dk_at dksX10_play_18 9 rfl rfl)
theorem dX10_play_428 : decode cX10_play 428 = .ok (.aload_n 0, 1) := dk_42 (dk_at dksX10_play_18 10 rfl rfl)
theorem dX10_play_429 : decode cX10_play 429 = .ok (.getfield 58, 3) := dk_180 0 58 (dk_at dksX10_play_18 11 rfl rfl)
theorem dX10_play_432 : decode cX10_play 432 = .ok (.iload 6, 2) := dk_21 6 (dk_at dksX10_play_18 14 rfl rfl)
theorem dX10_play_434 : decode cX10_play 434 = .ok (.iaload, 1) := dk_46 (dk_at dksX10_play_18 16 rfl rfl)
theorem dX10_play_435 : decode cX10_play 435 = .ok (.iconst 1, 1) := dk_4 (dk_at dksX10_play_18 17 rfl rfl)
theorem dX10_play_436 : decode cX10_play 436 = .ok (.iadd, 1) := dk_96 (dk_at dksX10_play_18 18 rfl rfl)
theorem dX10_play_437 : decode cX10_play 437 = .ok (.if_icmp .ne 44, 3) := dk_160 0 44 (dk_at dksX10_play_18 19 rfl rfl)
theorem dX10_play_440 : decode cX10_play 440 = .ok (.aload_n 0, 1) := dk_42 (dk_at dksX10_play_18 22 rfl rfl)
theorem dX10_play_441 : decode cX10_play 441 = .ok (.getfield 61, 3) := dk_180 0 61 (dk_at dksX10_play_19 0 rfl rfl)
theorem dX10_play_444 : decode cX10_play 444 = .ok (.iload 6, 2) := dk_21 6 (dk_at dksX10_play_19 3 rfl rfl)
theorem dX10_play_446 : decode cX10_play 446 = .ok (.iaload, 1) := dk_46 (dk_at dksX10_play_19 5 rfl rfl)
theorem dX10_play_447 : decode cX10_play 447 = .ok (.iconst 1, 1) := dk_4 (dk_at dksX10_play_19 6 rfl rfl)
theorem dX10_play_448 : decode cX10_play 448 = .ok (.iadd, 1) := dk_96 (dk_at dksX10_play_19 7 rfl rfl)
theorem dX10_play_449 : decode cX10_play 449 = .ok (.istore 4, 2) := dk_54 4 (dk_at dksX10_play_19 8 rfl rfl)
theorem dX10_play_451 : decode cX10_play 451 = .ok (.goto 30, 3) := dk_167 0 30 (dk_at dksX10_play_19 10 rfl rfl)
theorem dX10_play_454 : decode cX10_play 454 = .ok (.iload 7, 2) := dk_21 7 (dk_at dksX10_play_19 13 rfl rfl)
theorem dX10_play_456 : decode cX10_play 456 = .ok (.bipush 11, 2) := dk_16 11 (dk_at dksX10_play_19 15 rfl rfl)
theorem dX10_play_458 : decode cX10_play 458 = .ok (.if_icmp .eq 10, 3) := dk_159 0 10 (dk_at dksX10_play_19 17 rfl rfl)
theorem dX10_play_461 : decode cX10_play 461 = .ok (.iload 7, 2) := dk_21 7 (dk_at dksX10_play_19 20 rfl rfl)
theorem dX10_play_463 : decode cX10_play 463 = .ok (.bipush 12, 2) := dk_16 12 (dk_at dksX10_play_19 22 rfl rfl)
theorem dX10_play_465 : decode cX10_play 465 = .ok (.if_icmp .ne 16, 3) := dk_160 0 16 (dk_at dksX10_play_20 0 rfl rfl)
theorem dX10_play_468 : decode cX10_play 468 = .ok (.iconst 0, 1) := dk_3 (dk_at dksX10_play_20 3 rfl rfl)
theorem dX10_play_469 : decode cX10_play 469 = .ok (.istore 5, 2) := dk_54 5 (dk_at dksX10_play_20 4 rfl rfl)
theorem dX10_play_471 : decode cX10_play 471 = .ok (.aload_n 0, 1) := dk_42 (dk_at dksX10_play_20 6 rfl rfl)
theorem dX10_play_472 : decode cX10_play 472 = .ok (.aload_n 0, 1) := dk_42 (dk_at dksX10_play_20 7 rfl rfl)
theorem dX10_play_473 : decode cX10_play 473 = .ok (.iload 6, 2) := dk_21 6 (dk_at dksX10_play_20 8 rfl rfl)
theorem dX10_play_475 : decode cX10_play 475 = .ok (.invokevirtual 607, 3) := dk_182 2 95 (dk_at dksX10_play_20 10 rfl rfl)
theorem dX10_play_478 : decode cX10_play 478 = .ok (.putfield 595, 3) := dk_181 2 83 (dk_at dksX10_play_20 13 rfl rfl)
theorem dX10_play_481 : decode cX10_play 481 = .ok (.goto (-426), 3) := dk_167 254 86 (dk_at dksX10_play_20 16 rfl rfl)
theorem dX10_play_484 : decode cX10_play 484 = .ok (.aload_n 0, 1) := dk_42 (dk_at dksX10_play_20 19 rfl rfl)
theorem dX10_play_485 : decode cX10_play 485 = .ok (.iload_n 3, 1) := dk_29 (dk_at dksX10_play_20 20 rfl rfl)
theorem dX10_play_486 : decode cX10_play 486 = .ok (.invokevirtual 610, 3) := dk_182 2 98 (dk_at dksX10_play_20 21 rfl rfl)
theorem dX10_play_489 : decode cX10_play 489 = .ok (.ireturn, 1) := dk_172 (dk_at dksX10_play_21 0 rfl rfl)
abbrev cX10_cardComes : ByteArray := prog_32_method_97_code
def yX10_cardComes : MethodName := ⟨RX10, "cardComes", "(I)V"⟩
def dkwX10_cardComes_1 : List UInt8 := [181, 2, 80, 177]
abbrev dktX10_cardComes_1 : List UInt8 := dkwX10_cardComes_1 ++ []
def dkwX10_cardComes_0 : List UInt8 := [42, 89, 180, 2, 77, 27, 42, 180, 2, 80, 120, 128, 181, 2, 77, 42, 89, 180, 2, 80, 4, 96]
abbrev dktX10_cardComes_0 : List UInt8 := dkwX10_cardComes_0 ++ dktX10_cardComes_1
theorem dksX10_cardComes_0 : cX10_cardComes.data.toList.drop 0 = dktX10_cardComes_0 := by decide +kernel
theorem dksX10_cardComes_1 : cX10_cardComes.data.toList.drop 22 = dktX10_cardComes_1 := dk_seg dksX10_cardComes_0 22 rfl rfl
theorem dX10_cardComes_0 : decode cX10_cardComes 0 = .ok (.aload_n 0, 1) := dk_42 (dk_at dksX10_cardComes_0 0 rfl rfl)
theorem dX10_cardComes_1 : decode cX10_cardComes 1 = .ok (.dup, 1) := dk_89 (dk_at dksX10_cardComes_0 1 rfl rfl)
theorem dX10_cardComes_2 : decode cX10_cardComes 2 = .ok (.getfield 589, 3) := dk_180 2 77 (dk_at dksX10_cardComes_0 2 rfl rfl)
theorem dX10_cardComes_5 : decode cX10_cardComes 5 = .ok (.iload_n 1, 1) := dk_27 (dk_at dksX10_cardComes_0 5 rfl rfl)
theorem dX10_cardComes_6 : decode cX10_cardComes 6 = .ok (.aload_n 0, 1) := dk_42 (dk_at dksX10_cardComes_0 6 rfl rfl)
theorem dX10_cardComes_7 : decode cX10_cardComes 7 = .ok (.getfield 592, 3) := dk_180 2 80 (dk_at dksX10_cardComes_0 7 rfl rfl)
theorem dX10_cardComes_10 : decode cX10_cardComes 10 = .ok (.ishl, 1) := dk_120 (dk_at dksX10_cardComes_0 10 rfl rfl)
theorem dX10_cardComes_11 : decode cX10_cardComes 11 = .ok (.ior, 1) := dk_128 (dk_at dksX10_cardComes_0 11 rfl rfl)
theorem dX10_cardComes_12 : decode cX10_cardComes 12 = .ok (.putfield 589, 3) := dk_181 2 77 (dk_at dksX10_cardComes_0 12 rfl rfl)
theorem dX10_cardComes_15 : decode cX10_cardComes 15 = .ok (.aload_n 0, 1) := dk_42 (dk_at dksX10_cardComes_0 15 rfl rfl)
theorem dX10_cardComes_16 : decode cX10_cardComes 16 = .ok (.dup, 1) := dk_89 (dk_at dksX10_cardComes_0 16 rfl rfl)
theorem dX10_cardComes_17 : decode cX10_cardComes 17 = .ok (.getfield 592, 3) := dk_180 2 80 (dk_at dksX10_cardComes_0 17 rfl rfl)
theorem dX10_cardComes_20 : decode cX10_cardComes 20 = .ok (.iconst 1, 1) := dk_4 (dk_at dksX10_cardComes_0 20 rfl rfl)
theorem dX10_cardComes_21 : decode cX10_cardComes 21 = .ok (.iadd, 1) := dk_96 (dk_at dksX10_cardComes_0 21 rfl rfl)
theorem dX10_cardComes_22 : decode cX10_cardComes 22 = .ok (.putfield 592, 3) := dk_181 2 80 (dk_at dksX10_cardComes_1 0 rfl rfl)
theorem dX10_cardComes_25 : decode cX10_cardComes 25 = .ok (.return_, 1) := dk_177 (dk_at dksX10_cardComes_1 3 rfl rfl)
abbrev cX10_draw : ByteArray := prog_32_method_95_code
def yX10_draw : MethodName := ⟨RX10, "draw", "(I)I"⟩
def dkwX10_draw_1 : List UInt8 := [112, 172]
abbrev dktX10_draw_1 : List UInt8 := dkwX10_draw_1 ++ []
def dkwX10_draw_0 : List UInt8 := [42, 42, 180, 0, 147, 19, 2, 76, 104, 17, 48, 57, 96, 181, 0, 147, 42, 180, 0, 147, 16, 16, 124, 27]
abbrev dktX10_draw_0 : List UInt8 := dkwX10_draw_0 ++ dktX10_draw_1
theorem dksX10_draw_0 : cX10_draw.data.toList.drop 0 = dktX10_draw_0 := by decide +kernel
theorem dksX10_draw_1 : cX10_draw.data.toList.drop 24 = dktX10_draw_1 := dk_seg dksX10_draw_0 24 rfl rfl
theorem dX10_draw_0 : decode cX10_draw 0 = .ok (.aload_n 0, 1) := dk_42 (dk_at dksX10_draw_0 0 rfl rfl)
theorem dX10_draw_1 : decode cX10_draw 1 = .ok (.aload_n 0, 1) := dk_42 (dk_at dksX10_draw_0 1 rfl rfl)
theorem dX10_draw_2 : decode cX10_draw 2 = .ok (.getfield 147, 3) := dk_180 0 147 (dk_at dksX10_draw_0 2 rfl rfl)
theorem dX10_draw_5 : decode cX10_draw 5 = .ok (.ldc_w 588, 3) := dk_19 2 76 (dk_at dksX10_draw_0 5 rfl rfl)
theorem dX10_draw_8 : decode cX10_draw 8 = .ok (.imul, 1) := dk_104 (dk_at dksX10_draw_0 8 rfl rfl)
theorem dX10_draw_9 : decode cX10_draw 9 = .ok (.sipush 12345, 3) := dk_17 48 57 (dk_at dksX10_draw_0 9 rfl rfl)
theorem dX10_draw_12 : decode cX10_draw 12 = .ok (.iadd, 1) := dk_96 (dk_at dksX10_draw_0 12 rfl rfl)
theorem dX10_draw_13 : decode cX10_draw 13 = .ok (.putfield 147, 3) := dk_181 0 147 (dk_at dksX10_draw_0 13 rfl rfl)
theorem dX10_draw_16 : decode cX10_draw 16 = .ok (.aload_n 0, 1) := dk_42 (dk_at dksX10_draw_0 16 rfl rfl)
theorem dX10_draw_17 : decode cX10_draw 17 = .ok (.getfield 147, 3) := dk_180 0 147 (dk_at dksX10_draw_0 17 rfl rfl)
theorem dX10_draw_20 : decode cX10_draw 20 = .ok (.bipush 16, 2) := dk_16 16 (dk_at dksX10_draw_0 20 rfl rfl)
theorem dX10_draw_22 : decode cX10_draw 22 = .ok (.iushr, 1) := dk_124 (dk_at dksX10_draw_0 22 rfl rfl)
theorem dX10_draw_23 : decode cX10_draw 23 = .ok (.iload_n 1, 1) := dk_27 (dk_at dksX10_draw_0 23 rfl rfl)
theorem dX10_draw_24 : decode cX10_draw 24 = .ok (.irem, 1) := dk_112 (dk_at dksX10_draw_1 0 rfl rfl)
theorem dX10_draw_25 : decode cX10_draw 25 = .ok (.ireturn, 1) := dk_172 (dk_at dksX10_draw_1 1 rfl rfl)
abbrev cX10_answerOf : ByteArray := prog_32_method_99_code
def yX10_answerOf : MethodName := ⟨RX10, "answerOf", "(I)I"⟩
def dkwX10_answerOf_2 : List UInt8 := [180, 2, 77, 42, 180, 0, 58, 27, 46, 122, 4, 126, 160, 0, 7, 2, 167, 0, 4, 28, 172]
abbrev dktX10_answerOf_2 : List UInt8 := dkwX10_answerOf_2 ++ []
def dkwX10_answerOf_1 : List UInt8 := [182, 1, 219, 154, 0, 5, 2, 172, 42, 180, 2, 77, 42, 180, 0, 55, 27, 46, 122, 4, 126, 61, 28, 42]
abbrev dktX10_answerOf_1 : List UInt8 := dkwX10_answerOf_1 ++ dktX10_answerOf_2
def dkwX10_answerOf_0 : List UInt8 := [42, 180, 0, 52, 27, 46, 16, 12, 160, 0, 10, 42, 180, 0, 55, 27, 46, 172, 42, 27, 42, 180, 2, 80]
abbrev dktX10_answerOf_0 : List UInt8 := dkwX10_answerOf_0 ++ dktX10_answerOf_1
theorem dksX10_answerOf_0 : cX10_answerOf.data.toList.drop 0 = dktX10_answerOf_0 := by decide +kernel
theorem dksX10_answerOf_1 : cX10_answerOf.data.toList.drop 24 = dktX10_answerOf_1 := dk_seg dksX10_answerOf_0 24 rfl rfl
theorem dksX10_answerOf_2 : cX10_answerOf.data.toList.drop 48 = dktX10_answerOf_2 := dk_seg dksX10_answerOf_1 24 rfl rfl
theorem dX10_answerOf_0 : decode cX10_answerOf 0 = .ok (.aload_n 0, 1) := dk_42 (dk_at dksX10_answerOf_0 0 rfl rfl)
theorem dX10_answerOf_1 : decode cX10_answerOf 1 = .ok (.getfield 52, 3) := dk_180 0 52 (dk_at dksX10_answerOf_0 1 rfl rfl)
theorem dX10_answerOf_4 : decode cX10_answerOf 4 = .ok (.iload_n 1, 1) := dk_27 (dk_at dksX10_answerOf_0 4 rfl rfl)
theorem dX10_answerOf_5 : decode cX10_answerOf 5 = .ok (.iaload, 1) := dk_46 (dk_at dksX10_answerOf_0 5 rfl rfl)
theorem dX10_answerOf_6 : decode cX10_answerOf 6 = .ok (.bipush 12, 2) := dk_16 12 (dk_at dksX10_answerOf_0 6 rfl rfl)
theorem dX10_answerOf_8 : decode cX10_answerOf 8 = .ok (.if_icmp .ne 10, 3) := dk_160 0 10 (dk_at dksX10_answerOf_0 8 rfl rfl)
theorem dX10_answerOf_11 : decode cX10_answerOf 11 = .ok (.aload_n 0, 1) := dk_42 (dk_at dksX10_answerOf_0 11 rfl rfl)
theorem dX10_answerOf_12 : decode cX10_answerOf 12 = .ok (.getfield 55, 3) := dk_180 0 55 (dk_at dksX10_answerOf_0 12 rfl rfl)
theorem dX10_answerOf_15 : decode cX10_answerOf 15 = .ok (.iload_n 1, 1) := dk_27 (dk_at dksX10_answerOf_0 15 rfl rfl)
theorem dX10_answerOf_16 : decode cX10_answerOf 16 = .ok (.iaload, 1) := dk_46 (dk_at dksX10_answerOf_0 16 rfl rfl)
theorem dX10_answerOf_17 : decode cX10_answerOf 17 = .ok (.ireturn, 1) := dk_172 (dk_at dksX10_answerOf_0 17 rfl rfl)
theorem dX10_answerOf_18 : decode cX10_answerOf 18 = .ok (.aload_n 0, 1) := dk_42 (dk_at dksX10_answerOf_0 18 rfl rfl)
theorem dX10_answerOf_19 : decode cX10_answerOf 19 = .ok (.iload_n 1, 1) := dk_27 (dk_at dksX10_answerOf_0 19 rfl rfl)
theorem dX10_answerOf_20 : decode cX10_answerOf 20 = .ok (.aload_n 0, 1) := dk_42 (dk_at dksX10_answerOf_0 20 rfl rfl)
theorem dX10_answerOf_21 : decode cX10_answerOf 21 = .ok (.getfield 592, 3) := dk_180 2 80 (dk_at dksX10_answerOf_0 21 rfl rfl)
theorem dX10_answerOf_24 : decode cX10_answerOf 24 = .ok (.invokevirtual 475, 3) := dk_182 1 219 (dk_at dksX10_answerOf_1 0 rfl rfl)
theorem dX10_answerOf_27 : decode cX10_answerOf 27 = .ok (.ifCond .ne 5, 3) := dk_154 0 5 (dk_at dksX10_answerOf_1 3 rfl rfl)
theorem dX10_answerOf_30 : decode cX10_answerOf 30 = .ok (.iconst (-1), 1) := dk_2 (dk_at dksX10_answerOf_1 6 rfl rfl)
theorem dX10_answerOf_31 : decode cX10_answerOf 31 = .ok (.ireturn, 1) := dk_172 (dk_at dksX10_answerOf_1 7 rfl rfl)
theorem dX10_answerOf_32 : decode cX10_answerOf 32 = .ok (.aload_n 0, 1) := dk_42 (dk_at dksX10_answerOf_1 8 rfl rfl)
theorem dX10_answerOf_33 : decode cX10_answerOf 33 = .ok (.getfield 589, 3) := dk_180 2 77 (dk_at dksX10_answerOf_1 9 rfl rfl)
theorem dX10_answerOf_36 : decode cX10_answerOf 36 = .ok (.aload_n 0, 1) := dk_42 (dk_at dksX10_answerOf_1 12 rfl rfl)
theorem dX10_answerOf_37 : decode cX10_answerOf 37 = .ok (.getfield 55, 3) := dk_180 0 55 (dk_at dksX10_answerOf_1 13 rfl rfl)
theorem dX10_answerOf_40 : decode cX10_answerOf 40 = .ok (.iload_n 1, 1) := dk_27 (dk_at dksX10_answerOf_1 16 rfl rfl)
theorem dX10_answerOf_41 : decode cX10_answerOf 41 = .ok (.iaload, 1) := dk_46 (dk_at dksX10_answerOf_1 17 rfl rfl)
theorem dX10_answerOf_42 : decode cX10_answerOf 42 = .ok (.ishr, 1) := dk_122 (dk_at dksX10_answerOf_1 18 rfl rfl)
theorem dX10_answerOf_43 : decode cX10_answerOf 43 = .ok (.iconst 1, 1) := dk_4 (dk_at dksX10_answerOf_1 19 rfl rfl)
theorem dX10_answerOf_44 : decode cX10_answerOf 44 = .ok (.iand, 1) := dk_126 (dk_at dksX10_answerOf_1 20 rfl rfl)
theorem dX10_answerOf_45 : decode cX10_answerOf 45 = .ok (.istore_n 2, 1) := dk_61 (dk_at dksX10_answerOf_1 21 rfl rfl)
theorem dX10_answerOf_46 : decode cX10_answerOf 46 = .ok (.iload_n 2, 1) := dk_28 (dk_at dksX10_answerOf_1 22 rfl rfl)
theorem dX10_answerOf_47 : decode cX10_answerOf 47 = .ok (.aload_n 0, 1) := dk_42 (dk_at dksX10_answerOf_1 23 rfl rfl)
theorem dX10_answerOf_48 : decode cX10_answerOf 48 = .ok (.getfield 589, 3) := dk_180 2 77 (dk_at dksX10_answerOf_2 0 rfl rfl)
theorem dX10_answerOf_51 : decode cX10_answerOf 51 = .ok (.aload_n 0, 1) := dk_42 (dk_at dksX10_answerOf_2 3 rfl rfl)
theorem dX10_answerOf_52 : decode cX10_answerOf 52 = .ok (.getfield 58, 3) := dk_180 0 58 (dk_at dksX10_answerOf_2 4 rfl rfl)
theorem dX10_answerOf_55 : decode cX10_answerOf 55 = .ok (.iload_n 1, 1) := dk_27 (dk_at dksX10_answerOf_2 7 rfl rfl)
theorem dX10_answerOf_56 : decode cX10_answerOf 56 = .ok (.iaload, 1) := dk_46 (dk_at dksX10_answerOf_2 8 rfl rfl)
theorem dX10_answerOf_57 : decode cX10_answerOf 57 = .ok (.ishr, 1) := dk_122 (dk_at dksX10_answerOf_2 9 rfl rfl)
theorem dX10_answerOf_58 : decode cX10_answerOf 58 = .ok (.iconst 1, 1) := dk_4 (dk_at dksX10_answerOf_2 10 rfl rfl)
theorem dX10_answerOf_59 : decode cX10_answerOf 59 = .ok (.iand, 1) := dk_126 (dk_at dksX10_answerOf_2 11 rfl rfl)
theorem dX10_answerOf_60 : decode cX10_answerOf 60 = .ok (.if_icmp .ne 7, 3) := dk_160 0 7 (dk_at dksX10_answerOf_2 12 rfl rfl)
theorem dX10_answerOf_63 : decode cX10_answerOf 63 = .ok (.iconst (-1), 1) := dk_2 (dk_at dksX10_answerOf_2 15 rfl rfl)
theorem dX10_answerOf_64 : decode cX10_answerOf 64 = .ok (.goto 4, 3) := dk_167 0 4 (dk_at dksX10_answerOf_2 16 rfl rfl)
theorem dX10_answerOf_67 : decode cX10_answerOf 67 = .ok (.iload_n 2, 1) := dk_28 (dk_at dksX10_answerOf_2 19 rfl rfl)
theorem dX10_answerOf_68 : decode cX10_answerOf 68 = .ok (.ireturn, 1) := dk_172 (dk_at dksX10_answerOf_2 20 rfl rfl)
abbrev cX10_pathOf : ByteArray := prog_32_method_96_code
def yX10_pathOf : MethodName := ⟨RX10, "pathOf", "(I)I"⟩
def dkwX10_pathOf_3 : List UInt8 := [167, 255, 215, 29, 153, 0, 5, 28, 172, 132, 2, 1, 167, 255, 176, 2, 172]
abbrev dktX10_pathOf_3 : List UInt8 := dkwX10_pathOf_3 ++ []
def dkwX10_pathOf_2 : List UInt8 := [21, 4, 96, 46, 42, 180, 0, 150, 21, 4, 46, 160, 0, 7, 4, 167, 0, 4, 3, 62, 132, 4, 1]
abbrev dktX10_pathOf_2 : List UInt8 := dkwX10_pathOf_2 ++ dktX10_pathOf_3
def dkwX10_pathOf_1 : List UInt8 := [3, 62, 3, 54, 4, 21, 4, 27, 162, 0, 41, 29, 153, 0, 37, 42, 180, 0, 129, 16, 6, 28, 104]
abbrev dktX10_pathOf_1 : List UInt8 := dkwX10_pathOf_1 ++ dktX10_pathOf_2
def dkwX10_pathOf_0 : List UInt8 := [3, 61, 28, 42, 180, 2, 31, 162, 0, 78, 42, 180, 0, 126, 28, 46, 27, 160, 0, 7, 4, 167, 0, 4]
abbrev dktX10_pathOf_0 : List UInt8 := dkwX10_pathOf_0 ++ dktX10_pathOf_1
theorem dksX10_pathOf_0 : cX10_pathOf.data.toList.drop 0 = dktX10_pathOf_0 := by decide +kernel
theorem dksX10_pathOf_1 : cX10_pathOf.data.toList.drop 24 = dktX10_pathOf_1 := dk_seg dksX10_pathOf_0 24 rfl rfl
theorem dksX10_pathOf_2 : cX10_pathOf.data.toList.drop 47 = dktX10_pathOf_2 := dk_seg dksX10_pathOf_1 23 rfl rfl
theorem dksX10_pathOf_3 : cX10_pathOf.data.toList.drop 70 = dktX10_pathOf_3 := dk_seg dksX10_pathOf_2 23 rfl rfl
theorem dX10_pathOf_0 : decode cX10_pathOf 0 = .ok (.iconst 0, 1) := dk_3 (dk_at dksX10_pathOf_0 0 rfl rfl)
theorem dX10_pathOf_1 : decode cX10_pathOf 1 = .ok (.istore_n 2, 1) := dk_61 (dk_at dksX10_pathOf_0 1 rfl rfl)
theorem dX10_pathOf_2 : decode cX10_pathOf 2 = .ok (.iload_n 2, 1) := dk_28 (dk_at dksX10_pathOf_0 2 rfl rfl)
theorem dX10_pathOf_3 : decode cX10_pathOf 3 = .ok (.aload_n 0, 1) := dk_42 (dk_at dksX10_pathOf_0 3 rfl rfl)
theorem dX10_pathOf_4 : decode cX10_pathOf 4 = .ok (.getfield 543, 3) := dk_180 2 31 (dk_at dksX10_pathOf_0 4 rfl rfl)
theorem dX10_pathOf_7 : decode cX10_pathOf 7 = .ok (.if_icmp .ge 78, 3) := dk_162 0 78 (dk_at dksX10_pathOf_0 7 rfl rfl)
theorem dX10_pathOf_10 : decode cX10_pathOf 10 = .ok (.aload_n 0, 1) := dk_42 (dk_at dksX10_pathOf_0 10 rfl rfl)
theorem dX10_pathOf_11 : decode cX10_pathOf 11 = .ok (.getfield 126, 3) := dk_180 0 126 (dk_at dksX10_pathOf_0 11 rfl rfl)
theorem dX10_pathOf_14 : decode cX10_pathOf 14 = .ok (.iload_n 2, 1) := dk_28 (dk_at dksX10_pathOf_0 14 rfl rfl)
theorem dX10_pathOf_15 : decode cX10_pathOf 15 = .ok (.iaload, 1) := dk_46 (dk_at dksX10_pathOf_0 15 rfl rfl)
theorem dX10_pathOf_16 : decode cX10_pathOf 16 = .ok (.iload_n 1, 1) := dk_27 (dk_at dksX10_pathOf_0 16 rfl rfl)
theorem dX10_pathOf_17 : decode cX10_pathOf 17 = .ok (.if_icmp .ne 7, 3) := dk_160 0 7 (dk_at dksX10_pathOf_0 17 rfl rfl)
theorem dX10_pathOf_20 : decode cX10_pathOf 20 = .ok (.iconst 1, 1) := dk_4 (dk_at dksX10_pathOf_0 20 rfl rfl)
theorem dX10_pathOf_21 : decode cX10_pathOf 21 = .ok (.goto 4, 3) := dk_167 0 4 (dk_at dksX10_pathOf_0 21 rfl rfl)
theorem dX10_pathOf_24 : decode cX10_pathOf 24 = .ok (.iconst 0, 1) := dk_3 (dk_at dksX10_pathOf_1 0 rfl rfl)
theorem dX10_pathOf_25 : decode cX10_pathOf 25 = .ok (.istore_n 3, 1) := dk_62 (dk_at dksX10_pathOf_1 1 rfl rfl)
theorem dX10_pathOf_26 : decode cX10_pathOf 26 = .ok (.iconst 0, 1) := dk_3 (dk_at dksX10_pathOf_1 2 rfl rfl)
theorem dX10_pathOf_27 : decode cX10_pathOf 27 = .ok (.istore 4, 2) := dk_54 4 (dk_at dksX10_pathOf_1 3 rfl rfl)
theorem dX10_pathOf_29 : decode cX10_pathOf 29 = .ok (.iload 4, 2) := dk_21 4 (dk_at dksX10_pathOf_1 5 rfl rfl)
theorem dX10_pathOf_31 : decode cX10_pathOf 31 = .ok (.iload_n 1, 1) := dk_27 (dk_at dksX10_pathOf_1 7 rfl rfl)
theorem dX10_pathOf_32 : decode cX10_pathOf 32 = .ok (.if_icmp .ge 41, 3) := dk_162 0 41 (dk_at dksX10_pathOf_1 8 rfl rfl)
theorem dX10_pathOf_35 : decode cX10_pathOf 35 = .ok (.iload_n 3, 1) := dk_29 (dk_at dksX10_pathOf_1 11 rfl rfl)
theorem dX10_pathOf_36 : decode cX10_pathOf 36 = .ok (.ifCond .eq 37, 3) := dk_153 0 37 (dk_at dksX10_pathOf_1 12 rfl rfl)
theorem dX10_pathOf_39 : decode cX10_pathOf 39 = .ok (.aload_n 0, 1) := dk_42 (dk_at dksX10_pathOf_1 15 rfl rfl)
theorem dX10_pathOf_40 : decode cX10_pathOf 40 = .ok (.getfield 129, 3) := dk_180 0 129 (dk_at dksX10_pathOf_1 16 rfl rfl)
theorem dX10_pathOf_43 : decode cX10_pathOf 43 = .ok (.bipush 6, 2) := dk_16 6 (dk_at dksX10_pathOf_1 19 rfl rfl)
theorem dX10_pathOf_45 : decode cX10_pathOf 45 = .ok (.iload_n 2, 1) := dk_28 (dk_at dksX10_pathOf_1 21 rfl rfl)
theorem dX10_pathOf_46 : decode cX10_pathOf 46 = .ok (.imul, 1) := dk_104 (dk_at dksX10_pathOf_1 22 rfl rfl)
theorem dX10_pathOf_47 : decode cX10_pathOf 47 = .ok (.iload 4, 2) := dk_21 4 (dk_at dksX10_pathOf_2 0 rfl rfl)
theorem dX10_pathOf_49 : decode cX10_pathOf 49 = .ok (.iadd, 1) := dk_96 (dk_at dksX10_pathOf_2 2 rfl rfl)
theorem dX10_pathOf_50 : decode cX10_pathOf 50 = .ok (.iaload, 1) := dk_46 (dk_at dksX10_pathOf_2 3 rfl rfl)
theorem dX10_pathOf_51 : decode cX10_pathOf 51 = .ok (.aload_n 0, 1) := dk_42 (dk_at dksX10_pathOf_2 4 rfl rfl)
theorem dX10_pathOf_52 : decode cX10_pathOf 52 = .ok (.getfield 150, 3) := dk_180 0 150 (dk_at dksX10_pathOf_2 5 rfl rfl)
theorem dX10_pathOf_55 : decode cX10_pathOf 55 = .ok (.iload 4, 2) := dk_21 4 (dk_at dksX10_pathOf_2 8 rfl rfl)
theorem dX10_pathOf_57 : decode cX10_pathOf 57 = .ok (.iaload, 1) := dk_46 (dk_at dksX10_pathOf_2 10 rfl rfl)
theorem dX10_pathOf_58 : decode cX10_pathOf 58 = .ok (.if_icmp .ne 7, 3) := dk_160 0 7 (dk_at dksX10_pathOf_2 11 rfl rfl)
theorem dX10_pathOf_61 : decode cX10_pathOf 61 = .ok (.iconst 1, 1) := dk_4 (dk_at dksX10_pathOf_2 14 rfl rfl)
theorem dX10_pathOf_62 : decode cX10_pathOf 62 = .ok (.goto 4, 3) := dk_167 0 4 (dk_at dksX10_pathOf_2 15 rfl rfl)
theorem dX10_pathOf_65 : decode cX10_pathOf 65 = .ok (.iconst 0, 1) := dk_3 (dk_at dksX10_pathOf_2 18 rfl rfl)
theorem dX10_pathOf_66 : decode cX10_pathOf 66 = .ok (.istore_n 3, 1) := dk_62 (dk_at dksX10_pathOf_2 19 rfl rfl)
theorem dX10_pathOf_67 : decode cX10_pathOf 67 = .ok (.iinc 4 1, 3) := dk_132 4 1 (dk_at dksX10_pathOf_2 20 rfl rfl)
theorem dX10_pathOf_70 : decode cX10_pathOf 70 = .ok (.goto (-41), 3) := dk_167 255 215 (dk_at dksX10_pathOf_3 0 rfl rfl)
theorem dX10_pathOf_73 : decode cX10_pathOf 73 = .ok (.iload_n 3, 1) := dk_29 (dk_at dksX10_pathOf_3 3 rfl rfl)
theorem dX10_pathOf_74 : decode cX10_pathOf 74 = .ok (.ifCond .eq 5, 3) := dk_153 0 5 (dk_at dksX10_pathOf_3 4 rfl rfl)
theorem dX10_pathOf_77 : decode cX10_pathOf 77 = .ok (.iload_n 2, 1) := dk_28 (dk_at dksX10_pathOf_3 7 rfl rfl)
theorem dX10_pathOf_78 : decode cX10_pathOf 78 = .ok (.ireturn, 1) := dk_172 (dk_at dksX10_pathOf_3 8 rfl rfl)
theorem dX10_pathOf_79 : decode cX10_pathOf 79 = .ok (.iinc 2 1, 3) := dk_132 2 1 (dk_at dksX10_pathOf_3 9 rfl rfl)
theorem dX10_pathOf_82 : decode cX10_pathOf 82 = .ok (.goto (-80), 3) := dk_167 255 176 (dk_at dksX10_pathOf_3 12 rfl rfl)
theorem dX10_pathOf_85 : decode cX10_pathOf 85 = .ok (.iconst (-1), 1) := dk_2 (dk_at dksX10_pathOf_3 15 rfl rfl)
theorem dX10_pathOf_86 : decode cX10_pathOf 86 = .ok (.ireturn, 1) := dk_172 (dk_at dksX10_pathOf_3 16 rfl rfl)
abbrev cX10_played : ByteArray := prog_32_method_100_code
def yX10_played : MethodName := ⟨RX10, "played", "(I)I"⟩
def dkwX10_played_2 : List UInt8 := [160, 0, 10, 42, 180, 2, 80, 167, 0, 4, 2, 172]
abbrev dktX10_played_2 : List UInt8 := dkwX10_played_2 ++ []
def dkwX10_played_1 : List UInt8 := [160, 0, 10, 42, 180, 2, 86, 167, 0, 28, 27, 5, 160, 0, 10, 42, 180, 2, 77, 167, 0, 16, 27, 6]
abbrev dktX10_played_1 : List UInt8 := dkwX10_played_1 ++ dktX10_played_2
def dkwX10_played_0 : List UInt8 := [42, 180, 1, 65, 154, 0, 5, 2, 172, 27, 154, 0, 10, 42, 180, 2, 83, 167, 0, 40, 27, 4]
abbrev dktX10_played_0 : List UInt8 := dkwX10_played_0 ++ dktX10_played_1
theorem dksX10_played_0 : cX10_played.data.toList.drop 0 = dktX10_played_0 := by decide +kernel
theorem dksX10_played_1 : cX10_played.data.toList.drop 22 = dktX10_played_1 := dk_seg dksX10_played_0 22 rfl rfl
theorem dksX10_played_2 : cX10_played.data.toList.drop 46 = dktX10_played_2 := dk_seg dksX10_played_1 24 rfl rfl
theorem dX10_played_0 : decode cX10_played 0 = .ok (.aload_n 0, 1) := dk_42 (dk_at dksX10_played_0 0 rfl rfl)
theorem dX10_played_1 : decode cX10_played 1 = .ok (.getfield 321, 3) := dk_180 1 65 (dk_at dksX10_played_0 1 rfl rfl)
theorem dX10_played_4 : decode cX10_played 4 = .ok (.ifCond .ne 5, 3) := dk_154 0 5 (dk_at dksX10_played_0 4 rfl rfl)
theorem dX10_played_7 : decode cX10_played 7 = .ok (.iconst (-1), 1) := dk_2 (dk_at dksX10_played_0 7 rfl rfl)
theorem dX10_played_8 : decode cX10_played 8 = .ok (.ireturn, 1) := dk_172 (dk_at dksX10_played_0 8 rfl rfl)
theorem dX10_played_9 : decode cX10_played 9 = .ok (.iload_n 1, 1) := dk_27 (dk_at dksX10_played_0 9 rfl rfl)
theorem dX10_played_10 : decode cX10_played 10 = .ok (.ifCond .ne 10, 3) := dk_154 0 10 (dk_at dksX10_played_0 10 rfl rfl)
theorem dX10_played_13 : decode cX10_played 13 = .ok (.aload_n 0, 1) := dk_42 (dk_at dksX10_played_0 13 rfl rfl)
theorem dX10_played_14 : decode cX10_played 14 = .ok (.getfield 595, 3) := dk_180 2 83 (dk_at dksX10_played_0 14 rfl rfl)
theorem dX10_played_17 : decode cX10_played 17 = .ok (.goto 40, 3) := dk_167 0 40 (dk_at dksX10_played_0 17 rfl rfl)
theorem dX10_played_20 : decode cX10_played 20 = .ok (.iload_n 1, 1) := dk_27 (dk_at dksX10_played_0 20 rfl rfl)
theorem dX10_played_21 : decode cX10_played 21 = .ok (.iconst 1, 1) := dk_4 (dk_at dksX10_played_0 21 rfl rfl)
theorem dX10_played_22 : decode cX10_played 22 = .ok (.if_icmp .ne 10, 3) := dk_160 0 10 (dk_at dksX10_played_1 0 rfl rfl)
theorem dX10_played_25 : decode cX10_played 25 = .ok (.aload_n 0, 1) := dk_42 (dk_at dksX10_played_1 3 rfl rfl)
theorem dX10_played_26 : decode cX10_played 26 = .ok (.getfield 598, 3) := dk_180 2 86 (dk_at dksX10_played_1 4 rfl rfl)
theorem dX10_played_29 : decode cX10_played 29 = .ok (.goto 28, 3) := dk_167 0 28 (dk_at dksX10_played_1 7 rfl rfl)
theorem dX10_played_32 : decode cX10_played 32 = .ok (.iload_n 1, 1) := dk_27 (dk_at dksX10_played_1 10 rfl rfl)
theorem dX10_played_33 : decode cX10_played 33 = .ok (.iconst 2, 1) := dk_5 (dk_at dksX10_played_1 11 rfl rfl)
theorem dX10_played_34 : decode cX10_played 34 = .ok (.if_icmp .ne 10, 3) := dk_160 0 10 (dk_at dksX10_played_1 12 rfl rfl)
theorem dX10_played_37 : decode cX10_played 37 = .ok (.aload_n 0, 1) := dk_42 (dk_at dksX10_played_1 15 rfl rfl)
theorem dX10_played_38 : decode cX10_played 38 = .ok (.getfield 589, 3) := dk_180 2 77 (dk_at dksX10_played_1 16 rfl rfl)
theorem dX10_played_41 : decode cX10_played 41 = .ok (.goto 16, 3) := dk_167 0 16 (dk_at dksX10_played_1 19 rfl rfl)
theorem dX10_played_44 : decode cX10_played 44 = .ok (.iload_n 1, 1) := dk_27 (dk_at dksX10_played_1 22 rfl rfl)
theorem dX10_played_45 : decode cX10_played 45 = .ok (.iconst 3, 1) := dk_6 (dk_at dksX10_played_1 23 rfl rfl)
theorem dX10_played_46 : decode cX10_played 46 = .ok (.if_icmp .ne 10, 3) := dk_160 0 10 (dk_at dksX10_played_2 0 rfl rfl)
theorem dX10_played_49 : decode cX10_played 49 = .ok (.aload_n 0, 1) := dk_42 (dk_at dksX10_played_2 3 rfl rfl)
theorem dX10_played_50 : decode cX10_played 50 = .ok (.getfield 592, 3) := dk_180 2 80 (dk_at dksX10_played_2 4 rfl rfl)
theorem dX10_played_53 : decode cX10_played 53 = .ok (.goto 4, 3) := dk_167 0 4 (dk_at dksX10_played_2 7 rfl rfl)
theorem dX10_played_56 : decode cX10_played 56 = .ok (.iconst (-1), 1) := dk_2 (dk_at dksX10_played_2 10 rfl rfl)
theorem dX10_played_57 : decode cX10_played 57 = .ok (.ireturn, 1) := dk_172 (dk_at dksX10_played_2 11 rfl rfl)
abbrev cX10_tell : ByteArray := prog_32_method_101_code
def yX10_tell : MethodName := ⟨RX10, "tell", "(I)I"⟩
def dkwX10_tell_2 : List UInt8 := [180, 1, 62, 2, 79, 42, 89, 180, 1, 62, 4, 96, 181, 1, 62, 42, 180, 1, 62, 4, 100, 172]
abbrev dktX10_tell_2 : List UInt8 := dkwX10_tell_2 ++ []
def dkwX10_tell_1 : List UInt8 := [180, 1, 62, 27, 79, 42, 180, 0, 156, 42, 180, 1, 62, 42, 180, 2, 101, 79, 42, 180, 0, 159, 42]
abbrev dktX10_tell_1 : List UInt8 := dkwX10_tell_1 ++ dktX10_tell_2
def dkwX10_tell_0 : List UInt8 := [42, 27, 182, 2, 34, 153, 0, 12, 42, 180, 1, 62, 16, 20, 160, 0, 5, 2, 172, 42, 180, 0, 153, 42]
abbrev dktX10_tell_0 : List UInt8 := dkwX10_tell_0 ++ dktX10_tell_1
theorem dksX10_tell_0 : cX10_tell.data.toList.drop 0 = dktX10_tell_0 := by decide +kernel
theorem dksX10_tell_1 : cX10_tell.data.toList.drop 24 = dktX10_tell_1 := dk_seg dksX10_tell_0 24 rfl rfl
theorem dksX10_tell_2 : cX10_tell.data.toList.drop 47 = dktX10_tell_2 := dk_seg dksX10_tell_1 23 rfl rfl
theorem dX10_tell_0 : decode cX10_tell 0 = .ok (.aload_n 0, 1) := dk_42 (dk_at dksX10_tell_0 0 rfl rfl)
theorem dX10_tell_1 : decode cX10_tell 1 = .ok (.iload_n 1, 1) := dk_27 (dk_at dksX10_tell_0 1 rfl rfl)
theorem dX10_tell_2 : decode cX10_tell 2 = .ok (.invokevirtual 546, 3) := dk_182 2 34 (dk_at dksX10_tell_0 2 rfl rfl)
theorem dX10_tell_5 : decode cX10_tell 5 = .ok (.ifCond .eq 12, 3) := dk_153 0 12 (dk_at dksX10_tell_0 5 rfl rfl)
theorem dX10_tell_8 : decode cX10_tell 8 = .ok (.aload_n 0, 1) := dk_42 (dk_at dksX10_tell_0 8 rfl rfl)
theorem dX10_tell_9 : decode cX10_tell 9 = .ok (.getfield 318, 3) := dk_180 1 62 (dk_at dksX10_tell_0 9 rfl rfl)
theorem dX10_tell_12 : decode cX10_tell 12 = .ok (.bipush 20, 2) := dk_16 20 (dk_at dksX10_tell_0 12 rfl rfl)
theorem dX10_tell_14 : decode cX10_tell 14 = .ok (.if_icmp .ne 5, 3) := dk_160 0 5 (dk_at dksX10_tell_0 14 rfl rfl)
theorem dX10_tell_17 : decode cX10_tell 17 = .ok (.iconst (-1), 1) := dk_2 (dk_at dksX10_tell_0 17 rfl rfl)
theorem dX10_tell_18 : decode cX10_tell 18 = .ok (.ireturn, 1) := dk_172 (dk_at dksX10_tell_0 18 rfl rfl)
theorem dX10_tell_19 : decode cX10_tell 19 = .ok (.aload_n 0, 1) := dk_42 (dk_at dksX10_tell_0 19 rfl rfl)
theorem dX10_tell_20 : decode cX10_tell 20 = .ok (.getfield 153, 3) := dk_180 0 153 (dk_at dksX10_tell_0 20 rfl rfl)
theorem dX10_tell_23 : decode cX10_tell 23 = .ok (.aload_n 0, 1) := dk_42 (dk_at dksX10_tell_0 23 rfl rfl)
theorem dX10_tell_24 : decode cX10_tell 24 = .ok (.getfield 318, 3) := dk_180 1 62 (dk_at dksX10_tell_1 0 rfl rfl)
theorem dX10_tell_27 : decode cX10_tell 27 = .ok (.iload_n 1, 1) := dk_27 (dk_at dksX10_tell_1 3 rfl rfl)
theorem dX10_tell_28 : decode cX10_tell 28 = .ok (.iastore, 1) := dk_79 (dk_at dksX10_tell_1 4 rfl rfl)
theorem dX10_tell_29 : decode cX10_tell 29 = .ok (.aload_n 0, 1) := dk_42 (dk_at dksX10_tell_1 5 rfl rfl)
theorem dX10_tell_30 : decode cX10_tell 30 = .ok (.getfield 156, 3) := dk_180 0 156 (dk_at dksX10_tell_1 6 rfl rfl)
theorem dX10_tell_33 : decode cX10_tell 33 = .ok (.aload_n 0, 1) := dk_42 (dk_at dksX10_tell_1 9 rfl rfl)
theorem dX10_tell_34 : decode cX10_tell 34 = .ok (.getfield 318, 3) := dk_180 1 62 (dk_at dksX10_tell_1 10 rfl rfl)
theorem dX10_tell_37 : decode cX10_tell 37 = .ok (.aload_n 0, 1) := dk_42 (dk_at dksX10_tell_1 13 rfl rfl)
theorem dX10_tell_38 : decode cX10_tell 38 = .ok (.getfield 613, 3) := dk_180 2 101 (dk_at dksX10_tell_1 14 rfl rfl)
theorem dX10_tell_41 : decode cX10_tell 41 = .ok (.iastore, 1) := dk_79 (dk_at dksX10_tell_1 17 rfl rfl)
theorem dX10_tell_42 : decode cX10_tell 42 = .ok (.aload_n 0, 1) := dk_42 (dk_at dksX10_tell_1 18 rfl rfl)
theorem dX10_tell_43 : decode cX10_tell 43 = .ok (.getfield 159, 3) := dk_180 0 159 (dk_at dksX10_tell_1 19 rfl rfl)
theorem dX10_tell_46 : decode cX10_tell 46 = .ok (.aload_n 0, 1) := dk_42 (dk_at dksX10_tell_1 22 rfl rfl)
theorem dX10_tell_47 : decode cX10_tell 47 = .ok (.getfield 318, 3) := dk_180 1 62 (dk_at dksX10_tell_2 0 rfl rfl)
theorem dX10_tell_50 : decode cX10_tell 50 = .ok (.iconst (-1), 1) := dk_2 (dk_at dksX10_tell_2 3 rfl rfl)
theorem dX10_tell_51 : decode cX10_tell 51 = .ok (.iastore, 1) := dk_79 (dk_at dksX10_tell_2 4 rfl rfl)
theorem dX10_tell_52 : decode cX10_tell 52 = .ok (.aload_n 0, 1) := dk_42 (dk_at dksX10_tell_2 5 rfl rfl)
theorem dX10_tell_53 : decode cX10_tell 53 = .ok (.dup, 1) := dk_89 (dk_at dksX10_tell_2 6 rfl rfl)
theorem dX10_tell_54 : decode cX10_tell 54 = .ok (.getfield 318, 3) := dk_180 1 62 (dk_at dksX10_tell_2 7 rfl rfl)
theorem dX10_tell_57 : decode cX10_tell 57 = .ok (.iconst 1, 1) := dk_4 (dk_at dksX10_tell_2 10 rfl rfl)
theorem dX10_tell_58 : decode cX10_tell 58 = .ok (.iadd, 1) := dk_96 (dk_at dksX10_tell_2 11 rfl rfl)
theorem dX10_tell_59 : decode cX10_tell 59 = .ok (.putfield 318, 3) := dk_181 1 62 (dk_at dksX10_tell_2 12 rfl rfl)
theorem dX10_tell_62 : decode cX10_tell 62 = .ok (.aload_n 0, 1) := dk_42 (dk_at dksX10_tell_2 15 rfl rfl)
theorem dX10_tell_63 : decode cX10_tell 63 = .ok (.getfield 318, 3) := dk_180 1 62 (dk_at dksX10_tell_2 16 rfl rfl)
theorem dX10_tell_66 : decode cX10_tell 66 = .ok (.iconst 1, 1) := dk_4 (dk_at dksX10_tell_2 19 rfl rfl)
theorem dX10_tell_67 : decode cX10_tell 67 = .ok (.isub, 1) := dk_100 (dk_at dksX10_tell_2 20 rfl rfl)
theorem dX10_tell_68 : decode cX10_tell 68 = .ok (.ireturn, 1) := dk_172 (dk_at dksX10_tell_2 21 rfl rfl)
abbrev cX10_untell : ByteArray := prog_32_method_102_code
def yX10_untell : MethodName := ⟨RX10, "untell", "(I)Z"⟩
def dkwX10_untell_1 : List UInt8 := [172, 42, 180, 0, 159, 27, 42, 180, 2, 101, 79, 4, 172]
abbrev dktX10_untell_1 : List UInt8 := dkwX10_untell_1 ++ []
def dkwX10_untell_0 : List UInt8 := [27, 3, 42, 180, 1, 62, 4, 100, 184, 1, 164, 153, 0, 12, 42, 180, 0, 159, 27, 46, 155, 0, 5, 3]
abbrev dktX10_untell_0 : List UInt8 := dkwX10_untell_0 ++ dktX10_untell_1
theorem dksX10_untell_0 : cX10_untell.data.toList.drop 0 = dktX10_untell_0 := by decide +kernel
theorem dksX10_untell_1 : cX10_untell.data.toList.drop 24 = dktX10_untell_1 := dk_seg dksX10_untell_0 24 rfl rfl
theorem dX10_untell_0 : decode cX10_untell 0 = .ok (.iload_n 1, 1) := dk_27 (dk_at dksX10_untell_0 0 rfl rfl)
theorem dX10_untell_1 : decode cX10_untell 1 = .ok (.iconst 0, 1) := dk_3 (dk_at dksX10_untell_0 1 rfl rfl)
theorem dX10_untell_2 : decode cX10_untell 2 = .ok (.aload_n 0, 1) := dk_42 (dk_at dksX10_untell_0 2 rfl rfl)
theorem dX10_untell_3 : decode cX10_untell 3 = .ok (.getfield 318, 3) := dk_180 1 62 (dk_at dksX10_untell_0 3 rfl rfl)
theorem dX10_untell_6 : decode cX10_untell 6 = .ok (.iconst 1, 1) := dk_4 (dk_at dksX10_untell_0 6 rfl rfl)
theorem dX10_untell_7 : decode cX10_untell 7 = .ok (.isub, 1) := dk_100 (dk_at dksX10_untell_0 7 rfl rfl)
theorem dX10_untell_8 : decode cX10_untell 8 = .ok (.invokestatic 420, 3) := dk_184 1 164 (dk_at dksX10_untell_0 8 rfl rfl)
theorem dX10_untell_11 : decode cX10_untell 11 = .ok (.ifCond .eq 12, 3) := dk_153 0 12 (dk_at dksX10_untell_0 11 rfl rfl)
theorem dX10_untell_14 : decode cX10_untell 14 = .ok (.aload_n 0, 1) := dk_42 (dk_at dksX10_untell_0 14 rfl rfl)
theorem dX10_untell_15 : decode cX10_untell 15 = .ok (.getfield 159, 3) := dk_180 0 159 (dk_at dksX10_untell_0 15 rfl rfl)
theorem dX10_untell_18 : decode cX10_untell 18 = .ok (.iload_n 1, 1) := dk_27 (dk_at dksX10_untell_0 18 rfl rfl)
theorem dX10_untell_19 : decode cX10_untell 19 = .ok (.iaload, 1) := dk_46 (dk_at dksX10_untell_0 19 rfl rfl)
theorem dX10_untell_20 : decode cX10_untell 20 = .ok (.ifCond .lt 5, 3) := dk_155 0 5 (dk_at dksX10_untell_0 20 rfl rfl)
theorem dX10_untell_23 : decode cX10_untell 23 = .ok (.iconst 0, 1) := dk_3 (dk_at dksX10_untell_0 23 rfl rfl)
theorem dX10_untell_24 : decode cX10_untell 24 = .ok (.ireturn, 1) := dk_172 (dk_at dksX10_untell_1 0 rfl rfl)
theorem dX10_untell_25 : decode cX10_untell 25 = .ok (.aload_n 0, 1) := dk_42 (dk_at dksX10_untell_1 1 rfl rfl)
theorem dX10_untell_26 : decode cX10_untell 26 = .ok (.getfield 159, 3) := dk_180 0 159 (dk_at dksX10_untell_1 2 rfl rfl)
theorem dX10_untell_29 : decode cX10_untell 29 = .ok (.iload_n 1, 1) := dk_27 (dk_at dksX10_untell_1 5 rfl rfl)
theorem dX10_untell_30 : decode cX10_untell 30 = .ok (.aload_n 0, 1) := dk_42 (dk_at dksX10_untell_1 6 rfl rfl)
theorem dX10_untell_31 : decode cX10_untell 31 = .ok (.getfield 613, 3) := dk_180 2 101 (dk_at dksX10_untell_1 7 rfl rfl)
theorem dX10_untell_34 : decode cX10_untell 34 = .ok (.iastore, 1) := dk_79 (dk_at dksX10_untell_1 10 rfl rfl)
theorem dX10_untell_35 : decode cX10_untell 35 = .ok (.iconst 1, 1) := dk_4 (dk_at dksX10_untell_1 11 rfl rfl)
theorem dX10_untell_36 : decode cX10_untell 36 = .ok (.ireturn, 1) := dk_172 (dk_at dksX10_untell_1 12 rfl rfl)
abbrev cX10_later : ByteArray := prog_32_method_103_code
def yX10_later : MethodName := ⟨RX10, "later", "(I)I"⟩
def dkwX10_later_1 : List UInt8 := [172, 42, 89, 180, 2, 101, 27, 96, 181, 2, 101, 42, 180, 2, 101, 172]
abbrev dktX10_later_1 : List UInt8 := dkwX10_later_1 ++ []
def dkwX10_later_0 : List UInt8 := [27, 3, 17, 3, 232, 184, 1, 164, 153, 0, 15, 42, 180, 2, 101, 27, 96, 19, 2, 104, 164, 0, 5, 2]
abbrev dktX10_later_0 : List UInt8 := dkwX10_later_0 ++ dktX10_later_1
theorem dksX10_later_0 : cX10_later.data.toList.drop 0 = dktX10_later_0 := by decide +kernel
theorem dksX10_later_1 : cX10_later.data.toList.drop 24 = dktX10_later_1 := dk_seg dksX10_later_0 24 rfl rfl
theorem dX10_later_0 : decode cX10_later 0 = .ok (.iload_n 1, 1) := dk_27 (dk_at dksX10_later_0 0 rfl rfl)
theorem dX10_later_1 : decode cX10_later 1 = .ok (.iconst 0, 1) := dk_3 (dk_at dksX10_later_0 1 rfl rfl)
theorem dX10_later_2 : decode cX10_later 2 = .ok (.sipush 1000, 3) := dk_17 3 232 (dk_at dksX10_later_0 2 rfl rfl)
theorem dX10_later_5 : decode cX10_later 5 = .ok (.invokestatic 420, 3) := dk_184 1 164 (dk_at dksX10_later_0 5 rfl rfl)
theorem dX10_later_8 : decode cX10_later 8 = .ok (.ifCond .eq 15, 3) := dk_153 0 15 (dk_at dksX10_later_0 8 rfl rfl)
theorem dX10_later_11 : decode cX10_later 11 = .ok (.aload_n 0, 1) := dk_42 (dk_at dksX10_later_0 11 rfl rfl)
theorem dX10_later_12 : decode cX10_later 12 = .ok (.getfield 613, 3) := dk_180 2 101 (dk_at dksX10_later_0 12 rfl rfl)
theorem dX10_later_15 : decode cX10_later 15 = .ok (.iload_n 1, 1) := dk_27 (dk_at dksX10_later_0 15 rfl rfl)
theorem dX10_later_16 : decode cX10_later 16 = .ok (.iadd, 1) := dk_96 (dk_at dksX10_later_0 16 rfl rfl)
theorem dX10_later_17 : decode cX10_later 17 = .ok (.ldc_w 616, 3) := dk_19 2 104 (dk_at dksX10_later_0 17 rfl rfl)
theorem dX10_later_20 : decode cX10_later 20 = .ok (.if_icmp .le 5, 3) := dk_164 0 5 (dk_at dksX10_later_0 20 rfl rfl)
theorem dX10_later_23 : decode cX10_later 23 = .ok (.iconst (-1), 1) := dk_2 (dk_at dksX10_later_0 23 rfl rfl)
theorem dX10_later_24 : decode cX10_later 24 = .ok (.ireturn, 1) := dk_172 (dk_at dksX10_later_1 0 rfl rfl)
theorem dX10_later_25 : decode cX10_later 25 = .ok (.aload_n 0, 1) := dk_42 (dk_at dksX10_later_1 1 rfl rfl)
theorem dX10_later_26 : decode cX10_later 26 = .ok (.dup, 1) := dk_89 (dk_at dksX10_later_1 2 rfl rfl)
theorem dX10_later_27 : decode cX10_later 27 = .ok (.getfield 613, 3) := dk_180 2 101 (dk_at dksX10_later_1 3 rfl rfl)
theorem dX10_later_30 : decode cX10_later 30 = .ok (.iload_n 1, 1) := dk_27 (dk_at dksX10_later_1 6 rfl rfl)
theorem dX10_later_31 : decode cX10_later 31 = .ok (.iadd, 1) := dk_96 (dk_at dksX10_later_1 7 rfl rfl)
theorem dX10_later_32 : decode cX10_later 32 = .ok (.putfield 613, 3) := dk_181 2 101 (dk_at dksX10_later_1 8 rfl rfl)
theorem dX10_later_35 : decode cX10_later 35 = .ok (.aload_n 0, 1) := dk_42 (dk_at dksX10_later_1 11 rfl rfl)
theorem dX10_later_36 : decode cX10_later 36 = .ok (.getfield 613, 3) := dk_180 2 101 (dk_at dksX10_later_1 12 rfl rfl)
theorem dX10_later_39 : decode cX10_later 39 = .ok (.ireturn, 1) := dk_172 (dk_at dksX10_later_1 15 rfl rfl)
abbrev cX10_can : ByteArray := prog_32_method_104_code
def yX10_can : MethodName := ⟨RX10, "can", "(I)I"⟩
def dkwX10_can_4 : List UInt8 := [132, 4, 1, 167, 255, 213, 132, 3, 1, 167, 255, 164, 28, 172]
abbrev dktX10_can_4 : List UInt8 := dkwX10_can_4 ++ []
def dkwX10_can_3 : List UInt8 := [180, 0, 153, 29, 46, 104, 21, 4, 96, 47, 9, 148, 154, 0, 12, 28, 4, 21, 4, 120, 2, 130, 126, 61]
abbrev dktX10_can_3 : List UInt8 := dkwX10_can_3 ++ dktX10_can_4
def dkwX10_can_2 : List UInt8 := [167, 0, 52, 3, 54, 4, 21, 4, 42, 182, 1, 161, 162, 0, 40, 42, 180, 0, 138, 16, 8, 42]
abbrev dktX10_can_2 : List UInt8 := dkwX10_can_2 ++ dktX10_can_3
def dkwX10_can_1 : List UInt8 := [46, 27, 163, 0, 74, 42, 180, 0, 159, 29, 46, 155, 0, 16, 42, 180, 0, 159, 29, 46, 27, 163, 0, 6]
abbrev dktX10_can_1 : List UInt8 := dkwX10_can_1 ++ dktX10_can_2
def dkwX10_can_0 : List UInt8 := [4, 42, 182, 1, 161, 120, 4, 100, 61, 3, 62, 29, 42, 180, 1, 62, 162, 0, 90, 42, 180, 0, 156, 29]
abbrev dktX10_can_0 : List UInt8 := dkwX10_can_0 ++ dktX10_can_1
theorem dksX10_can_0 : cX10_can.data.toList.drop 0 = dktX10_can_0 := by decide +kernel
theorem dksX10_can_1 : cX10_can.data.toList.drop 24 = dktX10_can_1 := dk_seg dksX10_can_0 24 rfl rfl
theorem dksX10_can_2 : cX10_can.data.toList.drop 48 = dktX10_can_2 := dk_seg dksX10_can_1 24 rfl rfl
theorem dksX10_can_3 : cX10_can.data.toList.drop 70 = dktX10_can_3 := dk_seg dksX10_can_2 22 rfl rfl
theorem dksX10_can_4 : cX10_can.data.toList.drop 94 = dktX10_can_4 := dk_seg dksX10_can_3 24 rfl rfl
theorem dX10_can_0 : decode cX10_can 0 = .ok (.iconst 1, 1) := dk_4 (dk_at dksX10_can_0 0 rfl rfl)
theorem dX10_can_1 : decode cX10_can 1 = .ok (.aload_n 0, 1) := dk_42 (dk_at dksX10_can_0 1 rfl rfl)
theorem dX10_can_2 : decode cX10_can 2 = .ok (.invokevirtual 417, 3) := dk_182 1 161 (dk_at dksX10_can_0 2 rfl rfl)
theorem dX10_can_5 : decode cX10_can 5 = .ok (.ishl, 1) := dk_120 (dk_at dksX10_can_0 5 rfl rfl)
theorem dX10_can_6 : decode cX10_can 6 = .ok (.iconst 1, 1) := dk_4 (dk_at dksX10_can_0 6 rfl rfl)
theorem dX10_can_7 : decode cX10_can 7 = .ok (.isub, 1) := dk_100 (dk_at dksX10_can_0 7 rfl rfl)
theorem dX10_can_8 : decode cX10_can 8 = .ok (.istore_n 2, 1) := dk_61 (dk_at dksX10_can_0 8 rfl rfl)
theorem dX10_can_9 : decode cX10_can 9 = .ok (.iconst 0, 1) := dk_3 (dk_at dksX10_can_0 9 rfl rfl)
theorem dX10_can_10 : decode cX10_can 10 = .ok (.istore_n 3, 1) := dk_62 (dk_at dksX10_can_0 10 rfl rfl)
theorem dX10_can_11 : decode cX10_can 11 = .ok (.iload_n 3, 1) := dk_29 (dk_at dksX10_can_0 11 rfl rfl)
theorem dX10_can_12 : decode cX10_can 12 = .ok (.aload_n 0, 1) := dk_42 (dk_at dksX10_can_0 12 rfl rfl)
theorem dX10_can_13 : decode cX10_can 13 = .ok (.getfield 318, 3) := dk_180 1 62 (dk_at dksX10_can_0 13 rfl rfl)
theorem dX10_can_16 : decode cX10_can 16 = .ok (.if_icmp .ge 90, 3) := dk_162 0 90 (dk_at dksX10_can_0 16 rfl rfl)
theorem dX10_can_19 : decode cX10_can 19 = .ok (.aload_n 0, 1) := dk_42 (dk_at dksX10_can_0 19 rfl rfl)
theorem dX10_can_20 : decode cX10_can 20 = .ok (.getfield 156, 3) := dk_180 0 156 (dk_at dksX10_can_0 20 rfl rfl)
theorem dX10_can_23 : decode cX10_can 23 = .ok (.iload_n 3, 1) := dk_29 (dk_at dksX10_can_0 23 rfl rfl)
theorem dX10_can_24 : decode cX10_can 24 = .ok (.iaload, 1) := dk_46 (dk_at dksX10_can_1 0 rfl rfl)
theorem dX10_can_25 : decode cX10_can 25 = .ok (.iload_n 1, 1) := dk_27 (dk_at dksX10_can_1 1 rfl rfl)
theorem dX10_can_26 : decode cX10_can 26 = .ok (.if_icmp .gt 74, 3) := dk_163 0 74 (dk_at dksX10_can_1 2 rfl rfl)
theorem dX10_can_29 : decode cX10_can 29 = .ok (.aload_n 0, 1) := dk_42 (dk_at dksX10_can_1 5 rfl rfl)
theorem dX10_can_30 : decode cX10_can 30 = .ok (.getfield 159, 3) := dk_180 0 159 (dk_at dksX10_can_1 6 rfl rfl)
theorem dX10_can_33 : decode cX10_can 33 = .ok (.iload_n 3, 1) := dk_29 (dk_at dksX10_can_1 9 rfl rfl)
theorem dX10_can_34 : decode cX10_can 34 = .ok (.iaload, 1) := dk_46 (dk_at dksX10_can_1 10 rfl rfl)
theorem dX10_can_35 : decode cX10_can 35 = .ok (.ifCond .lt 16, 3) := dk_155 0 16 (dk_at dksX10_can_1 11 rfl rfl)
theorem dX10_can_38 : decode cX10_can 38 = .ok (.aload_n 0, 1) := dk_42 (dk_at dksX10_can_1 14 rfl rfl)
theorem dX10_can_39 : decode cX10_can 39 = .ok (.getfield 159, 3) := dk_180 0 159 (dk_at dksX10_can_1 15 rfl rfl)
theorem dX10_can_42 : decode cX10_can 42 = .ok (.iload_n 3, 1) := dk_29 (dk_at dksX10_can_1 18 rfl rfl)
theorem dX10_can_43 : decode cX10_can 43 = .ok (.iaload, 1) := dk_46 (dk_at dksX10_can_1 19 rfl rfl)
theorem dX10_can_44 : decode cX10_can 44 = .ok (.iload_n 1, 1) := dk_27 (dk_at dksX10_can_1 20 rfl rfl)
theorem dX10_can_45 : decode cX10_can 45 = .ok (.if_icmp .gt 6, 3) := dk_163 0 6 (dk_at dksX10_can_1 21 rfl rfl)
theorem dX10_can_48 : decode cX10_can 48 = .ok (.goto 52, 3) := dk_167 0 52 (dk_at dksX10_can_2 0 rfl rfl)
theorem dX10_can_51 : decode cX10_can 51 = .ok (.iconst 0, 1) := dk_3 (dk_at dksX10_can_2 3 rfl rfl)
theorem dX10_can_52 : decode cX10_can 52 = .ok (.istore 4, 2) := dk_54 4 (dk_at dksX10_can_2 4 rfl rfl)
theorem dX10_can_54 : decode cX10_can 54 = .ok (.iload 4, 2) := dk_21 4 (dk_at dksX10_can_2 6 rfl rfl)
theorem dX10_can_56 : decode cX10_can 56 = .ok (.aload_n 0, 1) := dk_42 (dk_at dksX10_can_2 8 rfl rfl)
theorem dX10_can_57 : decode cX10_can 57 = .ok (.invokevirtual 417, 3) := dk_182 1 161 (dk_at dksX10_can_2 9 rfl rfl)
theorem dX10_can_60 : decode cX10_can 60 = .ok (.if_icmp .ge 40, 3) := dk_162 0 40 (dk_at dksX10_can_2 12 rfl rfl)
theorem dX10_can_63 : decode cX10_can 63 = .ok (.aload_n 0, 1) := dk_42 (dk_at dksX10_can_2 15 rfl rfl)
theorem dX10_can_64 : decode cX10_can 64 = .ok (.getfield 138, 3) := dk_180 0 138 (dk_at dksX10_can_2 16 rfl rfl)
theorem dX10_can_67 : decode cX10_can 67 = .ok (.bipush 8, 2) := dk_16 8 (dk_at dksX10_can_2 19 rfl rfl)
theorem dX10_can_69 : decode cX10_can 69 = .ok (.aload_n 0, 1) := dk_42 (dk_at dksX10_can_2 21 rfl rfl)
theorem dX10_can_70 : decode cX10_can 70 = .ok (.getfield 153, 3) := dk_180 0 153 (dk_at dksX10_can_3 0 rfl rfl)
theorem dX10_can_73 : decode cX10_can 73 = .ok (.iload_n 3, 1) := dk_29 (dk_at dksX10_can_3 3 rfl rfl)
theorem dX10_can_74 : decode cX10_can 74 = .ok (.iaload, 1) := dk_46 (dk_at dksX10_can_3 4 rfl rfl)
theorem dX10_can_75 : decode cX10_can 75 = .ok (.imul, 1) := dk_104 (dk_at dksX10_can_3 5 rfl rfl)
theorem dX10_can_76 : decode cX10_can 76 = .ok (.iload 4, 2) := dk_21 4 (dk_at dksX10_can_3 6 rfl rfl)
theorem dX10_can_78 : decode cX10_can 78 = .ok (.iadd, 1) := dk_96 (dk_at dksX10_can_3 8 rfl rfl)
theorem dX10_can_79 : decode cX10_can 79 = .ok (.laload, 1) := dk_47 (dk_at dksX10_can_3 9 rfl rfl)
theorem dX10_can_80 : decode cX10_can 80 = .ok (.lconst 0, 1) := dk_9 (dk_at dksX10_can_3 10 rfl rfl)
theorem dX10_can_81 : decode cX10_can 81 = .ok (.lcmp, 1) := dk_148 (dk_at dksX10_can_3 11 rfl rfl)
theorem dX10_can_82 : decode cX10_can 82 = .ok (.ifCond .ne 12, 3) := dk_154 0 12 (dk_at dksX10_can_3 12 rfl rfl)
theorem dX10_can_85 : decode cX10_can 85 = .ok (.iload_n 2, 1) := dk_28 (dk_at dksX10_can_3 15 rfl rfl)
theorem dX10_can_86 : decode cX10_can 86 = .ok (.iconst 1, 1) := dk_4 (dk_at dksX10_can_3 16 rfl rfl)
theorem dX10_can_87 : decode cX10_can 87 = .ok (.iload 4, 2) := dk_21 4 (dk_at dksX10_can_3 17 rfl rfl)
theorem dX10_can_89 : decode cX10_can 89 = .ok (.ishl, 1) := dk_120 (dk_at dksX10_can_3 19 rfl rfl)
theorem dX10_can_90 : decode cX10_can 90 = .ok (.iconst (-1), 1) := dk_2 (dk_at dksX10_can_3 20 rfl rfl)
theorem dX10_can_91 : decode cX10_can 91 = .ok (.ixor, 1) := dk_130 (dk_at dksX10_can_3 21 rfl rfl)
theorem dX10_can_92 : decode cX10_can 92 = .ok (.iand, 1) := dk_126 (dk_at dksX10_can_3 22 rfl rfl)
theorem dX10_can_93 : decode cX10_can 93 = .ok (.istore_n 2, 1) := dk_61 (dk_at dksX10_can_3 23 rfl rfl)
theorem dX10_can_94 : decode cX10_can 94 = .ok (.iinc 4 1, 3) := dk_132 4 1 (dk_at dksX10_can_4 0 rfl rfl)
theorem dX10_can_97 : decode cX10_can 97 = .ok (.goto (-43), 3) := dk_167 255 213 (dk_at dksX10_can_4 3 rfl rfl)
theorem dX10_can_100 : decode cX10_can 100 = .ok (.iinc 3 1, 3) := dk_132 3 1 (dk_at dksX10_can_4 6 rfl rfl)
theorem dX10_can_103 : decode cX10_can 103 = .ok (.goto (-92), 3) := dk_167 255 164 (dk_at dksX10_can_4 9 rfl rfl)
theorem dX10_can_106 : decode cX10_can 106 = .ok (.iload_n 2, 1) := dk_28 (dk_at dksX10_can_4 12 rfl rfl)
theorem dX10_can_107 : decode cX10_can 107 = .ok (.ireturn, 1) := dk_172 (dk_at dksX10_can_4 13 rfl rfl)
abbrev cX10_guess : ByteArray := prog_32_method_105_code
def yX10_guess : MethodName := ⟨RX10, "guess", "(III)J"⟩
def dkwX10_guess_3 : List UInt8 := [132, 6, 1, 167, 255, 227, 42, 180, 0, 138, 16, 8, 27, 104, 28, 96, 47, 22, 4, 29, 184, 2, 39, 173]
abbrev dktX10_guess_3 : List UInt8 := dkwX10_guess_3 ++ []
def dkwX10_guess_2 : List UInt8 := [42, 182, 1, 161, 162, 0, 26, 22, 4, 42, 180, 0, 138, 16, 8, 27, 104, 21, 6, 96, 47, 97, 55, 4]
abbrev dktX10_guess_2 : List UInt8 := dkwX10_guess_2 ++ dktX10_guess_3
def dkwX10_guess_1 : List UInt8 := [153, 0, 12, 29, 3, 4, 184, 1, 164, 154, 0, 7, 20, 2, 43, 173, 9, 55, 4, 3, 54, 6, 21, 6]
abbrev dktX10_guess_1 : List UInt8 := dkwX10_guess_1 ++ dktX10_guess_2
def dkwX10_guess_0 : List UInt8 := [42, 180, 2, 28, 153, 0, 7, 20, 2, 37, 173, 42, 27, 182, 2, 34, 153, 0, 20, 42, 28, 182, 1, 168]
abbrev dktX10_guess_0 : List UInt8 := dkwX10_guess_0 ++ dktX10_guess_1
theorem dksX10_guess_0 : cX10_guess.data.toList.drop 0 = dktX10_guess_0 := by decide +kernel
theorem dksX10_guess_1 : cX10_guess.data.toList.drop 24 = dktX10_guess_1 := dk_seg dksX10_guess_0 24 rfl rfl
theorem dksX10_guess_2 : cX10_guess.data.toList.drop 48 = dktX10_guess_2 := dk_seg dksX10_guess_1 24 rfl rfl
theorem dksX10_guess_3 : cX10_guess.data.toList.drop 72 = dktX10_guess_3 := dk_seg dksX10_guess_2 24 rfl rfl
theorem dX10_guess_0 : decode cX10_guess 0 = .ok (.aload_n 0, 1) := dk_42 (dk_at dksX10_guess_0 0 rfl rfl)
theorem dX10_guess_1 : decode cX10_guess 1 = .ok (.getfield 540, 3) := dk_180 2 28 (dk_at dksX10_guess_0 1 rfl rfl)
theorem dX10_guess_4 : decode cX10_guess 4 = .ok (.ifCond .eq 7, 3) := dk_153 0 7 (dk_at dksX10_guess_0 4 rfl rfl)
theorem dX10_guess_7 : decode cX10_guess 7 = .ok (.ldc2_w 549, 3) := dk_20 2 37 (dk_at dksX10_guess_0 7 rfl rfl)
theorem dX10_guess_10 : decode cX10_guess 10 = .ok (.lreturn, 1) := dk_173 (dk_at dksX10_guess_0 10 rfl rfl)
theorem dX10_guess_11 : decode cX10_guess 11 = .ok (.aload_n 0, 1) := dk_42 (dk_at dksX10_guess_0 11 rfl rfl)
theorem dX10_guess_12 : decode cX10_guess 12 = .ok (.iload_n 1, 1) := dk_27 (dk_at dksX10_guess_0 12 rfl rfl)
theorem dX10_guess_13 : decode cX10_guess 13 = .ok (.invokevirtual 546, 3) := dk_182 2 34 (dk_at dksX10_guess_0 13 rfl rfl)
theorem dX10_guess_16 : decode cX10_guess 16 = .ok (.ifCond .eq 20, 3) := dk_153 0 20 (dk_at dksX10_guess_0 16 rfl rfl)
theorem dX10_guess_19 : decode cX10_guess 19 = .ok (.aload_n 0, 1) := dk_42 (dk_at dksX10_guess_0 19 rfl rfl)
theorem dX10_guess_20 : decode cX10_guess 20 = .ok (.iload_n 2, 1) := dk_28 (dk_at dksX10_guess_0 20 rfl rfl)
theorem dX10_guess_21 : decode cX10_guess 21 = .ok (.invokevirtual 424, 3) := dk_182 1 168 (dk_at dksX10_guess_0 21 rfl rfl)
theorem dX10_guess_24 : decode cX10_guess 24 = .ok (.ifCond .eq 12, 3) := dk_153 0 12 (dk_at dksX10_guess_1 0 rfl rfl)
theorem dX10_guess_27 : decode cX10_guess 27 = .ok (.iload_n 3, 1) := dk_29 (dk_at dksX10_guess_1 3 rfl rfl)
theorem dX10_guess_28 : decode cX10_guess 28 = .ok (.iconst 0, 1) := dk_3 (dk_at dksX10_guess_1 4 rfl rfl)
theorem dX10_guess_29 : decode cX10_guess 29 = .ok (.iconst 1, 1) := dk_4 (dk_at dksX10_guess_1 5 rfl rfl)
theorem dX10_guess_30 : decode cX10_guess 30 = .ok (.invokestatic 420, 3) := dk_184 1 164 (dk_at dksX10_guess_1 6 rfl rfl)
theorem dX10_guess_33 : decode cX10_guess 33 = .ok (.ifCond .ne 7, 3) := dk_154 0 7 (dk_at dksX10_guess_1 9 rfl rfl)
theorem dX10_guess_36 : decode cX10_guess 36 = .ok (.ldc2_w 555, 3) := dk_20 2 43 (dk_at dksX10_guess_1 12 rfl rfl)
theorem dX10_guess_39 : decode cX10_guess 39 = .ok (.lreturn, 1) := dk_173 (dk_at dksX10_guess_1 15 rfl rfl)
theorem dX10_guess_40 : decode cX10_guess 40 = .ok (.lconst 0, 1) := dk_9 (dk_at dksX10_guess_1 16 rfl rfl)
theorem dX10_guess_41 : decode cX10_guess 41 = .ok (.lstore 4, 2) := dk_55 4 (dk_at dksX10_guess_1 17 rfl rfl)
theorem dX10_guess_43 : decode cX10_guess 43 = .ok (.iconst 0, 1) := dk_3 (dk_at dksX10_guess_1 19 rfl rfl)
theorem dX10_guess_44 : decode cX10_guess 44 = .ok (.istore 6, 2) := dk_54 6 (dk_at dksX10_guess_1 20 rfl rfl)
theorem dX10_guess_46 : decode cX10_guess 46 = .ok (.iload 6, 2) := dk_21 6 (dk_at dksX10_guess_1 22 rfl rfl)
theorem dX10_guess_48 : decode cX10_guess 48 = .ok (.aload_n 0, 1) := dk_42 (dk_at dksX10_guess_2 0 rfl rfl)
theorem dX10_guess_49 : decode cX10_guess 49 = .ok (.invokevirtual 417, 3) := dk_182 1 161 (dk_at dksX10_guess_2 1 rfl rfl)
theorem dX10_guess_52 : decode cX10_guess 52 = .ok (.if_icmp .ge 26, 3) := dk_162 0 26 (dk_at dksX10_guess_2 4 rfl rfl)
theorem dX10_guess_55 : decode cX10_guess 55 = .ok (.lload 4, 2) := dk_22 4 (dk_at dksX10_guess_2 7 rfl rfl)
theorem dX10_guess_57 : decode cX10_guess 57 = .ok (.aload_n 0, 1) := dk_42 (dk_at dksX10_guess_2 9 rfl rfl)
theorem dX10_guess_58 : decode cX10_guess 58 = .ok (.getfield 138, 3) := dk_180 0 138 (dk_at dksX10_guess_2 10 rfl rfl)
theorem dX10_guess_61 : decode cX10_guess 61 = .ok (.bipush 8, 2) := dk_16 8 (dk_at dksX10_guess_2 13 rfl rfl)
theorem dX10_guess_63 : decode cX10_guess 63 = .ok (.iload_n 1, 1) := dk_27 (dk_at dksX10_guess_2 15 rfl rfl)
theorem dX10_guess_64 : decode cX10_guess 64 = .ok (.imul, 1) := dk_104 (dk_at dksX10_guess_2 16 rfl rfl)
theorem dX10_guess_65 : decode cX10_guess 65 = .ok (.iload 6, 2) := dk_21 6 (dk_at dksX10_guess_2 17 rfl rfl)
theorem dX10_guess_67 : decode cX10_guess 67 = .ok (.iadd, 1) := dk_96 (dk_at dksX10_guess_2 19 rfl rfl)
theorem dX10_guess_68 : decode cX10_guess 68 = .ok (.laload, 1) := dk_47 (dk_at dksX10_guess_2 20 rfl rfl)
theorem dX10_guess_69 : decode cX10_guess 69 = .ok (.ladd, 1) := dk_97 (dk_at dksX10_guess_2 21 rfl rfl)
theorem dX10_guess_70 : decode cX10_guess 70 = .ok (.lstore 4, 2) := dk_55 4 (dk_at dksX10_guess_2 22 rfl rfl)
theorem dX10_guess_72 : decode cX10_guess 72 = .ok (.iinc 6 1, 3) := dk_132 6 1 (dk_at dksX10_guess_3 0 rfl rfl)
theorem dX10_guess_75 : decode cX10_guess 75 = .ok (.goto (-29), 3) := dk_167 255 227 (dk_at dksX10_guess_3 3 rfl rfl)
theorem dX10_guess_78 : decode cX10_guess 78 = .ok (.aload_n 0, 1) := dk_42 (dk_at dksX10_guess_3 6 rfl rfl)
theorem dX10_guess_79 : decode cX10_guess 79 = .ok (.getfield 138, 3) := dk_180 0 138 (dk_at dksX10_guess_3 7 rfl rfl)
theorem dX10_guess_82 : decode cX10_guess 82 = .ok (.bipush 8, 2) := dk_16 8 (dk_at dksX10_guess_3 10 rfl rfl)
theorem dX10_guess_84 : decode cX10_guess 84 = .ok (.iload_n 1, 1) := dk_27 (dk_at dksX10_guess_3 12 rfl rfl)
theorem dX10_guess_85 : decode cX10_guess 85 = .ok (.imul, 1) := dk_104 (dk_at dksX10_guess_3 13 rfl rfl)
theorem dX10_guess_86 : decode cX10_guess 86 = .ok (.iload_n 2, 1) := dk_28 (dk_at dksX10_guess_3 14 rfl rfl)
theorem dX10_guess_87 : decode cX10_guess 87 = .ok (.iadd, 1) := dk_96 (dk_at dksX10_guess_3 15 rfl rfl)
theorem dX10_guess_88 : decode cX10_guess 88 = .ok (.laload, 1) := dk_47 (dk_at dksX10_guess_3 16 rfl rfl)
theorem dX10_guess_89 : decode cX10_guess 89 = .ok (.lload 4, 2) := dk_22 4 (dk_at dksX10_guess_3 17 rfl rfl)
theorem dX10_guess_91 : decode cX10_guess 91 = .ok (.iload_n 3, 1) := dk_29 (dk_at dksX10_guess_3 19 rfl rfl)
theorem dX10_guess_92 : decode cX10_guess 92 = .ok (.invokestatic 551, 3) := dk_184 2 39 (dk_at dksX10_guess_3 20 rfl rfl)
theorem dX10_guess_95 : decode cX10_guess 95 = .ok (.lreturn, 1) := dk_173 (dk_at dksX10_guess_3 23 rfl rfl)
abbrev cX10_seed : ByteArray := prog_32_method_106_code
def yX10_seed : MethodName := ⟨RX10, "seed", "(I)I"⟩
def dkwX10_seed_0 : List UInt8 := [42, 180, 0, 147, 61, 42, 27, 181, 0, 147, 28, 172]
abbrev dktX10_seed_0 : List UInt8 := dkwX10_seed_0 ++ []
theorem dksX10_seed_0 : cX10_seed.data.toList.drop 0 = dktX10_seed_0 := by decide +kernel
theorem dX10_seed_0 : decode cX10_seed 0 = .ok (.aload_n 0, 1) := dk_42 (dk_at dksX10_seed_0 0 rfl rfl)
theorem dX10_seed_1 : decode cX10_seed 1 = .ok (.getfield 147, 3) := dk_180 0 147 (dk_at dksX10_seed_0 1 rfl rfl)
theorem dX10_seed_4 : decode cX10_seed 4 = .ok (.istore_n 2, 1) := dk_61 (dk_at dksX10_seed_0 4 rfl rfl)
theorem dX10_seed_5 : decode cX10_seed 5 = .ok (.aload_n 0, 1) := dk_42 (dk_at dksX10_seed_0 5 rfl rfl)
theorem dX10_seed_6 : decode cX10_seed 6 = .ok (.iload_n 1, 1) := dk_27 (dk_at dksX10_seed_0 6 rfl rfl)
theorem dX10_seed_7 : decode cX10_seed 7 = .ok (.putfield 147, 3) := dk_181 0 147 (dk_at dksX10_seed_0 7 rfl rfl)
theorem dX10_seed_10 : decode cX10_seed 10 = .ok (.iload_n 2, 1) := dk_28 (dk_at dksX10_seed_0 10 rfl rfl)
theorem dX10_seed_11 : decode cX10_seed 11 = .ok (.ireturn, 1) := dk_172 (dk_at dksX10_seed_0 11 rfl rfl)
abbrev cX10_image : ByteArray := prog_32_method_107_code
def yX10_image : MethodName := ⟨RX10, "image", "(I)I"⟩
def dkwX10_image_4 : List UInt8 := [132, 2, 1, 167, 255, 194, 42, 180, 1, 62, 172]
abbrev dktX10_image_4 : List UInt8 := dkwX10_image_4 ++ []
def dkwX10_image_3 : List UInt8 := [180, 0, 156, 28, 46, 79, 42, 180, 0, 174, 16, 20, 27, 104, 28, 96, 42, 180, 0, 159, 28, 46, 79]
abbrev dktX10_image_3 : List UInt8 := dkwX10_image_3 ++ dktX10_image_4
def dkwX10_image_2 : List UInt8 := [16, 20, 27, 104, 28, 96, 42, 180, 0, 153, 28, 46, 79, 42, 180, 0, 171, 16, 20, 27, 104, 28, 96, 42]
abbrev dktX10_image_2 : List UInt8 := dkwX10_image_2 ++ dktX10_image_3
def dkwX10_image_1 : List UInt8 := [180, 0, 165, 27, 42, 180, 0, 147, 79, 3, 61, 28, 42, 180, 1, 62, 162, 0, 60, 42, 180, 0, 168]
abbrev dktX10_image_1 : List UInt8 := dkwX10_image_1 ++ dktX10_image_2
def dkwX10_image_0 : List UInt8 := [27, 3, 5, 184, 1, 164, 154, 0, 5, 2, 172, 42, 180, 0, 162, 27, 42, 180, 1, 62, 79, 42]
abbrev dktX10_image_0 : List UInt8 := dkwX10_image_0 ++ dktX10_image_1
theorem dksX10_image_0 : cX10_image.data.toList.drop 0 = dktX10_image_0 := by decide +kernel
theorem dksX10_image_1 : cX10_image.data.toList.drop 22 = dktX10_image_1 := dk_seg dksX10_image_0 22 rfl rfl
theorem dksX10_image_2 : cX10_image.data.toList.drop 45 = dktX10_image_2 := dk_seg dksX10_image_1 23 rfl rfl
theorem dksX10_image_3 : cX10_image.data.toList.drop 69 = dktX10_image_3 := dk_seg dksX10_image_2 24 rfl rfl
theorem dksX10_image_4 : cX10_image.data.toList.drop 92 = dktX10_image_4 := dk_seg dksX10_image_3 23 rfl rfl
theorem dX10_image_0 : decode cX10_image 0 = .ok (.iload_n 1, 1) := dk_27 (dk_at dksX10_image_0 0 rfl rfl)
theorem dX10_image_1 : decode cX10_image 1 = .ok (.iconst 0, 1) := dk_3 (dk_at dksX10_image_0 1 rfl rfl)
theorem dX10_image_2 : decode cX10_image 2 = .ok (.iconst 2, 1) := dk_5 (dk_at dksX10_image_0 2 rfl rfl)
theorem dX10_image_3 : decode cX10_image 3 = .ok (.invokestatic 420, 3) := dk_184 1 164 (dk_at dksX10_image_0 3 rfl rfl)
theorem dX10_image_6 : decode cX10_image 6 = .ok (.ifCond .ne 5, 3) := dk_154 0 5 (dk_at dksX10_image_0 6 rfl rfl)
theorem dX10_image_9 : decode cX10_image 9 = .ok (.iconst (-1), 1) := dk_2 (dk_at dksX10_image_0 9 rfl rfl)
theorem dX10_image_10 : decode cX10_image 10 = .ok (.ireturn, 1) := dk_172 (dk_at dksX10_image_0 10 rfl rfl)
theorem dX10_image_11 : decode cX10_image 11 = .ok (.aload_n 0, 1) := dk_42 (dk_at dksX10_image_0 11 rfl rfl)
theorem dX10_image_12 : decode cX10_image 12 = .ok (.getfield 162, 3) := dk_180 0 162 (dk_at dksX10_image_0 12 rfl rfl)
theorem dX10_image_15 : decode cX10_image 15 = .ok (.iload_n 1, 1) := dk_27 (dk_at dksX10_image_0 15 rfl rfl)
theorem dX10_image_16 : decode cX10_image 16 = .ok (.aload_n 0, 1) := dk_42 (dk_at dksX10_image_0 16 rfl rfl)
theorem dX10_image_17 : decode cX10_image 17 = .ok (.getfield 318, 3) := dk_180 1 62 (dk_at dksX10_image_0 17 rfl rfl)
theorem dX10_image_20 : decode cX10_image 20 = .ok (.iastore, 1) := dk_79 (dk_at dksX10_image_0 20 rfl rfl)
theorem dX10_image_21 : decode cX10_image 21 = .ok (.aload_n 0, 1) := dk_42 (dk_at dksX10_image_0 21 rfl rfl)
theorem dX10_image_22 : decode cX10_image 22 = .ok (.getfield 165, 3) := dk_180 0 165 (dk_at dksX10_image_1 0 rfl rfl)
theorem dX10_image_25 : decode cX10_image 25 = .ok (.iload_n 1, 1) := dk_27 (dk_at dksX10_image_1 3 rfl rfl)
theorem dX10_image_26 : decode cX10_image 26 = .ok (.aload_n 0, 1) := dk_42 (dk_at dksX10_image_1 4 rfl rfl)
theorem dX10_image_27 : decode cX10_image 27 = .ok (.getfield 147, 3) := dk_180 0 147 (dk_at dksX10_image_1 5 rfl rfl)
theorem dX10_image_30 : decode cX10_image 30 = .ok (.iastore, 1) := dk_79 (dk_at dksX10_image_1 8 rfl rfl)
theorem dX10_image_31 : decode cX10_image 31 = .ok (.iconst 0, 1) := dk_3 (dk_at dksX10_image_1 9 rfl rfl)
theorem dX10_image_32 : decode cX10_image 32 = .ok (.istore_n 2, 1) := dk_61 (dk_at dksX10_image_1 10 rfl rfl)
theorem dX10_image_33 : decode cX10_image 33 = .ok (.iload_n 2, 1) := dk_28 (dk_at dksX10_image_1 11 rfl rfl)
theorem dX10_image_34 : decode cX10_image 34 = .ok (.aload_n 0, 1) := dk_42 (dk_at dksX10_image_1 12 rfl rfl)
theorem dX10_image_35 : decode cX10_image 35 = .ok (.getfield 318, 3) := dk_180 1 62 (dk_at dksX10_image_1 13 rfl rfl)
theorem dX10_image_38 : decode cX10_image 38 = .ok (.if_icmp .ge 60, 3) := dk_162 0 60 (dk_at dksX10_image_1 16 rfl rfl)
theorem dX10_image_41 : decode cX10_image 41 = .ok (.aload_n 0, 1) := dk_42 (dk_at dksX10_image_1 19 rfl rfl)
theorem dX10_image_42 : decode cX10_image 42 = .ok (.getfield 168, 3) := dk_180 0 168 (dk_at dksX10_image_1 20 rfl rfl)
theorem dX10_image_45 : decode cX10_image 45 = .ok (.bipush 20, 2) := dk_16 20 (dk_at dksX10_image_2 0 rfl rfl)
theorem dX10_image_47 : decode cX10_image 47 = .ok (.iload_n 1, 1) := dk_27 (dk_at dksX10_image_2 2 rfl rfl)
theorem dX10_image_48 : decode cX10_image 48 = .ok (.imul, 1) := dk_104 (dk_at dksX10_image_2 3 rfl rfl)
theorem dX10_image_49 : decode cX10_image 49 = .ok (.iload_n 2, 1) := dk_28 (dk_at dksX10_image_2 4 rfl rfl)
theorem dX10_image_50 : decode cX10_image 50 = .ok (.iadd, 1) := dk_96 (dk_at dksX10_image_2 5 rfl rfl)
theorem dX10_image_51 : decode cX10_image 51 = .ok (.aload_n 0, 1) := dk_42 (dk_at dksX10_image_2 6 rfl rfl)
theorem dX10_image_52 : decode cX10_image 52 = .ok (.getfield 153, 3) := dk_180 0 153 (dk_at dksX10_image_2 7 rfl rfl)
theorem dX10_image_55 : decode cX10_image 55 = .ok (.iload_n 2, 1) := dk_28 (dk_at dksX10_image_2 10 rfl rfl)
theorem dX10_image_56 : decode cX10_image 56 = .ok (.iaload, 1) := dk_46 (dk_at dksX10_image_2 11 rfl rfl)
theorem dX10_image_57 : decode cX10_image 57 = .ok (.iastore, 1) := dk_79 (dk_at dksX10_image_2 12 rfl rfl)
theorem dX10_image_58 : decode cX10_image 58 = .ok (.aload_n 0, 1) := dk_42 (dk_at dksX10_image_2 13 rfl rfl)
theorem dX10_image_59 : decode cX10_image 59 = .ok (.getfield 171, 3) := dk_180 0 171 (dk_at dksX10_image_2 14 rfl rfl)
theorem dX10_image_62 : decode cX10_image 62 = .ok (.bipush 20, 2) := dk_16 20 (dk_at dksX10_image_2 17 rfl rfl)
theorem dX10_image_64 : decode cX10_image 64 = .ok (.iload_n 1, 1) := dk_27 (dk_at dksX10_image_2 19 rfl rfl)
theorem dX10_image_65 : decode cX10_image 65 = .ok (.imul, 1) := dk_104 (dk_at dksX10_image_2 20 rfl rfl)
theorem dX10_image_66 : decode cX10_image 66 = .ok (.iload_n 2, 1) := dk_28 (dk_at dksX10_image_2 21 rfl rfl)
theorem dX10_image_67 : decode cX10_image 67 = .ok (.iadd, 1) := dk_96 (dk_at dksX10_image_2 22 rfl rfl)
theorem dX10_image_68 : decode cX10_image 68 = .ok (.aload_n 0, 1) := dk_42 (dk_at dksX10_image_2 23 rfl rfl)
theorem dX10_image_69 : decode cX10_image 69 = .ok (.getfield 156, 3) := dk_180 0 156 (dk_at dksX10_image_3 0 rfl rfl)
theorem dX10_image_72 : decode cX10_image 72 = .ok (.iload_n 2, 1) := dk_28 (dk_at dksX10_image_3 3 rfl rfl)
theorem dX10_image_73 : decode cX10_image 73 = .ok (.iaload, 1) := dk_46 (dk_at dksX10_image_3 4 rfl rfl)
theorem dX10_image_74 : decode cX10_image 74 = .ok (.iastore, 1) := dk_79 (dk_at dksX10_image_3 5 rfl rfl)
theorem dX10_image_75 : decode cX10_image 75 = .ok (.aload_n 0, 1) := dk_42 (dk_at dksX10_image_3 6 rfl rfl)
theorem dX10_image_76 : decode cX10_image 76 = .ok (.getfield 174, 3) := dk_180 0 174 (dk_at dksX10_image_3 7 rfl rfl)
theorem dX10_image_79 : decode cX10_image 79 = .ok (.bipush 20, 2) := dk_16 20 (dk_at dksX10_image_3 10 rfl rfl)
theorem dX10_image_81 : decode cX10_image 81 = .ok (.iload_n 1, 1) := dk_27 (dk_at dksX10_image_3 12 rfl rfl)
theorem dX10_image_82 : decode cX10_image 82 = .ok (.imul, 1) := dk_104 (dk_at dksX10_image_3 13 rfl rfl)
theorem dX10_image_83 : decode cX10_image 83 = .ok (.iload_n 2, 1) := dk_28 (dk_at dksX10_image_3 14 rfl rfl)
theorem dX10_image_84 : decode cX10_image 84 = .ok (.iadd, 1) := dk_96 (dk_at dksX10_image_3 15 rfl rfl)
theorem dX10_image_85 : decode cX10_image 85 = .ok (.aload_n 0, 1) := dk_42 (dk_at dksX10_image_3 16 rfl rfl)
theorem dX10_image_86 : decode cX10_image 86 = .ok (.getfield 159, 3) := dk_180 0 159 (dk_at dksX10_image_3 17 rfl rfl)
theorem dX10_image_89 : decode cX10_image 89 = .ok (.iload_n 2, 1) := dk_28 (dk_at dksX10_image_3 20 rfl rfl)
theorem dX10_image_90 : decode cX10_image 90 = .ok (.iaload, 1) := dk_46 (dk_at dksX10_image_3 21 rfl rfl)
theorem dX10_image_91 : decode cX10_image 91 = .ok (.iastore, 1) := dk_79 (dk_at dksX10_image_3 22 rfl rfl)
theorem dX10_image_92 : decode cX10_image 92 = .ok (.iinc 2 1, 3) := dk_132 2 1 (dk_at dksX10_image_4 0 rfl rfl)
theorem dX10_image_95 : decode cX10_image 95 = .ok (.goto (-62), 3) := dk_167 255 194 (dk_at dksX10_image_4 3 rfl rfl)
theorem dX10_image_98 : decode cX10_image 98 = .ok (.aload_n 0, 1) := dk_42 (dk_at dksX10_image_4 6 rfl rfl)
theorem dX10_image_99 : decode cX10_image 99 = .ok (.getfield 318, 3) := dk_180 1 62 (dk_at dksX10_image_4 7 rfl rfl)
theorem dX10_image_102 : decode cX10_image 102 = .ok (.ireturn, 1) := dk_172 (dk_at dksX10_image_4 10 rfl rfl)
abbrev cX10_back : ByteArray := prog_32_method_108_code
def yX10_back : MethodName := ⟨RX10, "back", "(I)I"⟩
def dkwX10_back_4 : List UInt8 := [180, 0, 174, 16, 20, 27, 104, 28, 96, 46, 79, 132, 2, 1, 167, 255, 194, 42, 180, 1, 62, 172]
abbrev dktX10_back_4 : List UInt8 := dkwX10_back_4 ++ []
def dkwX10_back_3 : List UInt8 := [180, 0, 156, 28, 42, 180, 0, 171, 16, 20, 27, 104, 28, 96, 46, 79, 42, 180, 0, 159, 28, 42]
abbrev dktX10_back_3 : List UInt8 := dkwX10_back_3 ++ dktX10_back_4
def dkwX10_back_2 : List UInt8 := [180, 1, 62, 162, 0, 60, 42, 180, 0, 153, 28, 42, 180, 0, 168, 16, 20, 27, 104, 28, 96, 46, 79, 42]
abbrev dktX10_back_2 : List UInt8 := dkwX10_back_2 ++ dktX10_back_3
def dkwX10_back_1 : List UInt8 := [180, 0, 162, 27, 46, 181, 1, 62, 42, 42, 180, 0, 165, 27, 46, 181, 0, 147, 3, 61, 28, 42]
abbrev dktX10_back_1 : List UInt8 := dkwX10_back_1 ++ dktX10_back_2
def dkwX10_back_0 : List UInt8 := [27, 3, 5, 184, 1, 164, 153, 0, 12, 42, 180, 0, 162, 27, 46, 156, 0, 5, 2, 172, 42, 42]
abbrev dktX10_back_0 : List UInt8 := dkwX10_back_0 ++ dktX10_back_1
theorem dksX10_back_0 : cX10_back.data.toList.drop 0 = dktX10_back_0 := by decide +kernel
theorem dksX10_back_1 : cX10_back.data.toList.drop 22 = dktX10_back_1 := dk_seg dksX10_back_0 22 rfl rfl
theorem dksX10_back_2 : cX10_back.data.toList.drop 44 = dktX10_back_2 := dk_seg dksX10_back_1 22 rfl rfl
theorem dksX10_back_3 : cX10_back.data.toList.drop 68 = dktX10_back_3 := dk_seg dksX10_back_2 24 rfl rfl
theorem dksX10_back_4 : cX10_back.data.toList.drop 90 = dktX10_back_4 := dk_seg dksX10_back_3 22 rfl rfl
theorem dX10_back_0 : decode cX10_back 0 = .ok (.iload_n 1, 1) := dk_27 (dk_at dksX10_back_0 0 rfl rfl)
theorem dX10_back_1 : decode cX10_back 1 = .ok (.iconst 0, 1) := dk_3 (dk_at dksX10_back_0 1 rfl rfl)
theorem dX10_back_2 : decode cX10_back 2 = .ok (.iconst 2, 1) := dk_5 (dk_at dksX10_back_0 2 rfl rfl)
theorem dX10_back_3 : decode cX10_back 3 = .ok (.invokestatic 420, 3) := dk_184 1 164 (dk_at dksX10_back_0 3 rfl rfl)
theorem dX10_back_6 : decode cX10_back 6 = .ok (.ifCond .eq 12, 3) := dk_153 0 12 (dk_at dksX10_back_0 6 rfl rfl)
theorem dX10_back_9 : decode cX10_back 9 = .ok (.aload_n 0, 1) := dk_42 (dk_at dksX10_back_0 9 rfl rfl)
theorem dX10_back_10 : decode cX10_back 10 = .ok (.getfield 162, 3) := dk_180 0 162 (dk_at dksX10_back_0 10 rfl rfl)
theorem dX10_back_13 : decode cX10_back 13 = .ok (.iload_n 1, 1) := dk_27 (dk_at dksX10_back_0 13 rfl rfl)
theorem dX10_back_14 : decode cX10_back 14 = .ok (.iaload, 1) := dk_46 (dk_at dksX10_back_0 14 rfl rfl)
theorem dX10_back_15 : decode cX10_back 15 = .ok (.ifCond .ge 5, 3) := dk_156 0 5 (dk_at dksX10_back_0 15 rfl rfl)
theorem dX10_back_18 : decode cX10_back 18 = .ok (.iconst (-1), 1) := dk_2 (dk_at dksX10_back_0 18 rfl rfl)
theorem dX10_back_19 : decode cX10_back 19 = .ok (.ireturn, 1) := dk_172 (dk_at dksX10_back_0 19 rfl rfl)
theorem dX10_back_20 : decode cX10_back 20 = .ok (.aload_n 0, 1) := dk_42 (dk_at dksX10_back_0 20 rfl rfl)
theorem dX10_back_21 : decode cX10_back 21 = .ok (.aload_n 0, 1) := dk_42 (dk_at dksX10_back_0 21 rfl rfl)
theorem dX10_back_22 : decode cX10_back 22 = .ok (.getfield 162, 3) := dk_180 0 162 (dk_at dksX10_back_1 0 rfl rfl)
theorem dX10_back_25 : decode cX10_back 25 = .ok (.iload_n 1, 1) := dk_27 (dk_at dksX10_back_1 3 rfl rfl)
theorem dX10_back_26 : decode cX10_back 26 = .ok (.iaload, 1) := dk_46 (dk_at dksX10_back_1 4 rfl rfl)
theorem dX10_back_27 : decode cX10_back 27 = .ok (.putfield 318, 3) := dk_181 1 62 (dk_at dksX10_back_1 5 rfl rfl)
theorem dX10_back_30 : decode cX10_back 30 = .ok (.aload_n 0, 1) := dk_42 (dk_at dksX10_back_1 8 rfl rfl)
theorem dX10_back_31 : decode cX10_back 31 = .ok (.aload_n 0, 1) := dk_42 (dk_at dksX10_back_1 9 rfl rfl)
theorem dX10_back_32 : decode cX10_back 32 = .ok (.getfield 165, 3) := dk_180 0 165 (dk_at dksX10_back_1 10 rfl rfl)
theorem dX10_back_35 : decode cX10_back 35 = .ok (.iload_n 1, 1) := dk_27 (dk_at dksX10_back_1 13 rfl rfl)
theorem dX10_back_36 : decode cX10_back 36 = .ok (.iaload, 1) := dk_46 (dk_at dksX10_back_1 14 rfl rfl)
theorem dX10_back_37 : decode cX10_back 37 = .ok (.putfield 147, 3) := dk_181 0 147 (dk_at dksX10_back_1 15 rfl rfl)
theorem dX10_back_40 : decode cX10_back 40 = .ok (.iconst 0, 1) := dk_3 (dk_at dksX10_back_1 18 rfl rfl)
theorem dX10_back_41 : decode cX10_back 41 = .ok (.istore_n 2, 1) := dk_61 (dk_at dksX10_back_1 19 rfl rfl)
theorem dX10_back_42 : decode cX10_back 42 = .ok (.iload_n 2, 1) := dk_28 (dk_at dksX10_back_1 20 rfl rfl)
theorem dX10_back_43 : decode cX10_back 43 = .ok (.aload_n 0, 1) := dk_42 (dk_at dksX10_back_1 21 rfl rfl)
theorem dX10_back_44 : decode cX10_back 44 = .ok (.getfield 318, 3) := dk_180 1 62 (dk_at dksX10_back_2 0 rfl rfl)
theorem dX10_back_47 : decode cX10_back 47 = .ok (.if_icmp .ge 60, 3) := dk_162 0 60 (dk_at dksX10_back_2 3 rfl rfl)
theorem dX10_back_50 : decode cX10_back 50 = .ok (.aload_n 0, 1) := dk_42 (dk_at dksX10_back_2 6 rfl rfl)
theorem dX10_back_51 : decode cX10_back 51 = .ok (.getfield 153, 3) := dk_180 0 153 (dk_at dksX10_back_2 7 rfl rfl)
theorem dX10_back_54 : decode cX10_back 54 = .ok (.iload_n 2, 1) := dk_28 (dk_at dksX10_back_2 10 rfl rfl)
theorem dX10_back_55 : decode cX10_back 55 = .ok (.aload_n 0, 1) := dk_42 (dk_at dksX10_back_2 11 rfl rfl)
theorem dX10_back_56 : decode cX10_back 56 = .ok (.getfield 168, 3) := dk_180 0 168 (dk_at dksX10_back_2 12 rfl rfl)
theorem dX10_back_59 : decode cX10_back 59 = .ok (.bipush 20, 2) := dk_16 20 (dk_at dksX10_back_2 15 rfl rfl)
theorem dX10_back_61 : decode cX10_back 61 = .ok (.iload_n 1, 1) := dk_27 (dk_at dksX10_back_2 17 rfl rfl)
theorem dX10_back_62 : decode cX10_back 62 = .ok (.imul, 1) := dk_104 (dk_at dksX10_back_2 18 rfl rfl)
theorem dX10_back_63 : decode cX10_back 63 = .ok (.iload_n 2, 1) := dk_28 (dk_at dksX10_back_2 19 rfl rfl)
theorem dX10_back_64 : decode cX10_back 64 = .ok (.iadd, 1) := dk_96 (dk_at dksX10_back_2 20 rfl rfl)
theorem dX10_back_65 : decode cX10_back 65 = .ok (.iaload, 1) := dk_46 (dk_at dksX10_back_2 21 rfl rfl)
theorem dX10_back_66 : decode cX10_back 66 = .ok (.iastore, 1) := dk_79 (dk_at dksX10_back_2 22 rfl rfl)
theorem dX10_back_67 : decode cX10_back 67 = .ok (.aload_n 0, 1) := dk_42 (dk_at dksX10_back_2 23 rfl rfl)
theorem dX10_back_68 : decode cX10_back 68 = .ok (.getfield 156, 3) := dk_180 0 156 (dk_at dksX10_back_3 0 rfl rfl)
theorem dX10_back_71 : decode cX10_back 71 = .ok (.iload_n 2, 1) := dk_28 (dk_at dksX10_back_3 3 rfl rfl)
theorem dX10_back_72 : decode cX10_back 72 = .ok (.aload_n 0, 1) := dk_42 (dk_at dksX10_back_3 4 rfl rfl)
theorem dX10_back_73 : decode cX10_back 73 = .ok (.getfield 171, 3) := dk_180 0 171 (dk_at dksX10_back_3 5 rfl rfl)
theorem dX10_back_76 : decode cX10_back 76 = .ok (.bipush 20, 2) := dk_16 20 (dk_at dksX10_back_3 8 rfl rfl)
theorem dX10_back_78 : decode cX10_back 78 = .ok (.iload_n 1, 1) := dk_27 (dk_at dksX10_back_3 10 rfl rfl)
theorem dX10_back_79 : decode cX10_back 79 = .ok (.imul, 1) := dk_104 (dk_at dksX10_back_3 11 rfl rfl)
theorem dX10_back_80 : decode cX10_back 80 = .ok (.iload_n 2, 1) := dk_28 (dk_at dksX10_back_3 12 rfl rfl)
theorem dX10_back_81 : decode cX10_back 81 = .ok (.iadd, 1) := dk_96 (dk_at dksX10_back_3 13 rfl rfl)
theorem dX10_back_82 : decode cX10_back 82 = .ok (.iaload, 1) := dk_46 (dk_at dksX10_back_3 14 rfl rfl)
theorem dX10_back_83 : decode cX10_back 83 = .ok (.iastore, 1) := dk_79 (dk_at dksX10_back_3 15 rfl rfl)
theorem dX10_back_84 : decode cX10_back 84 = .ok (.aload_n 0, 1) := dk_42 (dk_at dksX10_back_3 16 rfl rfl)
theorem dX10_back_85 : decode cX10_back 85 = .ok (.getfield 159, 3) := dk_180 0 159 (dk_at dksX10_back_3 17 rfl rfl)
theorem dX10_back_88 : decode cX10_back 88 = .ok (.iload_n 2, 1) := dk_28 (dk_at dksX10_back_3 20 rfl rfl)
theorem dX10_back_89 : decode cX10_back 89 = .ok (.aload_n 0, 1) := dk_42 (dk_at dksX10_back_3 21 rfl rfl)
theorem dX10_back_90 : decode cX10_back 90 = .ok (.getfield 174, 3) := dk_180 0 174 (dk_at dksX10_back_4 0 rfl rfl)
theorem dX10_back_93 : decode cX10_back 93 = .ok (.bipush 20, 2) := dk_16 20 (dk_at dksX10_back_4 3 rfl rfl)
theorem dX10_back_95 : decode cX10_back 95 = .ok (.iload_n 1, 1) := dk_27 (dk_at dksX10_back_4 5 rfl rfl)
theorem dX10_back_96 : decode cX10_back 96 = .ok (.imul, 1) := dk_104 (dk_at dksX10_back_4 6 rfl rfl)
theorem dX10_back_97 : decode cX10_back 97 = .ok (.iload_n 2, 1) := dk_28 (dk_at dksX10_back_4 7 rfl rfl)
theorem dX10_back_98 : decode cX10_back 98 = .ok (.iadd, 1) := dk_96 (dk_at dksX10_back_4 8 rfl rfl)
theorem dX10_back_99 : decode cX10_back 99 = .ok (.iaload, 1) := dk_46 (dk_at dksX10_back_4 9 rfl rfl)
theorem dX10_back_100 : decode cX10_back 100 = .ok (.iastore, 1) := dk_79 (dk_at dksX10_back_4 10 rfl rfl)
theorem dX10_back_101 : decode cX10_back 101 = .ok (.iinc 2 1, 3) := dk_132 2 1 (dk_at dksX10_back_4 11 rfl rfl)
theorem dX10_back_104 : decode cX10_back 104 = .ok (.goto (-62), 3) := dk_167 255 194 (dk_at dksX10_back_4 14 rfl rfl)
theorem dX10_back_107 : decode cX10_back 107 = .ok (.aload_n 0, 1) := dk_42 (dk_at dksX10_back_4 17 rfl rfl)
theorem dX10_back_108 : decode cX10_back 108 = .ok (.getfield 318, 3) := dk_180 1 62 (dk_at dksX10_back_4 18 rfl rfl)
theorem dX10_back_111 : decode cX10_back 111 = .ok (.ireturn, 1) := dk_172 (dk_at dksX10_back_4 21 rfl rfl)
abbrev cX10_about : ByteArray := prog_32_method_109_code
def yX10_about : MethodName := ⟨RX10, "about", "(I)I"⟩
def dkwX10_about_5 : List UInt8 := [180, 0, 39, 42, 180, 1, 53, 46, 172, 2, 172]
abbrev dktX10_about_5 : List UInt8 := dkwX10_about_5 ++ []
def dkwX10_about_4 : List UInt8 := [172, 42, 180, 1, 62, 172, 42, 180, 2, 101, 172, 42, 180, 1, 50, 172, 42, 180, 0, 147, 172, 42]
abbrev dktX10_about_4 : List UInt8 := dkwX10_about_4 ++ dktX10_about_5
def dkwX10_about_3 : List UInt8 := [42, 180, 1, 53, 46, 172, 42, 180, 0, 30, 42, 180, 1, 53, 46, 172, 42, 182, 2, 67, 42, 180, 2, 52]
abbrev dktX10_about_3 : List UInt8 := dkwX10_about_3 ++ dktX10_about_4
def dkwX10_about_2 : List UInt8 := [42, 180, 0, 20, 42, 180, 1, 53, 46, 172, 42, 180, 0, 24, 42, 180, 1, 53, 46, 172, 42, 180, 0, 27]
abbrev dktX10_about_2 : List UInt8 := dkwX10_about_2 ++ dktX10_about_3
def dkwX10_about_1 : List UInt8 := [170, 0, 0, 0, 0, 0, 134, 0, 0, 0, 0, 0, 0, 0, 9, 0, 0, 0, 55, 0, 0, 0, 65, 0, 0, 0, 75, 0, 0, 0, 85, 0, 0, 0, 95, 0, 0, 0, 104, 0, 0, 0, 109, 0, 0, 0, 114, 0, 0, 0, 119, 0, 0, 0, 124]
abbrev dktX10_about_1 : List UInt8 := dkwX10_about_1 ++ dktX10_about_2
def dkwX10_about_0 : List UInt8 := [27]
abbrev dktX10_about_0 : List UInt8 := dkwX10_about_0 ++ dktX10_about_1
theorem dksX10_about_0 : cX10_about.data.toList.drop 0 = dktX10_about_0 := by decide +kernel
theorem dksX10_about_1 : cX10_about.data.toList.drop 1 = dktX10_about_1 := dk_seg dksX10_about_0 1 rfl rfl
theorem dksX10_about_2 : cX10_about.data.toList.drop 56 = dktX10_about_2 := dk_seg dksX10_about_1 55 rfl rfl
theorem dksX10_about_3 : cX10_about.data.toList.drop 80 = dktX10_about_3 := dk_seg dksX10_about_2 24 rfl rfl
theorem dksX10_about_4 : cX10_about.data.toList.drop 104 = dktX10_about_4 := dk_seg dksX10_about_3 24 rfl rfl
theorem dksX10_about_5 : cX10_about.data.toList.drop 126 = dktX10_about_5 := dk_seg dksX10_about_4 22 rfl rfl
theorem dX10_about_0 : decode cX10_about 0 = .ok (.iload_n 1, 1) := dk_27 (dk_at dksX10_about_0 0 rfl rfl)
theorem dX10_about_1 : decode cX10_about 1 = .ok (.tableswitch 134 0 9 #[55, 65, 75, 85, 95, 104, 109, 114, 119, 124], 55) := by decide +kernel
theorem dX10_about_56 : decode cX10_about 56 = .ok (.aload_n 0, 1) := dk_42 (dk_at dksX10_about_2 0 rfl rfl)
theorem dX10_about_57 : decode cX10_about 57 = .ok (.getfield 20, 3) := dk_180 0 20 (dk_at dksX10_about_2 1 rfl rfl)
theorem dX10_about_60 : decode cX10_about 60 = .ok (.aload_n 0, 1) := dk_42 (dk_at dksX10_about_2 4 rfl rfl)
theorem dX10_about_61 : decode cX10_about 61 = .ok (.getfield 309, 3) := dk_180 1 53 (dk_at dksX10_about_2 5 rfl rfl)
theorem dX10_about_64 : decode cX10_about 64 = .ok (.iaload, 1) := dk_46 (dk_at dksX10_about_2 8 rfl rfl)
theorem dX10_about_65 : decode cX10_about 65 = .ok (.ireturn, 1) := dk_172 (dk_at dksX10_about_2 9 rfl rfl)
theorem dX10_about_66 : decode cX10_about 66 = .ok (.aload_n 0, 1) := dk_42 (dk_at dksX10_about_2 10 rfl rfl)
theorem dX10_about_67 : decode cX10_about 67 = .ok (.getfield 24, 3) := dk_180 0 24 (dk_at dksX10_about_2 11 rfl rfl)
theorem dX10_about_70 : decode cX10_about 70 = .ok (.aload_n 0, 1) := dk_42 (dk_at dksX10_about_2 14 rfl rfl)
theorem dX10_about_71 : decode cX10_about 71 = .ok (.getfield 309, 3) := dk_180 1 53 (dk_at dksX10_about_2 15 rfl rfl)
theorem dX10_about_74 : decode cX10_about 74 = .ok (.iaload, 1) := dk_46 (dk_at dksX10_about_2 18 rfl rfl)
theorem dX10_about_75 : decode cX10_about 75 = .ok (.ireturn, 1) := dk_172 (dk_at dksX10_about_2 19 rfl rfl)
theorem dX10_about_76 : decode cX10_about 76 = .ok (.aload_n 0, 1) := dk_42 (dk_at dksX10_about_2 20 rfl rfl)
theorem dX10_about_77 : decode cX10_about 77 = .ok (.getfield 27, 3) := dk_180 0 27 (dk_at dksX10_about_2 21 rfl rfl)
theorem dX10_about_80 : decode cX10_about 80 = .ok (.aload_n 0, 1) := dk_42 (dk_at dksX10_about_3 0 rfl rfl)
theorem dX10_about_81 : decode cX10_about 81 = .ok (.getfield 309, 3) := dk_180 1 53 (dk_at dksX10_about_3 1 rfl rfl)
theorem dX10_about_84 : decode cX10_about 84 = .ok (.iaload, 1) := dk_46 (dk_at dksX10_about_3 4 rfl rfl)
theorem dX10_about_85 : decode cX10_about 85 = .ok (.ireturn, 1) := dk_172 (dk_at dksX10_about_3 5 rfl rfl)
theorem dX10_about_86 : decode cX10_about 86 = .ok (.aload_n 0, 1) := dk_42 (dk_at dksX10_about_3 6 rfl rfl)
theorem dX10_about_87 : decode cX10_about 87 = .ok (.getfield 30, 3) := dk_180 0 30 (dk_at dksX10_about_3 7 rfl rfl)
theorem dX10_about_90 : decode cX10_about 90 = .ok (.aload_n 0, 1) := dk_42 (dk_at dksX10_about_3 10 rfl rfl)
theorem dX10_about_91 : decode cX10_about 91 = .ok (.getfield 309, 3) := dk_180 1 53 (dk_at dksX10_about_3 11 rfl rfl)
theorem dX10_about_94 : decode cX10_about 94 = .ok (.iaload, 1) := dk_46 (dk_at dksX10_about_3 14 rfl rfl)
theorem dX10_about_95 : decode cX10_about 95 = .ok (.ireturn, 1) := dk_172 (dk_at dksX10_about_3 15 rfl rfl)
theorem dX10_about_96 : decode cX10_about 96 = .ok (.aload_n 0, 1) := dk_42 (dk_at dksX10_about_3 16 rfl rfl)
theorem dX10_about_97 : decode cX10_about 97 = .ok (.invokevirtual 579, 3) := dk_182 2 67 (dk_at dksX10_about_3 17 rfl rfl)
theorem dX10_about_100 : decode cX10_about 100 = .ok (.aload_n 0, 1) := dk_42 (dk_at dksX10_about_3 20 rfl rfl)
theorem dX10_about_101 : decode cX10_about 101 = .ok (.getfield 564, 3) := dk_180 2 52 (dk_at dksX10_about_3 21 rfl rfl)
theorem dX10_about_104 : decode cX10_about 104 = .ok (.ireturn, 1) := dk_172 (dk_at dksX10_about_4 0 rfl rfl)
theorem dX10_about_105 : decode cX10_about 105 = .ok (.aload_n 0, 1) := dk_42 (dk_at dksX10_about_4 1 rfl rfl)
theorem dX10_about_106 : decode cX10_about 106 = .ok (.getfield 318, 3) := dk_180 1 62 (dk_at dksX10_about_4 2 rfl rfl)
theorem dX10_about_109 : decode cX10_about 109 = .ok (.ireturn, 1) := dk_172 (dk_at dksX10_about_4 5 rfl rfl)
theorem dX10_about_110 : decode cX10_about 110 = .ok (.aload_n 0, 1) := dk_42 (dk_at dksX10_about_4 6 rfl rfl)
theorem dX10_about_111 : decode cX10_about 111 = .ok (.getfield 613, 3) := dk_180 2 101 (dk_at dksX10_about_4 7 rfl rfl)
theorem dX10_about_114 : decode cX10_about 114 = .ok (.ireturn, 1) := dk_172 (dk_at dksX10_about_4 10 rfl rfl)
theorem dX10_about_115 : decode cX10_about 115 = .ok (.aload_n 0, 1) := dk_42 (dk_at dksX10_about_4 11 rfl rfl)
theorem dX10_about_116 : decode cX10_about 116 = .ok (.getfield 306, 3) := dk_180 1 50 (dk_at dksX10_about_4 12 rfl rfl)
theorem dX10_about_119 : decode cX10_about 119 = .ok (.ireturn, 1) := dk_172 (dk_at dksX10_about_4 15 rfl rfl)
theorem dX10_about_120 : decode cX10_about 120 = .ok (.aload_n 0, 1) := dk_42 (dk_at dksX10_about_4 16 rfl rfl)
theorem dX10_about_121 : decode cX10_about 121 = .ok (.getfield 147, 3) := dk_180 0 147 (dk_at dksX10_about_4 17 rfl rfl)
theorem dX10_about_124 : decode cX10_about 124 = .ok (.ireturn, 1) := dk_172 (dk_at dksX10_about_4 20 rfl rfl)
theorem dX10_about_125 : decode cX10_about 125 = .ok (.aload_n 0, 1) := dk_42 (dk_at dksX10_about_4 21 rfl rfl)
theorem dX10_about_126 : decode cX10_about 126 = .ok (.getfield 39, 3) := dk_180 0 39 (dk_at dksX10_about_5 0 rfl rfl)
theorem dX10_about_129 : decode cX10_about 129 = .ok (.aload_n 0, 1) := dk_42 (dk_at dksX10_about_5 3 rfl rfl)
theorem dX10_about_130 : decode cX10_about 130 = .ok (.getfield 309, 3) := dk_180 1 53 (dk_at dksX10_about_5 4 rfl rfl)
theorem dX10_about_133 : decode cX10_about 133 = .ok (.iaload, 1) := dk_46 (dk_at dksX10_about_5 7 rfl rfl)
theorem dX10_about_134 : decode cX10_about 134 = .ok (.ireturn, 1) := dk_172 (dk_at dksX10_about_5 8 rfl rfl)
theorem dX10_about_135 : decode cX10_about 135 = .ok (.iconst (-1), 1) := dk_2 (dk_at dksX10_about_5 9 rfl rfl)
theorem dX10_about_136 : decode cX10_about 136 = .ok (.ireturn, 1) := dk_172 (dk_at dksX10_about_5 10 rfl rfl)
abbrev cX10_feed : ByteArray := prog_32_method_110_code
def yX10_feed : MethodName := ⟨RX10, "feed", "(IIIII)I"⟩
def dkwX10_feed_5 : List UInt8 := [180, 1, 50, 172]
abbrev dktX10_feed_5 : List UInt8 := dkwX10_feed_5 ++ []
def dkwX10_feed_4 : List UInt8 := [126, 104, 100, 122, 145, 84, 132, 6, 1, 167, 255, 172, 42, 89, 180, 1, 50, 16, 20, 96, 181, 1, 50, 42]
abbrev dktX10_feed_4 : List UInt8 := dkwX10_feed_4 ++ dktX10_feed_5
def dkwX10_feed_3 : List UInt8 := [21, 5, 54, 7, 42, 180, 0, 7, 42, 180, 1, 50, 21, 6, 96, 21, 7, 16, 24, 16, 8, 21, 6, 6]
abbrev dktX10_feed_3 : List UInt8 := dkwX10_feed_3 ++ dktX10_feed_4
def dkwX10_feed_2 : List UInt8 := [21, 6, 16, 12, 162, 0, 7, 29, 167, 0, 17, 21, 6, 16, 16, 162, 0, 8, 21, 4, 167, 0, 5]
abbrev dktX10_feed_2 : List UInt8 := dkwX10_feed_2 ++ dktX10_feed_3
def dkwX10_feed_1 : List UInt8 := [162, 0, 83, 21, 6, 7, 162, 0, 7, 27, 167, 0, 39, 21, 6, 16, 8, 162, 0, 7, 28, 167, 0, 28]
abbrev dktX10_feed_1 : List UInt8 := dkwX10_feed_1 ++ dktX10_feed_2
def dkwX10_feed_0 : List UInt8 := [42, 180, 1, 50, 16, 20, 96, 17, 6, 64, 164, 0, 5, 2, 172, 3, 54, 6, 21, 6, 16, 20]
abbrev dktX10_feed_0 : List UInt8 := dkwX10_feed_0 ++ dktX10_feed_1
theorem dksX10_feed_0 : cX10_feed.data.toList.drop 0 = dktX10_feed_0 := by decide +kernel
theorem dksX10_feed_1 : cX10_feed.data.toList.drop 22 = dktX10_feed_1 := dk_seg dksX10_feed_0 22 rfl rfl
theorem dksX10_feed_2 : cX10_feed.data.toList.drop 46 = dktX10_feed_2 := dk_seg dksX10_feed_1 24 rfl rfl
theorem dksX10_feed_3 : cX10_feed.data.toList.drop 69 = dktX10_feed_3 := dk_seg dksX10_feed_2 23 rfl rfl
theorem dksX10_feed_4 : cX10_feed.data.toList.drop 93 = dktX10_feed_4 := dk_seg dksX10_feed_3 24 rfl rfl
theorem dksX10_feed_5 : cX10_feed.data.toList.drop 117 = dktX10_feed_5 := dk_seg dksX10_feed_4 24 rfl rfl
theorem dX10_feed_0 : decode cX10_feed 0 = .ok (.aload_n 0, 1) := dk_42 (dk_at dksX10_feed_0 0 rfl rfl)
theorem dX10_feed_1 : decode cX10_feed 1 = .ok (.getfield 306, 3) := dk_180 1 50 (dk_at dksX10_feed_0 1 rfl rfl)
theorem dX10_feed_4 : decode cX10_feed 4 = .ok (.bipush 20, 2) := dk_16 20 (dk_at dksX10_feed_0 4 rfl rfl)
theorem dX10_feed_6 : decode cX10_feed 6 = .ok (.iadd, 1) := dk_96 (dk_at dksX10_feed_0 6 rfl rfl)
theorem dX10_feed_7 : decode cX10_feed 7 = .ok (.sipush 1600, 3) := dk_17 6 64 (dk_at dksX10_feed_0 7 rfl rfl)
theorem dX10_feed_10 : decode cX10_feed 10 = .ok (.if_icmp .le 5, 3) := dk_164 0 5 (dk_at dksX10_feed_0 10 rfl rfl)
theorem dX10_feed_13 : decode cX10_feed 13 = .ok (.iconst (-1), 1) := dk_2 (dk_at dksX10_feed_0 13 rfl rfl)
theorem dX10_feed_14 : decode cX10_feed 14 = .ok (.ireturn, 1) := dk_172 (dk_at dksX10_feed_0 14 rfl rfl)
theorem dX10_feed_15 : decode cX10_feed 15 = .ok (.iconst 0, 1) := dk_3 (dk_at dksX10_feed_0 15 rfl rfl)
theorem dX10_feed_16 : decode cX10_feed 16 = .ok (.istore 6, 2) := dk_54 6 (dk_at dksX10_feed_0 16 rfl rfl)
theorem dX10_feed_18 : decode cX10_feed 18 = .ok (.iload 6, 2) := dk_21 6 (dk_at dksX10_feed_0 18 rfl rfl)
theorem dX10_feed_20 : decode cX10_feed 20 = .ok (.bipush 20, 2) := dk_16 20 (dk_at dksX10_feed_0 20 rfl rfl)
theorem dX10_feed_22 : decode cX10_feed 22 = .ok (.if_icmp .ge 83, 3) := dk_162 0 83 (dk_at dksX10_feed_1 0 rfl rfl)
theorem dX10_feed_25 : decode cX10_feed 25 = .ok (.iload 6, 2) := dk_21 6 (dk_at dksX10_feed_1 3 rfl rfl)
theorem dX10_feed_27 : decode cX10_feed 27 = .ok (.iconst 4, 1) := dk_7 (dk_at dksX10_feed_1 5 rfl rfl)
theorem dX10_feed_28 : decode cX10_feed 28 = .ok (.if_icmp .ge 7, 3) := dk_162 0 7 (dk_at dksX10_feed_1 6 rfl rfl)
theorem dX10_feed_31 : decode cX10_feed 31 = .ok (.iload_n 1, 1) := dk_27 (dk_at dksX10_feed_1 9 rfl rfl)
theorem dX10_feed_32 : decode cX10_feed 32 = .ok (.goto 39, 3) := dk_167 0 39 (dk_at dksX10_feed_1 10 rfl rfl)
theorem dX10_feed_35 : decode cX10_feed 35 = .ok (.iload 6, 2) := dk_21 6 (dk_at dksX10_feed_1 13 rfl rfl)
theorem dX10_feed_37 : decode cX10_feed 37 = .ok (.bipush 8, 2) := dk_16 8 (dk_at dksX10_feed_1 15 rfl rfl)
theorem dX10_feed_39 : decode cX10_feed 39 = .ok (.if_icmp .ge 7, 3) := dk_162 0 7 (dk_at dksX10_feed_1 17 rfl rfl)
theorem dX10_feed_42 : decode cX10_feed 42 = .ok (.iload_n 2, 1) := dk_28 (dk_at dksX10_feed_1 20 rfl rfl)
theorem dX10_feed_43 : decode cX10_feed 43 = .ok (.goto 28, 3) := dk_167 0 28 (dk_at dksX10_feed_1 21 rfl rfl)
theorem dX10_feed_46 : decode cX10_feed 46 = .ok (.iload 6, 2) := dk_21 6 (dk_at dksX10_feed_2 0 rfl rfl)
theorem dX10_feed_48 : decode cX10_feed 48 = .ok (.bipush 12, 2) := dk_16 12 (dk_at dksX10_feed_2 2 rfl rfl)
theorem dX10_feed_50 : decode cX10_feed 50 = .ok (.if_icmp .ge 7, 3) := dk_162 0 7 (dk_at dksX10_feed_2 4 rfl rfl)
theorem dX10_feed_53 : decode cX10_feed 53 = .ok (.iload_n 3, 1) := dk_29 (dk_at dksX10_feed_2 7 rfl rfl)
theorem dX10_feed_54 : decode cX10_feed 54 = .ok (.goto 17, 3) := dk_167 0 17 (dk_at dksX10_feed_2 8 rfl rfl)
theorem dX10_feed_57 : decode cX10_feed 57 = .ok (.iload 6, 2) := dk_21 6 (dk_at dksX10_feed_2 11 rfl rfl)
theorem dX10_feed_59 : decode cX10_feed 59 = .ok (.bipush 16, 2) := dk_16 16 (dk_at dksX10_feed_2 13 rfl rfl)
theorem dX10_feed_61 : decode cX10_feed 61 = .ok (.if_icmp .ge 8, 3) := dk_162 0 8 (dk_at dksX10_feed_2 15 rfl rfl)
theorem dX10_feed_64 : decode cX10_feed 64 = .ok (.iload 4, 2) := dk_21 4 (dk_at dksX10_feed_2 18 rfl rfl)
theorem dX10_feed_66 : decode cX10_feed 66 = .ok (.goto 5, 3) := dk_167 0 5 (dk_at dksX10_feed_2 20 rfl rfl)
theorem dX10_feed_69 : decode cX10_feed 69 = .ok (.iload 5, 2) := dk_21 5 (dk_at dksX10_feed_3 0 rfl rfl)
theorem dX10_feed_71 : decode cX10_feed 71 = .ok (.istore 7, 2) := dk_54 7 (dk_at dksX10_feed_3 2 rfl rfl)
theorem dX10_feed_73 : decode cX10_feed 73 = .ok (.aload_n 0, 1) := dk_42 (dk_at dksX10_feed_3 4 rfl rfl)
theorem dX10_feed_74 : decode cX10_feed 74 = .ok (.getfield 7, 3) := dk_180 0 7 (dk_at dksX10_feed_3 5 rfl rfl)
theorem dX10_feed_77 : decode cX10_feed 77 = .ok (.aload_n 0, 1) := dk_42 (dk_at dksX10_feed_3 8 rfl rfl)
theorem dX10_feed_78 : decode cX10_feed 78 = .ok (.getfield 306, 3) := dk_180 1 50 (dk_at dksX10_feed_3 9 rfl rfl)
theorem dX10_feed_81 : decode cX10_feed 81 = .ok (.iload 6, 2) := dk_21 6 (dk_at dksX10_feed_3 12 rfl rfl)
theorem dX10_feed_83 : decode cX10_feed 83 = .ok (.iadd, 1) := dk_96 (dk_at dksX10_feed_3 14 rfl rfl)
theorem dX10_feed_84 : decode cX10_feed 84 = .ok (.iload 7, 2) := dk_21 7 (dk_at dksX10_feed_3 15 rfl rfl)
theorem dX10_feed_86 : decode cX10_feed 86 = .ok (.bipush 24, 2) := dk_16 24 (dk_at dksX10_feed_3 17 rfl rfl)
theorem dX10_feed_88 : decode cX10_feed 88 = .ok (.bipush 8, 2) := dk_16 8 (dk_at dksX10_feed_3 19 rfl rfl)
theorem dX10_feed_90 : decode cX10_feed 90 = .ok (.iload 6, 2) := dk_21 6 (dk_at dksX10_feed_3 21 rfl rfl)
theorem dX10_feed_92 : decode cX10_feed 92 = .ok (.iconst 3, 1) := dk_6 (dk_at dksX10_feed_3 23 rfl rfl)
theorem dX10_feed_93 : decode cX10_feed 93 = .ok (.iand, 1) := dk_126 (dk_at dksX10_feed_4 0 rfl rfl)
theorem dX10_feed_94 : decode cX10_feed 94 = .ok (.imul, 1) := dk_104 (dk_at dksX10_feed_4 1 rfl rfl)
theorem dX10_feed_95 : decode cX10_feed 95 = .ok (.isub, 1) := dk_100 (dk_at dksX10_feed_4 2 rfl rfl)
theorem dX10_feed_96 : decode cX10_feed 96 = .ok (.ishr, 1) := dk_122 (dk_at dksX10_feed_4 3 rfl rfl)
theorem dX10_feed_97 : decode cX10_feed 97 = .ok (.i2b, 1) := dk_145 (dk_at dksX10_feed_4 4 rfl rfl)
theorem dX10_feed_98 : decode cX10_feed 98 = .ok (.bastore, 1) := dk_84 (dk_at dksX10_feed_4 5 rfl rfl)
theorem dX10_feed_99 : decode cX10_feed 99 = .ok (.iinc 6 1, 3) := dk_132 6 1 (dk_at dksX10_feed_4 6 rfl rfl)
theorem dX10_feed_102 : decode cX10_feed 102 = .ok (.goto (-84), 3) := dk_167 255 172 (dk_at dksX10_feed_4 9 rfl rfl)
theorem dX10_feed_105 : decode cX10_feed 105 = .ok (.aload_n 0, 1) := dk_42 (dk_at dksX10_feed_4 12 rfl rfl)
theorem dX10_feed_106 : decode cX10_feed 106 = .ok (.dup, 1) := dk_89 (dk_at dksX10_feed_4 13 rfl rfl)
theorem dX10_feed_107 : decode cX10_feed 107 = .ok (.getfield 306, 3) := dk_180 1 50 (dk_at dksX10_feed_4 14 rfl rfl)
theorem dX10_feed_110 : decode cX10_feed 110 = .ok (.bipush 20, 2) := dk_16 20 (dk_at dksX10_feed_4 17 rfl rfl)
theorem dX10_feed_112 : decode cX10_feed 112 = .ok (.iadd, 1) := dk_96 (dk_at dksX10_feed_4 19 rfl rfl)
theorem dX10_feed_113 : decode cX10_feed 113 = .ok (.putfield 306, 3) := dk_181 1 50 (dk_at dksX10_feed_4 20 rfl rfl)
theorem dX10_feed_116 : decode cX10_feed 116 = .ok (.aload_n 0, 1) := dk_42 (dk_at dksX10_feed_4 23 rfl rfl)
theorem dX10_feed_117 : decode cX10_feed 117 = .ok (.getfield 306, 3) := dk_180 1 50 (dk_at dksX10_feed_5 0 rfl rfl)
theorem dX10_feed_120 : decode cX10_feed 120 = .ok (.ireturn, 1) := dk_172 (dk_at dksX10_feed_5 3 rfl rfl)
abbrev cX10_end : ByteArray := prog_32_method_111_code
def yX10_end : MethodName := ⟨RX10, "end", "(I)I"⟩
def dkwX10_end_0 : List UInt8 := [27, 155, 0, 11, 27, 42, 180, 1, 50, 164, 0, 5, 2, 172, 42, 27, 181, 1, 50, 27, 172]
abbrev dktX10_end_0 : List UInt8 := dkwX10_end_0 ++ []
theorem dksX10_end_0 : cX10_end.data.toList.drop 0 = dktX10_end_0 := by decide +kernel
theorem dX10_end_0 : decode cX10_end 0 = .ok (.iload_n 1, 1) := dk_27 (dk_at dksX10_end_0 0 rfl rfl)
theorem dX10_end_1 : decode cX10_end 1 = .ok (.ifCond .lt 11, 3) := dk_155 0 11 (dk_at dksX10_end_0 1 rfl rfl)
theorem dX10_end_4 : decode cX10_end 4 = .ok (.iload_n 1, 1) := dk_27 (dk_at dksX10_end_0 4 rfl rfl)
theorem dX10_end_5 : decode cX10_end 5 = .ok (.aload_n 0, 1) := dk_42 (dk_at dksX10_end_0 5 rfl rfl)
theorem dX10_end_6 : decode cX10_end 6 = .ok (.getfield 306, 3) := dk_180 1 50 (dk_at dksX10_end_0 6 rfl rfl)
theorem dX10_end_9 : decode cX10_end 9 = .ok (.if_icmp .le 5, 3) := dk_164 0 5 (dk_at dksX10_end_0 9 rfl rfl)
theorem dX10_end_12 : decode cX10_end 12 = .ok (.iconst (-1), 1) := dk_2 (dk_at dksX10_end_0 12 rfl rfl)
theorem dX10_end_13 : decode cX10_end 13 = .ok (.ireturn, 1) := dk_172 (dk_at dksX10_end_0 13 rfl rfl)
theorem dX10_end_14 : decode cX10_end 14 = .ok (.aload_n 0, 1) := dk_42 (dk_at dksX10_end_0 14 rfl rfl)
theorem dX10_end_15 : decode cX10_end 15 = .ok (.iload_n 1, 1) := dk_27 (dk_at dksX10_end_0 15 rfl rfl)
theorem dX10_end_16 : decode cX10_end 16 = .ok (.putfield 306, 3) := dk_181 1 50 (dk_at dksX10_end_0 16 rfl rfl)
theorem dX10_end_19 : decode cX10_end 19 = .ok (.iload_n 1, 1) := dk_27 (dk_at dksX10_end_0 19 rfl rfl)
theorem dX10_end_20 : decode cX10_end 20 = .ok (.ireturn, 1) := dk_172 (dk_at dksX10_end_0 20 rfl rfl)
theorem q145 : (Jvm.Cond.initialized "BlindCardsModel") ∈ lw_all := lw_g (lw_at lw_m1 21 rfl) rfl
theorem q451 : (Jvm.Cond.selects "BlindCardsModel" ({ cls := "java/lang/Object", name := "getClass", desc := "()Ljava/lang/Class;" } : Jvm.MethodName) ({ cls := "java/lang/Object", name := "getClass", desc := "()Ljava/lang/Class;" } : Jvm.MethodName)) ∈ lw_all := lw_g (lw_at lw_m2 87 rfl) rfl
theorem q1812 : (Jvm.Cond.instantiable "BlindCardsModel" (89 : Nat)) ∈ lw_all := lw_g (lw_at lw_m8 8 rfl) rfl
theorem q1814 : (Jvm.Cond.instanceMethod ({ cls := "BlindCardsModel", name := "<init>", desc := "()V" } : Jvm.MethodName)) ∈ lw_all := lw_g (lw_at lw_m8 10 rfl) rfl
theorem q1815 : (Jvm.Cond.code ({ cls := "BlindCardsModel", name := "<init>", desc := "()V" } : Jvm.MethodName) prog_32_method_1_code (2 : Nat) (Option.none : Option Jvm.ClassFile.FieldType)) ∈ lw_all := lw_g (lw_at lw_m8 11 rfl) rfl
theorem q1816 : (Jvm.Cond.methodLink "BlindCardsModel" (1 : Nat) ({ cls := "java/lang/Object", name := "<init>", desc := "()V" } : Jvm.MethodName)) ∈ lw_all := lw_g (lw_at lw_m8 12 rfl) rfl
theorem q1817 : (Jvm.Cond.constant "BlindCardsModel" (98 : Nat) (36864 : Int32)) ∈ lw_all := lw_g (lw_at lw_m8 13 rfl) rfl
theorem q1818 : (Jvm.Cond.methodLink "BlindCardsModel" (177 : Nat) ({ cls := "BlindCardsModel", name := "clearBank", desc := "()V" } : Jvm.MethodName)) ∈ lw_all := lw_g (lw_at lw_m8 14 rfl) rfl
theorem q1819 : (Jvm.Cond.privateMethod ({ cls := "BlindCardsModel", name := "clearBank", desc := "()V" } : Jvm.MethodName)) ∈ lw_tbl := lw_at lw_m8 15 rfl
theorem q1820 : (Jvm.Cond.instanceMethod ({ cls := "BlindCardsModel", name := "clearBank", desc := "()V" } : Jvm.MethodName)) ∈ lw_all := lw_g (lw_at lw_m8 16 rfl) rfl
theorem q1821 : (Jvm.Cond.code ({ cls := "BlindCardsModel", name := "clearBank", desc := "()V" } : Jvm.MethodName) prog_32_method_15_code (1 : Nat) (Option.none : Option Jvm.ClassFile.FieldType)) ∈ lw_all := lw_g (lw_at lw_m8 17 rfl) rfl
theorem q1822 : (Jvm.Cond.methodLink "BlindCardsModel" (180 : Nat) ({ cls := "BlindCardsModel", name := "layPaths", desc := "()V" } : Jvm.MethodName)) ∈ lw_all := lw_g (lw_at lw_m8 18 rfl) rfl
theorem q1823 : (Jvm.Cond.privateMethod ({ cls := "BlindCardsModel", name := "layPaths", desc := "()V" } : Jvm.MethodName)) ∈ lw_tbl := lw_at lw_m8 19 rfl
theorem q1824 : (Jvm.Cond.instanceMethod ({ cls := "BlindCardsModel", name := "layPaths", desc := "()V" } : Jvm.MethodName)) ∈ lw_all := lw_g (lw_at lw_m8 20 rfl) rfl
theorem q1825 : (Jvm.Cond.code ({ cls := "BlindCardsModel", name := "layPaths", desc := "()V" } : Jvm.MethodName) prog_32_method_75_code (1 : Nat) (Option.none : Option Jvm.ClassFile.FieldType)) ∈ lw_all := lw_g (lw_at lw_m8 21 rfl) rfl
theorem q1826 : (Jvm.Cond.methodLink "BlindCardsModel" (537 : Nat) ({ cls := "BlindCardsModel", name := "explore", desc := "(III)Z" } : Jvm.MethodName)) ∈ lw_all := lw_g (lw_at lw_m8 22 rfl) rfl
theorem q1827 : (Jvm.Cond.privateMethod ({ cls := "BlindCardsModel", name := "explore", desc := "(III)Z" } : Jvm.MethodName)) ∈ lw_tbl := lw_at lw_m8 23 rfl
theorem q1828 : (Jvm.Cond.instanceMethod ({ cls := "BlindCardsModel", name := "explore", desc := "(III)Z" } : Jvm.MethodName)) ∈ lw_all := lw_g (lw_at lw_m8 24 rfl) rfl
theorem q1829 : (Jvm.Cond.code ({ cls := "BlindCardsModel", name := "explore", desc := "(III)Z" } : Jvm.MethodName) prog_32_method_70_code (6 : Nat) (Option.some Jvm.ClassFile.FieldType.boolean)) ∈ lw_all := lw_g (lw_at lw_m8 25 rfl) rfl
theorem q1830 : (Jvm.Cond.methodLink "BlindCardsModel" (503 : Nat) ({ cls := "BlindCardsModel", name := "begin", desc := "()V" } : Jvm.MethodName)) ∈ lw_all := lw_g (lw_at lw_m8 26 rfl) rfl
theorem q1831 : (Jvm.Cond.privateMethod ({ cls := "BlindCardsModel", name := "begin", desc := "()V" } : Jvm.MethodName)) ∈ lw_tbl := lw_at lw_m8 27 rfl
theorem q1832 : (Jvm.Cond.instanceMethod ({ cls := "BlindCardsModel", name := "begin", desc := "()V" } : Jvm.MethodName)) ∈ lw_all := lw_g (lw_at lw_m8 28 rfl) rfl
theorem q1833 : (Jvm.Cond.code ({ cls := "BlindCardsModel", name := "begin", desc := "()V" } : Jvm.MethodName) prog_32_method_69_code (2 : Nat) (Option.none : Option Jvm.ClassFile.FieldType)) ∈ lw_all := lw_g (lw_at lw_m8 29 rfl) rfl
theorem q1834 : (Jvm.Cond.methodLink "BlindCardsModel" (438 : Nat) ({ cls := "BlindCardsModel", name := "clearDist", desc := "(I)V" } : Jvm.MethodName)) ∈ lw_all := lw_g (lw_at lw_m8 30 rfl) rfl
theorem q1835 : (Jvm.Cond.privateMethod ({ cls := "BlindCardsModel", name := "clearDist", desc := "(I)V" } : Jvm.MethodName)) ∈ lw_tbl := lw_at lw_m8 31 rfl
theorem q1836 : (Jvm.Cond.instanceMethod ({ cls := "BlindCardsModel", name := "clearDist", desc := "(I)V" } : Jvm.MethodName)) ∈ lw_all := lw_g (lw_at lw_m8 32 rfl) rfl
theorem q1837 : (Jvm.Cond.code ({ cls := "BlindCardsModel", name := "clearDist", desc := "(I)V" } : Jvm.MethodName) prog_32_method_54_code (3 : Nat) (Option.none : Option Jvm.ClassFile.FieldType)) ∈ lw_all := lw_g (lw_at lw_m8 33 rfl) rfl
theorem q1838 : (Jvm.Cond.methodLink "BlindCardsModel" (417 : Nat) ({ cls := "BlindCardsModel", name := "inputs", desc := "()I" } : Jvm.MethodName)) ∈ lw_all := lw_g (lw_at lw_m8 34 rfl) rfl
theorem q1839 : (Jvm.Cond.privateMethod ({ cls := "BlindCardsModel", name := "inputs", desc := "()I" } : Jvm.MethodName)) ∈ lw_tbl := lw_at lw_m8 35 rfl
theorem q1840 : (Jvm.Cond.instanceMethod ({ cls := "BlindCardsModel", name := "inputs", desc := "()I" } : Jvm.MethodName)) ∈ lw_all := lw_g (lw_at lw_m8 36 rfl) rfl
theorem q1841 : (Jvm.Cond.code ({ cls := "BlindCardsModel", name := "inputs", desc := "()I" } : Jvm.MethodName) prog_32_method_45_code (1 : Nat) (Option.some Jvm.ClassFile.FieldType.int)) ∈ lw_all := lw_g (lw_at lw_m8 37 rfl) rfl
theorem q1842 : (Jvm.Cond.methodLink "BlindCardsModel" (427 : Nat) ({ cls := "BlindCardsModel", name := "askedOf", desc := "(I)I" } : Jvm.MethodName)) ∈ lw_all := lw_g (lw_at lw_m8 38 rfl) rfl
theorem q1843 : (Jvm.Cond.privateMethod ({ cls := "BlindCardsModel", name := "askedOf", desc := "(I)I" } : Jvm.MethodName)) ∈ lw_tbl := lw_at lw_m8 39 rfl
theorem q1844 : (Jvm.Cond.instanceMethod ({ cls := "BlindCardsModel", name := "askedOf", desc := "(I)I" } : Jvm.MethodName)) ∈ lw_all := lw_g (lw_at lw_m8 40 rfl) rfl
theorem q1845 : (Jvm.Cond.code ({ cls := "BlindCardsModel", name := "askedOf", desc := "(I)I" } : Jvm.MethodName) prog_32_method_42_code (5 : Nat) (Option.some Jvm.ClassFile.FieldType.int)) ∈ lw_all := lw_g (lw_at lw_m8 41 rfl) rfl
theorem q1846 : (Jvm.Cond.methodLink "BlindCardsModel" (258 : Nat) ({ cls := "BlindCardsModel", name := "isLetter", desc := "(I)Z" } : Jvm.MethodName)) ∈ lw_all := lw_g (lw_at lw_m8 42 rfl) rfl
theorem q1847 : (Jvm.Cond.static ({ cls := "BlindCardsModel", name := "isLetter", desc := "(I)Z" } : Jvm.MethodName)) ∈ lw_all := lw_g (lw_at lw_m8 43 rfl) rfl
theorem q1848 : (Jvm.Cond.code ({ cls := "BlindCardsModel", name := "isLetter", desc := "(I)Z" } : Jvm.MethodName) prog_32_method_3_code (1 : Nat) (Option.some Jvm.ClassFile.FieldType.boolean)) ∈ lw_all := lw_g (lw_at lw_m8 44 rfl) rfl
theorem q1849 : (Jvm.Cond.methodLink "BlindCardsModel" (410 : Nat) ({ cls := "BlindCardsModel", name := "bitsOf", desc := "(I)I" } : Jvm.MethodName)) ∈ lw_all := lw_g (lw_at lw_m8 45 rfl) rfl
theorem q1850 : (Jvm.Cond.static ({ cls := "BlindCardsModel", name := "bitsOf", desc := "(I)I" } : Jvm.MethodName)) ∈ lw_all := lw_g (lw_at lw_m8 46 rfl) rfl
theorem q1851 : (Jvm.Cond.code ({ cls := "BlindCardsModel", name := "bitsOf", desc := "(I)I" } : Jvm.MethodName) prog_32_method_41_code (3 : Nat) (Option.some Jvm.ClassFile.FieldType.int)) ∈ lw_all := lw_g (lw_at lw_m8 47 rfl) rfl
theorem q1852 : (Jvm.Cond.methodLink "BlindCardsModel" (413 : Nat) ({ cls := "BlindCardsModel", name := "come", desc := "(III)I" } : Jvm.MethodName)) ∈ lw_all := lw_g (lw_at lw_m8 48 rfl) rfl
theorem q1853 : (Jvm.Cond.static ({ cls := "BlindCardsModel", name := "come", desc := "(III)I" } : Jvm.MethodName)) ∈ lw_all := lw_g (lw_at lw_m8 49 rfl) rfl
theorem q1854 : (Jvm.Cond.code ({ cls := "BlindCardsModel", name := "come", desc := "(III)I" } : Jvm.MethodName) prog_32_method_40_code (3 : Nat) (Option.some Jvm.ClassFile.FieldType.int)) ∈ lw_all := lw_g (lw_at lw_m8 50 rfl) rfl
theorem q1855 : (Jvm.Cond.methodLink "BlindCardsModel" (506 : Nat) ({ cls := "BlindCardsModel", name := "advance", desc := "(I)I" } : Jvm.MethodName)) ∈ lw_all := lw_g (lw_at lw_m8 51 rfl) rfl
theorem q1856 : (Jvm.Cond.privateMethod ({ cls := "BlindCardsModel", name := "advance", desc := "(I)I" } : Jvm.MethodName)) ∈ lw_tbl := lw_at lw_m8 52 rfl
theorem q1857 : (Jvm.Cond.instanceMethod ({ cls := "BlindCardsModel", name := "advance", desc := "(I)I" } : Jvm.MethodName)) ∈ lw_all := lw_g (lw_at lw_m8 53 rfl) rfl
theorem q1858 : (Jvm.Cond.code ({ cls := "BlindCardsModel", name := "advance", desc := "(I)I" } : Jvm.MethodName) prog_32_method_61_code (4 : Nat) (Option.some Jvm.ClassFile.FieldType.int)) ∈ lw_all := lw_g (lw_at lw_m8 54 rfl) rfl
theorem q1859 : (Jvm.Cond.methodLink "BlindCardsModel" (471 : Nat) ({ cls := "BlindCardsModel", name := "lays", desc := "(IIZ)V" } : Jvm.MethodName)) ∈ lw_all := lw_g (lw_at lw_m8 55 rfl) rfl
theorem q1860 : (Jvm.Cond.privateMethod ({ cls := "BlindCardsModel", name := "lays", desc := "(IIZ)V" } : Jvm.MethodName)) ∈ lw_tbl := lw_at lw_m8 56 rfl
theorem q1861 : (Jvm.Cond.instanceMethod ({ cls := "BlindCardsModel", name := "lays", desc := "(IIZ)V" } : Jvm.MethodName)) ∈ lw_all := lw_g (lw_at lw_m8 57 rfl) rfl
theorem q1862 : (Jvm.Cond.code ({ cls := "BlindCardsModel", name := "lays", desc := "(IIZ)V" } : Jvm.MethodName) prog_32_method_60_code (8 : Nat) (Option.none : Option Jvm.ClassFile.FieldType)) ∈ lw_all := lw_g (lw_at lw_m8 58 rfl) rfl
theorem q1863 : (Jvm.Cond.methodLink "BlindCardsModel" (465 : Nat) ({ cls := "BlindCardsModel", name := "addCard", desc := "(III)V" } : Jvm.MethodName)) ∈ lw_all := lw_g (lw_at lw_m8 59 rfl) rfl
theorem q1864 : (Jvm.Cond.privateMethod ({ cls := "BlindCardsModel", name := "addCard", desc := "(III)V" } : Jvm.MethodName)) ∈ lw_tbl := lw_at lw_m8 60 rfl
theorem q1865 : (Jvm.Cond.instanceMethod ({ cls := "BlindCardsModel", name := "addCard", desc := "(III)V" } : Jvm.MethodName)) ∈ lw_all := lw_g (lw_at lw_m8 61 rfl) rfl
theorem q1866 : (Jvm.Cond.code ({ cls := "BlindCardsModel", name := "addCard", desc := "(III)V" } : Jvm.MethodName) prog_32_method_58_code (7 : Nat) (Option.none : Option Jvm.ClassFile.FieldType)) ∈ lw_all := lw_g (lw_at lw_m8 62 rfl) rfl
theorem q1867 : (Jvm.Cond.methodLink "BlindCardsModel" (453 : Nat) ({ cls := "BlindCardsModel", name := "clearPart", desc := "(II)V" } : Jvm.MethodName)) ∈ lw_all := lw_g (lw_at lw_m8 63 rfl) rfl
theorem q1868 : (Jvm.Cond.privateMethod ({ cls := "BlindCardsModel", name := "clearPart", desc := "(II)V" } : Jvm.MethodName)) ∈ lw_tbl := lw_at lw_m8 64 rfl
theorem q1869 : (Jvm.Cond.instanceMethod ({ cls := "BlindCardsModel", name := "clearPart", desc := "(II)V" } : Jvm.MethodName)) ∈ lw_all := lw_g (lw_at lw_m8 65 rfl) rfl
theorem q1870 : (Jvm.Cond.code ({ cls := "BlindCardsModel", name := "clearPart", desc := "(II)V" } : Jvm.MethodName) prog_32_method_59_code (4 : Nat) (Option.none : Option Jvm.ClassFile.FieldType)) ∈ lw_all := lw_g (lw_at lw_m8 66 rfl) rfl
theorem q1871 : (Jvm.Cond.constant "BlindCardsModel" (456 : Nat) (32768 : Int32)) ∈ lw_all := lw_g (lw_at lw_m8 67 rfl) rfl
theorem q1872 : (Jvm.Cond.methodLink "BlindCardsModel" (475 : Nat) ({ cls := "BlindCardsModel", name := "fits", desc := "(II)Z" } : Jvm.MethodName)) ∈ lw_all := lw_g (lw_at lw_m8 68 rfl) rfl
theorem q1873 : (Jvm.Cond.privateMethod ({ cls := "BlindCardsModel", name := "fits", desc := "(II)Z" } : Jvm.MethodName)) ∈ lw_tbl := lw_at lw_m8 69 rfl
theorem q1874 : (Jvm.Cond.instanceMethod ({ cls := "BlindCardsModel", name := "fits", desc := "(II)Z" } : Jvm.MethodName)) ∈ lw_all := lw_g (lw_at lw_m8 70 rfl) rfl
theorem q1875 : (Jvm.Cond.code ({ cls := "BlindCardsModel", name := "fits", desc := "(II)Z" } : Jvm.MethodName) prog_32_method_49_code (5 : Nat) (Option.some Jvm.ClassFile.FieldType.boolean)) ∈ lw_all := lw_g (lw_at lw_m8 71 rfl) rfl
theorem q1876 : (Jvm.Cond.methodLink "BlindCardsModel" (479 : Nat) ({ cls := "BlindCardsModel", name := "isSeen", desc := "(II)Z" } : Jvm.MethodName)) ∈ lw_all := lw_g (lw_at lw_m8 72 rfl) rfl
theorem q1877 : (Jvm.Cond.privateMethod ({ cls := "BlindCardsModel", name := "isSeen", desc := "(II)Z" } : Jvm.MethodName)) ∈ lw_tbl := lw_at lw_m8 73 rfl
theorem q1878 : (Jvm.Cond.instanceMethod ({ cls := "BlindCardsModel", name := "isSeen", desc := "(II)Z" } : Jvm.MethodName)) ∈ lw_all := lw_g (lw_at lw_m8 74 rfl) rfl
theorem q1879 : (Jvm.Cond.code ({ cls := "BlindCardsModel", name := "isSeen", desc := "(II)Z" } : Jvm.MethodName) prog_32_method_62_code (3 : Nat) (Option.some Jvm.ClassFile.FieldType.boolean)) ∈ lw_all := lw_g (lw_at lw_m8 75 rfl) rfl
theorem q1880 : (Jvm.Cond.methodLink "BlindCardsModel" (441 : Nat) ({ cls := "BlindCardsModel", name := "ways", desc := "(I)I" } : Jvm.MethodName)) ∈ lw_all := lw_g (lw_at lw_m8 76 rfl) rfl
theorem q1881 : (Jvm.Cond.privateMethod ({ cls := "BlindCardsModel", name := "ways", desc := "(I)I" } : Jvm.MethodName)) ∈ lw_tbl := lw_at lw_m8 77 rfl
theorem q1882 : (Jvm.Cond.instanceMethod ({ cls := "BlindCardsModel", name := "ways", desc := "(I)I" } : Jvm.MethodName)) ∈ lw_all := lw_g (lw_at lw_m8 78 rfl) rfl
theorem q1883 : (Jvm.Cond.code ({ cls := "BlindCardsModel", name := "ways", desc := "(I)I" } : Jvm.MethodName) prog_32_method_48_code (3 : Nat) (Option.some Jvm.ClassFile.FieldType.int)) ∈ lw_all := lw_g (lw_at lw_m8 79 rfl) rfl
theorem q1884 : (Jvm.Cond.methodLink "BlindCardsModel" (488 : Nat) ({ cls := "BlindCardsModel", name := "mixNumber", desc := "(I)I" } : Jvm.MethodName)) ∈ lw_all := lw_g (lw_at lw_m8 80 rfl) rfl
theorem q1885 : (Jvm.Cond.privateMethod ({ cls := "BlindCardsModel", name := "mixNumber", desc := "(I)I" } : Jvm.MethodName)) ∈ lw_tbl := lw_at lw_m8 81 rfl
theorem q1886 : (Jvm.Cond.instanceMethod ({ cls := "BlindCardsModel", name := "mixNumber", desc := "(I)I" } : Jvm.MethodName)) ∈ lw_all := lw_g (lw_at lw_m8 82 rfl) rfl
theorem q1887 : (Jvm.Cond.code ({ cls := "BlindCardsModel", name := "mixNumber", desc := "(I)I" } : Jvm.MethodName) prog_32_method_63_code (4 : Nat) (Option.some Jvm.ClassFile.FieldType.int)) ∈ lw_all := lw_g (lw_at lw_m8 83 rfl) rfl
theorem q1888 : (Jvm.Cond.methodLink "BlindCardsModel" (482 : Nat) ({ cls := "BlindCardsModel", name := "moveAll", desc := "(II)V" } : Jvm.MethodName)) ∈ lw_all := lw_g (lw_at lw_m8 84 rfl) rfl
theorem q1889 : (Jvm.Cond.privateMethod ({ cls := "BlindCardsModel", name := "moveAll", desc := "(II)V" } : Jvm.MethodName)) ∈ lw_tbl := lw_at lw_m8 85 rfl
theorem q1890 : (Jvm.Cond.instanceMethod ({ cls := "BlindCardsModel", name := "moveAll", desc := "(II)V" } : Jvm.MethodName)) ∈ lw_all := lw_g (lw_at lw_m8 86 rfl) rfl
theorem q1891 : (Jvm.Cond.code ({ cls := "BlindCardsModel", name := "moveAll", desc := "(II)V" } : Jvm.MethodName) prog_32_method_57_code (4 : Nat) (Option.none : Option Jvm.ClassFile.FieldType)) ∈ lw_all := lw_g (lw_at lw_m8 87 rfl) rfl
theorem q1892 : (Jvm.Cond.methodLink "BlindCardsModel" (444 : Nat) ({ cls := "BlindCardsModel", name := "layMove", desc := "(II)V" } : Jvm.MethodName)) ∈ lw_all := lw_g (lw_at lw_m8 88 rfl) rfl
theorem q1893 : (Jvm.Cond.privateMethod ({ cls := "BlindCardsModel", name := "layMove", desc := "(II)V" } : Jvm.MethodName)) ∈ lw_tbl := lw_at lw_m8 89 rfl
theorem q1894 : (Jvm.Cond.instanceMethod ({ cls := "BlindCardsModel", name := "layMove", desc := "(II)V" } : Jvm.MethodName)) ∈ lw_all := lw_g (lw_at lw_m8 90 rfl) rfl
theorem q1895 : (Jvm.Cond.code ({ cls := "BlindCardsModel", name := "layMove", desc := "(II)V" } : Jvm.MethodName) prog_32_method_50_code (7 : Nat) (Option.none : Option Jvm.ClassFile.FieldType)) ∈ lw_all := lw_g (lw_at lw_m8 91 rfl) rfl
theorem q1896 : (Jvm.Cond.methodLink "BlindCardsModel" (431 : Nat) ({ cls := "BlindCardsModel", name := "layMix", desc := "(III)V" } : Jvm.MethodName)) ∈ lw_all := lw_g (lw_at lw_m8 92 rfl) rfl
theorem q1897 : (Jvm.Cond.privateMethod ({ cls := "BlindCardsModel", name := "layMix", desc := "(III)V" } : Jvm.MethodName)) ∈ lw_tbl := lw_at lw_m8 93 rfl
theorem q1898 : (Jvm.Cond.instanceMethod ({ cls := "BlindCardsModel", name := "layMix", desc := "(III)V" } : Jvm.MethodName)) ∈ lw_all := lw_g (lw_at lw_m8 94 rfl) rfl
theorem q1899 : (Jvm.Cond.code ({ cls := "BlindCardsModel", name := "layMix", desc := "(III)V" } : Jvm.MethodName) prog_32_method_51_code (9 : Nat) (Option.none : Option Jvm.ClassFile.FieldType)) ∈ lw_all := lw_g (lw_at lw_m8 95 rfl) rfl
theorem q1900 : (Jvm.Cond.methodLink "BlindCardsModel" (447 : Nat) ({ cls := "BlindCardsModel", name := "sendAll", desc := "(II)V" } : Jvm.MethodName)) ∈ lw_all := lw_g (lw_at lw_m8 96 rfl) rfl
theorem q1901 : (Jvm.Cond.privateMethod ({ cls := "BlindCardsModel", name := "sendAll", desc := "(II)V" } : Jvm.MethodName)) ∈ lw_tbl := lw_at lw_m8 97 rfl
theorem q1902 : (Jvm.Cond.instanceMethod ({ cls := "BlindCardsModel", name := "sendAll", desc := "(II)V" } : Jvm.MethodName)) ∈ lw_all := lw_g (lw_at lw_m8 98 rfl) rfl
theorem q1903 : (Jvm.Cond.code ({ cls := "BlindCardsModel", name := "sendAll", desc := "(II)V" } : Jvm.MethodName) prog_32_method_55_code (7 : Nat) (Option.none : Option Jvm.ClassFile.FieldType)) ∈ lw_all := lw_g (lw_at lw_m8 99 rfl) rfl
theorem q1904 : (Jvm.Cond.methodLink "BlindCardsModel" (435 : Nat) ({ cls := "BlindCardsModel", name := "moved", desc := "(I)I" } : Jvm.MethodName)) ∈ lw_all := lw_g (lw_at lw_m8 100 rfl) rfl
theorem q1905 : (Jvm.Cond.privateMethod ({ cls := "BlindCardsModel", name := "moved", desc := "(I)I" } : Jvm.MethodName)) ∈ lw_tbl := lw_at lw_m8 101 rfl
theorem q1906 : (Jvm.Cond.instanceMethod ({ cls := "BlindCardsModel", name := "moved", desc := "(I)I" } : Jvm.MethodName)) ∈ lw_all := lw_g (lw_at lw_m8 102 rfl) rfl
theorem q1907 : (Jvm.Cond.code ({ cls := "BlindCardsModel", name := "moved", desc := "(I)I" } : Jvm.MethodName) prog_32_method_52_code (4 : Nat) (Option.some Jvm.ClassFile.FieldType.int)) ∈ lw_all := lw_g (lw_at lw_m8 103 rfl) rfl
theorem q1908 : (Jvm.Cond.methodLink "BlindCardsModel" (450 : Nat) ({ cls := "BlindCardsModel", name := "bringBack", desc := "(II)V" } : Jvm.MethodName)) ∈ lw_all := lw_g (lw_at lw_m8 104 rfl) rfl
theorem q1909 : (Jvm.Cond.privateMethod ({ cls := "BlindCardsModel", name := "bringBack", desc := "(II)V" } : Jvm.MethodName)) ∈ lw_tbl := lw_at lw_m8 105 rfl
theorem q1910 : (Jvm.Cond.instanceMethod ({ cls := "BlindCardsModel", name := "bringBack", desc := "(II)V" } : Jvm.MethodName)) ∈ lw_all := lw_g (lw_at lw_m8 106 rfl) rfl
theorem q1911 : (Jvm.Cond.code ({ cls := "BlindCardsModel", name := "bringBack", desc := "(II)V" } : Jvm.MethodName) prog_32_method_56_code (4 : Nat) (Option.none : Option Jvm.ClassFile.FieldType)) ∈ lw_all := lw_g (lw_at lw_m8 107 rfl) rfl
theorem q1912 : (Jvm.Cond.methodLink "BlindCardsModel" (485 : Nat) ({ cls := "BlindCardsModel", name := "movedPlace", desc := "(I)I" } : Jvm.MethodName)) ∈ lw_all := lw_g (lw_at lw_m8 108 rfl) rfl
theorem q1913 : (Jvm.Cond.privateMethod ({ cls := "BlindCardsModel", name := "movedPlace", desc := "(I)I" } : Jvm.MethodName)) ∈ lw_tbl := lw_at lw_m8 109 rfl
theorem q1914 : (Jvm.Cond.instanceMethod ({ cls := "BlindCardsModel", name := "movedPlace", desc := "(I)I" } : Jvm.MethodName)) ∈ lw_all := lw_g (lw_at lw_m8 110 rfl) rfl
theorem q1915 : (Jvm.Cond.code ({ cls := "BlindCardsModel", name := "movedPlace", desc := "(I)I" } : Jvm.MethodName) prog_32_method_53_code (3 : Nat) (Option.some Jvm.ClassFile.FieldType.int)) ∈ lw_all := lw_g (lw_at lw_m8 111 rfl) rfl
theorem q1916 : (Jvm.Cond.methodLink "BlindCardsModel" (509 : Nat) ({ cls := "BlindCardsModel", name := "leaf", desc := "(I)V" } : Jvm.MethodName)) ∈ lw_all := lw_g (lw_at lw_m8 112 rfl) rfl
theorem q1917 : (Jvm.Cond.privateMethod ({ cls := "BlindCardsModel", name := "leaf", desc := "(I)V" } : Jvm.MethodName)) ∈ lw_tbl := lw_at lw_m8 113 rfl
theorem q1918 : (Jvm.Cond.instanceMethod ({ cls := "BlindCardsModel", name := "leaf", desc := "(I)V" } : Jvm.MethodName)) ∈ lw_all := lw_g (lw_at lw_m8 114 rfl) rfl
theorem q1919 : (Jvm.Cond.code ({ cls := "BlindCardsModel", name := "leaf", desc := "(I)V" } : Jvm.MethodName) prog_32_method_72_code (4 : Nat) (Option.none : Option Jvm.ClassFile.FieldType)) ∈ lw_all := lw_g (lw_at lw_m8 115 rfl) rfl
theorem q1920 : (Jvm.Cond.methodLink "BlindCardsModel" (521 : Nat) ({ cls := "BlindCardsModel", name := "endsOf", desc := "(II)I" } : Jvm.MethodName)) ∈ lw_all := lw_g (lw_at lw_m8 116 rfl) rfl
theorem q1921 : (Jvm.Cond.privateMethod ({ cls := "BlindCardsModel", name := "endsOf", desc := "(II)I" } : Jvm.MethodName)) ∈ lw_tbl := lw_at lw_m8 117 rfl
theorem q1922 : (Jvm.Cond.instanceMethod ({ cls := "BlindCardsModel", name := "endsOf", desc := "(II)I" } : Jvm.MethodName)) ∈ lw_all := lw_g (lw_at lw_m8 118 rfl) rfl
theorem q1923 : (Jvm.Cond.code ({ cls := "BlindCardsModel", name := "endsOf", desc := "(II)I" } : Jvm.MethodName) prog_32_method_73_code (9 : Nat) (Option.some Jvm.ClassFile.FieldType.int)) ∈ lw_all := lw_g (lw_at lw_m8 119 rfl) rfl
theorem q1924 : (Jvm.Cond.methodLink "BlindCardsModel" (524 : Nat) ({ cls := "BlindCardsModel", name := "keepPath", desc := "(I)V" } : Jvm.MethodName)) ∈ lw_all := lw_g (lw_at lw_m8 120 rfl) rfl
theorem q1925 : (Jvm.Cond.privateMethod ({ cls := "BlindCardsModel", name := "keepPath", desc := "(I)V" } : Jvm.MethodName)) ∈ lw_tbl := lw_at lw_m8 121 rfl
theorem q1926 : (Jvm.Cond.instanceMethod ({ cls := "BlindCardsModel", name := "keepPath", desc := "(I)V" } : Jvm.MethodName)) ∈ lw_all := lw_g (lw_at lw_m8 122 rfl) rfl
theorem q1927 : (Jvm.Cond.code ({ cls := "BlindCardsModel", name := "keepPath", desc := "(I)V" } : Jvm.MethodName) prog_32_method_74_code (3 : Nat) (Option.none : Option Jvm.ClassFile.FieldType)) ∈ lw_all := lw_g (lw_at lw_m8 123 rfl) rfl
theorem q1928 : (Jvm.Cond.methodLink "BlindCardsModel" (530 : Nat) ({ cls := "BlindCardsModel", name := "total", desc := "(II)J" } : Jvm.MethodName)) ∈ lw_all := lw_g (lw_at lw_m8 124 rfl) rfl
theorem q1929 : (Jvm.Cond.privateMethod ({ cls := "BlindCardsModel", name := "total", desc := "(II)J" } : Jvm.MethodName)) ∈ lw_tbl := lw_at lw_m8 125 rfl
theorem q1930 : (Jvm.Cond.instanceMethod ({ cls := "BlindCardsModel", name := "total", desc := "(II)J" } : Jvm.MethodName)) ∈ lw_all := lw_g (lw_at lw_m8 126 rfl) rfl
theorem q1931 : (Jvm.Cond.code ({ cls := "BlindCardsModel", name := "total", desc := "(II)J" } : Jvm.MethodName) prog_32_method_71_code (6 : Nat) (Option.some Jvm.ClassFile.FieldType.long)) ∈ lw_all := lw_g (lw_at lw_m8 127 rfl) rfl
theorem q1932 : (Jvm.Cond.methodLink "BlindCardsModel" (512 : Nat) ({ cls := "BlindCardsModel", name := "children", desc := "(I)I" } : Jvm.MethodName)) ∈ lw_all := lw_g (lw_at lw_m8 128 rfl) rfl
theorem q1933 : (Jvm.Cond.privateMethod ({ cls := "BlindCardsModel", name := "children", desc := "(I)I" } : Jvm.MethodName)) ∈ lw_tbl := lw_at lw_m8 129 rfl
theorem q1934 : (Jvm.Cond.instanceMethod ({ cls := "BlindCardsModel", name := "children", desc := "(I)I" } : Jvm.MethodName)) ∈ lw_all := lw_g (lw_at lw_m8 130 rfl) rfl
theorem q1935 : (Jvm.Cond.code ({ cls := "BlindCardsModel", name := "children", desc := "(I)I" } : Jvm.MethodName) prog_32_method_64_code (3 : Nat) (Option.some Jvm.ClassFile.FieldType.int)) ∈ lw_all := lw_g (lw_at lw_m8 131 rfl) rfl
theorem q1936 : (Jvm.Cond.methodLink "BlindCardsModel" (515 : Nat) ({ cls := "BlindCardsModel", name := "descend", desc := "(I)Z" } : Jvm.MethodName)) ∈ lw_all := lw_g (lw_at lw_m8 132 rfl) rfl
theorem q1937 : (Jvm.Cond.privateMethod ({ cls := "BlindCardsModel", name := "descend", desc := "(I)Z" } : Jvm.MethodName)) ∈ lw_tbl := lw_at lw_m8 133 rfl
theorem q1938 : (Jvm.Cond.instanceMethod ({ cls := "BlindCardsModel", name := "descend", desc := "(I)Z" } : Jvm.MethodName)) ∈ lw_all := lw_g (lw_at lw_m8 134 rfl) rfl
theorem q1939 : (Jvm.Cond.code ({ cls := "BlindCardsModel", name := "descend", desc := "(I)Z" } : Jvm.MethodName) prog_32_method_65_code (6 : Nat) (Option.some Jvm.ClassFile.FieldType.boolean)) ∈ lw_all := lw_g (lw_at lw_m8 135 rfl) rfl
theorem q1940 : (Jvm.Cond.methodLink "BlindCardsModel" (491 : Nat) ({ cls := "BlindCardsModel", name := "lookAt", desc := "(III)V" } : Jvm.MethodName)) ∈ lw_all := lw_g (lw_at lw_m8 136 rfl) rfl
theorem q1941 : (Jvm.Cond.privateMethod ({ cls := "BlindCardsModel", name := "lookAt", desc := "(III)V" } : Jvm.MethodName)) ∈ lw_tbl := lw_at lw_m8 137 rfl
theorem q1942 : (Jvm.Cond.instanceMethod ({ cls := "BlindCardsModel", name := "lookAt", desc := "(III)V" } : Jvm.MethodName)) ∈ lw_all := lw_g (lw_at lw_m8 138 rfl) rfl
theorem q1943 : (Jvm.Cond.code ({ cls := "BlindCardsModel", name := "lookAt", desc := "(III)V" } : Jvm.MethodName) prog_32_method_68_code (6 : Nat) (Option.none : Option Jvm.ClassFile.FieldType)) ∈ lw_all := lw_g (lw_at lw_m8 139 rfl) rfl
theorem q1944 : (Jvm.Cond.methodLink "BlindCardsModel" (497 : Nat) ({ cls := "BlindCardsModel", name := "colours", desc := "(II)I" } : Jvm.MethodName)) ∈ lw_all := lw_g (lw_at lw_m8 140 rfl) rfl
theorem q1945 : (Jvm.Cond.privateMethod ({ cls := "BlindCardsModel", name := "colours", desc := "(II)I" } : Jvm.MethodName)) ∈ lw_tbl := lw_at lw_m8 141 rfl
theorem q1946 : (Jvm.Cond.instanceMethod ({ cls := "BlindCardsModel", name := "colours", desc := "(II)I" } : Jvm.MethodName)) ∈ lw_all := lw_g (lw_at lw_m8 142 rfl) rfl
theorem q1947 : (Jvm.Cond.code ({ cls := "BlindCardsModel", name := "colours", desc := "(II)I" } : Jvm.MethodName) prog_32_method_67_code (5 : Nat) (Option.some Jvm.ClassFile.FieldType.int)) ∈ lw_all := lw_g (lw_at lw_m8 143 rfl) rfl
theorem q1948 : (Jvm.Cond.methodLink "BlindCardsModel" (494 : Nat) ({ cls := "BlindCardsModel", name := "isAny", desc := "(I)Z" } : Jvm.MethodName)) ∈ lw_all := lw_g (lw_at lw_m8 144 rfl) rfl
theorem q1949 : (Jvm.Cond.privateMethod ({ cls := "BlindCardsModel", name := "isAny", desc := "(I)Z" } : Jvm.MethodName)) ∈ lw_tbl := lw_at lw_m8 145 rfl
theorem q1950 : (Jvm.Cond.instanceMethod ({ cls := "BlindCardsModel", name := "isAny", desc := "(I)Z" } : Jvm.MethodName)) ∈ lw_all := lw_g (lw_at lw_m8 146 rfl) rfl
theorem q1951 : (Jvm.Cond.code ({ cls := "BlindCardsModel", name := "isAny", desc := "(I)Z" } : Jvm.MethodName) prog_32_method_66_code (3 : Nat) (Option.some Jvm.ClassFile.FieldType.boolean)) ∈ lw_all := lw_g (lw_at lw_m8 147 rfl) rfl
theorem q1952 : (Jvm.Cond.fieldLink "BlindCardsModel" (7 : Nat) "BlindCardsModel" "tape" "[B") ∈ lw_all := lw_g (lw_at lw_m8 148 rfl) rfl
theorem q1953 : (Jvm.Cond.fieldLink "BlindCardsModel" (13 : Nat) "BlindCardsModel" "text" "[B") ∈ lw_all := lw_g (lw_at lw_m8 149 rfl) rfl
theorem q1954 : (Jvm.Cond.fieldLink "BlindCardsModel" (306 : Nat) "BlindCardsModel" "taped" "I") ∈ lw_all := lw_g (lw_at lw_m8 150 rfl) rfl
theorem q1955 : (Jvm.Cond.fieldLink "BlindCardsModel" (183 : Nat) "BlindCardsModel" "size" "I") ∈ lw_all := lw_g (lw_at lw_m8 151 rfl) rfl
theorem q1956 : (Jvm.Cond.fieldLink "BlindCardsModel" (186 : Nat) "BlindCardsModel" "faultKind" "I") ∈ lw_all := lw_g (lw_at lw_m8 152 rfl) rfl
theorem q1957 : (Jvm.Cond.fieldLink "BlindCardsModel" (16 : Nat) "BlindCardsModel" "faultPlace" "I") ∈ lw_all := lw_g (lw_at lw_m8 153 rfl) rfl
theorem q1958 : (Jvm.Cond.fieldLink "BlindCardsModel" (248 : Nat) "BlindCardsModel" "at" "I") ∈ lw_all := lw_g (lw_at lw_m8 154 rfl) rfl
theorem q1959 : (Jvm.Cond.fieldLink "BlindCardsModel" (245 : Nat) "BlindCardsModel" "end" "I") ∈ lw_all := lw_g (lw_at lw_m8 155 rfl) rfl
theorem q1960 : (Jvm.Cond.fieldLink "BlindCardsModel" (255 : Nat) "BlindCardsModel" "token" "I") ∈ lw_all := lw_g (lw_at lw_m8 156 rfl) rfl
theorem q1961 : (Jvm.Cond.fieldLink "BlindCardsModel" (273 : Nat) "BlindCardsModel" "number" "I") ∈ lw_all := lw_g (lw_at lw_m8 157 rfl) rfl
theorem q1962 : (Jvm.Cond.fieldLink "BlindCardsModel" (262 : Nat) "BlindCardsModel" "name" "J") ∈ lw_all := lw_g (lw_at lw_m8 158 rfl) rfl
theorem q1963 : (Jvm.Cond.fieldLink "BlindCardsModel" (293 : Nat) "BlindCardsModel" "lastAt" "I") ∈ lw_all := lw_g (lw_at lw_m8 159 rfl) rfl
theorem q1964 : (Jvm.Cond.fieldLink "BlindCardsModel" (20 : Nat) "BlindCardsModel" "people" "[I") ∈ lw_all := lw_g (lw_at lw_m8 160 rfl) rfl
theorem q1965 : (Jvm.Cond.fieldLink "BlindCardsModel" (24 : Nat) "BlindCardsModel" "steps" "[I") ∈ lw_all := lw_g (lw_at lw_m8 161 rfl) rfl
theorem q1966 : (Jvm.Cond.fieldLink "BlindCardsModel" (27 : Nat) "BlindCardsModel" "moves" "[I") ∈ lw_all := lw_g (lw_at lw_m8 162 rfl) rfl
theorem q1967 : (Jvm.Cond.fieldLink "BlindCardsModel" (30 : Nat) "BlindCardsModel" "opens" "[I") ∈ lw_all := lw_g (lw_at lw_m8 163 rfl) rfl
theorem q1968 : (Jvm.Cond.fieldLink "BlindCardsModel" (33 : Nat) "BlindCardsModel" "stepOpens" "[I") ∈ lw_all := lw_g (lw_at lw_m8 164 rfl) rfl
theorem q1969 : (Jvm.Cond.fieldLink "BlindCardsModel" (36 : Nat) "BlindCardsModel" "mixes" "[I") ∈ lw_all := lw_g (lw_at lw_m8 165 rfl) rfl
theorem q1970 : (Jvm.Cond.fieldLink "BlindCardsModel" (39 : Nat) "BlindCardsModel" "unitsOf" "[I") ∈ lw_all := lw_g (lw_at lw_m8 166 rfl) rfl
theorem q1971 : (Jvm.Cond.fieldLink "BlindCardsModel" (42 : Nat) "BlindCardsModel" "aTo" "[I") ∈ lw_all := lw_g (lw_at lw_m8 167 rfl) rfl
theorem q1972 : (Jvm.Cond.fieldLink "BlindCardsModel" (45 : Nat) "BlindCardsModel" "isPeople" "[Z") ∈ lw_all := lw_g (lw_at lw_m8 168 rfl) rfl
theorem q1973 : (Jvm.Cond.fieldLink "BlindCardsModel" (49 : Nat) "BlindCardsModel" "isAsks" "[Z") ∈ lw_all := lw_g (lw_at lw_m8 169 rfl) rfl
theorem q1974 : (Jvm.Cond.fieldLink "BlindCardsModel" (52 : Nat) "BlindCardsModel" "type" "[I") ∈ lw_all := lw_g (lw_at lw_m8 170 rfl) rfl
theorem q1975 : (Jvm.Cond.fieldLink "BlindCardsModel" (55 : Nat) "BlindCardsModel" "one" "[I") ∈ lw_all := lw_g (lw_at lw_m8 171 rfl) rfl
theorem q1976 : (Jvm.Cond.fieldLink "BlindCardsModel" (58 : Nat) "BlindCardsModel" "two" "[I") ∈ lw_all := lw_g (lw_at lw_m8 172 rfl) rfl
theorem q1977 : (Jvm.Cond.fieldLink "BlindCardsModel" (61 : Nat) "BlindCardsModel" "three" "[I") ∈ lw_all := lw_g (lw_at lw_m8 173 rfl) rfl
theorem q1978 : (Jvm.Cond.fieldLink "BlindCardsModel" (64 : Nat) "BlindCardsModel" "many" "[I") ∈ lw_all := lw_g (lw_at lw_m8 174 rfl) rfl
theorem q1979 : (Jvm.Cond.fieldLink "BlindCardsModel" (67 : Nat) "BlindCardsModel" "list" "[I") ∈ lw_all := lw_g (lw_at lw_m8 175 rfl) rfl
theorem q1980 : (Jvm.Cond.fieldLink "BlindCardsModel" (70 : Nat) "BlindCardsModel" "goAt" "[I") ∈ lw_all := lw_g (lw_at lw_m8 176 rfl) rfl
theorem q1981 : (Jvm.Cond.fieldLink "BlindCardsModel" (73 : Nat) "BlindCardsModel" "label" "[J") ∈ lw_all := lw_g (lw_at lw_m8 177 rfl) rfl
theorem q1982 : (Jvm.Cond.fieldLink "BlindCardsModel" (77 : Nat) "BlindCardsModel" "code" "[I") ∈ lw_all := lw_g (lw_at lw_m8 178 rfl) rfl
theorem q1983 : (Jvm.Cond.fieldLink "BlindCardsModel" (80 : Nat) "BlindCardsModel" "codeNumber" "[I") ∈ lw_all := lw_g (lw_at lw_m8 179 rfl) rfl
theorem q1984 : (Jvm.Cond.fieldLink "BlindCardsModel" (83 : Nat) "BlindCardsModel" "eWhat" "[I") ∈ lw_all := lw_g (lw_at lw_m8 180 rfl) rfl
theorem q1985 : (Jvm.Cond.fieldLink "BlindCardsModel" (86 : Nat) "BlindCardsModel" "eSign" "[I") ∈ lw_all := lw_g (lw_at lw_m8 181 rfl) rfl
theorem q1986 : (Jvm.Cond.fieldLink "BlindCardsModel" (89 : Nat) "BlindCardsModel" "pile" "[I") ∈ lw_all := lw_g (lw_at lw_m8 182 rfl) rfl
theorem q1987 : (Jvm.Cond.fieldLink "BlindCardsModel" (309 : Nat) "BlindCardsModel" "bank" "I") ∈ lw_all := lw_g (lw_at lw_m8 183 rfl) rfl
theorem q1988 : (Jvm.Cond.fieldLink "BlindCardsModel" (296 : Nat) "BlindCardsModel" "rb" "I") ∈ lw_all := lw_g (lw_at lw_m8 184 rfl) rfl
theorem q1989 : (Jvm.Cond.fieldLink "BlindCardsModel" (303 : Nat) "BlindCardsModel" "codes" "I") ∈ lw_all := lw_g (lw_at lw_m8 185 rfl) rfl
theorem q1990 : (Jvm.Cond.fieldLink "BlindCardsModel" (389 : Nat) "BlindCardsModel" "within" "I") ∈ lw_all := lw_g (lw_at lw_m8 186 rfl) rfl
theorem q1991 : (Jvm.Cond.fieldLink "BlindCardsModel" (386 : Nat) "BlindCardsModel" "piled" "I") ∈ lw_all := lw_g (lw_at lw_m8 187 rfl) rfl
theorem q1992 : (Jvm.Cond.fieldLink "BlindCardsModel" (299 : Nat) "BlindCardsModel" "laidAny" "Z") ∈ lw_all := lw_g (lw_at lw_m8 188 rfl) rfl
theorem q1993 : (Jvm.Cond.fieldLink "BlindCardsModel" (92 : Nat) "BlindCardsModel" "from" "[I") ∈ lw_all := lw_g (lw_at lw_m8 189 rfl) rfl
theorem q1994 : (Jvm.Cond.fieldLink "BlindCardsModel" (95 : Nat) "BlindCardsModel" "left" "[I") ∈ lw_all := lw_g (lw_at lw_m8 190 rfl) rfl
theorem q1995 : (Jvm.Cond.fieldLink "BlindCardsModel" (99 : Nat) "BlindCardsModel" "dist" "[J") ∈ lw_all := lw_g (lw_at lw_m8 191 rfl) rfl
theorem q1996 : (Jvm.Cond.fieldLink "BlindCardsModel" (102 : Nat) "BlindCardsModel" "down" "[J") ∈ lw_all := lw_g (lw_at lw_m8 192 rfl) rfl
theorem q1997 : (Jvm.Cond.fieldLink "BlindCardsModel" (105 : Nat) "BlindCardsModel" "pc" "[I") ∈ lw_all := lw_g (lw_at lw_m8 193 rfl) rfl
theorem q1998 : (Jvm.Cond.fieldLink "BlindCardsModel" (108 : Nat) "BlindCardsModel" "cards" "[I") ∈ lw_all := lw_g (lw_at lw_m8 194 rfl) rfl
theorem q1999 : (Jvm.Cond.fieldLink "BlindCardsModel" (111 : Nat) "BlindCardsModel" "known" "[I") ∈ lw_all := lw_g (lw_at lw_m8 195 rfl) rfl
theorem q2000 : (Jvm.Cond.fieldLink "BlindCardsModel" (114 : Nat) "BlindCardsModel" "seen" "[I") ∈ lw_all := lw_g (lw_at lw_m8 196 rfl) rfl
theorem q2001 : (Jvm.Cond.fieldLink "BlindCardsModel" (117 : Nat) "BlindCardsModel" "kind" "[I") ∈ lw_all := lw_g (lw_at lw_m8 197 rfl) rfl
theorem q2002 : (Jvm.Cond.fieldLink "BlindCardsModel" (120 : Nat) "BlindCardsModel" "child" "[I") ∈ lw_all := lw_g (lw_at lw_m8 198 rfl) rfl
theorem q2003 : (Jvm.Cond.fieldLink "BlindCardsModel" (457 : Nat) "BlindCardsModel" "mode" "I") ∈ lw_all := lw_g (lw_at lw_m8 199 rfl) rfl
theorem q2004 : (Jvm.Cond.fieldLink "BlindCardsModel" (460 : Nat) "BlindCardsModel" "which" "I") ∈ lw_all := lw_g (lw_at lw_m8 200 rfl) rfl
theorem q2005 : (Jvm.Cond.fieldLink "BlindCardsModel" (463 : Nat) "BlindCardsModel" "colour" "I") ∈ lw_all := lw_g (lw_at lw_m8 201 rfl) rfl
theorem q2006 : (Jvm.Cond.fieldLink "BlindCardsModel" (468 : Nat) "BlindCardsModel" "endStep" "I") ∈ lw_all := lw_g (lw_at lw_m8 202 rfl) rfl
theorem q2007 : (Jvm.Cond.fieldLink "BlindCardsModel" (500 : Nat) "BlindCardsModel" "leaves" "I") ∈ lw_all := lw_g (lw_at lw_m8 203 rfl) rfl
theorem q2008 : (Jvm.Cond.fieldLink "BlindCardsModel" (123 : Nat) "BlindCardsModel" "askedRow" "[I") ∈ lw_all := lw_g (lw_at lw_m8 204 rfl) rfl
theorem q2009 : (Jvm.Cond.fieldLink "BlindCardsModel" (126 : Nat) "BlindCardsModel" "lookMany" "[I") ∈ lw_all := lw_g (lw_at lw_m8 205 rfl) rfl
theorem q2010 : (Jvm.Cond.fieldLink "BlindCardsModel" (129 : Nat) "BlindCardsModel" "pLook" "[I") ∈ lw_all := lw_g (lw_at lw_m8 206 rfl) rfl
theorem q2011 : (Jvm.Cond.fieldLink "BlindCardsModel" (132 : Nat) "BlindCardsModel" "pEnds" "[I") ∈ lw_all := lw_g (lw_at lw_m8 207 rfl) rfl
theorem q2012 : (Jvm.Cond.fieldLink "BlindCardsModel" (135 : Nat) "BlindCardsModel" "pSays" "[I") ∈ lw_all := lw_g (lw_at lw_m8 208 rfl) rfl
theorem q2013 : (Jvm.Cond.fieldLink "BlindCardsModel" (138 : Nat) "BlindCardsModel" "pWays" "[J") ∈ lw_all := lw_g (lw_at lw_m8 209 rfl) rfl
theorem q2014 : (Jvm.Cond.fieldLink "BlindCardsModel" (141 : Nat) "BlindCardsModel" "pDown" "[J") ∈ lw_all := lw_g (lw_at lw_m8 210 rfl) rfl
theorem q2015 : (Jvm.Cond.fieldLink "BlindCardsModel" (543 : Nat) "BlindCardsModel" "paths" "I") ∈ lw_all := lw_g (lw_at lw_m8 211 rfl) rfl
theorem q2016 : (Jvm.Cond.fieldLink "BlindCardsModel" (518 : Nat) "BlindCardsModel" "allEnds" "I") ∈ lw_all := lw_g (lw_at lw_m8 212 rfl) rfl
theorem q2017 : (Jvm.Cond.fieldLink "BlindCardsModel" (540 : Nat) "BlindCardsModel" "isSpent" "Z") ∈ lw_all := lw_g (lw_at lw_m8 213 rfl) rfl
theorem q2018 : (Jvm.Cond.fieldLink "BlindCardsModel" (534 : Nat) "BlindCardsModel" "isUnlike" "Z") ∈ lw_all := lw_g (lw_at lw_m8 214 rfl) rfl
theorem q2019 : (Jvm.Cond.fieldLink "BlindCardsModel" (527 : Nat) "BlindCardsModel" "isSecret" "Z") ∈ lw_all := lw_g (lw_at lw_m8 215 rfl) rfl
theorem q2020 : (Jvm.Cond.fieldLink "BlindCardsModel" (564 : Nat) "BlindCardsModel" "startCards" "I") ∈ lw_all := lw_g (lw_at lw_m8 216 rfl) rfl
theorem q2021 : (Jvm.Cond.fieldLink "BlindCardsModel" (573 : Nat) "BlindCardsModel" "found" "I") ∈ lw_all := lw_g (lw_at lw_m8 217 rfl) rfl
theorem q2022 : (Jvm.Cond.fieldLink "BlindCardsModel" (576 : Nat) "BlindCardsModel" "foundOpen" "I") ∈ lw_all := lw_g (lw_at lw_m8 218 rfl) rfl
theorem q2023 : (Jvm.Cond.fieldLink "BlindCardsModel" (144 : Nat) "BlindCardsModel" "seenBy" "[J") ∈ lw_all := lw_g (lw_at lw_m8 219 rfl) rfl
theorem q2024 : (Jvm.Cond.fieldLink "BlindCardsModel" (147 : Nat) "BlindCardsModel" "w" "I") ∈ lw_all := lw_g (lw_at lw_m8 220 rfl) rfl
theorem q2025 : (Jvm.Cond.fieldLink "BlindCardsModel" (595 : Nat) "BlindCardsModel" "gameAnswer" "I") ∈ lw_all := lw_g (lw_at lw_m8 221 rfl) rfl
theorem q2026 : (Jvm.Cond.fieldLink "BlindCardsModel" (598 : Nat) "BlindCardsModel" "gameSteps" "I") ∈ lw_all := lw_g (lw_at lw_m8 222 rfl) rfl
theorem q2027 : (Jvm.Cond.fieldLink "BlindCardsModel" (589 : Nat) "BlindCardsModel" "gameRow" "I") ∈ lw_all := lw_g (lw_at lw_m8 223 rfl) rfl
theorem q2028 : (Jvm.Cond.fieldLink "BlindCardsModel" (592 : Nat) "BlindCardsModel" "gameCards" "I") ∈ lw_all := lw_g (lw_at lw_m8 224 rfl) rfl
theorem q2029 : (Jvm.Cond.fieldLink "BlindCardsModel" (321 : Nat) "BlindCardsModel" "hasGame" "Z") ∈ lw_all := lw_g (lw_at lw_m8 225 rfl) rfl
theorem q2030 : (Jvm.Cond.fieldLink "BlindCardsModel" (150 : Nat) "BlindCardsModel" "gameLooks" "[I") ∈ lw_all := lw_g (lw_at lw_m8 226 rfl) rfl
theorem q2031 : (Jvm.Cond.fieldLink "BlindCardsModel" (153 : Nat) "BlindCardsModel" "lPath" "[I") ∈ lw_all := lw_g (lw_at lw_m8 227 rfl) rfl
theorem q2032 : (Jvm.Cond.fieldLink "BlindCardsModel" (156 : Nat) "BlindCardsModel" "lTold" "[I") ∈ lw_all := lw_g (lw_at lw_m8 228 rfl) rfl
theorem q2033 : (Jvm.Cond.fieldLink "BlindCardsModel" (159 : Nat) "BlindCardsModel" "lUntold" "[I") ∈ lw_all := lw_g (lw_at lw_m8 229 rfl) rfl
theorem q2034 : (Jvm.Cond.fieldLink "BlindCardsModel" (318 : Nat) "BlindCardsModel" "looks" "I") ∈ lw_all := lw_g (lw_at lw_m8 230 rfl) rfl
theorem q2035 : (Jvm.Cond.fieldLink "BlindCardsModel" (613 : Nat) "BlindCardsModel" "time" "I") ∈ lw_all := lw_g (lw_at lw_m8 231 rfl) rfl
theorem q2036 : (Jvm.Cond.fieldLink "BlindCardsModel" (162 : Nat) "BlindCardsModel" "boxMany" "[I") ∈ lw_all := lw_g (lw_at lw_m8 232 rfl) rfl
theorem q2037 : (Jvm.Cond.fieldLink "BlindCardsModel" (165 : Nat) "BlindCardsModel" "boxW" "[I") ∈ lw_all := lw_g (lw_at lw_m8 233 rfl) rfl
theorem q2038 : (Jvm.Cond.fieldLink "BlindCardsModel" (168 : Nat) "BlindCardsModel" "boxPath" "[I") ∈ lw_all := lw_g (lw_at lw_m8 234 rfl) rfl
theorem q2039 : (Jvm.Cond.fieldLink "BlindCardsModel" (171 : Nat) "BlindCardsModel" "boxTold" "[I") ∈ lw_all := lw_g (lw_at lw_m8 235 rfl) rfl
theorem q2040 : (Jvm.Cond.fieldLink "BlindCardsModel" (174 : Nat) "BlindCardsModel" "boxUntold" "[I") ∈ lw_all := lw_g (lw_at lw_m8 236 rfl) rfl
theorem q2041 : (Jvm.Cond.laysFinal "BlindCardsModel" "BlindCardsModel" "tape" "[B") ∈ lw_all := lw_g (lw_at lw_m8 237 rfl) rfl
theorem q2042 : (Jvm.Cond.soleField "BlindCardsModel" "tape") ∈ lw_all := lw_g (lw_at lw_m8 238 rfl) rfl
theorem q2043 : (Jvm.Cond.laysFinal "BlindCardsModel" "BlindCardsModel" "text" "[B") ∈ lw_all := lw_g (lw_at lw_m8 239 rfl) rfl
theorem q2044 : (Jvm.Cond.soleField "BlindCardsModel" "text") ∈ lw_all := lw_g (lw_at lw_m9 0 rfl) rfl
theorem q2045 : (Jvm.Cond.lays "BlindCardsModel" "BlindCardsModel" "taped" "I") ∈ lw_all := lw_g (lw_at lw_m9 1 rfl) rfl
theorem q2046 : (Jvm.Cond.soleField "BlindCardsModel" "taped") ∈ lw_all := lw_g (lw_at lw_m9 2 rfl) rfl
theorem q2047 : (Jvm.Cond.lays "BlindCardsModel" "BlindCardsModel" "size" "I") ∈ lw_all := lw_g (lw_at lw_m9 3 rfl) rfl
theorem q2048 : (Jvm.Cond.soleField "BlindCardsModel" "size") ∈ lw_all := lw_g (lw_at lw_m9 4 rfl) rfl
theorem q2049 : (Jvm.Cond.lays "BlindCardsModel" "BlindCardsModel" "faultKind" "I") ∈ lw_all := lw_g (lw_at lw_m9 5 rfl) rfl
theorem q2050 : (Jvm.Cond.soleField "BlindCardsModel" "faultKind") ∈ lw_all := lw_g (lw_at lw_m9 6 rfl) rfl
theorem q2051 : (Jvm.Cond.lays "BlindCardsModel" "BlindCardsModel" "faultPlace" "I") ∈ lw_all := lw_g (lw_at lw_m9 7 rfl) rfl
theorem q2052 : (Jvm.Cond.soleField "BlindCardsModel" "faultPlace") ∈ lw_all := lw_g (lw_at lw_m9 8 rfl) rfl
theorem q2053 : (Jvm.Cond.lays "BlindCardsModel" "BlindCardsModel" "at" "I") ∈ lw_all := lw_g (lw_at lw_m9 9 rfl) rfl
theorem q2054 : (Jvm.Cond.soleField "BlindCardsModel" "at") ∈ lw_all := lw_g (lw_at lw_m9 10 rfl) rfl
theorem q2055 : (Jvm.Cond.lays "BlindCardsModel" "BlindCardsModel" "end" "I") ∈ lw_all := lw_g (lw_at lw_m9 11 rfl) rfl
theorem q2056 : (Jvm.Cond.soleField "BlindCardsModel" "end") ∈ lw_all := lw_g (lw_at lw_m9 12 rfl) rfl
theorem q2057 : (Jvm.Cond.lays "BlindCardsModel" "BlindCardsModel" "token" "I") ∈ lw_all := lw_g (lw_at lw_m9 13 rfl) rfl
theorem q2058 : (Jvm.Cond.soleField "BlindCardsModel" "token") ∈ lw_all := lw_g (lw_at lw_m9 14 rfl) rfl
theorem q2059 : (Jvm.Cond.lays "BlindCardsModel" "BlindCardsModel" "number" "I") ∈ lw_all := lw_g (lw_at lw_m9 15 rfl) rfl
theorem q2060 : (Jvm.Cond.soleField "BlindCardsModel" "number") ∈ lw_all := lw_g (lw_at lw_m9 16 rfl) rfl
theorem q2061 : (Jvm.Cond.lays "BlindCardsModel" "BlindCardsModel" "name" "J") ∈ lw_all := lw_g (lw_at lw_m9 17 rfl) rfl
theorem q2062 : (Jvm.Cond.soleField "BlindCardsModel" "name") ∈ lw_all := lw_g (lw_at lw_m9 18 rfl) rfl
theorem q2063 : (Jvm.Cond.lays "BlindCardsModel" "BlindCardsModel" "lastAt" "I") ∈ lw_all := lw_g (lw_at lw_m9 19 rfl) rfl
theorem q2064 : (Jvm.Cond.soleField "BlindCardsModel" "lastAt") ∈ lw_all := lw_g (lw_at lw_m9 20 rfl) rfl
theorem q2065 : (Jvm.Cond.laysFinal "BlindCardsModel" "BlindCardsModel" "people" "[I") ∈ lw_all := lw_g (lw_at lw_m9 21 rfl) rfl
theorem q2066 : (Jvm.Cond.soleField "BlindCardsModel" "people") ∈ lw_all := lw_g (lw_at lw_m9 22 rfl) rfl
theorem q2067 : (Jvm.Cond.laysFinal "BlindCardsModel" "BlindCardsModel" "steps" "[I") ∈ lw_all := lw_g (lw_at lw_m9 23 rfl) rfl
theorem q2068 : (Jvm.Cond.soleField "BlindCardsModel" "steps") ∈ lw_all := lw_g (lw_at lw_m9 24 rfl) rfl
theorem q2069 : (Jvm.Cond.laysFinal "BlindCardsModel" "BlindCardsModel" "moves" "[I") ∈ lw_all := lw_g (lw_at lw_m9 25 rfl) rfl
theorem q2070 : (Jvm.Cond.soleField "BlindCardsModel" "moves") ∈ lw_all := lw_g (lw_at lw_m9 26 rfl) rfl
theorem q2071 : (Jvm.Cond.laysFinal "BlindCardsModel" "BlindCardsModel" "opens" "[I") ∈ lw_all := lw_g (lw_at lw_m9 27 rfl) rfl
theorem q2072 : (Jvm.Cond.soleField "BlindCardsModel" "opens") ∈ lw_all := lw_g (lw_at lw_m9 28 rfl) rfl
theorem q2073 : (Jvm.Cond.laysFinal "BlindCardsModel" "BlindCardsModel" "stepOpens" "[I") ∈ lw_all := lw_g (lw_at lw_m9 29 rfl) rfl
theorem q2074 : (Jvm.Cond.soleField "BlindCardsModel" "stepOpens") ∈ lw_all := lw_g (lw_at lw_m9 30 rfl) rfl
theorem q2075 : (Jvm.Cond.laysFinal "BlindCardsModel" "BlindCardsModel" "mixes" "[I") ∈ lw_all := lw_g (lw_at lw_m9 31 rfl) rfl
theorem q2076 : (Jvm.Cond.soleField "BlindCardsModel" "mixes") ∈ lw_all := lw_g (lw_at lw_m9 32 rfl) rfl
theorem q2077 : (Jvm.Cond.laysFinal "BlindCardsModel" "BlindCardsModel" "unitsOf" "[I") ∈ lw_all := lw_g (lw_at lw_m9 33 rfl) rfl
theorem q2078 : (Jvm.Cond.soleField "BlindCardsModel" "unitsOf") ∈ lw_all := lw_g (lw_at lw_m9 34 rfl) rfl
theorem q2079 : (Jvm.Cond.laysFinal "BlindCardsModel" "BlindCardsModel" "aTo" "[I") ∈ lw_all := lw_g (lw_at lw_m9 35 rfl) rfl
theorem q2080 : (Jvm.Cond.soleField "BlindCardsModel" "aTo") ∈ lw_all := lw_g (lw_at lw_m9 36 rfl) rfl
theorem q2081 : (Jvm.Cond.laysFinal "BlindCardsModel" "BlindCardsModel" "isPeople" "[Z") ∈ lw_all := lw_g (lw_at lw_m9 37 rfl) rfl
theorem q2082 : (Jvm.Cond.soleField "BlindCardsModel" "isPeople") ∈ lw_all := lw_g (lw_at lw_m9 38 rfl) rfl
theorem q2083 : (Jvm.Cond.laysFinal "BlindCardsModel" "BlindCardsModel" "isAsks" "[Z") ∈ lw_all := lw_g (lw_at lw_m9 39 rfl) rfl
theorem q2084 : (Jvm.Cond.soleField "BlindCardsModel" "isAsks") ∈ lw_all := lw_g (lw_at lw_m9 40 rfl) rfl
theorem q2085 : (Jvm.Cond.laysFinal "BlindCardsModel" "BlindCardsModel" "type" "[I") ∈ lw_all := lw_g (lw_at lw_m9 41 rfl) rfl
theorem q2086 : (Jvm.Cond.soleField "BlindCardsModel" "type") ∈ lw_all := lw_g (lw_at lw_m9 42 rfl) rfl
theorem q2087 : (Jvm.Cond.laysFinal "BlindCardsModel" "BlindCardsModel" "one" "[I") ∈ lw_all := lw_g (lw_at lw_m9 43 rfl) rfl
theorem q2088 : (Jvm.Cond.soleField "BlindCardsModel" "one") ∈ lw_all := lw_g (lw_at lw_m9 44 rfl) rfl
theorem q2089 : (Jvm.Cond.laysFinal "BlindCardsModel" "BlindCardsModel" "two" "[I") ∈ lw_all := lw_g (lw_at lw_m9 45 rfl) rfl
theorem q2090 : (Jvm.Cond.soleField "BlindCardsModel" "two") ∈ lw_all := lw_g (lw_at lw_m9 46 rfl) rfl
theorem q2091 : (Jvm.Cond.laysFinal "BlindCardsModel" "BlindCardsModel" "three" "[I") ∈ lw_all := lw_g (lw_at lw_m9 47 rfl) rfl
theorem q2092 : (Jvm.Cond.soleField "BlindCardsModel" "three") ∈ lw_all := lw_g (lw_at lw_m9 48 rfl) rfl
theorem q2093 : (Jvm.Cond.laysFinal "BlindCardsModel" "BlindCardsModel" "many" "[I") ∈ lw_all := lw_g (lw_at lw_m9 49 rfl) rfl
theorem q2094 : (Jvm.Cond.soleField "BlindCardsModel" "many") ∈ lw_all := lw_g (lw_at lw_m9 50 rfl) rfl
theorem q2095 : (Jvm.Cond.laysFinal "BlindCardsModel" "BlindCardsModel" "list" "[I") ∈ lw_all := lw_g (lw_at lw_m9 51 rfl) rfl
theorem q2096 : (Jvm.Cond.soleField "BlindCardsModel" "list") ∈ lw_all := lw_g (lw_at lw_m9 52 rfl) rfl
theorem q2097 : (Jvm.Cond.laysFinal "BlindCardsModel" "BlindCardsModel" "goAt" "[I") ∈ lw_all := lw_g (lw_at lw_m9 53 rfl) rfl
theorem q2098 : (Jvm.Cond.soleField "BlindCardsModel" "goAt") ∈ lw_all := lw_g (lw_at lw_m9 54 rfl) rfl
theorem q2099 : (Jvm.Cond.laysFinal "BlindCardsModel" "BlindCardsModel" "label" "[J") ∈ lw_all := lw_g (lw_at lw_m9 55 rfl) rfl
theorem q2100 : (Jvm.Cond.soleField "BlindCardsModel" "label") ∈ lw_all := lw_g (lw_at lw_m9 56 rfl) rfl
theorem q2101 : (Jvm.Cond.laysFinal "BlindCardsModel" "BlindCardsModel" "code" "[I") ∈ lw_all := lw_g (lw_at lw_m9 57 rfl) rfl
theorem q2102 : (Jvm.Cond.soleField "BlindCardsModel" "code") ∈ lw_all := lw_g (lw_at lw_m9 58 rfl) rfl
theorem q2103 : (Jvm.Cond.laysFinal "BlindCardsModel" "BlindCardsModel" "codeNumber" "[I") ∈ lw_all := lw_g (lw_at lw_m9 59 rfl) rfl
theorem q2104 : (Jvm.Cond.soleField "BlindCardsModel" "codeNumber") ∈ lw_all := lw_g (lw_at lw_m9 60 rfl) rfl
theorem q2105 : (Jvm.Cond.laysFinal "BlindCardsModel" "BlindCardsModel" "eWhat" "[I") ∈ lw_all := lw_g (lw_at lw_m9 61 rfl) rfl
theorem q2106 : (Jvm.Cond.soleField "BlindCardsModel" "eWhat") ∈ lw_all := lw_g (lw_at lw_m9 62 rfl) rfl
theorem q2107 : (Jvm.Cond.laysFinal "BlindCardsModel" "BlindCardsModel" "eSign" "[I") ∈ lw_all := lw_g (lw_at lw_m9 63 rfl) rfl
theorem q2108 : (Jvm.Cond.soleField "BlindCardsModel" "eSign") ∈ lw_all := lw_g (lw_at lw_m9 64 rfl) rfl
theorem q2109 : (Jvm.Cond.laysFinal "BlindCardsModel" "BlindCardsModel" "pile" "[I") ∈ lw_all := lw_g (lw_at lw_m9 65 rfl) rfl
theorem q2110 : (Jvm.Cond.soleField "BlindCardsModel" "pile") ∈ lw_all := lw_g (lw_at lw_m9 66 rfl) rfl
theorem q2111 : (Jvm.Cond.lays "BlindCardsModel" "BlindCardsModel" "bank" "I") ∈ lw_all := lw_g (lw_at lw_m9 67 rfl) rfl
theorem q2112 : (Jvm.Cond.soleField "BlindCardsModel" "bank") ∈ lw_all := lw_g (lw_at lw_m9 68 rfl) rfl
theorem q2113 : (Jvm.Cond.lays "BlindCardsModel" "BlindCardsModel" "rb" "I") ∈ lw_all := lw_g (lw_at lw_m9 69 rfl) rfl
theorem q2114 : (Jvm.Cond.soleField "BlindCardsModel" "rb") ∈ lw_all := lw_g (lw_at lw_m9 70 rfl) rfl
theorem q2115 : (Jvm.Cond.lays "BlindCardsModel" "BlindCardsModel" "codes" "I") ∈ lw_all := lw_g (lw_at lw_m9 71 rfl) rfl
theorem q2116 : (Jvm.Cond.soleField "BlindCardsModel" "codes") ∈ lw_all := lw_g (lw_at lw_m9 72 rfl) rfl
theorem q2117 : (Jvm.Cond.lays "BlindCardsModel" "BlindCardsModel" "within" "I") ∈ lw_all := lw_g (lw_at lw_m9 73 rfl) rfl
theorem q2118 : (Jvm.Cond.soleField "BlindCardsModel" "within") ∈ lw_all := lw_g (lw_at lw_m9 74 rfl) rfl
theorem q2119 : (Jvm.Cond.lays "BlindCardsModel" "BlindCardsModel" "piled" "I") ∈ lw_all := lw_g (lw_at lw_m9 75 rfl) rfl
theorem q2120 : (Jvm.Cond.soleField "BlindCardsModel" "piled") ∈ lw_all := lw_g (lw_at lw_m9 76 rfl) rfl
theorem q2121 : (Jvm.Cond.lays "BlindCardsModel" "BlindCardsModel" "laidAny" "Z") ∈ lw_all := lw_g (lw_at lw_m9 77 rfl) rfl
theorem q2122 : (Jvm.Cond.soleField "BlindCardsModel" "laidAny") ∈ lw_all := lw_g (lw_at lw_m9 78 rfl) rfl
theorem q2123 : (Jvm.Cond.laysFinal "BlindCardsModel" "BlindCardsModel" "from" "[I") ∈ lw_all := lw_g (lw_at lw_m9 79 rfl) rfl
theorem q2124 : (Jvm.Cond.soleField "BlindCardsModel" "from") ∈ lw_all := lw_g (lw_at lw_m9 80 rfl) rfl
theorem q2125 : (Jvm.Cond.laysFinal "BlindCardsModel" "BlindCardsModel" "left" "[I") ∈ lw_all := lw_g (lw_at lw_m9 81 rfl) rfl
theorem q2126 : (Jvm.Cond.soleField "BlindCardsModel" "left") ∈ lw_all := lw_g (lw_at lw_m9 82 rfl) rfl
theorem q2127 : (Jvm.Cond.laysFinal "BlindCardsModel" "BlindCardsModel" "dist" "[J") ∈ lw_all := lw_g (lw_at lw_m9 83 rfl) rfl
theorem q2128 : (Jvm.Cond.soleField "BlindCardsModel" "dist") ∈ lw_all := lw_g (lw_at lw_m9 84 rfl) rfl
theorem q2129 : (Jvm.Cond.laysFinal "BlindCardsModel" "BlindCardsModel" "down" "[J") ∈ lw_all := lw_g (lw_at lw_m9 85 rfl) rfl
theorem q2130 : (Jvm.Cond.soleField "BlindCardsModel" "down") ∈ lw_all := lw_g (lw_at lw_m9 86 rfl) rfl
theorem q2131 : (Jvm.Cond.laysFinal "BlindCardsModel" "BlindCardsModel" "pc" "[I") ∈ lw_all := lw_g (lw_at lw_m9 87 rfl) rfl
theorem q2132 : (Jvm.Cond.soleField "BlindCardsModel" "pc") ∈ lw_all := lw_g (lw_at lw_m9 88 rfl) rfl
theorem q2133 : (Jvm.Cond.laysFinal "BlindCardsModel" "BlindCardsModel" "cards" "[I") ∈ lw_all := lw_g (lw_at lw_m9 89 rfl) rfl
theorem q2134 : (Jvm.Cond.soleField "BlindCardsModel" "cards") ∈ lw_all := lw_g (lw_at lw_m9 90 rfl) rfl
theorem q2135 : (Jvm.Cond.laysFinal "BlindCardsModel" "BlindCardsModel" "known" "[I") ∈ lw_all := lw_g (lw_at lw_m9 91 rfl) rfl
theorem q2136 : (Jvm.Cond.soleField "BlindCardsModel" "known") ∈ lw_all := lw_g (lw_at lw_m9 92 rfl) rfl
theorem q2137 : (Jvm.Cond.laysFinal "BlindCardsModel" "BlindCardsModel" "seen" "[I") ∈ lw_all := lw_g (lw_at lw_m9 93 rfl) rfl
theorem q2138 : (Jvm.Cond.soleField "BlindCardsModel" "seen") ∈ lw_all := lw_g (lw_at lw_m9 94 rfl) rfl
theorem q2139 : (Jvm.Cond.laysFinal "BlindCardsModel" "BlindCardsModel" "kind" "[I") ∈ lw_all := lw_g (lw_at lw_m9 95 rfl) rfl
theorem q2140 : (Jvm.Cond.soleField "BlindCardsModel" "kind") ∈ lw_all := lw_g (lw_at lw_m9 96 rfl) rfl
theorem q2141 : (Jvm.Cond.laysFinal "BlindCardsModel" "BlindCardsModel" "child" "[I") ∈ lw_all := lw_g (lw_at lw_m9 97 rfl) rfl
theorem q2142 : (Jvm.Cond.soleField "BlindCardsModel" "child") ∈ lw_all := lw_g (lw_at lw_m9 98 rfl) rfl
theorem q2143 : (Jvm.Cond.lays "BlindCardsModel" "BlindCardsModel" "mode" "I") ∈ lw_all := lw_g (lw_at lw_m9 99 rfl) rfl
theorem q2144 : (Jvm.Cond.soleField "BlindCardsModel" "mode") ∈ lw_all := lw_g (lw_at lw_m9 100 rfl) rfl
theorem q2145 : (Jvm.Cond.lays "BlindCardsModel" "BlindCardsModel" "which" "I") ∈ lw_all := lw_g (lw_at lw_m9 101 rfl) rfl
theorem q2146 : (Jvm.Cond.soleField "BlindCardsModel" "which") ∈ lw_all := lw_g (lw_at lw_m9 102 rfl) rfl
theorem q2147 : (Jvm.Cond.lays "BlindCardsModel" "BlindCardsModel" "colour" "I") ∈ lw_all := lw_g (lw_at lw_m9 103 rfl) rfl
theorem q2148 : (Jvm.Cond.soleField "BlindCardsModel" "colour") ∈ lw_all := lw_g (lw_at lw_m9 104 rfl) rfl
theorem q2149 : (Jvm.Cond.lays "BlindCardsModel" "BlindCardsModel" "endStep" "I") ∈ lw_all := lw_g (lw_at lw_m9 105 rfl) rfl
theorem q2150 : (Jvm.Cond.soleField "BlindCardsModel" "endStep") ∈ lw_all := lw_g (lw_at lw_m9 106 rfl) rfl
theorem q2151 : (Jvm.Cond.lays "BlindCardsModel" "BlindCardsModel" "leaves" "I") ∈ lw_all := lw_g (lw_at lw_m9 107 rfl) rfl
theorem q2152 : (Jvm.Cond.soleField "BlindCardsModel" "leaves") ∈ lw_all := lw_g (lw_at lw_m9 108 rfl) rfl
theorem q2153 : (Jvm.Cond.laysFinal "BlindCardsModel" "BlindCardsModel" "askedRow" "[I") ∈ lw_all := lw_g (lw_at lw_m9 109 rfl) rfl
theorem q2154 : (Jvm.Cond.soleField "BlindCardsModel" "askedRow") ∈ lw_all := lw_g (lw_at lw_m9 110 rfl) rfl
theorem q2155 : (Jvm.Cond.laysFinal "BlindCardsModel" "BlindCardsModel" "lookMany" "[I") ∈ lw_all := lw_g (lw_at lw_m9 111 rfl) rfl
theorem q2156 : (Jvm.Cond.soleField "BlindCardsModel" "lookMany") ∈ lw_all := lw_g (lw_at lw_m9 112 rfl) rfl
theorem q2157 : (Jvm.Cond.laysFinal "BlindCardsModel" "BlindCardsModel" "pLook" "[I") ∈ lw_all := lw_g (lw_at lw_m9 113 rfl) rfl
theorem q2158 : (Jvm.Cond.soleField "BlindCardsModel" "pLook") ∈ lw_all := lw_g (lw_at lw_m9 114 rfl) rfl
theorem q2159 : (Jvm.Cond.laysFinal "BlindCardsModel" "BlindCardsModel" "pEnds" "[I") ∈ lw_all := lw_g (lw_at lw_m9 115 rfl) rfl
theorem q2160 : (Jvm.Cond.soleField "BlindCardsModel" "pEnds") ∈ lw_all := lw_g (lw_at lw_m9 116 rfl) rfl
theorem q2161 : (Jvm.Cond.laysFinal "BlindCardsModel" "BlindCardsModel" "pSays" "[I") ∈ lw_all := lw_g (lw_at lw_m9 117 rfl) rfl
theorem q2162 : (Jvm.Cond.soleField "BlindCardsModel" "pSays") ∈ lw_all := lw_g (lw_at lw_m9 118 rfl) rfl
theorem q2163 : (Jvm.Cond.laysFinal "BlindCardsModel" "BlindCardsModel" "pWays" "[J") ∈ lw_all := lw_g (lw_at lw_m9 119 rfl) rfl
theorem q2164 : (Jvm.Cond.soleField "BlindCardsModel" "pWays") ∈ lw_all := lw_g (lw_at lw_m9 120 rfl) rfl
theorem q2165 : (Jvm.Cond.laysFinal "BlindCardsModel" "BlindCardsModel" "pDown" "[J") ∈ lw_all := lw_g (lw_at lw_m9 121 rfl) rfl
theorem q2166 : (Jvm.Cond.soleField "BlindCardsModel" "pDown") ∈ lw_all := lw_g (lw_at lw_m9 122 rfl) rfl
theorem q2167 : (Jvm.Cond.lays "BlindCardsModel" "BlindCardsModel" "paths" "I") ∈ lw_all := lw_g (lw_at lw_m9 123 rfl) rfl
theorem q2168 : (Jvm.Cond.soleField "BlindCardsModel" "paths") ∈ lw_all := lw_g (lw_at lw_m9 124 rfl) rfl
theorem q2169 : (Jvm.Cond.lays "BlindCardsModel" "BlindCardsModel" "allEnds" "I") ∈ lw_all := lw_g (lw_at lw_m9 125 rfl) rfl
theorem q2170 : (Jvm.Cond.soleField "BlindCardsModel" "allEnds") ∈ lw_all := lw_g (lw_at lw_m9 126 rfl) rfl
theorem q2171 : (Jvm.Cond.lays "BlindCardsModel" "BlindCardsModel" "isSpent" "Z") ∈ lw_all := lw_g (lw_at lw_m9 127 rfl) rfl
theorem q2172 : (Jvm.Cond.soleField "BlindCardsModel" "isSpent") ∈ lw_all := lw_g (lw_at lw_m9 128 rfl) rfl
theorem q2173 : (Jvm.Cond.lays "BlindCardsModel" "BlindCardsModel" "isUnlike" "Z") ∈ lw_all := lw_g (lw_at lw_m9 129 rfl) rfl
theorem q2174 : (Jvm.Cond.soleField "BlindCardsModel" "isUnlike") ∈ lw_all := lw_g (lw_at lw_m9 130 rfl) rfl
theorem q2175 : (Jvm.Cond.lays "BlindCardsModel" "BlindCardsModel" "isSecret" "Z") ∈ lw_all := lw_g (lw_at lw_m9 131 rfl) rfl
theorem q2176 : (Jvm.Cond.soleField "BlindCardsModel" "isSecret") ∈ lw_all := lw_g (lw_at lw_m9 132 rfl) rfl
theorem q2177 : (Jvm.Cond.lays "BlindCardsModel" "BlindCardsModel" "startCards" "I") ∈ lw_all := lw_g (lw_at lw_m9 133 rfl) rfl
theorem q2178 : (Jvm.Cond.soleField "BlindCardsModel" "startCards") ∈ lw_all := lw_g (lw_at lw_m9 134 rfl) rfl
theorem q2179 : (Jvm.Cond.lays "BlindCardsModel" "BlindCardsModel" "found" "I") ∈ lw_all := lw_g (lw_at lw_m9 135 rfl) rfl
theorem q2180 : (Jvm.Cond.soleField "BlindCardsModel" "found") ∈ lw_all := lw_g (lw_at lw_m9 136 rfl) rfl
theorem q2181 : (Jvm.Cond.lays "BlindCardsModel" "BlindCardsModel" "foundOpen" "I") ∈ lw_all := lw_g (lw_at lw_m9 137 rfl) rfl
theorem q2182 : (Jvm.Cond.soleField "BlindCardsModel" "foundOpen") ∈ lw_all := lw_g (lw_at lw_m9 138 rfl) rfl
theorem q2183 : (Jvm.Cond.laysFinal "BlindCardsModel" "BlindCardsModel" "seenBy" "[J") ∈ lw_all := lw_g (lw_at lw_m9 139 rfl) rfl
theorem q2184 : (Jvm.Cond.soleField "BlindCardsModel" "seenBy") ∈ lw_all := lw_g (lw_at lw_m9 140 rfl) rfl
theorem q2185 : (Jvm.Cond.lays "BlindCardsModel" "BlindCardsModel" "w" "I") ∈ lw_all := lw_g (lw_at lw_m9 141 rfl) rfl
theorem q2186 : (Jvm.Cond.soleField "BlindCardsModel" "w") ∈ lw_all := lw_g (lw_at lw_m9 142 rfl) rfl
theorem q2187 : (Jvm.Cond.lays "BlindCardsModel" "BlindCardsModel" "gameAnswer" "I") ∈ lw_all := lw_g (lw_at lw_m9 143 rfl) rfl
theorem q2188 : (Jvm.Cond.soleField "BlindCardsModel" "gameAnswer") ∈ lw_all := lw_g (lw_at lw_m9 144 rfl) rfl
theorem q2189 : (Jvm.Cond.lays "BlindCardsModel" "BlindCardsModel" "gameSteps" "I") ∈ lw_all := lw_g (lw_at lw_m9 145 rfl) rfl
theorem q2190 : (Jvm.Cond.soleField "BlindCardsModel" "gameSteps") ∈ lw_all := lw_g (lw_at lw_m9 146 rfl) rfl
theorem q2191 : (Jvm.Cond.lays "BlindCardsModel" "BlindCardsModel" "gameRow" "I") ∈ lw_all := lw_g (lw_at lw_m9 147 rfl) rfl
theorem q2192 : (Jvm.Cond.soleField "BlindCardsModel" "gameRow") ∈ lw_all := lw_g (lw_at lw_m9 148 rfl) rfl
theorem q2193 : (Jvm.Cond.lays "BlindCardsModel" "BlindCardsModel" "gameCards" "I") ∈ lw_all := lw_g (lw_at lw_m9 149 rfl) rfl
theorem q2194 : (Jvm.Cond.soleField "BlindCardsModel" "gameCards") ∈ lw_all := lw_g (lw_at lw_m9 150 rfl) rfl
theorem q2195 : (Jvm.Cond.lays "BlindCardsModel" "BlindCardsModel" "hasGame" "Z") ∈ lw_all := lw_g (lw_at lw_m9 151 rfl) rfl
theorem q2196 : (Jvm.Cond.soleField "BlindCardsModel" "hasGame") ∈ lw_all := lw_g (lw_at lw_m9 152 rfl) rfl
theorem q2197 : (Jvm.Cond.laysFinal "BlindCardsModel" "BlindCardsModel" "gameLooks" "[I") ∈ lw_all := lw_g (lw_at lw_m9 153 rfl) rfl
theorem q2198 : (Jvm.Cond.soleField "BlindCardsModel" "gameLooks") ∈ lw_all := lw_g (lw_at lw_m9 154 rfl) rfl
theorem q2199 : (Jvm.Cond.laysFinal "BlindCardsModel" "BlindCardsModel" "lPath" "[I") ∈ lw_all := lw_g (lw_at lw_m9 155 rfl) rfl
theorem q2200 : (Jvm.Cond.soleField "BlindCardsModel" "lPath") ∈ lw_all := lw_g (lw_at lw_m9 156 rfl) rfl
theorem q2201 : (Jvm.Cond.laysFinal "BlindCardsModel" "BlindCardsModel" "lTold" "[I") ∈ lw_all := lw_g (lw_at lw_m9 157 rfl) rfl
theorem q2202 : (Jvm.Cond.soleField "BlindCardsModel" "lTold") ∈ lw_all := lw_g (lw_at lw_m9 158 rfl) rfl
theorem q2203 : (Jvm.Cond.laysFinal "BlindCardsModel" "BlindCardsModel" "lUntold" "[I") ∈ lw_all := lw_g (lw_at lw_m9 159 rfl) rfl
theorem q2204 : (Jvm.Cond.soleField "BlindCardsModel" "lUntold") ∈ lw_all := lw_g (lw_at lw_m9 160 rfl) rfl
theorem q2205 : (Jvm.Cond.lays "BlindCardsModel" "BlindCardsModel" "looks" "I") ∈ lw_all := lw_g (lw_at lw_m9 161 rfl) rfl
theorem q2206 : (Jvm.Cond.soleField "BlindCardsModel" "looks") ∈ lw_all := lw_g (lw_at lw_m9 162 rfl) rfl
theorem q2207 : (Jvm.Cond.lays "BlindCardsModel" "BlindCardsModel" "time" "I") ∈ lw_all := lw_g (lw_at lw_m9 163 rfl) rfl
theorem q2208 : (Jvm.Cond.soleField "BlindCardsModel" "time") ∈ lw_all := lw_g (lw_at lw_m9 164 rfl) rfl
theorem q2209 : (Jvm.Cond.laysFinal "BlindCardsModel" "BlindCardsModel" "boxMany" "[I") ∈ lw_all := lw_g (lw_at lw_m9 165 rfl) rfl
theorem q2210 : (Jvm.Cond.soleField "BlindCardsModel" "boxMany") ∈ lw_all := lw_g (lw_at lw_m9 166 rfl) rfl
theorem q2211 : (Jvm.Cond.laysFinal "BlindCardsModel" "BlindCardsModel" "boxW" "[I") ∈ lw_all := lw_g (lw_at lw_m9 167 rfl) rfl
theorem q2212 : (Jvm.Cond.soleField "BlindCardsModel" "boxW") ∈ lw_all := lw_g (lw_at lw_m9 168 rfl) rfl
theorem q2213 : (Jvm.Cond.laysFinal "BlindCardsModel" "BlindCardsModel" "boxPath" "[I") ∈ lw_all := lw_g (lw_at lw_m9 169 rfl) rfl
theorem q2214 : (Jvm.Cond.soleField "BlindCardsModel" "boxPath") ∈ lw_all := lw_g (lw_at lw_m9 170 rfl) rfl
theorem q2215 : (Jvm.Cond.laysFinal "BlindCardsModel" "BlindCardsModel" "boxTold" "[I") ∈ lw_all := lw_g (lw_at lw_m9 171 rfl) rfl
theorem q2216 : (Jvm.Cond.soleField "BlindCardsModel" "boxTold") ∈ lw_all := lw_g (lw_at lw_m9 172 rfl) rfl
theorem q2217 : (Jvm.Cond.laysFinal "BlindCardsModel" "BlindCardsModel" "boxUntold" "[I") ∈ lw_all := lw_g (lw_at lw_m9 173 rfl) rfl
theorem q2218 : (Jvm.Cond.soleField "BlindCardsModel" "boxUntold") ∈ lw_all := lw_g (lw_at lw_m9 174 rfl) rfl
theorem q2219 : (Jvm.Cond.superclass "BlindCardsModel" "java/lang/Object") ∈ lw_all := lw_g (lw_at lw_m9 175 rfl) rfl
theorem q2221 : (Jvm.Cond.instanceMethod ({ cls := "BlindCardsModel", name := "recipe", desc := "()I" } : Jvm.MethodName)) ∈ lw_all := lw_g (lw_at lw_m9 177 rfl) rfl
theorem q2222 : (Jvm.Cond.selects "BlindCardsModel" ({ cls := "BlindCardsModel", name := "recipe", desc := "()I" } : Jvm.MethodName) ({ cls := "BlindCardsModel", name := "recipe", desc := "()I" } : Jvm.MethodName)) ∈ lw_all := lw_g (lw_at lw_m9 178 rfl) rfl
theorem q2223 : (Jvm.Cond.code ({ cls := "BlindCardsModel", name := "recipe", desc := "()I" } : Jvm.MethodName) prog_32_method_16_code (2 : Nat) (Option.some Jvm.ClassFile.FieldType.int)) ∈ lw_all := lw_g (lw_at lw_m9 179 rfl) rfl
theorem q2224 : (Jvm.Cond.methodLink "BlindCardsModel" (287 : Nat) ({ cls := "BlindCardsModel", name := "goOn", desc := "()V" } : Jvm.MethodName)) ∈ lw_all := lw_g (lw_at lw_m9 180 rfl) rfl
theorem q2225 : (Jvm.Cond.privateMethod ({ cls := "BlindCardsModel", name := "goOn", desc := "()V" } : Jvm.MethodName)) ∈ lw_tbl := lw_at lw_m9 181 rfl
theorem q2226 : (Jvm.Cond.instanceMethod ({ cls := "BlindCardsModel", name := "goOn", desc := "()V" } : Jvm.MethodName)) ∈ lw_all := lw_g (lw_at lw_m9 182 rfl) rfl
theorem q2227 : (Jvm.Cond.code ({ cls := "BlindCardsModel", name := "goOn", desc := "()V" } : Jvm.MethodName) prog_32_method_9_code (3 : Nat) (Option.none : Option Jvm.ClassFile.FieldType)) ∈ lw_all := lw_g (lw_at lw_m9 183 rfl) rfl
theorem q2228 : (Jvm.Cond.methodLink "BlindCardsModel" (251 : Nat) ({ cls := "BlindCardsModel", name := "sign", desc := "(I)I" } : Jvm.MethodName)) ∈ lw_all := lw_g (lw_at lw_m9 184 rfl) rfl
theorem q2229 : (Jvm.Cond.privateMethod ({ cls := "BlindCardsModel", name := "sign", desc := "(I)I" } : Jvm.MethodName)) ∈ lw_tbl := lw_at lw_m9 185 rfl
theorem q2230 : (Jvm.Cond.instanceMethod ({ cls := "BlindCardsModel", name := "sign", desc := "(I)I" } : Jvm.MethodName)) ∈ lw_all := lw_g (lw_at lw_m9 186 rfl) rfl
theorem q2231 : (Jvm.Cond.code ({ cls := "BlindCardsModel", name := "sign", desc := "(I)I" } : Jvm.MethodName) prog_32_method_2_code (2 : Nat) (Option.some Jvm.ClassFile.FieldType.int)) ∈ lw_all := lw_g (lw_at lw_m9 187 rfl) rfl
theorem q2232 : (Jvm.Cond.methodLink "BlindCardsModel" (266 : Nat) ({ cls := "BlindCardsModel", name := "isKept", desc := "(J)Z" } : Jvm.MethodName)) ∈ lw_all := lw_g (lw_at lw_m9 188 rfl) rfl
theorem q2233 : (Jvm.Cond.static ({ cls := "BlindCardsModel", name := "isKept", desc := "(J)Z" } : Jvm.MethodName)) ∈ lw_all := lw_g (lw_at lw_m9 189 rfl) rfl
theorem q2234 : (Jvm.Cond.code ({ cls := "BlindCardsModel", name := "isKept", desc := "(J)Z" } : Jvm.MethodName) prog_32_method_7_code (3 : Nat) (Option.some Jvm.ClassFile.FieldType.boolean)) ∈ lw_all := lw_g (lw_at lw_m9 190 rfl) rfl
theorem q2235 : (Jvm.Cond.constantLong "BlindCardsModel" (189 : Nat) (123580963646565 : Int64)) ∈ lw_all := lw_g (lw_at lw_m9 191 rfl) rfl
theorem q2236 : (Jvm.Cond.constantLong "BlindCardsModel" (191 : Nat) (1634954099 : Int64)) ∈ lw_all := lw_g (lw_at lw_m9 192 rfl) rfl
theorem q2237 : (Jvm.Cond.constantLong "BlindCardsModel" (193 : Nat) (7168377 : Int64)) ∈ lw_all := lw_g (lw_at lw_m9 193 rfl) rfl
theorem q2238 : (Jvm.Cond.constantLong "BlindCardsModel" (195 : Nat) (7102841 : Int64)) ∈ lw_all := lw_g (lw_at lw_m9 194 rfl) rfl
theorem q2239 : (Jvm.Cond.constantLong "BlindCardsModel" (197 : Nat) (7370100 : Int64)) ∈ lw_all := lw_g (lw_at lw_m9 195 rfl) rfl
theorem q2240 : (Jvm.Cond.constantLong "BlindCardsModel" (199 : Nat) (1869636974 : Int64)) ∈ lw_all := lw_g (lw_at lw_m9 196 rfl) rfl
theorem q2241 : (Jvm.Cond.constantLong "BlindCardsModel" (201 : Nat) (26982 : Int64)) ∈ lw_all := lw_g (lw_at lw_m9 197 rfl) rfl
theorem q2242 : (Jvm.Cond.constantLong "BlindCardsModel" (203 : Nat) (26479 : Int64)) ∈ lw_all := lw_g (lw_at lw_m9 198 rfl) rfl
theorem q2243 : (Jvm.Cond.constantLong "BlindCardsModel" (205 : Nat) (1835102827 : Int64)) ∈ lw_all := lw_g (lw_at lw_m9 199 rfl) rfl
theorem q2244 : (Jvm.Cond.constantLong "BlindCardsModel" (207 : Nat) (6647396 : Int64)) ∈ lw_all := lw_g (lw_at lw_m9 200 rfl) rfl
theorem q2245 : (Jvm.Cond.constantLong "BlindCardsModel" (209 : Nat) (1935767923 : Int64)) ∈ lw_all := lw_g (lw_at lw_m9 201 rfl) rfl
theorem q2246 : (Jvm.Cond.constantLong "BlindCardsModel" (211 : Nat) (6385262 : Int64)) ∈ lw_all := lw_g (lw_at lw_m9 202 rfl) rfl
theorem q2247 : (Jvm.Cond.constantLong "BlindCardsModel" (213 : Nat) (6451042 : Int64)) ∈ lw_all := lw_g (lw_at lw_m9 203 rfl) rfl
theorem q2248 : (Jvm.Cond.constantLong "BlindCardsModel" (215 : Nat) (6519140 : Int64)) ∈ lw_all := lw_g (lw_at lw_m9 204 rfl) rfl
theorem q2249 : (Jvm.Cond.constantLong "BlindCardsModel" (217 : Nat) (7497060 : Int64)) ∈ lw_all := lw_g (lw_at lw_m9 205 rfl) rfl
theorem q2250 : (Jvm.Cond.constantLong "BlindCardsModel" (219 : Nat) (422725116779 : Int64)) ∈ lw_all := lw_g (lw_at lw_m9 206 rfl) rfl
theorem q2251 : (Jvm.Cond.constantLong "BlindCardsModel" (221 : Nat) (1937203568 : Int64)) ∈ lw_all := lw_g (lw_at lw_m9 207 rfl) rfl
theorem q2252 : (Jvm.Cond.constantLong "BlindCardsModel" (223 : Nat) (7499639 : Int64)) ∈ lw_all := lw_g (lw_at lw_m9 208 rfl) rfl
theorem q2253 : (Jvm.Cond.constantLong "BlindCardsModel" (225 : Nat) (6518132 : Int64)) ∈ lw_all := lw_g (lw_at lw_m9 209 rfl) rfl
theorem q2254 : (Jvm.Cond.constantLong "BlindCardsModel" (227 : Nat) (29807 : Int64)) ∈ lw_all := lw_g (lw_at lw_m9 210 rfl) rfl
theorem q2255 : (Jvm.Cond.constantLong "BlindCardsModel" (229 : Nat) (114767640814963 : Int64)) ∈ lw_all := lw_g (lw_at lw_m9 211 rfl) rfl
theorem q2256 : (Jvm.Cond.constantLong "BlindCardsModel" (231 : Nat) (482805048691 : Int64)) ∈ lw_all := lw_g (lw_at lw_m9 212 rfl) rfl
theorem q2257 : (Jvm.Cond.constantLong "BlindCardsModel" (233 : Nat) (28518 : Int64)) ∈ lw_all := lw_g (lw_at lw_m9 213 rfl) rfl
theorem q2258 : (Jvm.Cond.constantLong "BlindCardsModel" (235 : Nat) (7170424 : Int64)) ∈ lw_all := lw_g (lw_at lw_m9 214 rfl) rfl
theorem q2259 : (Jvm.Cond.constantLong "BlindCardsModel" (237 : Nat) (6384748 : Int64)) ∈ lw_all := lw_g (lw_at lw_m9 215 rfl) rfl
theorem q2260 : (Jvm.Cond.constantLong "BlindCardsModel" (239 : Nat) (6385252 : Int64)) ∈ lw_all := lw_g (lw_at lw_m9 216 rfl) rfl
theorem q2261 : (Jvm.Cond.constantLong "BlindCardsModel" (241 : Nat) (28530 : Int64)) ∈ lw_all := lw_g (lw_at lw_m9 217 rfl) rfl
theorem q2262 : (Jvm.Cond.constantLong "BlindCardsModel" (243 : Nat) (7237492 : Int64)) ∈ lw_all := lw_g (lw_at lw_m9 218 rfl) rfl
theorem q2263 : (Jvm.Cond.methodLink "BlindCardsModel" (270 : Nat) ({ cls := "BlindCardsModel", name := "isDigit", desc := "(I)Z" } : Jvm.MethodName)) ∈ lw_all := lw_g (lw_at lw_m9 219 rfl) rfl
theorem q2264 : (Jvm.Cond.static ({ cls := "BlindCardsModel", name := "isDigit", desc := "(I)Z" } : Jvm.MethodName)) ∈ lw_all := lw_g (lw_at lw_m9 220 rfl) rfl
theorem q2265 : (Jvm.Cond.code ({ cls := "BlindCardsModel", name := "isDigit", desc := "(I)Z" } : Jvm.MethodName) prog_32_method_4_code (1 : Nat) (Option.some Jvm.ClassFile.FieldType.boolean)) ∈ lw_all := lw_g (lw_at lw_m9 221 rfl) rfl
theorem q2266 : (Jvm.Cond.methodLink "BlindCardsModel" (276 : Nat) ({ cls := "BlindCardsModel", name := "isSign", desc := "(I)Z" } : Jvm.MethodName)) ∈ lw_all := lw_g (lw_at lw_m9 222 rfl) rfl
theorem q2267 : (Jvm.Cond.static ({ cls := "BlindCardsModel", name := "isSign", desc := "(I)Z" } : Jvm.MethodName)) ∈ lw_all := lw_g (lw_at lw_m9 223 rfl) rfl
theorem q2268 : (Jvm.Cond.code ({ cls := "BlindCardsModel", name := "isSign", desc := "(I)Z" } : Jvm.MethodName) prog_32_method_8_code (1 : Nat) (Option.some Jvm.ClassFile.FieldType.boolean)) ∈ lw_all := lw_g (lw_at lw_m9 224 rfl) rfl
theorem q2269 : (Jvm.Cond.methodLink "BlindCardsModel" (283 : Nat) ({ cls := "BlindCardsModel", name := "isGood", desc := "()Z" } : Jvm.MethodName)) ∈ lw_all := lw_g (lw_at lw_m9 225 rfl) rfl
theorem q2270 : (Jvm.Cond.privateMethod ({ cls := "BlindCardsModel", name := "isGood", desc := "()Z" } : Jvm.MethodName)) ∈ lw_tbl := lw_at lw_m9 226 rfl
theorem q2271 : (Jvm.Cond.instanceMethod ({ cls := "BlindCardsModel", name := "isGood", desc := "()Z" } : Jvm.MethodName)) ∈ lw_all := lw_g (lw_at lw_m9 227 rfl) rfl
theorem q2272 : (Jvm.Cond.code ({ cls := "BlindCardsModel", name := "isGood", desc := "()Z" } : Jvm.MethodName) prog_32_method_6_code (1 : Nat) (Option.some Jvm.ClassFile.FieldType.boolean)) ∈ lw_all := lw_g (lw_at lw_m9 228 rfl) rfl
theorem q2273 : (Jvm.Cond.methodLink "BlindCardsModel" (312 : Nat) ({ cls := "BlindCardsModel", name := "readLine", desc := "()V" } : Jvm.MethodName)) ∈ lw_all := lw_g (lw_at lw_m9 229 rfl) rfl
theorem q2274 : (Jvm.Cond.privateMethod ({ cls := "BlindCardsModel", name := "readLine", desc := "()V" } : Jvm.MethodName)) ∈ lw_tbl := lw_at lw_m9 230 rfl
theorem q2275 : (Jvm.Cond.instanceMethod ({ cls := "BlindCardsModel", name := "readLine", desc := "()V" } : Jvm.MethodName)) ∈ lw_all := lw_g (lw_at lw_m9 231 rfl) rfl
theorem q2276 : (Jvm.Cond.code ({ cls := "BlindCardsModel", name := "readLine", desc := "()V" } : Jvm.MethodName) prog_32_method_19_code (2 : Nat) (Option.none : Option Jvm.ClassFile.FieldType)) ∈ lw_all := lw_g (lw_at lw_m9 232 rfl) rfl
theorem q2277 : (Jvm.Cond.methodLink "BlindCardsModel" (331 : Nat) ({ cls := "BlindCardsModel", name := "stepHere", desc := "()I" } : Jvm.MethodName)) ∈ lw_all := lw_g (lw_at lw_m9 233 rfl) rfl
theorem q2278 : (Jvm.Cond.privateMethod ({ cls := "BlindCardsModel", name := "stepHere", desc := "()I" } : Jvm.MethodName)) ∈ lw_tbl := lw_at lw_m9 234 rfl
theorem q2279 : (Jvm.Cond.instanceMethod ({ cls := "BlindCardsModel", name := "stepHere", desc := "()I" } : Jvm.MethodName)) ∈ lw_all := lw_g (lw_at lw_m9 235 rfl) rfl
theorem q2280 : (Jvm.Cond.code ({ cls := "BlindCardsModel", name := "stepHere", desc := "()I" } : Jvm.MethodName) prog_32_method_18_code (1 : Nat) (Option.some Jvm.ClassFile.FieldType.int)) ∈ lw_all := lw_g (lw_at lw_m9 236 rfl) rfl
theorem q2281 : (Jvm.Cond.methodLink "BlindCardsModel" (327 : Nat) ({ cls := "BlindCardsModel", name := "moveHere", desc := "()I" } : Jvm.MethodName)) ∈ lw_all := lw_g (lw_at lw_m9 237 rfl) rfl
theorem q2282 : (Jvm.Cond.privateMethod ({ cls := "BlindCardsModel", name := "moveHere", desc := "()I" } : Jvm.MethodName)) ∈ lw_tbl := lw_at lw_m9 238 rfl
theorem q2283 : (Jvm.Cond.instanceMethod ({ cls := "BlindCardsModel", name := "moveHere", desc := "()I" } : Jvm.MethodName)) ∈ lw_all := lw_g (lw_at lw_m9 239 rfl) rfl
theorem q2284 : (Jvm.Cond.code ({ cls := "BlindCardsModel", name := "moveHere", desc := "()I" } : Jvm.MethodName) prog_32_method_17_code (1 : Nat) (Option.some Jvm.ClassFile.FieldType.int)) ∈ lw_all := lw_g (lw_at lw_m10 0 rfl) rfl
theorem q2285 : (Jvm.Cond.methodLink "BlindCardsModel" (324 : Nat) ({ cls := "BlindCardsModel", name := "isWord", desc := "(J)Z" } : Jvm.MethodName)) ∈ lw_all := lw_g (lw_at lw_m10 1 rfl) rfl
theorem q2286 : (Jvm.Cond.privateMethod ({ cls := "BlindCardsModel", name := "isWord", desc := "(J)Z" } : Jvm.MethodName)) ∈ lw_tbl := lw_at lw_m10 2 rfl
theorem q2287 : (Jvm.Cond.instanceMethod ({ cls := "BlindCardsModel", name := "isWord", desc := "(J)Z" } : Jvm.MethodName)) ∈ lw_all := lw_g (lw_at lw_m10 3 rfl) rfl
theorem q2288 : (Jvm.Cond.code ({ cls := "BlindCardsModel", name := "isWord", desc := "(J)Z" } : Jvm.MethodName) prog_32_method_11_code (3 : Nat) (Option.some Jvm.ClassFile.FieldType.boolean)) ∈ lw_all := lw_g (lw_at lw_m10 4 rfl) rfl
theorem q2289 : (Jvm.Cond.methodLink "BlindCardsModel" (334 : Nat) ({ cls := "BlindCardsModel", name := "readPeople", desc := "()V" } : Jvm.MethodName)) ∈ lw_all := lw_g (lw_at lw_m10 5 rfl) rfl
theorem q2290 : (Jvm.Cond.privateMethod ({ cls := "BlindCardsModel", name := "readPeople", desc := "()V" } : Jvm.MethodName)) ∈ lw_tbl := lw_at lw_m10 6 rfl
theorem q2291 : (Jvm.Cond.instanceMethod ({ cls := "BlindCardsModel", name := "readPeople", desc := "()V" } : Jvm.MethodName)) ∈ lw_all := lw_g (lw_at lw_m10 7 rfl) rfl
theorem q2292 : (Jvm.Cond.code ({ cls := "BlindCardsModel", name := "readPeople", desc := "()V" } : Jvm.MethodName) prog_32_method_20_code (1 : Nat) (Option.none : Option Jvm.ClassFile.FieldType)) ∈ lw_all := lw_g (lw_at lw_m10 8 rfl) rfl
theorem q2293 : (Jvm.Cond.methodLink "BlindCardsModel" (290 : Nat) ({ cls := "BlindCardsModel", name := "misplaced", desc := "()V" } : Jvm.MethodName)) ∈ lw_all := lw_g (lw_at lw_m10 9 rfl) rfl
theorem q2294 : (Jvm.Cond.privateMethod ({ cls := "BlindCardsModel", name := "misplaced", desc := "()V" } : Jvm.MethodName)) ∈ lw_tbl := lw_at lw_m10 10 rfl
theorem q2295 : (Jvm.Cond.instanceMethod ({ cls := "BlindCardsModel", name := "misplaced", desc := "()V" } : Jvm.MethodName)) ∈ lw_all := lw_g (lw_at lw_m10 11 rfl) rfl
theorem q2296 : (Jvm.Cond.code ({ cls := "BlindCardsModel", name := "misplaced", desc := "()V" } : Jvm.MethodName) prog_32_method_12_code (1 : Nat) (Option.none : Option Jvm.ClassFile.FieldType)) ∈ lw_all := lw_g (lw_at lw_m10 12 rfl) rfl
theorem q2297 : (Jvm.Cond.methodLink "BlindCardsModel" (279 : Nat) ({ cls := "BlindCardsModel", name := "fails", desc := "(II)V" } : Jvm.MethodName)) ∈ lw_all := lw_g (lw_at lw_m10 13 rfl) rfl
theorem q2298 : (Jvm.Cond.privateMethod ({ cls := "BlindCardsModel", name := "fails", desc := "(II)V" } : Jvm.MethodName)) ∈ lw_tbl := lw_at lw_m10 14 rfl
theorem q2299 : (Jvm.Cond.instanceMethod ({ cls := "BlindCardsModel", name := "fails", desc := "(II)V" } : Jvm.MethodName)) ∈ lw_all := lw_g (lw_at lw_m10 15 rfl) rfl
theorem q2300 : (Jvm.Cond.code ({ cls := "BlindCardsModel", name := "fails", desc := "(II)V" } : Jvm.MethodName) prog_32_method_5_code (3 : Nat) (Option.none : Option Jvm.ClassFile.FieldType)) ∈ lw_all := lw_g (lw_at lw_m10 16 rfl) rfl
theorem q2301 : (Jvm.Cond.methodLink "BlindCardsModel" (354 : Nat) ({ cls := "BlindCardsModel", name := "numeral", desc := "(II)I" } : Jvm.MethodName)) ∈ lw_all := lw_g (lw_at lw_m10 17 rfl) rfl
theorem q2302 : (Jvm.Cond.privateMethod ({ cls := "BlindCardsModel", name := "numeral", desc := "(II)I" } : Jvm.MethodName)) ∈ lw_tbl := lw_at lw_m10 18 rfl
theorem q2303 : (Jvm.Cond.instanceMethod ({ cls := "BlindCardsModel", name := "numeral", desc := "(II)I" } : Jvm.MethodName)) ∈ lw_all := lw_g (lw_at lw_m10 19 rfl) rfl
theorem q2304 : (Jvm.Cond.code ({ cls := "BlindCardsModel", name := "numeral", desc := "(II)I" } : Jvm.MethodName) prog_32_method_14_code (4 : Nat) (Option.some Jvm.ClassFile.FieldType.int)) ∈ lw_all := lw_g (lw_at lw_m10 20 rfl) rfl
theorem q2305 : (Jvm.Cond.methodLink "BlindCardsModel" (337 : Nat) ({ cls := "BlindCardsModel", name := "readAsks", desc := "()V" } : Jvm.MethodName)) ∈ lw_all := lw_g (lw_at lw_m10 21 rfl) rfl
theorem q2306 : (Jvm.Cond.privateMethod ({ cls := "BlindCardsModel", name := "readAsks", desc := "()V" } : Jvm.MethodName)) ∈ lw_tbl := lw_at lw_m10 22 rfl
theorem q2307 : (Jvm.Cond.instanceMethod ({ cls := "BlindCardsModel", name := "readAsks", desc := "()V" } : Jvm.MethodName)) ∈ lw_all := lw_g (lw_at lw_m10 23 rfl) rfl
theorem q2308 : (Jvm.Cond.code ({ cls := "BlindCardsModel", name := "readAsks", desc := "()V" } : Jvm.MethodName) prog_32_method_21_code (1 : Nat) (Option.none : Option Jvm.ClassFile.FieldType)) ∈ lw_all := lw_g (lw_at lw_m10 24 rfl) rfl
theorem q2309 : (Jvm.Cond.methodLink "BlindCardsModel" (358 : Nat) ({ cls := "BlindCardsModel", name := "e", desc := "()V" } : Jvm.MethodName)) ∈ lw_all := lw_g (lw_at lw_m10 25 rfl) rfl
theorem q2310 : (Jvm.Cond.privateMethod ({ cls := "BlindCardsModel", name := "e", desc := "()V" } : Jvm.MethodName)) ∈ lw_tbl := lw_at lw_m10 26 rfl
theorem q2311 : (Jvm.Cond.instanceMethod ({ cls := "BlindCardsModel", name := "e", desc := "()V" } : Jvm.MethodName)) ∈ lw_all := lw_g (lw_at lw_m10 27 rfl) rfl
theorem q2312 : (Jvm.Cond.code ({ cls := "BlindCardsModel", name := "e", desc := "()V" } : Jvm.MethodName) prog_32_method_35_code (2 : Nat) (Option.none : Option Jvm.ClassFile.FieldType)) ∈ lw_all := lw_g (lw_at lw_m10 28 rfl) rfl
theorem q2313 : (Jvm.Cond.methodLink "BlindCardsModel" (392 : Nat) ({ cls := "BlindCardsModel", name := "pushE", desc := "(II)V" } : Jvm.MethodName)) ∈ lw_all := lw_g (lw_at lw_m10 29 rfl) rfl
theorem q2314 : (Jvm.Cond.privateMethod ({ cls := "BlindCardsModel", name := "pushE", desc := "(II)V" } : Jvm.MethodName)) ∈ lw_tbl := lw_at lw_m10 30 rfl
theorem q2315 : (Jvm.Cond.instanceMethod ({ cls := "BlindCardsModel", name := "pushE", desc := "(II)V" } : Jvm.MethodName)) ∈ lw_all := lw_g (lw_at lw_m10 31 rfl) rfl
theorem q2316 : (Jvm.Cond.code ({ cls := "BlindCardsModel", name := "pushE", desc := "(II)V" } : Jvm.MethodName) prog_32_method_34_code (3 : Nat) (Option.none : Option Jvm.ClassFile.FieldType)) ∈ lw_all := lw_g (lw_at lw_m10 32 rfl) rfl
theorem q2317 : (Jvm.Cond.methodLink "BlindCardsModel" (395 : Nat) ({ cls := "BlindCardsModel", name := "unit", desc := "()Z" } : Jvm.MethodName)) ∈ lw_all := lw_g (lw_at lw_m10 33 rfl) rfl
theorem q2318 : (Jvm.Cond.privateMethod ({ cls := "BlindCardsModel", name := "unit", desc := "()Z" } : Jvm.MethodName)) ∈ lw_tbl := lw_at lw_m10 34 rfl
theorem q2319 : (Jvm.Cond.instanceMethod ({ cls := "BlindCardsModel", name := "unit", desc := "()Z" } : Jvm.MethodName)) ∈ lw_all := lw_g (lw_at lw_m10 35 rfl) rfl
theorem q2320 : (Jvm.Cond.code ({ cls := "BlindCardsModel", name := "unit", desc := "()Z" } : Jvm.MethodName) prog_32_method_36_code (7 : Nat) (Option.some Jvm.ClassFile.FieldType.boolean)) ∈ lw_all := lw_g (lw_at lw_m10 36 rfl) rfl
theorem q2321 : (Jvm.Cond.methodLink "BlindCardsModel" (347 : Nat) ({ cls := "BlindCardsModel", name := "stands", desc := "(I)Z" } : Jvm.MethodName)) ∈ lw_all := lw_g (lw_at lw_m10 37 rfl) rfl
theorem q2322 : (Jvm.Cond.privateMethod ({ cls := "BlindCardsModel", name := "stands", desc := "(I)Z" } : Jvm.MethodName)) ∈ lw_tbl := lw_at lw_m10 38 rfl
theorem q2323 : (Jvm.Cond.instanceMethod ({ cls := "BlindCardsModel", name := "stands", desc := "(I)Z" } : Jvm.MethodName)) ∈ lw_all := lw_g (lw_at lw_m10 39 rfl) rfl
theorem q2324 : (Jvm.Cond.code ({ cls := "BlindCardsModel", name := "stands", desc := "(I)Z" } : Jvm.MethodName) prog_32_method_10_code (2 : Nat) (Option.some Jvm.ClassFile.FieldType.boolean)) ∈ lw_all := lw_g (lw_at lw_m10 40 rfl) rfl
theorem q2325 : (Jvm.Cond.methodLink "BlindCardsModel" (367 : Nat) ({ cls := "BlindCardsModel", name := "whoHere", desc := "()I" } : Jvm.MethodName)) ∈ lw_all := lw_g (lw_at lw_m10 41 rfl) rfl
theorem q2326 : (Jvm.Cond.privateMethod ({ cls := "BlindCardsModel", name := "whoHere", desc := "()I" } : Jvm.MethodName)) ∈ lw_tbl := lw_at lw_m10 42 rfl
theorem q2327 : (Jvm.Cond.instanceMethod ({ cls := "BlindCardsModel", name := "whoHere", desc := "()I" } : Jvm.MethodName)) ∈ lw_all := lw_g (lw_at lw_m10 43 rfl) rfl
theorem q2328 : (Jvm.Cond.code ({ cls := "BlindCardsModel", name := "whoHere", desc := "()I" } : Jvm.MethodName) prog_32_method_24_code (1 : Nat) (Option.some Jvm.ClassFile.FieldType.int)) ∈ lw_all := lw_g (lw_at lw_m10 44 rfl) rfl
theorem q2329 : (Jvm.Cond.methodLink "BlindCardsModel" (401 : Nat) ({ cls := "BlindCardsModel", name := "emit", desc := "(II)V" } : Jvm.MethodName)) ∈ lw_all := lw_g (lw_at lw_m10 45 rfl) rfl
theorem q2330 : (Jvm.Cond.privateMethod ({ cls := "BlindCardsModel", name := "emit", desc := "(II)V" } : Jvm.MethodName)) ∈ lw_tbl := lw_at lw_m10 46 rfl
theorem q2331 : (Jvm.Cond.instanceMethod ({ cls := "BlindCardsModel", name := "emit", desc := "(II)V" } : Jvm.MethodName)) ∈ lw_all := lw_g (lw_at lw_m10 47 rfl) rfl
theorem q2332 : (Jvm.Cond.code ({ cls := "BlindCardsModel", name := "emit", desc := "(II)V" } : Jvm.MethodName) prog_32_method_33_code (3 : Nat) (Option.none : Option Jvm.ClassFile.FieldType)) ∈ lw_all := lw_g (lw_at lw_m10 48 rfl) rfl
theorem q2333 : (Jvm.Cond.methodLink "BlindCardsModel" (398 : Nat) ({ cls := "BlindCardsModel", name := "behindUnit", desc := "()Z" } : Jvm.MethodName)) ∈ lw_all := lw_g (lw_at lw_m10 49 rfl) rfl
theorem q2334 : (Jvm.Cond.privateMethod ({ cls := "BlindCardsModel", name := "behindUnit", desc := "()Z" } : Jvm.MethodName)) ∈ lw_tbl := lw_at lw_m10 50 rfl
theorem q2335 : (Jvm.Cond.instanceMethod ({ cls := "BlindCardsModel", name := "behindUnit", desc := "()Z" } : Jvm.MethodName)) ∈ lw_all := lw_g (lw_at lw_m10 51 rfl) rfl
theorem q2336 : (Jvm.Cond.code ({ cls := "BlindCardsModel", name := "behindUnit", desc := "()Z" } : Jvm.MethodName) prog_32_method_39_code (2 : Nat) (Option.some Jvm.ClassFile.FieldType.boolean)) ∈ lw_all := lw_g (lw_at lw_m10 52 rfl) rfl
theorem q2337 : (Jvm.Cond.methodLink "BlindCardsModel" (404 : Nat) ({ cls := "BlindCardsModel", name := "rankHere", desc := "()I" } : Jvm.MethodName)) ∈ lw_all := lw_g (lw_at lw_m10 53 rfl) rfl
theorem q2338 : (Jvm.Cond.privateMethod ({ cls := "BlindCardsModel", name := "rankHere", desc := "()I" } : Jvm.MethodName)) ∈ lw_tbl := lw_at lw_m10 54 rfl
theorem q2339 : (Jvm.Cond.instanceMethod ({ cls := "BlindCardsModel", name := "rankHere", desc := "()I" } : Jvm.MethodName)) ∈ lw_all := lw_g (lw_at lw_m10 55 rfl) rfl
theorem q2340 : (Jvm.Cond.code ({ cls := "BlindCardsModel", name := "rankHere", desc := "()I" } : Jvm.MethodName) prog_32_method_37_code (1 : Nat) (Option.some Jvm.ClassFile.FieldType.int)) ∈ lw_all := lw_g (lw_at lw_m10 56 rfl) rfl
theorem q2341 : (Jvm.Cond.methodLink "BlindCardsModel" (407 : Nat) ({ cls := "BlindCardsModel", name := "isCompared", desc := "()Z" } : Jvm.MethodName)) ∈ lw_all := lw_g (lw_at lw_m10 57 rfl) rfl
theorem q2342 : (Jvm.Cond.privateMethod ({ cls := "BlindCardsModel", name := "isCompared", desc := "()Z" } : Jvm.MethodName)) ∈ lw_tbl := lw_at lw_m10 58 rfl
theorem q2343 : (Jvm.Cond.instanceMethod ({ cls := "BlindCardsModel", name := "isCompared", desc := "()Z" } : Jvm.MethodName)) ∈ lw_all := lw_g (lw_at lw_m10 59 rfl) rfl
theorem q2344 : (Jvm.Cond.code ({ cls := "BlindCardsModel", name := "isCompared", desc := "()Z" } : Jvm.MethodName) prog_32_method_38_code (2 : Nat) (Option.some Jvm.ClassFile.FieldType.boolean)) ∈ lw_all := lw_g (lw_at lw_m10 60 rfl) rfl
theorem q2345 : (Jvm.Cond.methodLink "BlindCardsModel" (350 : Nat) ({ cls := "BlindCardsModel", name := "must", desc := "(Z)V" } : Jvm.MethodName)) ∈ lw_all := lw_g (lw_at lw_m10 61 rfl) rfl
theorem q2346 : (Jvm.Cond.privateMethod ({ cls := "BlindCardsModel", name := "must", desc := "(Z)V" } : Jvm.MethodName)) ∈ lw_tbl := lw_at lw_m10 62 rfl
theorem q2347 : (Jvm.Cond.instanceMethod ({ cls := "BlindCardsModel", name := "must", desc := "(Z)V" } : Jvm.MethodName)) ∈ lw_all := lw_g (lw_at lw_m10 63 rfl) rfl
theorem q2348 : (Jvm.Cond.code ({ cls := "BlindCardsModel", name := "must", desc := "(Z)V" } : Jvm.MethodName) prog_32_method_13_code (2 : Nat) (Option.none : Option Jvm.ClassFile.FieldType)) ∈ lw_all := lw_g (lw_at lw_m10 64 rfl) rfl
theorem q2349 : (Jvm.Cond.methodLink "BlindCardsModel" (340 : Nat) ({ cls := "BlindCardsModel", name := "readMay", desc := "()V" } : Jvm.MethodName)) ∈ lw_all := lw_g (lw_at lw_m10 65 rfl) rfl
theorem q2350 : (Jvm.Cond.privateMethod ({ cls := "BlindCardsModel", name := "readMay", desc := "()V" } : Jvm.MethodName)) ∈ lw_tbl := lw_at lw_m10 66 rfl
theorem q2351 : (Jvm.Cond.instanceMethod ({ cls := "BlindCardsModel", name := "readMay", desc := "()V" } : Jvm.MethodName)) ∈ lw_all := lw_g (lw_at lw_m10 67 rfl) rfl
theorem q2352 : (Jvm.Cond.code ({ cls := "BlindCardsModel", name := "readMay", desc := "()V" } : Jvm.MethodName) prog_32_method_22_code (5 : Nat) (Option.none : Option Jvm.ClassFile.FieldType)) ∈ lw_all := lw_g (lw_at lw_m10 68 rfl) rfl
theorem q2353 : (Jvm.Cond.methodLink "BlindCardsModel" (361 : Nat) ({ cls := "BlindCardsModel", name := "readMove", desc := "(II)V" } : Jvm.MethodName)) ∈ lw_all := lw_g (lw_at lw_m10 69 rfl) rfl
theorem q2354 : (Jvm.Cond.privateMethod ({ cls := "BlindCardsModel", name := "readMove", desc := "(II)V" } : Jvm.MethodName)) ∈ lw_tbl := lw_at lw_m10 70 rfl
theorem q2355 : (Jvm.Cond.instanceMethod ({ cls := "BlindCardsModel", name := "readMove", desc := "(II)V" } : Jvm.MethodName)) ∈ lw_all := lw_g (lw_at lw_m10 71 rfl) rfl
theorem q2356 : (Jvm.Cond.code ({ cls := "BlindCardsModel", name := "readMove", desc := "(II)V" } : Jvm.MethodName) prog_32_method_30_code (5 : Nat) (Option.none : Option Jvm.ClassFile.FieldType)) ∈ lw_all := lw_g (lw_at lw_m10 72 rfl) rfl
theorem q2357 : (Jvm.Cond.methodLink "BlindCardsModel" (382 : Nat) ({ cls := "BlindCardsModel", name := "readList", desc := "(IZ)V" } : Jvm.MethodName)) ∈ lw_all := lw_g (lw_at lw_m10 73 rfl) rfl
theorem q2358 : (Jvm.Cond.privateMethod ({ cls := "BlindCardsModel", name := "readList", desc := "(IZ)V" } : Jvm.MethodName)) ∈ lw_tbl := lw_at lw_m10 74 rfl
theorem q2359 : (Jvm.Cond.instanceMethod ({ cls := "BlindCardsModel", name := "readList", desc := "(IZ)V" } : Jvm.MethodName)) ∈ lw_all := lw_g (lw_at lw_m10 75 rfl) rfl
theorem q2360 : (Jvm.Cond.code ({ cls := "BlindCardsModel", name := "readList", desc := "(IZ)V" } : Jvm.MethodName) prog_32_method_31_code (6 : Nat) (Option.none : Option Jvm.ClassFile.FieldType)) ∈ lw_all := lw_g (lw_at lw_m10 76 rfl) rfl
theorem q2361 : (Jvm.Cond.methodLink "BlindCardsModel" (379 : Nat) ({ cls := "BlindCardsModel", name := "another", desc := "(I)I" } : Jvm.MethodName)) ∈ lw_all := lw_g (lw_at lw_m10 77 rfl) rfl
theorem q2362 : (Jvm.Cond.privateMethod ({ cls := "BlindCardsModel", name := "another", desc := "(I)I" } : Jvm.MethodName)) ∈ lw_tbl := lw_at lw_m10 78 rfl
theorem q2363 : (Jvm.Cond.instanceMethod ({ cls := "BlindCardsModel", name := "another", desc := "(I)I" } : Jvm.MethodName)) ∈ lw_all := lw_g (lw_at lw_m10 79 rfl) rfl
theorem q2364 : (Jvm.Cond.code ({ cls := "BlindCardsModel", name := "another", desc := "(I)I" } : Jvm.MethodName) prog_32_method_27_code (3 : Nat) (Option.some Jvm.ClassFile.FieldType.int)) ∈ lw_all := lw_g (lw_at lw_m10 80 rfl) rfl
theorem q2365 : (Jvm.Cond.methodLink "BlindCardsModel" (343 : Nat) ({ cls := "BlindCardsModel", name := "readStep", desc := "(I)V" } : Jvm.MethodName)) ∈ lw_all := lw_g (lw_at lw_m10 81 rfl) rfl
theorem q2366 : (Jvm.Cond.privateMethod ({ cls := "BlindCardsModel", name := "readStep", desc := "(I)V" } : Jvm.MethodName)) ∈ lw_tbl := lw_at lw_m10 82 rfl
theorem q2367 : (Jvm.Cond.instanceMethod ({ cls := "BlindCardsModel", name := "readStep", desc := "(I)V" } : Jvm.MethodName)) ∈ lw_all := lw_g (lw_at lw_m10 83 rfl) rfl
theorem q2368 : (Jvm.Cond.code ({ cls := "BlindCardsModel", name := "readStep", desc := "(I)V" } : Jvm.MethodName) prog_32_method_23_code (4 : Nat) (Option.none : Option Jvm.ClassFile.FieldType)) ∈ lw_all := lw_g (lw_at lw_m10 84 rfl) rfl
theorem q2369 : (Jvm.Cond.methodLink "BlindCardsModel" (364 : Nat) ({ cls := "BlindCardsModel", name := "readOther", desc := "(II)V" } : Jvm.MethodName)) ∈ lw_all := lw_g (lw_at lw_m10 85 rfl) rfl
theorem q2370 : (Jvm.Cond.privateMethod ({ cls := "BlindCardsModel", name := "readOther", desc := "(II)V" } : Jvm.MethodName)) ∈ lw_tbl := lw_at lw_m10 86 rfl
theorem q2371 : (Jvm.Cond.instanceMethod ({ cls := "BlindCardsModel", name := "readOther", desc := "(II)V" } : Jvm.MethodName)) ∈ lw_all := lw_g (lw_at lw_m10 87 rfl) rfl
theorem q2372 : (Jvm.Cond.code ({ cls := "BlindCardsModel", name := "readOther", desc := "(II)V" } : Jvm.MethodName) prog_32_method_28_code (3 : Nat) (Option.none : Option Jvm.ClassFile.FieldType)) ∈ lw_all := lw_g (lw_at lw_m10 88 rfl) rfl
theorem q2373 : (Jvm.Cond.methodLink "BlindCardsModel" (370 : Nat) ({ cls := "BlindCardsModel", name := "who", desc := "()I" } : Jvm.MethodName)) ∈ lw_all := lw_g (lw_at lw_m10 89 rfl) rfl
theorem q2374 : (Jvm.Cond.privateMethod ({ cls := "BlindCardsModel", name := "who", desc := "()I" } : Jvm.MethodName)) ∈ lw_tbl := lw_at lw_m10 90 rfl
theorem q2375 : (Jvm.Cond.instanceMethod ({ cls := "BlindCardsModel", name := "who", desc := "()I" } : Jvm.MethodName)) ∈ lw_all := lw_g (lw_at lw_m10 91 rfl) rfl
theorem q2376 : (Jvm.Cond.code ({ cls := "BlindCardsModel", name := "who", desc := "()I" } : Jvm.MethodName) prog_32_method_25_code (2 : Nat) (Option.some Jvm.ClassFile.FieldType.int)) ∈ lw_all := lw_g (lw_at lw_m10 92 rfl) rfl
theorem q2377 : (Jvm.Cond.methodLink "BlindCardsModel" (373 : Nat) ({ cls := "BlindCardsModel", name := "colour", desc := "()I" } : Jvm.MethodName)) ∈ lw_all := lw_g (lw_at lw_m10 93 rfl) rfl
theorem q2378 : (Jvm.Cond.privateMethod ({ cls := "BlindCardsModel", name := "colour", desc := "()I" } : Jvm.MethodName)) ∈ lw_tbl := lw_at lw_m10 94 rfl
theorem q2379 : (Jvm.Cond.instanceMethod ({ cls := "BlindCardsModel", name := "colour", desc := "()I" } : Jvm.MethodName)) ∈ lw_all := lw_g (lw_at lw_m10 95 rfl) rfl
theorem q2380 : (Jvm.Cond.code ({ cls := "BlindCardsModel", name := "colour", desc := "()I" } : Jvm.MethodName) prog_32_method_26_code (2 : Nat) (Option.some Jvm.ClassFile.FieldType.int)) ∈ lw_all := lw_g (lw_at lw_m10 96 rfl) rfl
theorem q2381 : (Jvm.Cond.methodLink "BlindCardsModel" (376 : Nat) ({ cls := "BlindCardsModel", name := "isMarked", desc := "(I)Z" } : Jvm.MethodName)) ∈ lw_all := lw_g (lw_at lw_m10 97 rfl) rfl
theorem q2382 : (Jvm.Cond.privateMethod ({ cls := "BlindCardsModel", name := "isMarked", desc := "(I)Z" } : Jvm.MethodName)) ∈ lw_tbl := lw_at lw_m10 98 rfl
theorem q2383 : (Jvm.Cond.instanceMethod ({ cls := "BlindCardsModel", name := "isMarked", desc := "(I)Z" } : Jvm.MethodName)) ∈ lw_all := lw_g (lw_at lw_m10 99 rfl) rfl
theorem q2384 : (Jvm.Cond.code ({ cls := "BlindCardsModel", name := "isMarked", desc := "(I)Z" } : Jvm.MethodName) prog_32_method_29_code (3 : Nat) (Option.some Jvm.ClassFile.FieldType.boolean)) ∈ lw_all := lw_g (lw_at lw_m10 100 rfl) rfl
theorem q2385 : (Jvm.Cond.methodLink "BlindCardsModel" (315 : Nat) ({ cls := "BlindCardsModel", name := "settleMarks", desc := "()V" } : Jvm.MethodName)) ∈ lw_all := lw_g (lw_at lw_m10 101 rfl) rfl
theorem q2386 : (Jvm.Cond.privateMethod ({ cls := "BlindCardsModel", name := "settleMarks", desc := "()V" } : Jvm.MethodName)) ∈ lw_tbl := lw_at lw_m10 102 rfl
theorem q2387 : (Jvm.Cond.instanceMethod ({ cls := "BlindCardsModel", name := "settleMarks", desc := "()V" } : Jvm.MethodName)) ∈ lw_all := lw_g (lw_at lw_m10 103 rfl) rfl
theorem q2388 : (Jvm.Cond.code ({ cls := "BlindCardsModel", name := "settleMarks", desc := "()V" } : Jvm.MethodName) prog_32_method_32_code (3 : Nat) (Option.none : Option Jvm.ClassFile.FieldType)) ∈ lw_all := lw_g (lw_at lw_m10 104 rfl) rfl
theorem q2390 : (Jvm.Cond.instanceMethod ({ cls := "BlindCardsModel", name := "fault", desc := "(I)I" } : Jvm.MethodName)) ∈ lw_all := lw_g (lw_at lw_m10 106 rfl) rfl
theorem q2391 : (Jvm.Cond.selects "BlindCardsModel" ({ cls := "BlindCardsModel", name := "fault", desc := "(I)I" } : Jvm.MethodName) ({ cls := "BlindCardsModel", name := "fault", desc := "(I)I" } : Jvm.MethodName)) ∈ lw_all := lw_g (lw_at lw_m10 107 rfl) rfl
theorem q2392 : (Jvm.Cond.code ({ cls := "BlindCardsModel", name := "fault", desc := "(I)I" } : Jvm.MethodName) prog_32_method_43_code (2 : Nat) (Option.some Jvm.ClassFile.FieldType.int)) ∈ lw_all := lw_g (lw_at lw_m10 108 rfl) rfl
theorem q2394 : (Jvm.Cond.instanceMethod ({ cls := "BlindCardsModel", name := "asked", desc := "(I)I" } : Jvm.MethodName)) ∈ lw_all := lw_g (lw_at lw_m10 110 rfl) rfl
theorem q2395 : (Jvm.Cond.selects "BlindCardsModel" ({ cls := "BlindCardsModel", name := "asked", desc := "(I)I" } : Jvm.MethodName) ({ cls := "BlindCardsModel", name := "asked", desc := "(I)I" } : Jvm.MethodName)) ∈ lw_all := lw_g (lw_at lw_m10 111 rfl) rfl
theorem q2396 : (Jvm.Cond.code ({ cls := "BlindCardsModel", name := "asked", desc := "(I)I" } : Jvm.MethodName) prog_32_method_47_code (2 : Nat) (Option.some Jvm.ClassFile.FieldType.int)) ∈ lw_all := lw_g (lw_at lw_m10 112 rfl) rfl
theorem q2397 : (Jvm.Cond.methodLink "BlindCardsModel" (424 : Nat) ({ cls := "BlindCardsModel", name := "isInput", desc := "(I)Z" } : Jvm.MethodName)) ∈ lw_all := lw_g (lw_at lw_m10 113 rfl) rfl
theorem q2398 : (Jvm.Cond.privateMethod ({ cls := "BlindCardsModel", name := "isInput", desc := "(I)Z" } : Jvm.MethodName)) ∈ lw_tbl := lw_at lw_m10 114 rfl
theorem q2399 : (Jvm.Cond.instanceMethod ({ cls := "BlindCardsModel", name := "isInput", desc := "(I)Z" } : Jvm.MethodName)) ∈ lw_all := lw_g (lw_at lw_m10 115 rfl) rfl
theorem q2400 : (Jvm.Cond.code ({ cls := "BlindCardsModel", name := "isInput", desc := "(I)Z" } : Jvm.MethodName) prog_32_method_46_code (2 : Nat) (Option.some Jvm.ClassFile.FieldType.boolean)) ∈ lw_all := lw_g (lw_at lw_m10 116 rfl) rfl
theorem q2401 : (Jvm.Cond.methodLink "BlindCardsModel" (420 : Nat) ({ cls := "BlindCardsModel", name := "isIn", desc := "(III)Z" } : Jvm.MethodName)) ∈ lw_all := lw_g (lw_at lw_m10 117 rfl) rfl
theorem q2402 : (Jvm.Cond.static ({ cls := "BlindCardsModel", name := "isIn", desc := "(III)Z" } : Jvm.MethodName)) ∈ lw_all := lw_g (lw_at lw_m10 118 rfl) rfl
theorem q2403 : (Jvm.Cond.code ({ cls := "BlindCardsModel", name := "isIn", desc := "(III)Z" } : Jvm.MethodName) prog_32_method_44_code (3 : Nat) (Option.some Jvm.ClassFile.FieldType.boolean)) ∈ lw_all := lw_g (lw_at lw_m10 119 rfl) rfl
theorem q2404 : (Jvm.Cond.constant "BlindCardsModel" (430 : Nat) (-1000000 : Int32)) ∈ lw_all := lw_g (lw_at lw_m10 120 rfl) rfl
theorem q2406 : (Jvm.Cond.instanceMethod ({ cls := "BlindCardsModel", name := "paths", desc := "()I" } : Jvm.MethodName)) ∈ lw_all := lw_g (lw_at lw_m10 122 rfl) rfl
theorem q2407 : (Jvm.Cond.selects "BlindCardsModel" ({ cls := "BlindCardsModel", name := "paths", desc := "()I" } : Jvm.MethodName) ({ cls := "BlindCardsModel", name := "paths", desc := "()I" } : Jvm.MethodName)) ∈ lw_all := lw_g (lw_at lw_m10 123 rfl) rfl
theorem q2408 : (Jvm.Cond.code ({ cls := "BlindCardsModel", name := "paths", desc := "()I" } : Jvm.MethodName) prog_32_method_76_code (1 : Nat) (Option.some Jvm.ClassFile.FieldType.int)) ∈ lw_all := lw_g (lw_at lw_m10 124 rfl) rfl
theorem q2410 : (Jvm.Cond.instanceMethod ({ cls := "BlindCardsModel", name := "look", desc := "(II)I" } : Jvm.MethodName)) ∈ lw_all := lw_g (lw_at lw_m10 126 rfl) rfl
theorem q2411 : (Jvm.Cond.selects "BlindCardsModel" ({ cls := "BlindCardsModel", name := "look", desc := "(II)I" } : Jvm.MethodName) ({ cls := "BlindCardsModel", name := "look", desc := "(II)I" } : Jvm.MethodName)) ∈ lw_all := lw_g (lw_at lw_m10 127 rfl) rfl
theorem q2412 : (Jvm.Cond.code ({ cls := "BlindCardsModel", name := "look", desc := "(II)I" } : Jvm.MethodName) prog_32_method_78_code (3 : Nat) (Option.some Jvm.ClassFile.FieldType.int)) ∈ lw_all := lw_g (lw_at lw_m10 128 rfl) rfl
theorem q2413 : (Jvm.Cond.methodLink "BlindCardsModel" (546 : Nat) ({ cls := "BlindCardsModel", name := "isPath", desc := "(I)Z" } : Jvm.MethodName)) ∈ lw_all := lw_g (lw_at lw_m10 129 rfl) rfl
theorem q2414 : (Jvm.Cond.privateMethod ({ cls := "BlindCardsModel", name := "isPath", desc := "(I)Z" } : Jvm.MethodName)) ∈ lw_tbl := lw_at lw_m10 130 rfl
theorem q2415 : (Jvm.Cond.instanceMethod ({ cls := "BlindCardsModel", name := "isPath", desc := "(I)Z" } : Jvm.MethodName)) ∈ lw_all := lw_g (lw_at lw_m10 131 rfl) rfl
theorem q2416 : (Jvm.Cond.code ({ cls := "BlindCardsModel", name := "isPath", desc := "(I)Z" } : Jvm.MethodName) prog_32_method_77_code (2 : Nat) (Option.some Jvm.ClassFile.FieldType.boolean)) ∈ lw_all := lw_g (lw_at lw_m10 132 rfl) rfl
theorem q2418 : (Jvm.Cond.instanceMethod ({ cls := "BlindCardsModel", name := "odds", desc := "(III)J" } : Jvm.MethodName)) ∈ lw_all := lw_g (lw_at lw_m10 134 rfl) rfl
theorem q2419 : (Jvm.Cond.selects "BlindCardsModel" ({ cls := "BlindCardsModel", name := "odds", desc := "(III)J" } : Jvm.MethodName) ({ cls := "BlindCardsModel", name := "odds", desc := "(III)J" } : Jvm.MethodName)) ∈ lw_all := lw_g (lw_at lw_m10 135 rfl) rfl
theorem q2420 : (Jvm.Cond.code ({ cls := "BlindCardsModel", name := "odds", desc := "(III)J" } : Jvm.MethodName) prog_32_method_80_code (4 : Nat) (Option.some Jvm.ClassFile.FieldType.long)) ∈ lw_all := lw_g (lw_at lw_m10 136 rfl) rfl
theorem q2421 : (Jvm.Cond.constantLong "BlindCardsModel" (549 : Nat) (-2 : Int64)) ∈ lw_all := lw_g (lw_at lw_m10 137 rfl) rfl
theorem q2422 : (Jvm.Cond.methodLink "BlindCardsModel" (551 : Nat) ({ cls := "BlindCardsModel", name := "lowest", desc := "(JJI)J" } : Jvm.MethodName)) ∈ lw_all := lw_g (lw_at lw_m10 138 rfl) rfl
theorem q2423 : (Jvm.Cond.static ({ cls := "BlindCardsModel", name := "lowest", desc := "(JJI)J" } : Jvm.MethodName)) ∈ lw_all := lw_g (lw_at lw_m10 139 rfl) rfl
theorem q2424 : (Jvm.Cond.code ({ cls := "BlindCardsModel", name := "lowest", desc := "(JJI)J" } : Jvm.MethodName) prog_32_method_79_code (11 : Nat) (Option.some Jvm.ClassFile.FieldType.long)) ∈ lw_all := lw_g (lw_at lw_m10 140 rfl) rfl
theorem q2425 : (Jvm.Cond.constantLong "BlindCardsModel" (555 : Nat) (-1 : Int64)) ∈ lw_all := lw_g (lw_at lw_m10 141 rfl) rfl
theorem q2427 : (Jvm.Cond.instanceMethod ({ cls := "BlindCardsModel", name := "ends", desc := "(II)I" } : Jvm.MethodName)) ∈ lw_all := lw_g (lw_at lw_m10 143 rfl) rfl
theorem q2428 : (Jvm.Cond.selects "BlindCardsModel" ({ cls := "BlindCardsModel", name := "ends", desc := "(II)I" } : Jvm.MethodName) ({ cls := "BlindCardsModel", name := "ends", desc := "(II)I" } : Jvm.MethodName)) ∈ lw_all := lw_g (lw_at lw_m10 144 rfl) rfl
theorem q2429 : (Jvm.Cond.code ({ cls := "BlindCardsModel", name := "ends", desc := "(II)I" } : Jvm.MethodName) prog_32_method_81_code (3 : Nat) (Option.some Jvm.ClassFile.FieldType.int)) ∈ lw_all := lw_g (lw_at lw_m10 145 rfl) rfl
theorem q2431 : (Jvm.Cond.instanceMethod ({ cls := "BlindCardsModel", name := "wrong", desc := "()I" } : Jvm.MethodName)) ∈ lw_all := lw_g (lw_at lw_m10 147 rfl) rfl
theorem q2432 : (Jvm.Cond.selects "BlindCardsModel" ({ cls := "BlindCardsModel", name := "wrong", desc := "()I" } : Jvm.MethodName) ({ cls := "BlindCardsModel", name := "wrong", desc := "()I" } : Jvm.MethodName)) ∈ lw_all := lw_g (lw_at lw_m10 148 rfl) rfl
theorem q2433 : (Jvm.Cond.code ({ cls := "BlindCardsModel", name := "wrong", desc := "()I" } : Jvm.MethodName) prog_32_method_83_code (3 : Nat) (Option.some Jvm.ClassFile.FieldType.int)) ∈ lw_all := lw_g (lw_at lw_m10 149 rfl) rfl
theorem q2434 : (Jvm.Cond.methodLink "BlindCardsModel" (557 : Nat) ({ cls := "BlindCardsModel", name := "isRight", desc := "(II)Z" } : Jvm.MethodName)) ∈ lw_all := lw_g (lw_at lw_m10 150 rfl) rfl
theorem q2435 : (Jvm.Cond.privateMethod ({ cls := "BlindCardsModel", name := "isRight", desc := "(II)Z" } : Jvm.MethodName)) ∈ lw_tbl := lw_at lw_m10 151 rfl
theorem q2436 : (Jvm.Cond.instanceMethod ({ cls := "BlindCardsModel", name := "isRight", desc := "(II)Z" } : Jvm.MethodName)) ∈ lw_all := lw_g (lw_at lw_m10 152 rfl) rfl
theorem q2437 : (Jvm.Cond.code ({ cls := "BlindCardsModel", name := "isRight", desc := "(II)Z" } : Jvm.MethodName) prog_32_method_82_code (4 : Nat) (Option.some Jvm.ClassFile.FieldType.boolean)) ∈ lw_all := lw_g (lw_at lw_m10 153 rfl) rfl
theorem q2439 : (Jvm.Cond.instanceMethod ({ cls := "BlindCardsModel", name := "leaks", desc := "(Z)I" } : Jvm.MethodName)) ∈ lw_all := lw_g (lw_at lw_m10 155 rfl) rfl
theorem q2440 : (Jvm.Cond.selects "BlindCardsModel" ({ cls := "BlindCardsModel", name := "leaks", desc := "(Z)I" } : Jvm.MethodName) ({ cls := "BlindCardsModel", name := "leaks", desc := "(Z)I" } : Jvm.MethodName)) ∈ lw_all := lw_g (lw_at lw_m10 156 rfl) rfl
theorem q2441 : (Jvm.Cond.code ({ cls := "BlindCardsModel", name := "leaks", desc := "(Z)I" } : Jvm.MethodName) prog_32_method_84_code (5 : Nat) (Option.some Jvm.ClassFile.FieldType.int)) ∈ lw_all := lw_g (lw_at lw_m10 157 rfl) rfl
theorem q2443 : (Jvm.Cond.instanceMethod ({ cls := "BlindCardsModel", name := "bent", desc := "(IZ)I" } : Jvm.MethodName)) ∈ lw_all := lw_g (lw_at lw_m10 159 rfl) rfl
theorem q2444 : (Jvm.Cond.selects "BlindCardsModel" ({ cls := "BlindCardsModel", name := "bent", desc := "(IZ)I" } : Jvm.MethodName) ({ cls := "BlindCardsModel", name := "bent", desc := "(IZ)I" } : Jvm.MethodName)) ∈ lw_all := lw_g (lw_at lw_m10 160 rfl) rfl
theorem q2445 : (Jvm.Cond.code ({ cls := "BlindCardsModel", name := "bent", desc := "(IZ)I" } : Jvm.MethodName) prog_32_method_86_code (3 : Nat) (Option.some Jvm.ClassFile.FieldType.int)) ∈ lw_all := lw_g (lw_at lw_m10 161 rfl) rfl
theorem q2446 : (Jvm.Cond.methodLink "BlindCardsModel" (560 : Nat) ({ cls := "BlindCardsModel", name := "isClosed", desc := "(IIZ)I" } : Jvm.MethodName)) ∈ lw_all := lw_g (lw_at lw_m10 162 rfl) rfl
theorem q2447 : (Jvm.Cond.privateMethod ({ cls := "BlindCardsModel", name := "isClosed", desc := "(IIZ)I" } : Jvm.MethodName)) ∈ lw_tbl := lw_at lw_m10 163 rfl
theorem q2448 : (Jvm.Cond.instanceMethod ({ cls := "BlindCardsModel", name := "isClosed", desc := "(IIZ)I" } : Jvm.MethodName)) ∈ lw_all := lw_g (lw_at lw_m10 164 rfl) rfl
theorem q2449 : (Jvm.Cond.code ({ cls := "BlindCardsModel", name := "isClosed", desc := "(IIZ)I" } : Jvm.MethodName) prog_32_method_85_code (5 : Nat) (Option.some Jvm.ClassFile.FieldType.int)) ∈ lw_all := lw_g (lw_at lw_m10 165 rfl) rfl
theorem q2451 : (Jvm.Cond.instanceMethod ({ cls := "BlindCardsModel", name := "counted", desc := "(IZ)I" } : Jvm.MethodName)) ∈ lw_all := lw_g (lw_at lw_m10 167 rfl) rfl
theorem q2452 : (Jvm.Cond.selects "BlindCardsModel" ({ cls := "BlindCardsModel", name := "counted", desc := "(IZ)I" } : Jvm.MethodName) ({ cls := "BlindCardsModel", name := "counted", desc := "(IZ)I" } : Jvm.MethodName)) ∈ lw_all := lw_g (lw_at lw_m10 168 rfl) rfl
theorem q2453 : (Jvm.Cond.code ({ cls := "BlindCardsModel", name := "counted", desc := "(IZ)I" } : Jvm.MethodName) prog_32_method_87_code (3 : Nat) (Option.some Jvm.ClassFile.FieldType.int)) ∈ lw_all := lw_g (lw_at lw_m10 169 rfl) rfl
theorem q2455 : (Jvm.Cond.instanceMethod ({ cls := "BlindCardsModel", name := "cheat", desc := "(IZ)I" } : Jvm.MethodName)) ∈ lw_all := lw_g (lw_at lw_m10 171 rfl) rfl
theorem q2456 : (Jvm.Cond.selects "BlindCardsModel" ({ cls := "BlindCardsModel", name := "cheat", desc := "(IZ)I" } : Jvm.MethodName) ({ cls := "BlindCardsModel", name := "cheat", desc := "(IZ)I" } : Jvm.MethodName)) ∈ lw_all := lw_g (lw_at lw_m10 172 rfl) rfl
theorem q2457 : (Jvm.Cond.code ({ cls := "BlindCardsModel", name := "cheat", desc := "(IZ)I" } : Jvm.MethodName) prog_32_method_88_code (3 : Nat) (Option.some Jvm.ClassFile.FieldType.int)) ∈ lw_all := lw_g (lw_at lw_m10 173 rfl) rfl
theorem q2459 : (Jvm.Cond.instanceMethod ({ cls := "BlindCardsModel", name := "seek", desc := "(II)I" } : Jvm.MethodName)) ∈ lw_all := lw_g (lw_at lw_m10 175 rfl) rfl
theorem q2460 : (Jvm.Cond.selects "BlindCardsModel" ({ cls := "BlindCardsModel", name := "seek", desc := "(II)I" } : Jvm.MethodName) ({ cls := "BlindCardsModel", name := "seek", desc := "(II)I" } : Jvm.MethodName)) ∈ lw_all := lw_g (lw_at lw_m10 176 rfl) rfl
theorem q2461 : (Jvm.Cond.code ({ cls := "BlindCardsModel", name := "seek", desc := "(II)I" } : Jvm.MethodName) prog_32_method_94_code (4 : Nat) (Option.some Jvm.ClassFile.FieldType.int)) ∈ lw_all := lw_g (lw_at lw_m10 177 rfl) rfl
theorem q2462 : (Jvm.Cond.methodLink "BlindCardsModel" (579 : Nat) ({ cls := "BlindCardsModel", name := "layStart", desc := "()V" } : Jvm.MethodName)) ∈ lw_all := lw_g (lw_at lw_m10 178 rfl) rfl
theorem q2463 : (Jvm.Cond.privateMethod ({ cls := "BlindCardsModel", name := "layStart", desc := "()V" } : Jvm.MethodName)) ∈ lw_tbl := lw_at lw_m10 179 rfl
theorem q2464 : (Jvm.Cond.instanceMethod ({ cls := "BlindCardsModel", name := "layStart", desc := "()V" } : Jvm.MethodName)) ∈ lw_all := lw_g (lw_at lw_m10 180 rfl) rfl
theorem q2465 : (Jvm.Cond.code ({ cls := "BlindCardsModel", name := "layStart", desc := "()V" } : Jvm.MethodName) prog_32_method_89_code (4 : Nat) (Option.none : Option Jvm.ClassFile.FieldType)) ∈ lw_all := lw_g (lw_at lw_m10 181 rfl) rfl
theorem q2466 : (Jvm.Cond.methodLink "BlindCardsModel" (582 : Nat) ({ cls := "BlindCardsModel", name := "seeks", desc := "(I)Z" } : Jvm.MethodName)) ∈ lw_all := lw_g (lw_at lw_m10 182 rfl) rfl
theorem q2467 : (Jvm.Cond.privateMethod ({ cls := "BlindCardsModel", name := "seeks", desc := "(I)Z" } : Jvm.MethodName)) ∈ lw_tbl := lw_at lw_m10 183 rfl
theorem q2468 : (Jvm.Cond.instanceMethod ({ cls := "BlindCardsModel", name := "seeks", desc := "(I)Z" } : Jvm.MethodName)) ∈ lw_all := lw_g (lw_at lw_m10 184 rfl) rfl
theorem q2469 : (Jvm.Cond.code ({ cls := "BlindCardsModel", name := "seeks", desc := "(I)Z" } : Jvm.MethodName) prog_32_method_92_code (6 : Nat) (Option.some Jvm.ClassFile.FieldType.boolean)) ∈ lw_all := lw_g (lw_at lw_m10 185 rfl) rfl
theorem q2470 : (Jvm.Cond.methodLink "BlindCardsModel" (567 : Nat) ({ cls := "BlindCardsModel", name := "isMoved", desc := "(II)Z" } : Jvm.MethodName)) ∈ lw_all := lw_g (lw_at lw_m10 186 rfl) rfl
theorem q2471 : (Jvm.Cond.privateMethod ({ cls := "BlindCardsModel", name := "isMoved", desc := "(II)Z" } : Jvm.MethodName)) ∈ lw_tbl := lw_at lw_m10 187 rfl
theorem q2472 : (Jvm.Cond.instanceMethod ({ cls := "BlindCardsModel", name := "isMoved", desc := "(II)Z" } : Jvm.MethodName)) ∈ lw_all := lw_g (lw_at lw_m10 188 rfl) rfl
theorem q2473 : (Jvm.Cond.code ({ cls := "BlindCardsModel", name := "isMoved", desc := "(II)Z" } : Jvm.MethodName) prog_32_method_91_code (7 : Nat) (Option.some Jvm.ClassFile.FieldType.boolean)) ∈ lw_all := lw_g (lw_at lw_m10 189 rfl) rfl
theorem q2474 : (Jvm.Cond.methodLink "BlindCardsModel" (570 : Nat) ({ cls := "BlindCardsModel", name := "tells", desc := "(I)Z" } : Jvm.MethodName)) ∈ lw_all := lw_g (lw_at lw_m10 190 rfl) rfl
theorem q2475 : (Jvm.Cond.privateMethod ({ cls := "BlindCardsModel", name := "tells", desc := "(I)Z" } : Jvm.MethodName)) ∈ lw_tbl := lw_at lw_m10 191 rfl
theorem q2476 : (Jvm.Cond.instanceMethod ({ cls := "BlindCardsModel", name := "tells", desc := "(I)Z" } : Jvm.MethodName)) ∈ lw_all := lw_g (lw_at lw_m10 192 rfl) rfl
theorem q2477 : (Jvm.Cond.code ({ cls := "BlindCardsModel", name := "tells", desc := "(I)Z" } : Jvm.MethodName) prog_32_method_90_code (9 : Nat) (Option.some Jvm.ClassFile.FieldType.boolean)) ∈ lw_all := lw_g (lw_at lw_m10 193 rfl) rfl
theorem q2478 : (Jvm.Cond.methodLink "BlindCardsModel" (585 : Nat) ({ cls := "BlindCardsModel", name := "written", desc := "(I)I" } : Jvm.MethodName)) ∈ lw_all := lw_g (lw_at lw_m10 194 rfl) rfl
theorem q2479 : (Jvm.Cond.privateMethod ({ cls := "BlindCardsModel", name := "written", desc := "(I)I" } : Jvm.MethodName)) ∈ lw_tbl := lw_at lw_m10 195 rfl
theorem q2480 : (Jvm.Cond.instanceMethod ({ cls := "BlindCardsModel", name := "written", desc := "(I)I" } : Jvm.MethodName)) ∈ lw_all := lw_g (lw_at lw_m10 196 rfl) rfl
theorem q2481 : (Jvm.Cond.code ({ cls := "BlindCardsModel", name := "written", desc := "(I)I" } : Jvm.MethodName) prog_32_method_93_code (6 : Nat) (Option.some Jvm.ClassFile.FieldType.int)) ∈ lw_all := lw_g (lw_at lw_m10 197 rfl) rfl
theorem q2483 : (Jvm.Cond.instanceMethod ({ cls := "BlindCardsModel", name := "play", desc := "(I)I" } : Jvm.MethodName)) ∈ lw_all := lw_g (lw_at lw_m10 199 rfl) rfl
theorem q2484 : (Jvm.Cond.selects "BlindCardsModel" ({ cls := "BlindCardsModel", name := "play", desc := "(I)I" } : Jvm.MethodName) ({ cls := "BlindCardsModel", name := "play", desc := "(I)I" } : Jvm.MethodName)) ∈ lw_all := lw_g (lw_at lw_m10 200 rfl) rfl
theorem q2485 : (Jvm.Cond.code ({ cls := "BlindCardsModel", name := "play", desc := "(I)I" } : Jvm.MethodName) prog_32_method_98_code (9 : Nat) (Option.some Jvm.ClassFile.FieldType.int)) ∈ lw_all := lw_g (lw_at lw_m10 201 rfl) rfl
theorem q2486 : (Jvm.Cond.methodLink "BlindCardsModel" (601 : Nat) ({ cls := "BlindCardsModel", name := "cardComes", desc := "(I)V" } : Jvm.MethodName)) ∈ lw_all := lw_g (lw_at lw_m10 202 rfl) rfl
theorem q2487 : (Jvm.Cond.privateMethod ({ cls := "BlindCardsModel", name := "cardComes", desc := "(I)V" } : Jvm.MethodName)) ∈ lw_tbl := lw_at lw_m10 203 rfl
theorem q2488 : (Jvm.Cond.instanceMethod ({ cls := "BlindCardsModel", name := "cardComes", desc := "(I)V" } : Jvm.MethodName)) ∈ lw_all := lw_g (lw_at lw_m10 204 rfl) rfl
theorem q2489 : (Jvm.Cond.code ({ cls := "BlindCardsModel", name := "cardComes", desc := "(I)V" } : Jvm.MethodName) prog_32_method_97_code (2 : Nat) (Option.none : Option Jvm.ClassFile.FieldType)) ∈ lw_all := lw_g (lw_at lw_m10 205 rfl) rfl
theorem q2490 : (Jvm.Cond.methodLink "BlindCardsModel" (604 : Nat) ({ cls := "BlindCardsModel", name := "draw", desc := "(I)I" } : Jvm.MethodName)) ∈ lw_all := lw_g (lw_at lw_m10 206 rfl) rfl
theorem q2491 : (Jvm.Cond.privateMethod ({ cls := "BlindCardsModel", name := "draw", desc := "(I)I" } : Jvm.MethodName)) ∈ lw_tbl := lw_at lw_m10 207 rfl
theorem q2492 : (Jvm.Cond.instanceMethod ({ cls := "BlindCardsModel", name := "draw", desc := "(I)I" } : Jvm.MethodName)) ∈ lw_all := lw_g (lw_at lw_m10 208 rfl) rfl
theorem q2493 : (Jvm.Cond.code ({ cls := "BlindCardsModel", name := "draw", desc := "(I)I" } : Jvm.MethodName) prog_32_method_95_code (2 : Nat) (Option.some Jvm.ClassFile.FieldType.int)) ∈ lw_all := lw_g (lw_at lw_m10 209 rfl) rfl
theorem q2494 : (Jvm.Cond.constant "BlindCardsModel" (588 : Nat) (1103515245 : Int32)) ∈ lw_all := lw_g (lw_at lw_m10 210 rfl) rfl
theorem q2495 : (Jvm.Cond.methodLink "BlindCardsModel" (607 : Nat) ({ cls := "BlindCardsModel", name := "answerOf", desc := "(I)I" } : Jvm.MethodName)) ∈ lw_all := lw_g (lw_at lw_m10 211 rfl) rfl
theorem q2496 : (Jvm.Cond.privateMethod ({ cls := "BlindCardsModel", name := "answerOf", desc := "(I)I" } : Jvm.MethodName)) ∈ lw_tbl := lw_at lw_m10 212 rfl
theorem q2497 : (Jvm.Cond.instanceMethod ({ cls := "BlindCardsModel", name := "answerOf", desc := "(I)I" } : Jvm.MethodName)) ∈ lw_all := lw_g (lw_at lw_m10 213 rfl) rfl
theorem q2498 : (Jvm.Cond.code ({ cls := "BlindCardsModel", name := "answerOf", desc := "(I)I" } : Jvm.MethodName) prog_32_method_99_code (3 : Nat) (Option.some Jvm.ClassFile.FieldType.int)) ∈ lw_all := lw_g (lw_at lw_m10 214 rfl) rfl
theorem q2499 : (Jvm.Cond.methodLink "BlindCardsModel" (610 : Nat) ({ cls := "BlindCardsModel", name := "pathOf", desc := "(I)I" } : Jvm.MethodName)) ∈ lw_all := lw_g (lw_at lw_m10 215 rfl) rfl
theorem q2500 : (Jvm.Cond.privateMethod ({ cls := "BlindCardsModel", name := "pathOf", desc := "(I)I" } : Jvm.MethodName)) ∈ lw_tbl := lw_at lw_m10 216 rfl
theorem q2501 : (Jvm.Cond.instanceMethod ({ cls := "BlindCardsModel", name := "pathOf", desc := "(I)I" } : Jvm.MethodName)) ∈ lw_all := lw_g (lw_at lw_m10 217 rfl) rfl
theorem q2502 : (Jvm.Cond.code ({ cls := "BlindCardsModel", name := "pathOf", desc := "(I)I" } : Jvm.MethodName) prog_32_method_96_code (5 : Nat) (Option.some Jvm.ClassFile.FieldType.int)) ∈ lw_all := lw_g (lw_at lw_m10 218 rfl) rfl
theorem q2504 : (Jvm.Cond.instanceMethod ({ cls := "BlindCardsModel", name := "played", desc := "(I)I" } : Jvm.MethodName)) ∈ lw_all := lw_g (lw_at lw_m10 220 rfl) rfl
theorem q2505 : (Jvm.Cond.selects "BlindCardsModel" ({ cls := "BlindCardsModel", name := "played", desc := "(I)I" } : Jvm.MethodName) ({ cls := "BlindCardsModel", name := "played", desc := "(I)I" } : Jvm.MethodName)) ∈ lw_all := lw_g (lw_at lw_m10 221 rfl) rfl
theorem q2506 : (Jvm.Cond.code ({ cls := "BlindCardsModel", name := "played", desc := "(I)I" } : Jvm.MethodName) prog_32_method_100_code (2 : Nat) (Option.some Jvm.ClassFile.FieldType.int)) ∈ lw_all := lw_g (lw_at lw_m10 222 rfl) rfl
theorem q2508 : (Jvm.Cond.instanceMethod ({ cls := "BlindCardsModel", name := "tell", desc := "(I)I" } : Jvm.MethodName)) ∈ lw_all := lw_g (lw_at lw_m10 224 rfl) rfl
theorem q2509 : (Jvm.Cond.selects "BlindCardsModel" ({ cls := "BlindCardsModel", name := "tell", desc := "(I)I" } : Jvm.MethodName) ({ cls := "BlindCardsModel", name := "tell", desc := "(I)I" } : Jvm.MethodName)) ∈ lw_all := lw_g (lw_at lw_m10 225 rfl) rfl
theorem q2510 : (Jvm.Cond.code ({ cls := "BlindCardsModel", name := "tell", desc := "(I)I" } : Jvm.MethodName) prog_32_method_101_code (2 : Nat) (Option.some Jvm.ClassFile.FieldType.int)) ∈ lw_all := lw_g (lw_at lw_m10 226 rfl) rfl
theorem q2512 : (Jvm.Cond.instanceMethod ({ cls := "BlindCardsModel", name := "untell", desc := "(I)Z" } : Jvm.MethodName)) ∈ lw_all := lw_g (lw_at lw_m10 228 rfl) rfl
theorem q2513 : (Jvm.Cond.selects "BlindCardsModel" ({ cls := "BlindCardsModel", name := "untell", desc := "(I)Z" } : Jvm.MethodName) ({ cls := "BlindCardsModel", name := "untell", desc := "(I)Z" } : Jvm.MethodName)) ∈ lw_all := lw_g (lw_at lw_m10 229 rfl) rfl
theorem q2514 : (Jvm.Cond.code ({ cls := "BlindCardsModel", name := "untell", desc := "(I)Z" } : Jvm.MethodName) prog_32_method_102_code (2 : Nat) (Option.some Jvm.ClassFile.FieldType.boolean)) ∈ lw_all := lw_g (lw_at lw_m10 230 rfl) rfl
theorem q2516 : (Jvm.Cond.instanceMethod ({ cls := "BlindCardsModel", name := "later", desc := "(I)I" } : Jvm.MethodName)) ∈ lw_all := lw_g (lw_at lw_m10 232 rfl) rfl
theorem q2517 : (Jvm.Cond.selects "BlindCardsModel" ({ cls := "BlindCardsModel", name := "later", desc := "(I)I" } : Jvm.MethodName) ({ cls := "BlindCardsModel", name := "later", desc := "(I)I" } : Jvm.MethodName)) ∈ lw_all := lw_g (lw_at lw_m10 233 rfl) rfl
theorem q2518 : (Jvm.Cond.code ({ cls := "BlindCardsModel", name := "later", desc := "(I)I" } : Jvm.MethodName) prog_32_method_103_code (2 : Nat) (Option.some Jvm.ClassFile.FieldType.int)) ∈ lw_all := lw_g (lw_at lw_m10 234 rfl) rfl
theorem q2519 : (Jvm.Cond.constant "BlindCardsModel" (616 : Nat) (100000 : Int32)) ∈ lw_all := lw_g (lw_at lw_m10 235 rfl) rfl
theorem q2521 : (Jvm.Cond.instanceMethod ({ cls := "BlindCardsModel", name := "can", desc := "(I)I" } : Jvm.MethodName)) ∈ lw_all := lw_g (lw_at lw_m10 237 rfl) rfl
theorem q2522 : (Jvm.Cond.selects "BlindCardsModel" ({ cls := "BlindCardsModel", name := "can", desc := "(I)I" } : Jvm.MethodName) ({ cls := "BlindCardsModel", name := "can", desc := "(I)I" } : Jvm.MethodName)) ∈ lw_all := lw_g (lw_at lw_m10 238 rfl) rfl
theorem q2523 : (Jvm.Cond.code ({ cls := "BlindCardsModel", name := "can", desc := "(I)I" } : Jvm.MethodName) prog_32_method_104_code (5 : Nat) (Option.some Jvm.ClassFile.FieldType.int)) ∈ lw_all := lw_g (lw_at lw_m10 239 rfl) rfl
theorem q2525 : (Jvm.Cond.instanceMethod ({ cls := "BlindCardsModel", name := "guess", desc := "(III)J" } : Jvm.MethodName)) ∈ lw_all := lw_g (lw_at lw_m11 1 rfl) rfl
theorem q2526 : (Jvm.Cond.selects "BlindCardsModel" ({ cls := "BlindCardsModel", name := "guess", desc := "(III)J" } : Jvm.MethodName) ({ cls := "BlindCardsModel", name := "guess", desc := "(III)J" } : Jvm.MethodName)) ∈ lw_all := lw_g (lw_at lw_m11 2 rfl) rfl
theorem q2527 : (Jvm.Cond.code ({ cls := "BlindCardsModel", name := "guess", desc := "(III)J" } : Jvm.MethodName) prog_32_method_105_code (7 : Nat) (Option.some Jvm.ClassFile.FieldType.long)) ∈ lw_all := lw_g (lw_at lw_m11 3 rfl) rfl
theorem q2529 : (Jvm.Cond.instanceMethod ({ cls := "BlindCardsModel", name := "seed", desc := "(I)I" } : Jvm.MethodName)) ∈ lw_all := lw_g (lw_at lw_m11 5 rfl) rfl
theorem q2530 : (Jvm.Cond.selects "BlindCardsModel" ({ cls := "BlindCardsModel", name := "seed", desc := "(I)I" } : Jvm.MethodName) ({ cls := "BlindCardsModel", name := "seed", desc := "(I)I" } : Jvm.MethodName)) ∈ lw_all := lw_g (lw_at lw_m11 6 rfl) rfl
theorem q2531 : (Jvm.Cond.code ({ cls := "BlindCardsModel", name := "seed", desc := "(I)I" } : Jvm.MethodName) prog_32_method_106_code (3 : Nat) (Option.some Jvm.ClassFile.FieldType.int)) ∈ lw_all := lw_g (lw_at lw_m11 7 rfl) rfl
theorem q2533 : (Jvm.Cond.instanceMethod ({ cls := "BlindCardsModel", name := "image", desc := "(I)I" } : Jvm.MethodName)) ∈ lw_all := lw_g (lw_at lw_m11 9 rfl) rfl
theorem q2534 : (Jvm.Cond.selects "BlindCardsModel" ({ cls := "BlindCardsModel", name := "image", desc := "(I)I" } : Jvm.MethodName) ({ cls := "BlindCardsModel", name := "image", desc := "(I)I" } : Jvm.MethodName)) ∈ lw_all := lw_g (lw_at lw_m11 10 rfl) rfl
theorem q2535 : (Jvm.Cond.code ({ cls := "BlindCardsModel", name := "image", desc := "(I)I" } : Jvm.MethodName) prog_32_method_107_code (3 : Nat) (Option.some Jvm.ClassFile.FieldType.int)) ∈ lw_all := lw_g (lw_at lw_m11 11 rfl) rfl
theorem q2537 : (Jvm.Cond.instanceMethod ({ cls := "BlindCardsModel", name := "back", desc := "(I)I" } : Jvm.MethodName)) ∈ lw_all := lw_g (lw_at lw_m11 13 rfl) rfl
theorem q2538 : (Jvm.Cond.selects "BlindCardsModel" ({ cls := "BlindCardsModel", name := "back", desc := "(I)I" } : Jvm.MethodName) ({ cls := "BlindCardsModel", name := "back", desc := "(I)I" } : Jvm.MethodName)) ∈ lw_all := lw_g (lw_at lw_m11 14 rfl) rfl
theorem q2539 : (Jvm.Cond.code ({ cls := "BlindCardsModel", name := "back", desc := "(I)I" } : Jvm.MethodName) prog_32_method_108_code (3 : Nat) (Option.some Jvm.ClassFile.FieldType.int)) ∈ lw_all := lw_g (lw_at lw_m11 15 rfl) rfl
theorem q2541 : (Jvm.Cond.instanceMethod ({ cls := "BlindCardsModel", name := "about", desc := "(I)I" } : Jvm.MethodName)) ∈ lw_all := lw_g (lw_at lw_m11 17 rfl) rfl
theorem q2542 : (Jvm.Cond.selects "BlindCardsModel" ({ cls := "BlindCardsModel", name := "about", desc := "(I)I" } : Jvm.MethodName) ({ cls := "BlindCardsModel", name := "about", desc := "(I)I" } : Jvm.MethodName)) ∈ lw_all := lw_g (lw_at lw_m11 18 rfl) rfl
theorem q2543 : (Jvm.Cond.code ({ cls := "BlindCardsModel", name := "about", desc := "(I)I" } : Jvm.MethodName) prog_32_method_109_code (2 : Nat) (Option.some Jvm.ClassFile.FieldType.int)) ∈ lw_all := lw_g (lw_at lw_m11 19 rfl) rfl
theorem q2545 : (Jvm.Cond.instanceMethod ({ cls := "BlindCardsModel", name := "feed", desc := "(IIIII)I" } : Jvm.MethodName)) ∈ lw_all := lw_g (lw_at lw_m11 21 rfl) rfl
theorem q2546 : (Jvm.Cond.selects "BlindCardsModel" ({ cls := "BlindCardsModel", name := "feed", desc := "(IIIII)I" } : Jvm.MethodName) ({ cls := "BlindCardsModel", name := "feed", desc := "(IIIII)I" } : Jvm.MethodName)) ∈ lw_all := lw_g (lw_at lw_m11 22 rfl) rfl
theorem q2547 : (Jvm.Cond.code ({ cls := "BlindCardsModel", name := "feed", desc := "(IIIII)I" } : Jvm.MethodName) prog_32_method_110_code (8 : Nat) (Option.some Jvm.ClassFile.FieldType.int)) ∈ lw_all := lw_g (lw_at lw_m11 23 rfl) rfl
theorem q2549 : (Jvm.Cond.instanceMethod ({ cls := "BlindCardsModel", name := "end", desc := "(I)I" } : Jvm.MethodName)) ∈ lw_all := lw_g (lw_at lw_m11 25 rfl) rfl
theorem q2550 : (Jvm.Cond.selects "BlindCardsModel" ({ cls := "BlindCardsModel", name := "end", desc := "(I)I" } : Jvm.MethodName) ({ cls := "BlindCardsModel", name := "end", desc := "(I)I" } : Jvm.MethodName)) ∈ lw_all := lw_g (lw_at lw_m11 26 rfl) rfl
theorem q2551 : (Jvm.Cond.code ({ cls := "BlindCardsModel", name := "end", desc := "(I)I" } : Jvm.MethodName) prog_32_method_111_code (2 : Nat) (Option.some Jvm.ClassFile.FieldType.int)) ∈ lw_all := lw_g (lw_at lw_m11 27 rfl) rfl
theorem q2589 : (Jvm.Cond.castable "BlindCardsModel" "java/lang/Object") ∈ lw_tbl := lw_at lw_m11 65 rfl
theorem in_X10 : ∀ w ∈ wsX100, w ∈ lw_all := lw_in wsX100 [2041, 2043, 2045, 2047, 2049, 2051, 2053, 2055, 2057, 2059, 2061, 2063, 2065, 2067, 2069, 2071, 2073, 2075, 2077, 2079, 2081, 2083, 2085, 2087, 2089, 2091, 2093, 2095, 2097, 2099, 2101, 2103, 2105, 2107, 2109, 2111, 2113, 2115, 2117, 2119, 2121, 2123, 2125, 2127, 2129, 2131, 2133, 2135, 2137, 2139, 2141, 2143, 2145, 2147, 2149, 2151, 2153, 2155, 2157, 2159, 2161, 2163, 2165, 2167, 2169, 2171, 2173, 2175, 2177, 2179, 2181, 2183, 2185, 2187, 2189, 2191, 2193, 2195, 2197, 2199, 2201, 2203, 2205, 2207, 2209, 2211, 2213, 2215, 2217] (by decide +kernel) (by decide +kernel)
