/-! BlindCards -/
set_option maxRecDepth 100000
def RX0 : String := "BlindCards"
def TX0 : u_T := fun k => match k with
  | 0 => ("BlindCards", "often", "[[J", true)
  | 1 => ("BlindCards", "seen", "[[I", true)
  | 2 => ("BlindCards", "spare", "[J", true)
  | 3 => ("BlindCards", "tape", "[B", true)
  | 4 => ("BlindCards", "taped", "I", false)
  | 5 => ("BlindCards", "faultKind", "I", false)
  | 6 => ("BlindCards", "faultPlace", "I", false)
  | 7 => ("BlindCards", "recipe", "LBlindCards$Recipe;", false)
  | 8 => ("BlindCards", "keeper", "LBlindCards$Keeper;", true)
  | 9 => ("BlindCards", "closer", "LBlindCards$Closer;", true)
  | 10 => ("BlindCards", "cheater", "LBlindCards$Cheater;", true)
  | 11 => ("BlindCards", "w", "I", false)
  | 12 => ("BlindCards", "time", "I", false)
  | 13 => ("BlindCards", "sought", "[[J", true)
  | 14 => ("BlindCards", "looked", "[J", true)
  | 15 => ("BlindCards", "cards", "I", false)
  | 16 => ("BlindCards", "bestMoves", "I", false)
  | 17 => ("BlindCards", "bestRow", "I", false)
  | 18 => ("BlindCards", "bestOpen", "I", false)
  | 19 => ("BlindCards", "gameLooks", "[I", true)
  | 20 => ("BlindCards", "gameSeen", "[I", true)
  | 21 => ("BlindCards", "hasGame", "Z", false)
  | 22 => ("BlindCards", "gameAnswer", "I", false)
  | 23 => ("BlindCards", "gameSteps", "I", false)
  | 24 => ("BlindCards", "gameRow", "I", false)
  | 25 => ("BlindCards", "gameCards", "I", false)
  | 26 => ("BlindCards", "told", "Ljava/util/ArrayList;", true)
  | 27 => ("BlindCards", "boxes", "Ljava/util/ArrayList;", true)
  | 28 => ("BlindCards", "isThere", "[Z", true)
  | _ => ("BlindCards", "boxW", "[I", true)
def tyX0 : Nat → FieldType := fun k => match k with
  | 0 => .array (.array .long)
  | 1 => .array (.array .int)
  | 2 => .array .long
  | 3 => .array .byte
  | 4 => .int
  | 5 => .int
  | 6 => .int
  | 7 => .object "BlindCards$Recipe"
  | 8 => .object "BlindCards$Keeper"
  | 9 => .object "BlindCards$Closer"
  | 10 => .object "BlindCards$Cheater"
  | 11 => .int
  | 12 => .int
  | 13 => .array (.array .long)
  | 14 => .array .long
  | 15 => .int
  | 16 => .int
  | 17 => .int
  | 18 => .int
  | 19 => .array .int
  | 20 => .array .int
  | 21 => .boolean
  | 22 => .int
  | 23 => .int
  | 24 => .int
  | 25 => .int
  | 26 => .object "java/util/ArrayList"
  | 27 => .object "java/util/ArrayList"
  | 28 => .array .boolean
  | _ => .array .int
abbrev wsX00 : List Cond := u_ws RX0 TX0 30
set_option maxRecDepth 100000 in
theorem nmX0 : ∀ a, a < 30 → ∀ b, b < 30 → a ≠ b → (TX0 a).2.1 ≠ (TX0 b).2.1 := by decide +kernel
set_option maxRecDepth 100000 in
theorem tyX0_ok : ∀ k, k < 30 → parseFieldDescriptor (TX0 k).2.2.1 = some (tyX0 k) := by decide +kernel
abbrev cX0_init : ByteArray := prog_1_method_4_code
def yX0_init : MethodName := ⟨RX0, "<init>", "()V"⟩
def dkwX0_init_9 : List UInt8 := [180, 0, 57, 182, 0, 114, 177]
abbrev dktX0_init_9 : List UInt8 := dkwX0_init_9 ++ []
def dkwX0_init_8 : List UInt8 := [180, 0, 100, 187, 0, 91, 89, 4, 183, 0, 93, 182, 0, 110, 87, 132, 1, 1, 167, 255, 232, 42]
abbrev dktX0_init_8 : List UInt8 := dkwX0_init_8 ++ dktX0_init_9
def dkwX0_init_7 : List UInt8 := [42, 6, 188, 4, 181, 0, 103, 42, 6, 188, 10, 181, 0, 107, 3, 60, 27, 6, 162, 0, 25, 42]
abbrev dktX0_init_7 : List UInt8 := dkwX0_init_7 ++ dktX0_init_8
def dkwX0_init_6 : List UInt8 := [42, 187, 0, 91, 89, 5, 183, 0, 93, 181, 0, 96, 42, 187, 0, 91, 89, 6, 183, 0, 93, 181, 0, 100]
abbrev dktX0_init_6 : List UInt8 := dkwX0_init_6 ++ dktX0_init_7
def dkwX0_init_5 : List UInt8 := [42, 16, 8, 188, 11, 181, 0, 81, 42, 16, 6, 188, 10, 181, 0, 84, 42, 16, 8, 188, 10, 181, 0, 88]
abbrev dktX0_init_5 : List UInt8 := dkwX0_init_5 ++ dktX0_init_6
def dkwX0_init_4 : List UInt8 := [42, 183, 0, 70, 181, 0, 71, 42, 4, 181, 0, 75, 42, 7, 17, 8, 0, 197, 0, 30, 2, 181, 0, 78]
abbrev dktX0_init_4 : List UInt8 := dkwX0_init_4 ++ dktX0_init_5
def dkwX0_init_3 : List UInt8 := [42, 183, 0, 54, 181, 0, 57, 42, 187, 0, 61, 89, 42, 183, 0, 63, 181, 0, 64, 42, 187, 0, 68, 89]
abbrev dktX0_init_3 : List UInt8 := dkwX0_init_3 ++ dktX0_init_4
def dkwX0_init_2 : List UInt8 := [181, 0, 44, 42, 2, 181, 0, 48, 42, 187, 0, 20, 89, 183, 0, 51, 181, 0, 15, 42, 187, 0, 52, 89]
abbrev dktX0_init_2 : List UInt8 := dkwX0_init_2 ++ dktX0_init_3
def dkwX0_init_1 : List UInt8 := [197, 0, 35, 2, 181, 0, 37, 42, 17, 8, 0, 188, 11, 181, 0, 40, 42, 17, 6, 64, 188, 8]
abbrev dktX0_init_1 : List UInt8 := dkwX0_init_1 ++ dktX0_init_2
def dkwX0_init_0 : List UInt8 := [42, 183, 0, 24, 42, 16, 16, 17, 8, 0, 197, 0, 30, 2, 181, 0, 32, 42, 16, 16, 16, 8]
abbrev dktX0_init_0 : List UInt8 := dkwX0_init_0 ++ dktX0_init_1
theorem dksX0_init_0 : cX0_init.data.toList.drop 0 = dktX0_init_0 := by decide +kernel
theorem dksX0_init_1 : cX0_init.data.toList.drop 22 = dktX0_init_1 := dk_seg dksX0_init_0 22 rfl rfl
theorem dksX0_init_2 : cX0_init.data.toList.drop 44 = dktX0_init_2 := dk_seg dksX0_init_1 22 rfl rfl
theorem dksX0_init_3 : cX0_init.data.toList.drop 68 = dktX0_init_3 := dk_seg dksX0_init_2 24 rfl rfl
theorem dksX0_init_4 : cX0_init.data.toList.drop 92 = dktX0_init_4 := dk_seg dksX0_init_3 24 rfl rfl
theorem dksX0_init_5 : cX0_init.data.toList.drop 116 = dktX0_init_5 := dk_seg dksX0_init_4 24 rfl rfl
theorem dksX0_init_6 : cX0_init.data.toList.drop 140 = dktX0_init_6 := dk_seg dksX0_init_5 24 rfl rfl
theorem dksX0_init_7 : cX0_init.data.toList.drop 164 = dktX0_init_7 := dk_seg dksX0_init_6 24 rfl rfl
theorem dksX0_init_8 : cX0_init.data.toList.drop 186 = dktX0_init_8 := dk_seg dksX0_init_7 22 rfl rfl
theorem dksX0_init_9 : cX0_init.data.toList.drop 208 = dktX0_init_9 := dk_seg dksX0_init_8 22 rfl rfl
theorem dX0_init_0 : decode cX0_init 0 = .ok (.aload_n 0, 1) := dk_42 (dk_at dksX0_init_0 0 rfl rfl)
theorem dX0_init_1 : decode cX0_init 1 = .ok (.invokespecial 24, 3) := dk_183 0 24 (dk_at dksX0_init_0 1 rfl rfl)
theorem dX0_init_4 : decode cX0_init 4 = .ok (.aload_n 0, 1) := dk_42 (dk_at dksX0_init_0 4 rfl rfl)
theorem dX0_init_5 : decode cX0_init 5 = .ok (.bipush 16, 2) := dk_16 16 (dk_at dksX0_init_0 5 rfl rfl)
theorem dX0_init_7 : decode cX0_init 7 = .ok (.sipush 2048, 3) := dk_17 8 0 (dk_at dksX0_init_0 7 rfl rfl)
theorem dX0_init_10 : decode cX0_init 10 = .ok (.multianewarray 30 2, 4) := by decide +kernel
theorem dX0_init_14 : decode cX0_init 14 = .ok (.putfield 32, 3) := dk_181 0 32 (dk_at dksX0_init_0 14 rfl rfl)
theorem dX0_init_17 : decode cX0_init 17 = .ok (.aload_n 0, 1) := dk_42 (dk_at dksX0_init_0 17 rfl rfl)
theorem dX0_init_18 : decode cX0_init 18 = .ok (.bipush 16, 2) := dk_16 16 (dk_at dksX0_init_0 18 rfl rfl)
theorem dX0_init_20 : decode cX0_init 20 = .ok (.bipush 8, 2) := dk_16 8 (dk_at dksX0_init_0 20 rfl rfl)
theorem dX0_init_22 : decode cX0_init 22 = .ok (.multianewarray 35 2, 4) := by decide +kernel
theorem dX0_init_26 : decode cX0_init 26 = .ok (.putfield 37, 3) := dk_181 0 37 (dk_at dksX0_init_1 4 rfl rfl)
theorem dX0_init_29 : decode cX0_init 29 = .ok (.aload_n 0, 1) := dk_42 (dk_at dksX0_init_1 7 rfl rfl)
theorem dX0_init_30 : decode cX0_init 30 = .ok (.sipush 2048, 3) := dk_17 8 0 (dk_at dksX0_init_1 8 rfl rfl)
theorem dX0_init_33 : decode cX0_init 33 = .ok (.newarray .long, 2) := dk_188_11 (dk_at dksX0_init_1 11 rfl rfl)
theorem dX0_init_35 : decode cX0_init 35 = .ok (.putfield 40, 3) := dk_181 0 40 (dk_at dksX0_init_1 13 rfl rfl)
theorem dX0_init_38 : decode cX0_init 38 = .ok (.aload_n 0, 1) := dk_42 (dk_at dksX0_init_1 16 rfl rfl)
theorem dX0_init_39 : decode cX0_init 39 = .ok (.sipush 1600, 3) := dk_17 6 64 (dk_at dksX0_init_1 17 rfl rfl)
theorem dX0_init_42 : decode cX0_init 42 = .ok (.newarray .byte, 2) := dk_188_8 (dk_at dksX0_init_1 20 rfl rfl)
theorem dX0_init_44 : decode cX0_init 44 = .ok (.putfield 44, 3) := dk_181 0 44 (dk_at dksX0_init_2 0 rfl rfl)
theorem dX0_init_47 : decode cX0_init 47 = .ok (.aload_n 0, 1) := dk_42 (dk_at dksX0_init_2 3 rfl rfl)
theorem dX0_init_48 : decode cX0_init 48 = .ok (.iconst (-1), 1) := dk_2 (dk_at dksX0_init_2 4 rfl rfl)
theorem dX0_init_49 : decode cX0_init 49 = .ok (.putfield 48, 3) := dk_181 0 48 (dk_at dksX0_init_2 5 rfl rfl)
theorem dX0_init_52 : decode cX0_init 52 = .ok (.aload_n 0, 1) := dk_42 (dk_at dksX0_init_2 8 rfl rfl)
theorem dX0_init_53 : decode cX0_init 53 = .ok (.new 20, 3) := dk_187 0 20 (dk_at dksX0_init_2 9 rfl rfl)
theorem dX0_init_56 : decode cX0_init 56 = .ok (.dup, 1) := dk_89 (dk_at dksX0_init_2 12 rfl rfl)
theorem dX0_init_57 : decode cX0_init 57 = .ok (.invokespecial 51, 3) := dk_183 0 51 (dk_at dksX0_init_2 13 rfl rfl)
theorem dX0_init_60 : decode cX0_init 60 = .ok (.putfield 15, 3) := dk_181 0 15 (dk_at dksX0_init_2 16 rfl rfl)
theorem dX0_init_63 : decode cX0_init 63 = .ok (.aload_n 0, 1) := dk_42 (dk_at dksX0_init_2 19 rfl rfl)
theorem dX0_init_64 : decode cX0_init 64 = .ok (.new 52, 3) := dk_187 0 52 (dk_at dksX0_init_2 20 rfl rfl)
theorem dX0_init_67 : decode cX0_init 67 = .ok (.dup, 1) := dk_89 (dk_at dksX0_init_2 23 rfl rfl)
theorem dX0_init_68 : decode cX0_init 68 = .ok (.aload_n 0, 1) := dk_42 (dk_at dksX0_init_3 0 rfl rfl)
theorem dX0_init_69 : decode cX0_init 69 = .ok (.invokespecial 54, 3) := dk_183 0 54 (dk_at dksX0_init_3 1 rfl rfl)
theorem dX0_init_72 : decode cX0_init 72 = .ok (.putfield 57, 3) := dk_181 0 57 (dk_at dksX0_init_3 4 rfl rfl)
theorem dX0_init_75 : decode cX0_init 75 = .ok (.aload_n 0, 1) := dk_42 (dk_at dksX0_init_3 7 rfl rfl)
theorem dX0_init_76 : decode cX0_init 76 = .ok (.new 61, 3) := dk_187 0 61 (dk_at dksX0_init_3 8 rfl rfl)
theorem dX0_init_79 : decode cX0_init 79 = .ok (.dup, 1) := dk_89 (dk_at dksX0_init_3 11 rfl rfl)
theorem dX0_init_80 : decode cX0_init 80 = .ok (.aload_n 0, 1) := dk_42 (dk_at dksX0_init_3 12 rfl rfl)
theorem dX0_init_81 : decode cX0_init 81 = .ok (.invokespecial 63, 3) := dk_183 0 63 (dk_at dksX0_init_3 13 rfl rfl)
theorem dX0_init_84 : decode cX0_init 84 = .ok (.putfield 64, 3) := dk_181 0 64 (dk_at dksX0_init_3 16 rfl rfl)
theorem dX0_init_87 : decode cX0_init 87 = .ok (.aload_n 0, 1) := dk_42 (dk_at dksX0_init_3 19 rfl rfl)
theorem dX0_init_88 : decode cX0_init 88 = .ok (.new 68, 3) := dk_187 0 68 (dk_at dksX0_init_3 20 rfl rfl)
theorem dX0_init_91 : decode cX0_init 91 = .ok (.dup, 1) := dk_89 (dk_at dksX0_init_3 23 rfl rfl)
theorem dX0_init_92 : decode cX0_init 92 = .ok (.aload_n 0, 1) := dk_42 (dk_at dksX0_init_4 0 rfl rfl)
theorem dX0_init_93 : decode cX0_init 93 = .ok (.invokespecial 70, 3) := dk_183 0 70 (dk_at dksX0_init_4 1 rfl rfl)
theorem dX0_init_96 : decode cX0_init 96 = .ok (.putfield 71, 3) := dk_181 0 71 (dk_at dksX0_init_4 4 rfl rfl)
theorem dX0_init_99 : decode cX0_init 99 = .ok (.aload_n 0, 1) := dk_42 (dk_at dksX0_init_4 7 rfl rfl)
theorem dX0_init_100 : decode cX0_init 100 = .ok (.iconst 1, 1) := dk_4 (dk_at dksX0_init_4 8 rfl rfl)
theorem dX0_init_101 : decode cX0_init 101 = .ok (.putfield 75, 3) := dk_181 0 75 (dk_at dksX0_init_4 9 rfl rfl)
theorem dX0_init_104 : decode cX0_init 104 = .ok (.aload_n 0, 1) := dk_42 (dk_at dksX0_init_4 12 rfl rfl)
theorem dX0_init_105 : decode cX0_init 105 = .ok (.iconst 4, 1) := dk_7 (dk_at dksX0_init_4 13 rfl rfl)
theorem dX0_init_106 : decode cX0_init 106 = .ok (.sipush 2048, 3) := dk_17 8 0 (dk_at dksX0_init_4 14 rfl rfl)
theorem dX0_init_109 : decode cX0_init 109 = .ok (.multianewarray 30 2, 4) := by decide +kernel
theorem dX0_init_113 : decode cX0_init 113 = .ok (.putfield 78, 3) := dk_181 0 78 (dk_at dksX0_init_4 21 rfl rfl)
theorem dX0_init_116 : decode cX0_init 116 = .ok (.aload_n 0, 1) := dk_42 (dk_at dksX0_init_5 0 rfl rfl)
theorem dX0_init_117 : decode cX0_init 117 = .ok (.bipush 8, 2) := dk_16 8 (dk_at dksX0_init_5 1 rfl rfl)
theorem dX0_init_119 : decode cX0_init 119 = .ok (.newarray .long, 2) := dk_188_11 (dk_at dksX0_init_5 3 rfl rfl)
theorem dX0_init_121 : decode cX0_init 121 = .ok (.putfield 81, 3) := dk_181 0 81 (dk_at dksX0_init_5 5 rfl rfl)
theorem dX0_init_124 : decode cX0_init 124 = .ok (.aload_n 0, 1) := dk_42 (dk_at dksX0_init_5 8 rfl rfl)
theorem dX0_init_125 : decode cX0_init 125 = .ok (.bipush 6, 2) := dk_16 6 (dk_at dksX0_init_5 9 rfl rfl)
theorem dX0_init_127 : decode cX0_init 127 = .ok (.newarray .int, 2) := dk_188_10 (dk_at dksX0_init_5 11 rfl rfl)
theorem dX0_init_129 : decode cX0_init 129 = .ok (.putfield 84, 3) := dk_181 0 84 (dk_at dksX0_init_5 13 rfl rfl)
theorem dX0_init_132 : decode cX0_init 132 = .ok (.aload_n 0, 1) := dk_42 (dk_at dksX0_init_5 16 rfl rfl)
theorem dX0_init_133 : decode cX0_init 133 = .ok (.bipush 8, 2) := dk_16 8 (dk_at dksX0_init_5 17 rfl rfl)
theorem dX0_init_135 : decode cX0_init 135 = .ok (.newarray .int, 2) := dk_188_10 (dk_at dksX0_init_5 19 rfl rfl)
theorem dX0_init_137 : decode cX0_init 137 = .ok (.putfield 88, 3) := dk_181 0 88 (dk_at dksX0_init_5 21 rfl rfl)
theorem dX0_init_140 : decode cX0_init 140 = .ok (.aload_n 0, 1) := dk_42 (dk_at dksX0_init_6 0 rfl rfl)
theorem dX0_init_141 : decode cX0_init 141 = .ok (.new 91, 3) := dk_187 0 91 (dk_at dksX0_init_6 1 rfl rfl)
theorem dX0_init_144 : decode cX0_init 144 = .ok (.dup, 1) := dk_89 (dk_at dksX0_init_6 4 rfl rfl)
theorem dX0_init_145 : decode cX0_init 145 = .ok (.iconst 2, 1) := dk_5 (dk_at dksX0_init_6 5 rfl rfl)
theorem dX0_init_146 : decode cX0_init 146 = .ok (.invokespecial 93, 3) := dk_183 0 93 (dk_at dksX0_init_6 6 rfl rfl)
theorem dX0_init_149 : decode cX0_init 149 = .ok (.putfield 96, 3) := dk_181 0 96 (dk_at dksX0_init_6 9 rfl rfl)
theorem dX0_init_152 : decode cX0_init 152 = .ok (.aload_n 0, 1) := dk_42 (dk_at dksX0_init_6 12 rfl rfl)
theorem dX0_init_153 : decode cX0_init 153 = .ok (.new 91, 3) := dk_187 0 91 (dk_at dksX0_init_6 13 rfl rfl)
theorem dX0_init_156 : decode cX0_init 156 = .ok (.dup, 1) := dk_89 (dk_at dksX0_init_6 16 rfl rfl)
theorem dX0_init_157 : decode cX0_init 157 = .ok (.iconst 3, 1) := dk_6 (dk_at dksX0_init_6 17 rfl rfl)
theorem dX0_init_158 : decode cX0_init 158 = .ok (.invokespecial 93, 3) := dk_183 0 93 (dk_at dksX0_init_6 18 rfl rfl)
theorem dX0_init_161 : decode cX0_init 161 = .ok (.putfield 100, 3) := dk_181 0 100 (dk_at dksX0_init_6 21 rfl rfl)
theorem dX0_init_164 : decode cX0_init 164 = .ok (.aload_n 0, 1) := dk_42 (dk_at dksX0_init_7 0 rfl rfl)
theorem dX0_init_165 : decode cX0_init 165 = .ok (.iconst 3, 1) := dk_6 (dk_at dksX0_init_7 1 rfl rfl)
theorem dX0_init_166 : decode cX0_init 166 = .ok (.newarray .boolean, 2) := dk_188_4 (dk_at dksX0_init_7 2 rfl rfl)
theorem dX0_init_168 : decode cX0_init 168 = .ok (.putfield 103, 3) := dk_181 0 103 (dk_at dksX0_init_7 4 rfl rfl)
theorem dX0_init_171 : decode cX0_init 171 = .ok (.aload_n 0, 1) := dk_42 (dk_at dksX0_init_7 7 rfl rfl)
theorem dX0_init_172 : decode cX0_init 172 = .ok (.iconst 3, 1) := dk_6 (dk_at dksX0_init_7 8 rfl rfl)
theorem dX0_init_173 : decode cX0_init 173 = .ok (.newarray .int, 2) := dk_188_10 (dk_at dksX0_init_7 9 rfl rfl)
theorem dX0_init_175 : decode cX0_init 175 = .ok (.putfield 107, 3) := dk_181 0 107 (dk_at dksX0_init_7 11 rfl rfl)
theorem dX0_init_178 : decode cX0_init 178 = .ok (.iconst 0, 1) := dk_3 (dk_at dksX0_init_7 14 rfl rfl)
theorem dX0_init_179 : decode cX0_init 179 = .ok (.istore_n 1, 1) := dk_60 (dk_at dksX0_init_7 15 rfl rfl)
theorem dX0_init_180 : decode cX0_init 180 = .ok (.iload_n 1, 1) := dk_27 (dk_at dksX0_init_7 16 rfl rfl)
theorem dX0_init_181 : decode cX0_init 181 = .ok (.iconst 3, 1) := dk_6 (dk_at dksX0_init_7 17 rfl rfl)
theorem dX0_init_182 : decode cX0_init 182 = .ok (.if_icmp .ge 25, 3) := dk_162 0 25 (dk_at dksX0_init_7 18 rfl rfl)
theorem dX0_init_185 : decode cX0_init 185 = .ok (.aload_n 0, 1) := dk_42 (dk_at dksX0_init_7 21 rfl rfl)
theorem dX0_init_186 : decode cX0_init 186 = .ok (.getfield 100, 3) := dk_180 0 100 (dk_at dksX0_init_8 0 rfl rfl)
theorem dX0_init_189 : decode cX0_init 189 = .ok (.new 91, 3) := dk_187 0 91 (dk_at dksX0_init_8 3 rfl rfl)
theorem dX0_init_192 : decode cX0_init 192 = .ok (.dup, 1) := dk_89 (dk_at dksX0_init_8 6 rfl rfl)
theorem dX0_init_193 : decode cX0_init 193 = .ok (.iconst 1, 1) := dk_4 (dk_at dksX0_init_8 7 rfl rfl)
theorem dX0_init_194 : decode cX0_init 194 = .ok (.invokespecial 93, 3) := dk_183 0 93 (dk_at dksX0_init_8 8 rfl rfl)
theorem dX0_init_197 : decode cX0_init 197 = .ok (.invokevirtual 110, 3) := dk_182 0 110 (dk_at dksX0_init_8 11 rfl rfl)
theorem dX0_init_200 : decode cX0_init 200 = .ok (.pop, 1) := dk_87 (dk_at dksX0_init_8 14 rfl rfl)
theorem dX0_init_201 : decode cX0_init 201 = .ok (.iinc 1 1, 3) := dk_132 1 1 (dk_at dksX0_init_8 15 rfl rfl)
theorem dX0_init_204 : decode cX0_init 204 = .ok (.goto (-24), 3) := dk_167 255 232 (dk_at dksX0_init_8 18 rfl rfl)
theorem dX0_init_207 : decode cX0_init 207 = .ok (.aload_n 0, 1) := dk_42 (dk_at dksX0_init_8 21 rfl rfl)
theorem dX0_init_208 : decode cX0_init 208 = .ok (.getfield 57, 3) := dk_180 0 57 (dk_at dksX0_init_9 0 rfl rfl)
theorem dX0_init_211 : decode cX0_init 211 = .ok (.invokevirtual 114, 3) := dk_182 0 114 (dk_at dksX0_init_9 3 rfl rfl)
theorem dX0_init_214 : decode cX0_init 214 = .ok (.return_, 1) := dk_177 (dk_at dksX0_init_9 6 rfl rfl)
abbrev cX0_answer : ByteArray := prog_1_method_1_code
def yX0_answer : MethodName := ⟨RX0, "answer", "(LBlindCards$Step;I)I"⟩
def dkwX0_answer_1 : List UInt8 := [153, 0, 13, 42, 192, 0, 7, 180, 0, 9, 167, 0, 4, 2, 172]
abbrev dktX0_answer_1 : List UInt8 := dkwX0_answer_1 ++ []
def dkwX0_answer_0 : List UInt8 := [42, 193, 0, 1, 153, 0, 14, 42, 192, 0, 1, 27, 182, 0, 3, 167, 0, 21, 42, 193, 0, 7]
abbrev dktX0_answer_0 : List UInt8 := dkwX0_answer_0 ++ dktX0_answer_1
theorem dksX0_answer_0 : cX0_answer.data.toList.drop 0 = dktX0_answer_0 := by decide +kernel
theorem dksX0_answer_1 : cX0_answer.data.toList.drop 22 = dktX0_answer_1 := dk_seg dksX0_answer_0 22 rfl rfl
theorem dX0_answer_0 : decode cX0_answer 0 = .ok (.aload_n 0, 1) := dk_42 (dk_at dksX0_answer_0 0 rfl rfl)
theorem dX0_answer_1 : decode cX0_answer 1 = .ok (.instanceof 1, 3) := dk_193 0 1 (dk_at dksX0_answer_0 1 rfl rfl)
theorem dX0_answer_4 : decode cX0_answer 4 = .ok (.ifCond .eq 14, 3) := dk_153 0 14 (dk_at dksX0_answer_0 4 rfl rfl)
theorem dX0_answer_7 : decode cX0_answer 7 = .ok (.aload_n 0, 1) := dk_42 (dk_at dksX0_answer_0 7 rfl rfl)
theorem dX0_answer_8 : decode cX0_answer 8 = .ok (.checkcast 1, 3) := dk_192 0 1 (dk_at dksX0_answer_0 8 rfl rfl)
theorem dX0_answer_11 : decode cX0_answer 11 = .ok (.iload_n 1, 1) := dk_27 (dk_at dksX0_answer_0 11 rfl rfl)
theorem dX0_answer_12 : decode cX0_answer 12 = .ok (.invokevirtual 3, 3) := dk_182 0 3 (dk_at dksX0_answer_0 12 rfl rfl)
theorem dX0_answer_15 : decode cX0_answer 15 = .ok (.goto 21, 3) := dk_167 0 21 (dk_at dksX0_answer_0 15 rfl rfl)
theorem dX0_answer_18 : decode cX0_answer 18 = .ok (.aload_n 0, 1) := dk_42 (dk_at dksX0_answer_0 18 rfl rfl)
theorem dX0_answer_19 : decode cX0_answer 19 = .ok (.instanceof 7, 3) := dk_193 0 7 (dk_at dksX0_answer_0 19 rfl rfl)
theorem dX0_answer_22 : decode cX0_answer 22 = .ok (.ifCond .eq 13, 3) := dk_153 0 13 (dk_at dksX0_answer_1 0 rfl rfl)
theorem dX0_answer_25 : decode cX0_answer 25 = .ok (.aload_n 0, 1) := dk_42 (dk_at dksX0_answer_1 3 rfl rfl)
theorem dX0_answer_26 : decode cX0_answer 26 = .ok (.checkcast 7, 3) := dk_192 0 7 (dk_at dksX0_answer_1 4 rfl rfl)
theorem dX0_answer_29 : decode cX0_answer 29 = .ok (.getfield 9, 3) := dk_180 0 9 (dk_at dksX0_answer_1 7 rfl rfl)
theorem dX0_answer_32 : decode cX0_answer 32 = .ok (.goto 4, 3) := dk_167 0 4 (dk_at dksX0_answer_1 10 rfl rfl)
theorem dX0_answer_35 : decode cX0_answer 35 = .ok (.iconst (-1), 1) := dk_2 (dk_at dksX0_answer_1 13 rfl rfl)
theorem dX0_answer_36 : decode cX0_answer 36 = .ok (.ireturn, 1) := dk_172 (dk_at dksX0_answer_1 14 rfl rfl)
abbrev cX0_bitOf : ByteArray := prog_1_method_2_code
def yX0_bitOf : MethodName := ⟨RX0, "bitOf", "(I)I"⟩
def dkwX0_bitOf_0 : List UInt8 := [26, 156, 0, 8, 16, 10, 167, 0, 15, 26, 16, 9, 164, 0, 8, 16, 11, 167, 0, 4, 26, 172]
abbrev dktX0_bitOf_0 : List UInt8 := dkwX0_bitOf_0 ++ []
theorem dksX0_bitOf_0 : cX0_bitOf.data.toList.drop 0 = dktX0_bitOf_0 := by decide +kernel
theorem dX0_bitOf_0 : decode cX0_bitOf 0 = .ok (.iload_n 0, 1) := dk_26 (dk_at dksX0_bitOf_0 0 rfl rfl)
theorem dX0_bitOf_1 : decode cX0_bitOf 1 = .ok (.ifCond .ge 8, 3) := dk_156 0 8 (dk_at dksX0_bitOf_0 1 rfl rfl)
theorem dX0_bitOf_4 : decode cX0_bitOf 4 = .ok (.bipush 10, 2) := dk_16 10 (dk_at dksX0_bitOf_0 4 rfl rfl)
theorem dX0_bitOf_6 : decode cX0_bitOf 6 = .ok (.goto 15, 3) := dk_167 0 15 (dk_at dksX0_bitOf_0 6 rfl rfl)
theorem dX0_bitOf_9 : decode cX0_bitOf 9 = .ok (.iload_n 0, 1) := dk_26 (dk_at dksX0_bitOf_0 9 rfl rfl)
theorem dX0_bitOf_10 : decode cX0_bitOf 10 = .ok (.bipush 9, 2) := dk_16 9 (dk_at dksX0_bitOf_0 10 rfl rfl)
theorem dX0_bitOf_12 : decode cX0_bitOf 12 = .ok (.if_icmp .le 8, 3) := dk_164 0 8 (dk_at dksX0_bitOf_0 12 rfl rfl)
theorem dX0_bitOf_15 : decode cX0_bitOf 15 = .ok (.bipush 11, 2) := dk_16 11 (dk_at dksX0_bitOf_0 15 rfl rfl)
theorem dX0_bitOf_17 : decode cX0_bitOf 17 = .ok (.goto 4, 3) := dk_167 0 4 (dk_at dksX0_bitOf_0 17 rfl rfl)
theorem dX0_bitOf_20 : decode cX0_bitOf 20 = .ok (.iload_n 0, 1) := dk_26 (dk_at dksX0_bitOf_0 20 rfl rfl)
theorem dX0_bitOf_21 : decode cX0_bitOf 21 = .ok (.ireturn, 1) := dk_172 (dk_at dksX0_bitOf_0 21 rfl rfl)
abbrev cX0_areLike : ByteArray := prog_1_method_3_code
def yX0_areLike : MethodName := ⟨RX0, "areLike", "(IIZ)Z"⟩
def dkwX0_areLike_1 : List UInt8 := [167, 0, 4, 3, 172]
abbrev dktX0_areLike_1 : List UInt8 := dkwX0_areLike_1 ++ []
def dkwX0_areLike_0 : List UInt8 := [29, 154, 0, 22, 42, 180, 0, 15, 27, 182, 0, 19, 42, 180, 0, 15, 28, 182, 0, 19, 160, 0, 7, 4]
abbrev dktX0_areLike_0 : List UInt8 := dkwX0_areLike_0 ++ dktX0_areLike_1
theorem dksX0_areLike_0 : cX0_areLike.data.toList.drop 0 = dktX0_areLike_0 := by decide +kernel
theorem dksX0_areLike_1 : cX0_areLike.data.toList.drop 24 = dktX0_areLike_1 := dk_seg dksX0_areLike_0 24 rfl rfl
theorem dX0_areLike_0 : decode cX0_areLike 0 = .ok (.iload_n 3, 1) := dk_29 (dk_at dksX0_areLike_0 0 rfl rfl)
theorem dX0_areLike_1 : decode cX0_areLike 1 = .ok (.ifCond .ne 22, 3) := dk_154 0 22 (dk_at dksX0_areLike_0 1 rfl rfl)
theorem dX0_areLike_4 : decode cX0_areLike 4 = .ok (.aload_n 0, 1) := dk_42 (dk_at dksX0_areLike_0 4 rfl rfl)
theorem dX0_areLike_5 : decode cX0_areLike 5 = .ok (.getfield 15, 3) := dk_180 0 15 (dk_at dksX0_areLike_0 5 rfl rfl)
theorem dX0_areLike_8 : decode cX0_areLike 8 = .ok (.iload_n 1, 1) := dk_27 (dk_at dksX0_areLike_0 8 rfl rfl)
theorem dX0_areLike_9 : decode cX0_areLike 9 = .ok (.invokevirtual 19, 3) := dk_182 0 19 (dk_at dksX0_areLike_0 9 rfl rfl)
theorem dX0_areLike_12 : decode cX0_areLike 12 = .ok (.aload_n 0, 1) := dk_42 (dk_at dksX0_areLike_0 12 rfl rfl)
theorem dX0_areLike_13 : decode cX0_areLike 13 = .ok (.getfield 15, 3) := dk_180 0 15 (dk_at dksX0_areLike_0 13 rfl rfl)
theorem dX0_areLike_16 : decode cX0_areLike 16 = .ok (.iload_n 2, 1) := dk_28 (dk_at dksX0_areLike_0 16 rfl rfl)
theorem dX0_areLike_17 : decode cX0_areLike 17 = .ok (.invokevirtual 19, 3) := dk_182 0 19 (dk_at dksX0_areLike_0 17 rfl rfl)
theorem dX0_areLike_20 : decode cX0_areLike 20 = .ok (.if_icmp .ne 7, 3) := dk_160 0 7 (dk_at dksX0_areLike_0 20 rfl rfl)
theorem dX0_areLike_23 : decode cX0_areLike 23 = .ok (.iconst 1, 1) := dk_4 (dk_at dksX0_areLike_0 23 rfl rfl)
theorem dX0_areLike_24 : decode cX0_areLike 24 = .ok (.goto 4, 3) := dk_167 0 4 (dk_at dksX0_areLike_1 0 rfl rfl)
theorem dX0_areLike_27 : decode cX0_areLike 27 = .ok (.iconst 0, 1) := dk_3 (dk_at dksX0_areLike_1 3 rfl rfl)
theorem dX0_areLike_28 : decode cX0_areLike 28 = .ok (.ireturn, 1) := dk_172 (dk_at dksX0_areLike_1 4 rfl rfl)
abbrev cX0_feed : ByteArray := prog_1_method_5_code
def yX0_feed : MethodName := ⟨RX0, "feed", "(IIIII)I"⟩
def dkwX0_feed_5 : List UInt8 := [172]
abbrev dktX0_feed_5 : List UInt8 := dkwX0_feed_5 ++ []
def dkwX0_feed_4 : List UInt8 := [180, 0, 117, 4, 96, 181, 0, 117, 132, 11, 248, 167, 255, 223, 132, 9, 1, 167, 255, 199, 42, 180, 0, 117]
abbrev dktX0_feed_4 : List UInt8 := dkwX0_feed_4 ++ dktX0_feed_5
def dkwX0_feed_3 : List UInt8 := [21, 11, 155, 0, 34, 42, 180, 0, 44, 42, 180, 0, 117, 21, 10, 21, 11, 122, 145, 84, 42, 89]
abbrev dktX0_feed_3 : List UInt8 := dkwX0_feed_3 ++ dktX0_feed_4
def dkwX0_feed_2 : List UInt8 := [190, 54, 8, 3, 54, 9, 21, 9, 21, 8, 162, 0, 56, 25, 7, 21, 9, 46, 54, 10, 16, 24, 54, 11]
abbrev dktX0_feed_2 : List UInt8 := dkwX0_feed_2 ++ dktX0_feed_3
def dkwX0_feed_1 : List UInt8 := [28, 79, 89, 5, 29, 79, 89, 6, 21, 4, 79, 89, 7, 21, 5, 79, 58, 6, 25, 6, 58, 7, 25, 7]
abbrev dktX0_feed_1 : List UInt8 := dkwX0_feed_1 ++ dktX0_feed_2
def dkwX0_feed_0 : List UInt8 := [42, 180, 0, 117, 16, 20, 96, 17, 6, 64, 164, 0, 5, 2, 172, 8, 188, 10, 89, 3, 27, 79, 89, 4]
abbrev dktX0_feed_0 : List UInt8 := dkwX0_feed_0 ++ dktX0_feed_1
theorem dksX0_feed_0 : cX0_feed.data.toList.drop 0 = dktX0_feed_0 := by decide +kernel
theorem dksX0_feed_1 : cX0_feed.data.toList.drop 24 = dktX0_feed_1 := dk_seg dksX0_feed_0 24 rfl rfl
theorem dksX0_feed_2 : cX0_feed.data.toList.drop 48 = dktX0_feed_2 := dk_seg dksX0_feed_1 24 rfl rfl
theorem dksX0_feed_3 : cX0_feed.data.toList.drop 72 = dktX0_feed_3 := dk_seg dksX0_feed_2 24 rfl rfl
theorem dksX0_feed_4 : cX0_feed.data.toList.drop 94 = dktX0_feed_4 := dk_seg dksX0_feed_3 22 rfl rfl
theorem dksX0_feed_5 : cX0_feed.data.toList.drop 118 = dktX0_feed_5 := dk_seg dksX0_feed_4 24 rfl rfl
theorem dX0_feed_0 : decode cX0_feed 0 = .ok (.aload_n 0, 1) := dk_42 (dk_at dksX0_feed_0 0 rfl rfl)
theorem dX0_feed_1 : decode cX0_feed 1 = .ok (.getfield 117, 3) := dk_180 0 117 (dk_at dksX0_feed_0 1 rfl rfl)
theorem dX0_feed_4 : decode cX0_feed 4 = .ok (.bipush 20, 2) := dk_16 20 (dk_at dksX0_feed_0 4 rfl rfl)
theorem dX0_feed_6 : decode cX0_feed 6 = .ok (.iadd, 1) := dk_96 (dk_at dksX0_feed_0 6 rfl rfl)
theorem dX0_feed_7 : decode cX0_feed 7 = .ok (.sipush 1600, 3) := dk_17 6 64 (dk_at dksX0_feed_0 7 rfl rfl)
theorem dX0_feed_10 : decode cX0_feed 10 = .ok (.if_icmp .le 5, 3) := dk_164 0 5 (dk_at dksX0_feed_0 10 rfl rfl)
theorem dX0_feed_13 : decode cX0_feed 13 = .ok (.iconst (-1), 1) := dk_2 (dk_at dksX0_feed_0 13 rfl rfl)
theorem dX0_feed_14 : decode cX0_feed 14 = .ok (.ireturn, 1) := dk_172 (dk_at dksX0_feed_0 14 rfl rfl)
theorem dX0_feed_15 : decode cX0_feed 15 = .ok (.iconst 5, 1) := dk_8 (dk_at dksX0_feed_0 15 rfl rfl)
theorem dX0_feed_16 : decode cX0_feed 16 = .ok (.newarray .int, 2) := dk_188_10 (dk_at dksX0_feed_0 16 rfl rfl)
theorem dX0_feed_18 : decode cX0_feed 18 = .ok (.dup, 1) := dk_89 (dk_at dksX0_feed_0 18 rfl rfl)
theorem dX0_feed_19 : decode cX0_feed 19 = .ok (.iconst 0, 1) := dk_3 (dk_at dksX0_feed_0 19 rfl rfl)
theorem dX0_feed_20 : decode cX0_feed 20 = .ok (.iload_n 1, 1) := dk_27 (dk_at dksX0_feed_0 20 rfl rfl)
theorem dX0_feed_21 : decode cX0_feed 21 = .ok (.iastore, 1) := dk_79 (dk_at dksX0_feed_0 21 rfl rfl)
theorem dX0_feed_22 : decode cX0_feed 22 = .ok (.dup, 1) := dk_89 (dk_at dksX0_feed_0 22 rfl rfl)
theorem dX0_feed_23 : decode cX0_feed 23 = .ok (.iconst 1, 1) := dk_4 (dk_at dksX0_feed_0 23 rfl rfl)
theorem dX0_feed_24 : decode cX0_feed 24 = .ok (.iload_n 2, 1) := dk_28 (dk_at dksX0_feed_1 0 rfl rfl)
theorem dX0_feed_25 : decode cX0_feed 25 = .ok (.iastore, 1) := dk_79 (dk_at dksX0_feed_1 1 rfl rfl)
theorem dX0_feed_26 : decode cX0_feed 26 = .ok (.dup, 1) := dk_89 (dk_at dksX0_feed_1 2 rfl rfl)
theorem dX0_feed_27 : decode cX0_feed 27 = .ok (.iconst 2, 1) := dk_5 (dk_at dksX0_feed_1 3 rfl rfl)
theorem dX0_feed_28 : decode cX0_feed 28 = .ok (.iload_n 3, 1) := dk_29 (dk_at dksX0_feed_1 4 rfl rfl)
theorem dX0_feed_29 : decode cX0_feed 29 = .ok (.iastore, 1) := dk_79 (dk_at dksX0_feed_1 5 rfl rfl)
theorem dX0_feed_30 : decode cX0_feed 30 = .ok (.dup, 1) := dk_89 (dk_at dksX0_feed_1 6 rfl rfl)
theorem dX0_feed_31 : decode cX0_feed 31 = .ok (.iconst 3, 1) := dk_6 (dk_at dksX0_feed_1 7 rfl rfl)
theorem dX0_feed_32 : decode cX0_feed 32 = .ok (.iload 4, 2) := dk_21 4 (dk_at dksX0_feed_1 8 rfl rfl)
theorem dX0_feed_34 : decode cX0_feed 34 = .ok (.iastore, 1) := dk_79 (dk_at dksX0_feed_1 10 rfl rfl)
theorem dX0_feed_35 : decode cX0_feed 35 = .ok (.dup, 1) := dk_89 (dk_at dksX0_feed_1 11 rfl rfl)
theorem dX0_feed_36 : decode cX0_feed 36 = .ok (.iconst 4, 1) := dk_7 (dk_at dksX0_feed_1 12 rfl rfl)
theorem dX0_feed_37 : decode cX0_feed 37 = .ok (.iload 5, 2) := dk_21 5 (dk_at dksX0_feed_1 13 rfl rfl)
theorem dX0_feed_39 : decode cX0_feed 39 = .ok (.iastore, 1) := dk_79 (dk_at dksX0_feed_1 15 rfl rfl)
theorem dX0_feed_40 : decode cX0_feed 40 = .ok (.astore 6, 2) := dk_58 6 (dk_at dksX0_feed_1 16 rfl rfl)
theorem dX0_feed_42 : decode cX0_feed 42 = .ok (.aload 6, 2) := dk_25 6 (dk_at dksX0_feed_1 18 rfl rfl)
theorem dX0_feed_44 : decode cX0_feed 44 = .ok (.astore 7, 2) := dk_58 7 (dk_at dksX0_feed_1 20 rfl rfl)
theorem dX0_feed_46 : decode cX0_feed 46 = .ok (.aload 7, 2) := dk_25 7 (dk_at dksX0_feed_1 22 rfl rfl)
theorem dX0_feed_48 : decode cX0_feed 48 = .ok (.arraylength, 1) := dk_190 (dk_at dksX0_feed_2 0 rfl rfl)
theorem dX0_feed_49 : decode cX0_feed 49 = .ok (.istore 8, 2) := dk_54 8 (dk_at dksX0_feed_2 1 rfl rfl)
theorem dX0_feed_51 : decode cX0_feed 51 = .ok (.iconst 0, 1) := dk_3 (dk_at dksX0_feed_2 3 rfl rfl)
theorem dX0_feed_52 : decode cX0_feed 52 = .ok (.istore 9, 2) := dk_54 9 (dk_at dksX0_feed_2 4 rfl rfl)
theorem dX0_feed_54 : decode cX0_feed 54 = .ok (.iload 9, 2) := dk_21 9 (dk_at dksX0_feed_2 6 rfl rfl)
theorem dX0_feed_56 : decode cX0_feed 56 = .ok (.iload 8, 2) := dk_21 8 (dk_at dksX0_feed_2 8 rfl rfl)
theorem dX0_feed_58 : decode cX0_feed 58 = .ok (.if_icmp .ge 56, 3) := dk_162 0 56 (dk_at dksX0_feed_2 10 rfl rfl)
theorem dX0_feed_61 : decode cX0_feed 61 = .ok (.aload 7, 2) := dk_25 7 (dk_at dksX0_feed_2 13 rfl rfl)
theorem dX0_feed_63 : decode cX0_feed 63 = .ok (.iload 9, 2) := dk_21 9 (dk_at dksX0_feed_2 15 rfl rfl)
theorem dX0_feed_65 : decode cX0_feed 65 = .ok (.iaload, 1) := dk_46 (dk_at dksX0_feed_2 17 rfl rfl)
theorem dX0_feed_66 : decode cX0_feed 66 = .ok (.istore 10, 2) := dk_54 10 (dk_at dksX0_feed_2 18 rfl rfl)
theorem dX0_feed_68 : decode cX0_feed 68 = .ok (.bipush 24, 2) := dk_16 24 (dk_at dksX0_feed_2 20 rfl rfl)
theorem dX0_feed_70 : decode cX0_feed 70 = .ok (.istore 11, 2) := dk_54 11 (dk_at dksX0_feed_2 22 rfl rfl)
theorem dX0_feed_72 : decode cX0_feed 72 = .ok (.iload 11, 2) := dk_21 11 (dk_at dksX0_feed_3 0 rfl rfl)
theorem dX0_feed_74 : decode cX0_feed 74 = .ok (.ifCond .lt 34, 3) := dk_155 0 34 (dk_at dksX0_feed_3 2 rfl rfl)
theorem dX0_feed_77 : decode cX0_feed 77 = .ok (.aload_n 0, 1) := dk_42 (dk_at dksX0_feed_3 5 rfl rfl)
theorem dX0_feed_78 : decode cX0_feed 78 = .ok (.getfield 44, 3) := dk_180 0 44 (dk_at dksX0_feed_3 6 rfl rfl)
theorem dX0_feed_81 : decode cX0_feed 81 = .ok (.aload_n 0, 1) := dk_42 (dk_at dksX0_feed_3 9 rfl rfl)
theorem dX0_feed_82 : decode cX0_feed 82 = .ok (.getfield 117, 3) := dk_180 0 117 (dk_at dksX0_feed_3 10 rfl rfl)
theorem dX0_feed_85 : decode cX0_feed 85 = .ok (.iload 10, 2) := dk_21 10 (dk_at dksX0_feed_3 13 rfl rfl)
theorem dX0_feed_87 : decode cX0_feed 87 = .ok (.iload 11, 2) := dk_21 11 (dk_at dksX0_feed_3 15 rfl rfl)
theorem dX0_feed_89 : decode cX0_feed 89 = .ok (.ishr, 1) := dk_122 (dk_at dksX0_feed_3 17 rfl rfl)
theorem dX0_feed_90 : decode cX0_feed 90 = .ok (.i2b, 1) := dk_145 (dk_at dksX0_feed_3 18 rfl rfl)
theorem dX0_feed_91 : decode cX0_feed 91 = .ok (.bastore, 1) := dk_84 (dk_at dksX0_feed_3 19 rfl rfl)
theorem dX0_feed_92 : decode cX0_feed 92 = .ok (.aload_n 0, 1) := dk_42 (dk_at dksX0_feed_3 20 rfl rfl)
theorem dX0_feed_93 : decode cX0_feed 93 = .ok (.dup, 1) := dk_89 (dk_at dksX0_feed_3 21 rfl rfl)
theorem dX0_feed_94 : decode cX0_feed 94 = .ok (.getfield 117, 3) := dk_180 0 117 (dk_at dksX0_feed_4 0 rfl rfl)
theorem dX0_feed_97 : decode cX0_feed 97 = .ok (.iconst 1, 1) := dk_4 (dk_at dksX0_feed_4 3 rfl rfl)
theorem dX0_feed_98 : decode cX0_feed 98 = .ok (.iadd, 1) := dk_96 (dk_at dksX0_feed_4 4 rfl rfl)
theorem dX0_feed_99 : decode cX0_feed 99 = .ok (.putfield 117, 3) := dk_181 0 117 (dk_at dksX0_feed_4 5 rfl rfl)
theorem dX0_feed_102 : decode cX0_feed 102 = .ok (.iinc 11 (-8), 3) := dk_132 11 248 (dk_at dksX0_feed_4 8 rfl rfl)
theorem dX0_feed_105 : decode cX0_feed 105 = .ok (.goto (-33), 3) := dk_167 255 223 (dk_at dksX0_feed_4 11 rfl rfl)
theorem dX0_feed_108 : decode cX0_feed 108 = .ok (.iinc 9 1, 3) := dk_132 9 1 (dk_at dksX0_feed_4 14 rfl rfl)
theorem dX0_feed_111 : decode cX0_feed 111 = .ok (.goto (-57), 3) := dk_167 255 199 (dk_at dksX0_feed_4 17 rfl rfl)
theorem dX0_feed_114 : decode cX0_feed 114 = .ok (.aload_n 0, 1) := dk_42 (dk_at dksX0_feed_4 20 rfl rfl)
theorem dX0_feed_115 : decode cX0_feed 115 = .ok (.getfield 117, 3) := dk_180 0 117 (dk_at dksX0_feed_4 21 rfl rfl)
theorem dX0_feed_118 : decode cX0_feed 118 = .ok (.ireturn, 1) := dk_172 (dk_at dksX0_feed_5 0 rfl rfl)
abbrev cX0_end : ByteArray := prog_1_method_6_code
def yX0_end : MethodName := ⟨RX0, "end", "(I)I"⟩
def dkwX0_end_0 : List UInt8 := [27, 155, 0, 11, 27, 42, 180, 0, 117, 164, 0, 5, 2, 172, 42, 27, 181, 0, 117, 27, 172]
abbrev dktX0_end_0 : List UInt8 := dkwX0_end_0 ++ []
theorem dksX0_end_0 : cX0_end.data.toList.drop 0 = dktX0_end_0 := by decide +kernel
theorem dX0_end_0 : decode cX0_end 0 = .ok (.iload_n 1, 1) := dk_27 (dk_at dksX0_end_0 0 rfl rfl)
theorem dX0_end_1 : decode cX0_end 1 = .ok (.ifCond .lt 11, 3) := dk_155 0 11 (dk_at dksX0_end_0 1 rfl rfl)
theorem dX0_end_4 : decode cX0_end 4 = .ok (.iload_n 1, 1) := dk_27 (dk_at dksX0_end_0 4 rfl rfl)
theorem dX0_end_5 : decode cX0_end 5 = .ok (.aload_n 0, 1) := dk_42 (dk_at dksX0_end_0 5 rfl rfl)
theorem dX0_end_6 : decode cX0_end 6 = .ok (.getfield 117, 3) := dk_180 0 117 (dk_at dksX0_end_0 6 rfl rfl)
theorem dX0_end_9 : decode cX0_end 9 = .ok (.if_icmp .le 5, 3) := dk_164 0 5 (dk_at dksX0_end_0 9 rfl rfl)
theorem dX0_end_12 : decode cX0_end 12 = .ok (.iconst (-1), 1) := dk_2 (dk_at dksX0_end_0 12 rfl rfl)
theorem dX0_end_13 : decode cX0_end 13 = .ok (.ireturn, 1) := dk_172 (dk_at dksX0_end_0 13 rfl rfl)
theorem dX0_end_14 : decode cX0_end 14 = .ok (.aload_n 0, 1) := dk_42 (dk_at dksX0_end_0 14 rfl rfl)
theorem dX0_end_15 : decode cX0_end 15 = .ok (.iload_n 1, 1) := dk_27 (dk_at dksX0_end_0 15 rfl rfl)
theorem dX0_end_16 : decode cX0_end 16 = .ok (.putfield 117, 3) := dk_181 0 117 (dk_at dksX0_end_0 16 rfl rfl)
theorem dX0_end_19 : decode cX0_end 19 = .ok (.iload_n 1, 1) := dk_27 (dk_at dksX0_end_0 19 rfl rfl)
theorem dX0_end_20 : decode cX0_end 20 = .ok (.ireturn, 1) := dk_172 (dk_at dksX0_end_0 20 rfl rfl)
abbrev cX0_recipe : ByteArray := prog_1_method_7_code
def yX0_recipe : MethodName := ⟨RX0, "recipe", "()I"⟩
def dkwX0_recipe_4 : List UInt8 := [181, 0, 117, 43, 199, 0, 16, 42, 180, 0, 15, 180, 0, 145, 182, 0, 148, 167, 0, 4, 2, 172]
abbrev dktX0_recipe_4 : List UInt8 := dkwX0_recipe_4 ++ []
def dkwX0_recipe_3 : List UInt8 := [180, 0, 136, 181, 0, 139, 42, 43, 199, 0, 7, 2, 167, 0, 7, 43, 180, 0, 142, 181, 0, 48, 42, 3]
abbrev dktX0_recipe_3 : List UInt8 := dkwX0_recipe_3 ++ dktX0_recipe_4
def dkwX0_recipe_2 : List UInt8 := [3, 84, 132, 2, 1, 167, 255, 241, 167, 0, 6, 77, 44, 76, 42, 43, 199, 0, 7, 3, 167, 0, 7, 43]
abbrev dktX0_recipe_2 : List UInt8 := dkwX0_recipe_2 ++ dktX0_recipe_3
def dkwX0_recipe_1 : List UInt8 := [42, 180, 0, 96, 182, 0, 127, 42, 3, 181, 0, 130, 3, 61, 28, 6, 162, 0, 16, 42, 180, 0, 103, 28]
abbrev dktX0_recipe_1 : List UInt8 := dkwX0_recipe_1 ++ dktX0_recipe_2
def dkwX0_recipe_0 : List UInt8 := [1, 76, 42, 187, 0, 120, 89, 42, 183, 0, 122, 182, 0, 123, 181, 0, 15, 42, 180, 0, 57, 182, 0, 114]
abbrev dktX0_recipe_0 : List UInt8 := dkwX0_recipe_0 ++ dktX0_recipe_1
theorem dksX0_recipe_0 : cX0_recipe.data.toList.drop 0 = dktX0_recipe_0 := by decide +kernel
theorem dksX0_recipe_1 : cX0_recipe.data.toList.drop 24 = dktX0_recipe_1 := dk_seg dksX0_recipe_0 24 rfl rfl
theorem dksX0_recipe_2 : cX0_recipe.data.toList.drop 48 = dktX0_recipe_2 := dk_seg dksX0_recipe_1 24 rfl rfl
theorem dksX0_recipe_3 : cX0_recipe.data.toList.drop 72 = dktX0_recipe_3 := dk_seg dksX0_recipe_2 24 rfl rfl
theorem dksX0_recipe_4 : cX0_recipe.data.toList.drop 96 = dktX0_recipe_4 := dk_seg dksX0_recipe_3 24 rfl rfl
theorem dX0_recipe_0 : decode cX0_recipe 0 = .ok (.aconst_null, 1) := dk_1 (dk_at dksX0_recipe_0 0 rfl rfl)
theorem dX0_recipe_1 : decode cX0_recipe 1 = .ok (.astore_n 1, 1) := dk_76 (dk_at dksX0_recipe_0 1 rfl rfl)
theorem dX0_recipe_2 : decode cX0_recipe 2 = .ok (.aload_n 0, 1) := dk_42 (dk_at dksX0_recipe_0 2 rfl rfl)
theorem dX0_recipe_3 : decode cX0_recipe 3 = .ok (.new 120, 3) := dk_187 0 120 (dk_at dksX0_recipe_0 3 rfl rfl)
theorem dX0_recipe_6 : decode cX0_recipe 6 = .ok (.dup, 1) := dk_89 (dk_at dksX0_recipe_0 6 rfl rfl)
theorem dX0_recipe_7 : decode cX0_recipe 7 = .ok (.aload_n 0, 1) := dk_42 (dk_at dksX0_recipe_0 7 rfl rfl)
theorem dX0_recipe_8 : decode cX0_recipe 8 = .ok (.invokespecial 122, 3) := dk_183 0 122 (dk_at dksX0_recipe_0 8 rfl rfl)
theorem dX0_recipe_11 : decode cX0_recipe 11 = .ok (.invokevirtual 123, 3) := dk_182 0 123 (dk_at dksX0_recipe_0 11 rfl rfl)
theorem dX0_recipe_14 : decode cX0_recipe 14 = .ok (.putfield 15, 3) := dk_181 0 15 (dk_at dksX0_recipe_0 14 rfl rfl)
theorem dX0_recipe_17 : decode cX0_recipe 17 = .ok (.aload_n 0, 1) := dk_42 (dk_at dksX0_recipe_0 17 rfl rfl)
theorem dX0_recipe_18 : decode cX0_recipe 18 = .ok (.getfield 57, 3) := dk_180 0 57 (dk_at dksX0_recipe_0 18 rfl rfl)
theorem dX0_recipe_21 : decode cX0_recipe 21 = .ok (.invokevirtual 114, 3) := dk_182 0 114 (dk_at dksX0_recipe_0 21 rfl rfl)
theorem dX0_recipe_24 : decode cX0_recipe 24 = .ok (.aload_n 0, 1) := dk_42 (dk_at dksX0_recipe_1 0 rfl rfl)
theorem dX0_recipe_25 : decode cX0_recipe 25 = .ok (.getfield 96, 3) := dk_180 0 96 (dk_at dksX0_recipe_1 1 rfl rfl)
theorem dX0_recipe_28 : decode cX0_recipe 28 = .ok (.invokevirtual 127, 3) := dk_182 0 127 (dk_at dksX0_recipe_1 4 rfl rfl)
theorem dX0_recipe_31 : decode cX0_recipe 31 = .ok (.aload_n 0, 1) := dk_42 (dk_at dksX0_recipe_1 7 rfl rfl)
theorem dX0_recipe_32 : decode cX0_recipe 32 = .ok (.iconst 0, 1) := dk_3 (dk_at dksX0_recipe_1 8 rfl rfl)
theorem dX0_recipe_33 : decode cX0_recipe 33 = .ok (.putfield 130, 3) := dk_181 0 130 (dk_at dksX0_recipe_1 9 rfl rfl)
theorem dX0_recipe_36 : decode cX0_recipe 36 = .ok (.iconst 0, 1) := dk_3 (dk_at dksX0_recipe_1 12 rfl rfl)
theorem dX0_recipe_37 : decode cX0_recipe 37 = .ok (.istore_n 2, 1) := dk_61 (dk_at dksX0_recipe_1 13 rfl rfl)
theorem dX0_recipe_38 : decode cX0_recipe 38 = .ok (.iload_n 2, 1) := dk_28 (dk_at dksX0_recipe_1 14 rfl rfl)
theorem dX0_recipe_39 : decode cX0_recipe 39 = .ok (.iconst 3, 1) := dk_6 (dk_at dksX0_recipe_1 15 rfl rfl)
theorem dX0_recipe_40 : decode cX0_recipe 40 = .ok (.if_icmp .ge 16, 3) := dk_162 0 16 (dk_at dksX0_recipe_1 16 rfl rfl)
theorem dX0_recipe_43 : decode cX0_recipe 43 = .ok (.aload_n 0, 1) := dk_42 (dk_at dksX0_recipe_1 19 rfl rfl)
theorem dX0_recipe_44 : decode cX0_recipe 44 = .ok (.getfield 103, 3) := dk_180 0 103 (dk_at dksX0_recipe_1 20 rfl rfl)
theorem dX0_recipe_47 : decode cX0_recipe 47 = .ok (.iload_n 2, 1) := dk_28 (dk_at dksX0_recipe_1 23 rfl rfl)
theorem dX0_recipe_48 : decode cX0_recipe 48 = .ok (.iconst 0, 1) := dk_3 (dk_at dksX0_recipe_2 0 rfl rfl)
theorem dX0_recipe_49 : decode cX0_recipe 49 = .ok (.bastore, 1) := dk_84 (dk_at dksX0_recipe_2 1 rfl rfl)
theorem dX0_recipe_50 : decode cX0_recipe 50 = .ok (.iinc 2 1, 3) := dk_132 2 1 (dk_at dksX0_recipe_2 2 rfl rfl)
theorem dX0_recipe_53 : decode cX0_recipe 53 = .ok (.goto (-15), 3) := dk_167 255 241 (dk_at dksX0_recipe_2 5 rfl rfl)
theorem dX0_recipe_56 : decode cX0_recipe 56 = .ok (.goto 6, 3) := dk_167 0 6 (dk_at dksX0_recipe_2 8 rfl rfl)
theorem dX0_recipe_59 : decode cX0_recipe 59 = .ok (.astore_n 2, 1) := dk_77 (dk_at dksX0_recipe_2 11 rfl rfl)
theorem dX0_recipe_60 : decode cX0_recipe 60 = .ok (.aload_n 2, 1) := dk_44 (dk_at dksX0_recipe_2 12 rfl rfl)
theorem dX0_recipe_61 : decode cX0_recipe 61 = .ok (.astore_n 1, 1) := dk_76 (dk_at dksX0_recipe_2 13 rfl rfl)
theorem dX0_recipe_62 : decode cX0_recipe 62 = .ok (.aload_n 0, 1) := dk_42 (dk_at dksX0_recipe_2 14 rfl rfl)
theorem dX0_recipe_63 : decode cX0_recipe 63 = .ok (.aload_n 1, 1) := dk_43 (dk_at dksX0_recipe_2 15 rfl rfl)
theorem dX0_recipe_64 : decode cX0_recipe 64 = .ok (.ifnonnull 7, 3) := dk_199 0 7 (dk_at dksX0_recipe_2 16 rfl rfl)
theorem dX0_recipe_67 : decode cX0_recipe 67 = .ok (.iconst 0, 1) := dk_3 (dk_at dksX0_recipe_2 19 rfl rfl)
theorem dX0_recipe_68 : decode cX0_recipe 68 = .ok (.goto 7, 3) := dk_167 0 7 (dk_at dksX0_recipe_2 20 rfl rfl)
theorem dX0_recipe_71 : decode cX0_recipe 71 = .ok (.aload_n 1, 1) := dk_43 (dk_at dksX0_recipe_2 23 rfl rfl)
theorem dX0_recipe_72 : decode cX0_recipe 72 = .ok (.getfield 136, 3) := dk_180 0 136 (dk_at dksX0_recipe_3 0 rfl rfl)
theorem dX0_recipe_75 : decode cX0_recipe 75 = .ok (.putfield 139, 3) := dk_181 0 139 (dk_at dksX0_recipe_3 3 rfl rfl)
theorem dX0_recipe_78 : decode cX0_recipe 78 = .ok (.aload_n 0, 1) := dk_42 (dk_at dksX0_recipe_3 6 rfl rfl)
theorem dX0_recipe_79 : decode cX0_recipe 79 = .ok (.aload_n 1, 1) := dk_43 (dk_at dksX0_recipe_3 7 rfl rfl)
theorem dX0_recipe_80 : decode cX0_recipe 80 = .ok (.ifnonnull 7, 3) := dk_199 0 7 (dk_at dksX0_recipe_3 8 rfl rfl)
theorem dX0_recipe_83 : decode cX0_recipe 83 = .ok (.iconst (-1), 1) := dk_2 (dk_at dksX0_recipe_3 11 rfl rfl)
theorem dX0_recipe_84 : decode cX0_recipe 84 = .ok (.goto 7, 3) := dk_167 0 7 (dk_at dksX0_recipe_3 12 rfl rfl)
theorem dX0_recipe_87 : decode cX0_recipe 87 = .ok (.aload_n 1, 1) := dk_43 (dk_at dksX0_recipe_3 15 rfl rfl)
theorem dX0_recipe_88 : decode cX0_recipe 88 = .ok (.getfield 142, 3) := dk_180 0 142 (dk_at dksX0_recipe_3 16 rfl rfl)
theorem dX0_recipe_91 : decode cX0_recipe 91 = .ok (.putfield 48, 3) := dk_181 0 48 (dk_at dksX0_recipe_3 19 rfl rfl)
theorem dX0_recipe_94 : decode cX0_recipe 94 = .ok (.aload_n 0, 1) := dk_42 (dk_at dksX0_recipe_3 22 rfl rfl)
theorem dX0_recipe_95 : decode cX0_recipe 95 = .ok (.iconst 0, 1) := dk_3 (dk_at dksX0_recipe_3 23 rfl rfl)
theorem dX0_recipe_96 : decode cX0_recipe 96 = .ok (.putfield 117, 3) := dk_181 0 117 (dk_at dksX0_recipe_4 0 rfl rfl)
theorem dX0_recipe_99 : decode cX0_recipe 99 = .ok (.aload_n 1, 1) := dk_43 (dk_at dksX0_recipe_4 3 rfl rfl)
theorem dX0_recipe_100 : decode cX0_recipe 100 = .ok (.ifnonnull 16, 3) := dk_199 0 16 (dk_at dksX0_recipe_4 4 rfl rfl)
theorem dX0_recipe_103 : decode cX0_recipe 103 = .ok (.aload_n 0, 1) := dk_42 (dk_at dksX0_recipe_4 7 rfl rfl)
theorem dX0_recipe_104 : decode cX0_recipe 104 = .ok (.getfield 15, 3) := dk_180 0 15 (dk_at dksX0_recipe_4 8 rfl rfl)
theorem dX0_recipe_107 : decode cX0_recipe 107 = .ok (.getfield 145, 3) := dk_180 0 145 (dk_at dksX0_recipe_4 11 rfl rfl)
theorem dX0_recipe_110 : decode cX0_recipe 110 = .ok (.invokevirtual 148, 3) := dk_182 0 148 (dk_at dksX0_recipe_4 14 rfl rfl)
theorem dX0_recipe_113 : decode cX0_recipe 113 = .ok (.goto 4, 3) := dk_167 0 4 (dk_at dksX0_recipe_4 17 rfl rfl)
theorem dX0_recipe_116 : decode cX0_recipe 116 = .ok (.iconst (-1), 1) := dk_2 (dk_at dksX0_recipe_4 20 rfl rfl)
theorem dX0_recipe_117 : decode cX0_recipe 117 = .ok (.ireturn, 1) := dk_172 (dk_at dksX0_recipe_4 21 rfl rfl)
abbrev cX0_fault : ByteArray := prog_1_method_8_code
def yX0_fault : MethodName := ⟨RX0, "fault", "(I)I"⟩
def dkwX0_fault_1 : List UInt8 := [172]
abbrev dktX0_fault_1 : List UInt8 := dkwX0_fault_1 ++ []
def dkwX0_fault_0 : List UInt8 := [27, 154, 0, 10, 42, 180, 0, 139, 167, 0, 16, 27, 4, 160, 0, 10, 42, 180, 0, 48, 167, 0, 4, 2]
abbrev dktX0_fault_0 : List UInt8 := dkwX0_fault_0 ++ dktX0_fault_1
theorem dksX0_fault_0 : cX0_fault.data.toList.drop 0 = dktX0_fault_0 := by decide +kernel
theorem dksX0_fault_1 : cX0_fault.data.toList.drop 24 = dktX0_fault_1 := dk_seg dksX0_fault_0 24 rfl rfl
theorem dX0_fault_0 : decode cX0_fault 0 = .ok (.iload_n 1, 1) := dk_27 (dk_at dksX0_fault_0 0 rfl rfl)
theorem dX0_fault_1 : decode cX0_fault 1 = .ok (.ifCond .ne 10, 3) := dk_154 0 10 (dk_at dksX0_fault_0 1 rfl rfl)
theorem dX0_fault_4 : decode cX0_fault 4 = .ok (.aload_n 0, 1) := dk_42 (dk_at dksX0_fault_0 4 rfl rfl)
theorem dX0_fault_5 : decode cX0_fault 5 = .ok (.getfield 139, 3) := dk_180 0 139 (dk_at dksX0_fault_0 5 rfl rfl)
theorem dX0_fault_8 : decode cX0_fault 8 = .ok (.goto 16, 3) := dk_167 0 16 (dk_at dksX0_fault_0 8 rfl rfl)
theorem dX0_fault_11 : decode cX0_fault 11 = .ok (.iload_n 1, 1) := dk_27 (dk_at dksX0_fault_0 11 rfl rfl)
theorem dX0_fault_12 : decode cX0_fault 12 = .ok (.iconst 1, 1) := dk_4 (dk_at dksX0_fault_0 12 rfl rfl)
theorem dX0_fault_13 : decode cX0_fault 13 = .ok (.if_icmp .ne 10, 3) := dk_160 0 10 (dk_at dksX0_fault_0 13 rfl rfl)
theorem dX0_fault_16 : decode cX0_fault 16 = .ok (.aload_n 0, 1) := dk_42 (dk_at dksX0_fault_0 16 rfl rfl)
theorem dX0_fault_17 : decode cX0_fault 17 = .ok (.getfield 48, 3) := dk_180 0 48 (dk_at dksX0_fault_0 17 rfl rfl)
theorem dX0_fault_20 : decode cX0_fault 20 = .ok (.goto 4, 3) := dk_167 0 4 (dk_at dksX0_fault_0 20 rfl rfl)
theorem dX0_fault_23 : decode cX0_fault 23 = .ok (.iconst (-1), 1) := dk_2 (dk_at dksX0_fault_0 23 rfl rfl)
theorem dX0_fault_24 : decode cX0_fault 24 = .ok (.ireturn, 1) := dk_172 (dk_at dksX0_fault_1 0 rfl rfl)
abbrev cX0_asked : ByteArray := prog_1_method_14_code
def yX0_asked : MethodName := ⟨RX0, "asked", "(I)I"⟩
def dkwX0_asked_0 : List UInt8 := [42, 27, 182, 0, 166, 153, 0, 14, 42, 180, 0, 15, 27, 182, 0, 19, 167, 0, 5, 18, 170, 172]
abbrev dktX0_asked_0 : List UInt8 := dkwX0_asked_0 ++ []
theorem dksX0_asked_0 : cX0_asked.data.toList.drop 0 = dktX0_asked_0 := by decide +kernel
theorem dX0_asked_0 : decode cX0_asked 0 = .ok (.aload_n 0, 1) := dk_42 (dk_at dksX0_asked_0 0 rfl rfl)
theorem dX0_asked_1 : decode cX0_asked 1 = .ok (.iload_n 1, 1) := dk_27 (dk_at dksX0_asked_0 1 rfl rfl)
theorem dX0_asked_2 : decode cX0_asked 2 = .ok (.invokevirtual 166, 3) := dk_182 0 166 (dk_at dksX0_asked_0 2 rfl rfl)
theorem dX0_asked_5 : decode cX0_asked 5 = .ok (.ifCond .eq 14, 3) := dk_153 0 14 (dk_at dksX0_asked_0 5 rfl rfl)
theorem dX0_asked_8 : decode cX0_asked 8 = .ok (.aload_n 0, 1) := dk_42 (dk_at dksX0_asked_0 8 rfl rfl)
theorem dX0_asked_9 : decode cX0_asked 9 = .ok (.getfield 15, 3) := dk_180 0 15 (dk_at dksX0_asked_0 9 rfl rfl)
theorem dX0_asked_12 : decode cX0_asked 12 = .ok (.iload_n 1, 1) := dk_27 (dk_at dksX0_asked_0 12 rfl rfl)
theorem dX0_asked_13 : decode cX0_asked 13 = .ok (.invokevirtual 19, 3) := dk_182 0 19 (dk_at dksX0_asked_0 13 rfl rfl)
theorem dX0_asked_16 : decode cX0_asked 16 = .ok (.goto 5, 3) := dk_167 0 5 (dk_at dksX0_asked_0 16 rfl rfl)
theorem dX0_asked_19 : decode cX0_asked 19 = .ok (.ldc 170, 2) := dk_18 170 (dk_at dksX0_asked_0 19 rfl rfl)
theorem dX0_asked_21 : decode cX0_asked 21 = .ok (.ireturn, 1) := dk_172 (dk_at dksX0_asked_0 21 rfl rfl)
abbrev cX0_isInput : ByteArray := prog_1_method_10_code
def yX0_isInput : MethodName := ⟨RX0, "isInput", "(I)Z"⟩
def dkwX0_isInput_0 : List UInt8 := [27, 3, 42, 180, 0, 15, 182, 0, 152, 4, 100, 184, 0, 155, 172]
abbrev dktX0_isInput_0 : List UInt8 := dkwX0_isInput_0 ++ []
theorem dksX0_isInput_0 : cX0_isInput.data.toList.drop 0 = dktX0_isInput_0 := by decide +kernel
theorem dX0_isInput_0 : decode cX0_isInput 0 = .ok (.iload_n 1, 1) := dk_27 (dk_at dksX0_isInput_0 0 rfl rfl)
theorem dX0_isInput_1 : decode cX0_isInput 1 = .ok (.iconst 0, 1) := dk_3 (dk_at dksX0_isInput_0 1 rfl rfl)
theorem dX0_isInput_2 : decode cX0_isInput 2 = .ok (.aload_n 0, 1) := dk_42 (dk_at dksX0_isInput_0 2 rfl rfl)
theorem dX0_isInput_3 : decode cX0_isInput 3 = .ok (.getfield 15, 3) := dk_180 0 15 (dk_at dksX0_isInput_0 3 rfl rfl)
theorem dX0_isInput_6 : decode cX0_isInput 6 = .ok (.invokevirtual 152, 3) := dk_182 0 152 (dk_at dksX0_isInput_0 6 rfl rfl)
theorem dX0_isInput_9 : decode cX0_isInput 9 = .ok (.iconst 1, 1) := dk_4 (dk_at dksX0_isInput_0 9 rfl rfl)
theorem dX0_isInput_10 : decode cX0_isInput 10 = .ok (.isub, 1) := dk_100 (dk_at dksX0_isInput_0 10 rfl rfl)
theorem dX0_isInput_11 : decode cX0_isInput 11 = .ok (.invokestatic 155, 3) := dk_184 0 155 (dk_at dksX0_isInput_0 11 rfl rfl)
theorem dX0_isInput_14 : decode cX0_isInput 14 = .ok (.ireturn, 1) := dk_172 (dk_at dksX0_isInput_0 14 rfl rfl)
abbrev cX0_isIn : ByteArray := prog_1_method_9_code
def yX0_isIn : MethodName := ⟨RX0, "isIn", "(III)Z"⟩
def dkwX0_isIn_0 : List UInt8 := [26, 27, 161, 0, 12, 26, 28, 163, 0, 7, 4, 167, 0, 4, 3, 172]
abbrev dktX0_isIn_0 : List UInt8 := dkwX0_isIn_0 ++ []
theorem dksX0_isIn_0 : cX0_isIn.data.toList.drop 0 = dktX0_isIn_0 := by decide +kernel
theorem dX0_isIn_0 : decode cX0_isIn 0 = .ok (.iload_n 0, 1) := dk_26 (dk_at dksX0_isIn_0 0 rfl rfl)
theorem dX0_isIn_1 : decode cX0_isIn 1 = .ok (.iload_n 1, 1) := dk_27 (dk_at dksX0_isIn_0 1 rfl rfl)
theorem dX0_isIn_2 : decode cX0_isIn 2 = .ok (.if_icmp .lt 12, 3) := dk_161 0 12 (dk_at dksX0_isIn_0 2 rfl rfl)
theorem dX0_isIn_5 : decode cX0_isIn 5 = .ok (.iload_n 0, 1) := dk_26 (dk_at dksX0_isIn_0 5 rfl rfl)
theorem dX0_isIn_6 : decode cX0_isIn 6 = .ok (.iload_n 2, 1) := dk_28 (dk_at dksX0_isIn_0 6 rfl rfl)
theorem dX0_isIn_7 : decode cX0_isIn 7 = .ok (.if_icmp .gt 7, 3) := dk_163 0 7 (dk_at dksX0_isIn_0 7 rfl rfl)
theorem dX0_isIn_10 : decode cX0_isIn 10 = .ok (.iconst 1, 1) := dk_4 (dk_at dksX0_isIn_0 10 rfl rfl)
theorem dX0_isIn_11 : decode cX0_isIn 11 = .ok (.goto 4, 3) := dk_167 0 4 (dk_at dksX0_isIn_0 11 rfl rfl)
theorem dX0_isIn_14 : decode cX0_isIn 14 = .ok (.iconst 0, 1) := dk_3 (dk_at dksX0_isIn_0 14 rfl rfl)
theorem dX0_isIn_15 : decode cX0_isIn 15 = .ok (.ireturn, 1) := dk_172 (dk_at dksX0_isIn_0 15 rfl rfl)
abbrev cX0_paths : ByteArray := prog_1_method_15_code
def yX0_paths : MethodName := ⟨RX0, "paths", "()I"⟩
def dkwX0_paths_0 : List UInt8 := [42, 180, 0, 57, 180, 0, 171, 153, 0, 8, 16, 254, 167, 0, 10, 42, 180, 0, 57, 180, 0, 159, 172]
abbrev dktX0_paths_0 : List UInt8 := dkwX0_paths_0 ++ []
theorem dksX0_paths_0 : cX0_paths.data.toList.drop 0 = dktX0_paths_0 := by decide +kernel
theorem dX0_paths_0 : decode cX0_paths 0 = .ok (.aload_n 0, 1) := dk_42 (dk_at dksX0_paths_0 0 rfl rfl)
theorem dX0_paths_1 : decode cX0_paths 1 = .ok (.getfield 57, 3) := dk_180 0 57 (dk_at dksX0_paths_0 1 rfl rfl)
theorem dX0_paths_4 : decode cX0_paths 4 = .ok (.getfield 171, 3) := dk_180 0 171 (dk_at dksX0_paths_0 4 rfl rfl)
theorem dX0_paths_7 : decode cX0_paths 7 = .ok (.ifCond .eq 8, 3) := dk_153 0 8 (dk_at dksX0_paths_0 7 rfl rfl)
theorem dX0_paths_10 : decode cX0_paths 10 = .ok (.bipush (-2), 2) := dk_16 254 (dk_at dksX0_paths_0 10 rfl rfl)
theorem dX0_paths_12 : decode cX0_paths 12 = .ok (.goto 10, 3) := dk_167 0 10 (dk_at dksX0_paths_0 12 rfl rfl)
theorem dX0_paths_15 : decode cX0_paths 15 = .ok (.aload_n 0, 1) := dk_42 (dk_at dksX0_paths_0 15 rfl rfl)
theorem dX0_paths_16 : decode cX0_paths 16 = .ok (.getfield 57, 3) := dk_180 0 57 (dk_at dksX0_paths_0 16 rfl rfl)
theorem dX0_paths_19 : decode cX0_paths 19 = .ok (.getfield 159, 3) := dk_180 0 159 (dk_at dksX0_paths_0 19 rfl rfl)
theorem dX0_paths_22 : decode cX0_paths 22 = .ok (.ireturn, 1) := dk_172 (dk_at dksX0_paths_0 22 rfl rfl)
abbrev cX0_look : ByteArray := prog_1_method_16_code
def yX0_look : MethodName := ⟨RX0, "look", "(II)I"⟩
def dkwX0_look_2 : List UInt8 := [180, 0, 179, 16, 6, 27, 104, 28, 96, 46, 167, 0, 4, 2, 172]
abbrev dktX0_look_2 : List UInt8 := dkwX0_look_2 ++ []
def dkwX0_look_1 : List UInt8 := [3, 42, 180, 0, 57, 180, 0, 177, 27, 46, 4, 100, 184, 0, 155, 153, 0, 20, 42, 180, 0, 57]
abbrev dktX0_look_1 : List UInt8 := dkwX0_look_1 ++ dktX0_look_2
def dkwX0_look_0 : List UInt8 := [42, 180, 0, 57, 180, 0, 171, 153, 0, 8, 16, 254, 167, 0, 48, 42, 27, 182, 0, 174, 153, 0, 39, 28]
abbrev dktX0_look_0 : List UInt8 := dkwX0_look_0 ++ dktX0_look_1
theorem dksX0_look_0 : cX0_look.data.toList.drop 0 = dktX0_look_0 := by decide +kernel
theorem dksX0_look_1 : cX0_look.data.toList.drop 24 = dktX0_look_1 := dk_seg dksX0_look_0 24 rfl rfl
theorem dksX0_look_2 : cX0_look.data.toList.drop 46 = dktX0_look_2 := dk_seg dksX0_look_1 22 rfl rfl
theorem dX0_look_0 : decode cX0_look 0 = .ok (.aload_n 0, 1) := dk_42 (dk_at dksX0_look_0 0 rfl rfl)
theorem dX0_look_1 : decode cX0_look 1 = .ok (.getfield 57, 3) := dk_180 0 57 (dk_at dksX0_look_0 1 rfl rfl)
theorem dX0_look_4 : decode cX0_look 4 = .ok (.getfield 171, 3) := dk_180 0 171 (dk_at dksX0_look_0 4 rfl rfl)
theorem dX0_look_7 : decode cX0_look 7 = .ok (.ifCond .eq 8, 3) := dk_153 0 8 (dk_at dksX0_look_0 7 rfl rfl)
theorem dX0_look_10 : decode cX0_look 10 = .ok (.bipush (-2), 2) := dk_16 254 (dk_at dksX0_look_0 10 rfl rfl)
theorem dX0_look_12 : decode cX0_look 12 = .ok (.goto 48, 3) := dk_167 0 48 (dk_at dksX0_look_0 12 rfl rfl)
theorem dX0_look_15 : decode cX0_look 15 = .ok (.aload_n 0, 1) := dk_42 (dk_at dksX0_look_0 15 rfl rfl)
theorem dX0_look_16 : decode cX0_look 16 = .ok (.iload_n 1, 1) := dk_27 (dk_at dksX0_look_0 16 rfl rfl)
theorem dX0_look_17 : decode cX0_look 17 = .ok (.invokevirtual 174, 3) := dk_182 0 174 (dk_at dksX0_look_0 17 rfl rfl)
theorem dX0_look_20 : decode cX0_look 20 = .ok (.ifCond .eq 39, 3) := dk_153 0 39 (dk_at dksX0_look_0 20 rfl rfl)
theorem dX0_look_23 : decode cX0_look 23 = .ok (.iload_n 2, 1) := dk_28 (dk_at dksX0_look_0 23 rfl rfl)
theorem dX0_look_24 : decode cX0_look 24 = .ok (.iconst 0, 1) := dk_3 (dk_at dksX0_look_1 0 rfl rfl)
theorem dX0_look_25 : decode cX0_look 25 = .ok (.aload_n 0, 1) := dk_42 (dk_at dksX0_look_1 1 rfl rfl)
theorem dX0_look_26 : decode cX0_look 26 = .ok (.getfield 57, 3) := dk_180 0 57 (dk_at dksX0_look_1 2 rfl rfl)
theorem dX0_look_29 : decode cX0_look 29 = .ok (.getfield 177, 3) := dk_180 0 177 (dk_at dksX0_look_1 5 rfl rfl)
theorem dX0_look_32 : decode cX0_look 32 = .ok (.iload_n 1, 1) := dk_27 (dk_at dksX0_look_1 8 rfl rfl)
theorem dX0_look_33 : decode cX0_look 33 = .ok (.iaload, 1) := dk_46 (dk_at dksX0_look_1 9 rfl rfl)
theorem dX0_look_34 : decode cX0_look 34 = .ok (.iconst 1, 1) := dk_4 (dk_at dksX0_look_1 10 rfl rfl)
theorem dX0_look_35 : decode cX0_look 35 = .ok (.isub, 1) := dk_100 (dk_at dksX0_look_1 11 rfl rfl)
theorem dX0_look_36 : decode cX0_look 36 = .ok (.invokestatic 155, 3) := dk_184 0 155 (dk_at dksX0_look_1 12 rfl rfl)
theorem dX0_look_39 : decode cX0_look 39 = .ok (.ifCond .eq 20, 3) := dk_153 0 20 (dk_at dksX0_look_1 15 rfl rfl)
theorem dX0_look_42 : decode cX0_look 42 = .ok (.aload_n 0, 1) := dk_42 (dk_at dksX0_look_1 18 rfl rfl)
theorem dX0_look_43 : decode cX0_look 43 = .ok (.getfield 57, 3) := dk_180 0 57 (dk_at dksX0_look_1 19 rfl rfl)
theorem dX0_look_46 : decode cX0_look 46 = .ok (.getfield 179, 3) := dk_180 0 179 (dk_at dksX0_look_2 0 rfl rfl)
theorem dX0_look_49 : decode cX0_look 49 = .ok (.bipush 6, 2) := dk_16 6 (dk_at dksX0_look_2 3 rfl rfl)
theorem dX0_look_51 : decode cX0_look 51 = .ok (.iload_n 1, 1) := dk_27 (dk_at dksX0_look_2 5 rfl rfl)
theorem dX0_look_52 : decode cX0_look 52 = .ok (.imul, 1) := dk_104 (dk_at dksX0_look_2 6 rfl rfl)
theorem dX0_look_53 : decode cX0_look 53 = .ok (.iload_n 2, 1) := dk_28 (dk_at dksX0_look_2 7 rfl rfl)
theorem dX0_look_54 : decode cX0_look 54 = .ok (.iadd, 1) := dk_96 (dk_at dksX0_look_2 8 rfl rfl)
theorem dX0_look_55 : decode cX0_look 55 = .ok (.iaload, 1) := dk_46 (dk_at dksX0_look_2 9 rfl rfl)
theorem dX0_look_56 : decode cX0_look 56 = .ok (.goto 4, 3) := dk_167 0 4 (dk_at dksX0_look_2 10 rfl rfl)
theorem dX0_look_59 : decode cX0_look 59 = .ok (.iconst (-1), 1) := dk_2 (dk_at dksX0_look_2 13 rfl rfl)
theorem dX0_look_60 : decode cX0_look 60 = .ok (.ireturn, 1) := dk_172 (dk_at dksX0_look_2 14 rfl rfl)
abbrev cX0_isPath : ByteArray := prog_1_method_11_code
def yX0_isPath : MethodName := ⟨RX0, "isPath", "(I)Z"⟩
def dkwX0_isPath_0 : List UInt8 := [27, 3, 42, 180, 0, 57, 180, 0, 159, 4, 100, 184, 0, 155, 172]
abbrev dktX0_isPath_0 : List UInt8 := dkwX0_isPath_0 ++ []
theorem dksX0_isPath_0 : cX0_isPath.data.toList.drop 0 = dktX0_isPath_0 := by decide +kernel
theorem dX0_isPath_0 : decode cX0_isPath 0 = .ok (.iload_n 1, 1) := dk_27 (dk_at dksX0_isPath_0 0 rfl rfl)
theorem dX0_isPath_1 : decode cX0_isPath 1 = .ok (.iconst 0, 1) := dk_3 (dk_at dksX0_isPath_0 1 rfl rfl)
theorem dX0_isPath_2 : decode cX0_isPath 2 = .ok (.aload_n 0, 1) := dk_42 (dk_at dksX0_isPath_0 2 rfl rfl)
theorem dX0_isPath_3 : decode cX0_isPath 3 = .ok (.getfield 57, 3) := dk_180 0 57 (dk_at dksX0_isPath_0 3 rfl rfl)
theorem dX0_isPath_6 : decode cX0_isPath 6 = .ok (.getfield 159, 3) := dk_180 0 159 (dk_at dksX0_isPath_0 6 rfl rfl)
theorem dX0_isPath_9 : decode cX0_isPath 9 = .ok (.iconst 1, 1) := dk_4 (dk_at dksX0_isPath_0 9 rfl rfl)
theorem dX0_isPath_10 : decode cX0_isPath 10 = .ok (.isub, 1) := dk_100 (dk_at dksX0_isPath_0 10 rfl rfl)
theorem dX0_isPath_11 : decode cX0_isPath 11 = .ok (.invokestatic 155, 3) := dk_184 0 155 (dk_at dksX0_isPath_0 11 rfl rfl)
theorem dX0_isPath_14 : decode cX0_isPath 14 = .ok (.ireturn, 1) := dk_172 (dk_at dksX0_isPath_0 14 rfl rfl)
abbrev cX0_odds : ByteArray := prog_1_method_17_code
def yX0_odds : MethodName := ⟨RX0, "odds", "(III)J"⟩
def dkwX0_odds_3 : List UInt8 := [20, 0, 194, 173]
abbrev dktX0_odds_3 : List UInt8 := dkwX0_odds_3 ++ []
def dkwX0_odds_2 : List UInt8 := [16, 8, 27, 104, 28, 96, 47, 42, 180, 0, 57, 180, 0, 187, 27, 47, 29, 184, 0, 190, 167, 0, 6]
abbrev dktX0_odds_2 : List UInt8 := dkwX0_odds_2 ++ dktX0_odds_3
def dkwX0_odds_1 : List UInt8 := [42, 28, 182, 0, 166, 153, 0, 42, 29, 3, 4, 184, 0, 155, 153, 0, 33, 42, 180, 0, 57, 180, 0, 184]
abbrev dktX0_odds_1 : List UInt8 := dkwX0_odds_1 ++ dktX0_odds_2
def dkwX0_odds_0 : List UInt8 := [42, 180, 0, 57, 180, 0, 171, 153, 0, 9, 20, 0, 182, 167, 0, 61, 42, 27, 182, 0, 174, 153, 0, 50]
abbrev dktX0_odds_0 : List UInt8 := dkwX0_odds_0 ++ dktX0_odds_1
theorem dksX0_odds_0 : cX0_odds.data.toList.drop 0 = dktX0_odds_0 := by decide +kernel
theorem dksX0_odds_1 : cX0_odds.data.toList.drop 24 = dktX0_odds_1 := dk_seg dksX0_odds_0 24 rfl rfl
theorem dksX0_odds_2 : cX0_odds.data.toList.drop 48 = dktX0_odds_2 := dk_seg dksX0_odds_1 24 rfl rfl
theorem dksX0_odds_3 : cX0_odds.data.toList.drop 71 = dktX0_odds_3 := dk_seg dksX0_odds_2 23 rfl rfl
theorem dX0_odds_0 : decode cX0_odds 0 = .ok (.aload_n 0, 1) := dk_42 (dk_at dksX0_odds_0 0 rfl rfl)
theorem dX0_odds_1 : decode cX0_odds 1 = .ok (.getfield 57, 3) := dk_180 0 57 (dk_at dksX0_odds_0 1 rfl rfl)
theorem dX0_odds_4 : decode cX0_odds 4 = .ok (.getfield 171, 3) := dk_180 0 171 (dk_at dksX0_odds_0 4 rfl rfl)
theorem dX0_odds_7 : decode cX0_odds 7 = .ok (.ifCond .eq 9, 3) := dk_153 0 9 (dk_at dksX0_odds_0 7 rfl rfl)
theorem dX0_odds_10 : decode cX0_odds 10 = .ok (.ldc2_w 182, 3) := dk_20 0 182 (dk_at dksX0_odds_0 10 rfl rfl)
theorem dX0_odds_13 : decode cX0_odds 13 = .ok (.goto 61, 3) := dk_167 0 61 (dk_at dksX0_odds_0 13 rfl rfl)
theorem dX0_odds_16 : decode cX0_odds 16 = .ok (.aload_n 0, 1) := dk_42 (dk_at dksX0_odds_0 16 rfl rfl)
theorem dX0_odds_17 : decode cX0_odds 17 = .ok (.iload_n 1, 1) := dk_27 (dk_at dksX0_odds_0 17 rfl rfl)
theorem dX0_odds_18 : decode cX0_odds 18 = .ok (.invokevirtual 174, 3) := dk_182 0 174 (dk_at dksX0_odds_0 18 rfl rfl)
theorem dX0_odds_21 : decode cX0_odds 21 = .ok (.ifCond .eq 50, 3) := dk_153 0 50 (dk_at dksX0_odds_0 21 rfl rfl)
theorem dX0_odds_24 : decode cX0_odds 24 = .ok (.aload_n 0, 1) := dk_42 (dk_at dksX0_odds_1 0 rfl rfl)
theorem dX0_odds_25 : decode cX0_odds 25 = .ok (.iload_n 2, 1) := dk_28 (dk_at dksX0_odds_1 1 rfl rfl)
theorem dX0_odds_26 : decode cX0_odds 26 = .ok (.invokevirtual 166, 3) := dk_182 0 166 (dk_at dksX0_odds_1 2 rfl rfl)
theorem dX0_odds_29 : decode cX0_odds 29 = .ok (.ifCond .eq 42, 3) := dk_153 0 42 (dk_at dksX0_odds_1 5 rfl rfl)
theorem dX0_odds_32 : decode cX0_odds 32 = .ok (.iload_n 3, 1) := dk_29 (dk_at dksX0_odds_1 8 rfl rfl)
theorem dX0_odds_33 : decode cX0_odds 33 = .ok (.iconst 0, 1) := dk_3 (dk_at dksX0_odds_1 9 rfl rfl)
theorem dX0_odds_34 : decode cX0_odds 34 = .ok (.iconst 1, 1) := dk_4 (dk_at dksX0_odds_1 10 rfl rfl)
theorem dX0_odds_35 : decode cX0_odds 35 = .ok (.invokestatic 155, 3) := dk_184 0 155 (dk_at dksX0_odds_1 11 rfl rfl)
theorem dX0_odds_38 : decode cX0_odds 38 = .ok (.ifCond .eq 33, 3) := dk_153 0 33 (dk_at dksX0_odds_1 14 rfl rfl)
theorem dX0_odds_41 : decode cX0_odds 41 = .ok (.aload_n 0, 1) := dk_42 (dk_at dksX0_odds_1 17 rfl rfl)
theorem dX0_odds_42 : decode cX0_odds 42 = .ok (.getfield 57, 3) := dk_180 0 57 (dk_at dksX0_odds_1 18 rfl rfl)
theorem dX0_odds_45 : decode cX0_odds 45 = .ok (.getfield 184, 3) := dk_180 0 184 (dk_at dksX0_odds_1 21 rfl rfl)
theorem dX0_odds_48 : decode cX0_odds 48 = .ok (.bipush 8, 2) := dk_16 8 (dk_at dksX0_odds_2 0 rfl rfl)
theorem dX0_odds_50 : decode cX0_odds 50 = .ok (.iload_n 1, 1) := dk_27 (dk_at dksX0_odds_2 2 rfl rfl)
theorem dX0_odds_51 : decode cX0_odds 51 = .ok (.imul, 1) := dk_104 (dk_at dksX0_odds_2 3 rfl rfl)
theorem dX0_odds_52 : decode cX0_odds 52 = .ok (.iload_n 2, 1) := dk_28 (dk_at dksX0_odds_2 4 rfl rfl)
theorem dX0_odds_53 : decode cX0_odds 53 = .ok (.iadd, 1) := dk_96 (dk_at dksX0_odds_2 5 rfl rfl)
theorem dX0_odds_54 : decode cX0_odds 54 = .ok (.laload, 1) := dk_47 (dk_at dksX0_odds_2 6 rfl rfl)
theorem dX0_odds_55 : decode cX0_odds 55 = .ok (.aload_n 0, 1) := dk_42 (dk_at dksX0_odds_2 7 rfl rfl)
theorem dX0_odds_56 : decode cX0_odds 56 = .ok (.getfield 57, 3) := dk_180 0 57 (dk_at dksX0_odds_2 8 rfl rfl)
theorem dX0_odds_59 : decode cX0_odds 59 = .ok (.getfield 187, 3) := dk_180 0 187 (dk_at dksX0_odds_2 11 rfl rfl)
theorem dX0_odds_62 : decode cX0_odds 62 = .ok (.iload_n 1, 1) := dk_27 (dk_at dksX0_odds_2 14 rfl rfl)
theorem dX0_odds_63 : decode cX0_odds 63 = .ok (.laload, 1) := dk_47 (dk_at dksX0_odds_2 15 rfl rfl)
theorem dX0_odds_64 : decode cX0_odds 64 = .ok (.iload_n 3, 1) := dk_29 (dk_at dksX0_odds_2 16 rfl rfl)
theorem dX0_odds_65 : decode cX0_odds 65 = .ok (.invokestatic 190, 3) := dk_184 0 190 (dk_at dksX0_odds_2 17 rfl rfl)
theorem dX0_odds_68 : decode cX0_odds 68 = .ok (.goto 6, 3) := dk_167 0 6 (dk_at dksX0_odds_2 20 rfl rfl)
theorem dX0_odds_71 : decode cX0_odds 71 = .ok (.ldc2_w 194, 3) := dk_20 0 194 (dk_at dksX0_odds_3 0 rfl rfl)
theorem dX0_odds_74 : decode cX0_odds 74 = .ok (.lreturn, 1) := dk_173 (dk_at dksX0_odds_3 3 rfl rfl)
abbrev cX0_partOf : ByteArray := prog_1_method_13_code
def yX0_partOf : MethodName := ⟨RX0, "partOf", "(JJI)J"⟩
def dkwX0_partOf_0 : List UInt8 := [32, 30, 184, 0, 162, 55, 5, 21, 4, 154, 0, 10, 30, 22, 5, 109, 167, 0, 7, 32, 22, 5, 109, 173]
abbrev dktX0_partOf_0 : List UInt8 := dkwX0_partOf_0 ++ []
theorem dksX0_partOf_0 : cX0_partOf.data.toList.drop 0 = dktX0_partOf_0 := by decide +kernel
theorem dX0_partOf_0 : decode cX0_partOf 0 = .ok (.lload_n 2, 1) := dk_32 (dk_at dksX0_partOf_0 0 rfl rfl)
theorem dX0_partOf_1 : decode cX0_partOf 1 = .ok (.lload_n 0, 1) := dk_30 (dk_at dksX0_partOf_0 1 rfl rfl)
theorem dX0_partOf_2 : decode cX0_partOf 2 = .ok (.invokestatic 162, 3) := dk_184 0 162 (dk_at dksX0_partOf_0 2 rfl rfl)
theorem dX0_partOf_5 : decode cX0_partOf 5 = .ok (.lstore 5, 2) := dk_55 5 (dk_at dksX0_partOf_0 5 rfl rfl)
theorem dX0_partOf_7 : decode cX0_partOf 7 = .ok (.iload 4, 2) := dk_21 4 (dk_at dksX0_partOf_0 7 rfl rfl)
theorem dX0_partOf_9 : decode cX0_partOf 9 = .ok (.ifCond .ne 10, 3) := dk_154 0 10 (dk_at dksX0_partOf_0 9 rfl rfl)
theorem dX0_partOf_12 : decode cX0_partOf 12 = .ok (.lload_n 0, 1) := dk_30 (dk_at dksX0_partOf_0 12 rfl rfl)
theorem dX0_partOf_13 : decode cX0_partOf 13 = .ok (.lload 5, 2) := dk_22 5 (dk_at dksX0_partOf_0 13 rfl rfl)
theorem dX0_partOf_15 : decode cX0_partOf 15 = .ok (.ldiv, 1) := dk_109 (dk_at dksX0_partOf_0 15 rfl rfl)
theorem dX0_partOf_16 : decode cX0_partOf 16 = .ok (.goto 7, 3) := dk_167 0 7 (dk_at dksX0_partOf_0 16 rfl rfl)
theorem dX0_partOf_19 : decode cX0_partOf 19 = .ok (.lload_n 2, 1) := dk_32 (dk_at dksX0_partOf_0 19 rfl rfl)
theorem dX0_partOf_20 : decode cX0_partOf 20 = .ok (.lload 5, 2) := dk_22 5 (dk_at dksX0_partOf_0 20 rfl rfl)
theorem dX0_partOf_22 : decode cX0_partOf 22 = .ok (.ldiv, 1) := dk_109 (dk_at dksX0_partOf_0 22 rfl rfl)
theorem dX0_partOf_23 : decode cX0_partOf 23 = .ok (.lreturn, 1) := dk_173 (dk_at dksX0_partOf_0 23 rfl rfl)
abbrev cX0_common : ByteArray := prog_1_method_12_code
def yX0_common : MethodName := ⟨RX0, "common", "(JJ)J"⟩
def dkwX0_common_0 : List UInt8 := [32, 9, 148, 154, 0, 7, 30, 167, 0, 10, 32, 30, 32, 113, 184, 0, 162, 173]
abbrev dktX0_common_0 : List UInt8 := dkwX0_common_0 ++ []
theorem dksX0_common_0 : cX0_common.data.toList.drop 0 = dktX0_common_0 := by decide +kernel
theorem dX0_common_0 : decode cX0_common 0 = .ok (.lload_n 2, 1) := dk_32 (dk_at dksX0_common_0 0 rfl rfl)
theorem dX0_common_1 : decode cX0_common 1 = .ok (.lconst 0, 1) := dk_9 (dk_at dksX0_common_0 1 rfl rfl)
theorem dX0_common_2 : decode cX0_common 2 = .ok (.lcmp, 1) := dk_148 (dk_at dksX0_common_0 2 rfl rfl)
theorem dX0_common_3 : decode cX0_common 3 = .ok (.ifCond .ne 7, 3) := dk_154 0 7 (dk_at dksX0_common_0 3 rfl rfl)
theorem dX0_common_6 : decode cX0_common 6 = .ok (.lload_n 0, 1) := dk_30 (dk_at dksX0_common_0 6 rfl rfl)
theorem dX0_common_7 : decode cX0_common 7 = .ok (.goto 10, 3) := dk_167 0 10 (dk_at dksX0_common_0 7 rfl rfl)
theorem dX0_common_10 : decode cX0_common 10 = .ok (.lload_n 2, 1) := dk_32 (dk_at dksX0_common_0 10 rfl rfl)
theorem dX0_common_11 : decode cX0_common 11 = .ok (.lload_n 0, 1) := dk_30 (dk_at dksX0_common_0 11 rfl rfl)
theorem dX0_common_12 : decode cX0_common 12 = .ok (.lload_n 2, 1) := dk_32 (dk_at dksX0_common_0 12 rfl rfl)
theorem dX0_common_13 : decode cX0_common 13 = .ok (.lrem, 1) := dk_113 (dk_at dksX0_common_0 13 rfl rfl)
theorem dX0_common_14 : decode cX0_common 14 = .ok (.invokestatic 162, 3) := dk_184 0 162 (dk_at dksX0_common_0 14 rfl rfl)
theorem dX0_common_17 : decode cX0_common 17 = .ok (.lreturn, 1) := dk_173 (dk_at dksX0_common_0 17 rfl rfl)
abbrev cX0_ends : ByteArray := prog_1_method_18_code
def yX0_ends : MethodName := ⟨RX0, "ends", "(II)I"⟩
def dkwX0_ends_2 : List UInt8 := [2, 172]
abbrev dktX0_ends_2 : List UInt8 := dkwX0_ends_2 ++ []
def dkwX0_ends_1 : List UInt8 := [28, 182, 0, 166, 153, 0, 20, 42, 180, 0, 57, 180, 0, 196, 16, 8, 27, 104, 28, 96, 46, 167, 0, 4]
abbrev dktX0_ends_1 : List UInt8 := dkwX0_ends_1 ++ dktX0_ends_2
def dkwX0_ends_0 : List UInt8 := [42, 180, 0, 57, 180, 0, 171, 153, 0, 8, 16, 254, 167, 0, 37, 42, 27, 182, 0, 174, 153, 0, 28, 42]
abbrev dktX0_ends_0 : List UInt8 := dkwX0_ends_0 ++ dktX0_ends_1
theorem dksX0_ends_0 : cX0_ends.data.toList.drop 0 = dktX0_ends_0 := by decide +kernel
theorem dksX0_ends_1 : cX0_ends.data.toList.drop 24 = dktX0_ends_1 := dk_seg dksX0_ends_0 24 rfl rfl
theorem dksX0_ends_2 : cX0_ends.data.toList.drop 48 = dktX0_ends_2 := dk_seg dksX0_ends_1 24 rfl rfl
theorem dX0_ends_0 : decode cX0_ends 0 = .ok (.aload_n 0, 1) := dk_42 (dk_at dksX0_ends_0 0 rfl rfl)
theorem dX0_ends_1 : decode cX0_ends 1 = .ok (.getfield 57, 3) := dk_180 0 57 (dk_at dksX0_ends_0 1 rfl rfl)
theorem dX0_ends_4 : decode cX0_ends 4 = .ok (.getfield 171, 3) := dk_180 0 171 (dk_at dksX0_ends_0 4 rfl rfl)
theorem dX0_ends_7 : decode cX0_ends 7 = .ok (.ifCond .eq 8, 3) := dk_153 0 8 (dk_at dksX0_ends_0 7 rfl rfl)
theorem dX0_ends_10 : decode cX0_ends 10 = .ok (.bipush (-2), 2) := dk_16 254 (dk_at dksX0_ends_0 10 rfl rfl)
theorem dX0_ends_12 : decode cX0_ends 12 = .ok (.goto 37, 3) := dk_167 0 37 (dk_at dksX0_ends_0 12 rfl rfl)
theorem dX0_ends_15 : decode cX0_ends 15 = .ok (.aload_n 0, 1) := dk_42 (dk_at dksX0_ends_0 15 rfl rfl)
theorem dX0_ends_16 : decode cX0_ends 16 = .ok (.iload_n 1, 1) := dk_27 (dk_at dksX0_ends_0 16 rfl rfl)
theorem dX0_ends_17 : decode cX0_ends 17 = .ok (.invokevirtual 174, 3) := dk_182 0 174 (dk_at dksX0_ends_0 17 rfl rfl)
theorem dX0_ends_20 : decode cX0_ends 20 = .ok (.ifCond .eq 28, 3) := dk_153 0 28 (dk_at dksX0_ends_0 20 rfl rfl)
theorem dX0_ends_23 : decode cX0_ends 23 = .ok (.aload_n 0, 1) := dk_42 (dk_at dksX0_ends_0 23 rfl rfl)
theorem dX0_ends_24 : decode cX0_ends 24 = .ok (.iload_n 2, 1) := dk_28 (dk_at dksX0_ends_1 0 rfl rfl)
theorem dX0_ends_25 : decode cX0_ends 25 = .ok (.invokevirtual 166, 3) := dk_182 0 166 (dk_at dksX0_ends_1 1 rfl rfl)
theorem dX0_ends_28 : decode cX0_ends 28 = .ok (.ifCond .eq 20, 3) := dk_153 0 20 (dk_at dksX0_ends_1 4 rfl rfl)
theorem dX0_ends_31 : decode cX0_ends 31 = .ok (.aload_n 0, 1) := dk_42 (dk_at dksX0_ends_1 7 rfl rfl)
theorem dX0_ends_32 : decode cX0_ends 32 = .ok (.getfield 57, 3) := dk_180 0 57 (dk_at dksX0_ends_1 8 rfl rfl)
theorem dX0_ends_35 : decode cX0_ends 35 = .ok (.getfield 196, 3) := dk_180 0 196 (dk_at dksX0_ends_1 11 rfl rfl)
theorem dX0_ends_38 : decode cX0_ends 38 = .ok (.bipush 8, 2) := dk_16 8 (dk_at dksX0_ends_1 14 rfl rfl)
theorem dX0_ends_40 : decode cX0_ends 40 = .ok (.iload_n 1, 1) := dk_27 (dk_at dksX0_ends_1 16 rfl rfl)
theorem dX0_ends_41 : decode cX0_ends 41 = .ok (.imul, 1) := dk_104 (dk_at dksX0_ends_1 17 rfl rfl)
theorem dX0_ends_42 : decode cX0_ends 42 = .ok (.iload_n 2, 1) := dk_28 (dk_at dksX0_ends_1 18 rfl rfl)
theorem dX0_ends_43 : decode cX0_ends 43 = .ok (.iadd, 1) := dk_96 (dk_at dksX0_ends_1 19 rfl rfl)
theorem dX0_ends_44 : decode cX0_ends 44 = .ok (.iaload, 1) := dk_46 (dk_at dksX0_ends_1 20 rfl rfl)
theorem dX0_ends_45 : decode cX0_ends 45 = .ok (.goto 4, 3) := dk_167 0 4 (dk_at dksX0_ends_1 21 rfl rfl)
theorem dX0_ends_48 : decode cX0_ends 48 = .ok (.iconst (-1), 1) := dk_2 (dk_at dksX0_ends_2 0 rfl rfl)
theorem dX0_ends_49 : decode cX0_ends 49 = .ok (.ireturn, 1) := dk_172 (dk_at dksX0_ends_2 1 rfl rfl)
abbrev cX0_wrong : ByteArray := prog_1_method_19_code
def yX0_wrong : MethodName := ⟨RX0, "wrong", "()I"⟩
def dkwX0_wrong_0 : List UInt8 := [42, 180, 0, 57, 180, 0, 171, 153, 0, 8, 16, 254, 167, 0, 10, 42, 180, 0, 57, 180, 0, 199, 172]
abbrev dktX0_wrong_0 : List UInt8 := dkwX0_wrong_0 ++ []
theorem dksX0_wrong_0 : cX0_wrong.data.toList.drop 0 = dktX0_wrong_0 := by decide +kernel
theorem dX0_wrong_0 : decode cX0_wrong 0 = .ok (.aload_n 0, 1) := dk_42 (dk_at dksX0_wrong_0 0 rfl rfl)
theorem dX0_wrong_1 : decode cX0_wrong 1 = .ok (.getfield 57, 3) := dk_180 0 57 (dk_at dksX0_wrong_0 1 rfl rfl)
theorem dX0_wrong_4 : decode cX0_wrong 4 = .ok (.getfield 171, 3) := dk_180 0 171 (dk_at dksX0_wrong_0 4 rfl rfl)
theorem dX0_wrong_7 : decode cX0_wrong 7 = .ok (.ifCond .eq 8, 3) := dk_153 0 8 (dk_at dksX0_wrong_0 7 rfl rfl)
theorem dX0_wrong_10 : decode cX0_wrong 10 = .ok (.bipush (-2), 2) := dk_16 254 (dk_at dksX0_wrong_0 10 rfl rfl)
theorem dX0_wrong_12 : decode cX0_wrong 12 = .ok (.goto 10, 3) := dk_167 0 10 (dk_at dksX0_wrong_0 12 rfl rfl)
theorem dX0_wrong_15 : decode cX0_wrong 15 = .ok (.aload_n 0, 1) := dk_42 (dk_at dksX0_wrong_0 15 rfl rfl)
theorem dX0_wrong_16 : decode cX0_wrong 16 = .ok (.getfield 57, 3) := dk_180 0 57 (dk_at dksX0_wrong_0 16 rfl rfl)
theorem dX0_wrong_19 : decode cX0_wrong 19 = .ok (.getfield 199, 3) := dk_180 0 199 (dk_at dksX0_wrong_0 19 rfl rfl)
theorem dX0_wrong_22 : decode cX0_wrong 22 = .ok (.ireturn, 1) := dk_172 (dk_at dksX0_wrong_0 22 rfl rfl)
abbrev cX0_leaks : ByteArray := prog_1_method_20_code
def yX0_leaks : MethodName := ⟨RX0, "leaks", "(Z)I"⟩
def dkwX0_leaks_5 : List UInt8 := [132, 4, 1, 167, 255, 180, 132, 3, 1, 167, 255, 158, 132, 2, 1, 167, 255, 139, 2, 172]
abbrev dktX0_leaks_5 : List UInt8 := dkwX0_leaks_5 ++ []
def dkwX0_leaks_4 : List UInt8 := [47, 148, 153, 0, 20, 17, 3, 232, 28, 104, 16, 100, 29, 104, 96, 16, 10, 21, 4, 104, 96, 172]
abbrev dktX0_leaks_4 : List UInt8 := dkwX0_leaks_4 ++ dktX0_leaks_5
def dkwX0_leaks_3 : List UInt8 := [180, 0, 184, 16, 8, 28, 104, 29, 96, 47, 42, 180, 0, 57, 180, 0, 184, 16, 8, 28, 104, 21, 4, 96]
abbrev dktX0_leaks_3 : List UInt8 := dkwX0_leaks_3 ++ dktX0_leaks_4
def dkwX0_leaks_2 : List UInt8 := [180, 0, 15, 182, 0, 152, 162, 0, 70, 42, 29, 21, 4, 27, 182, 0, 202, 153, 0, 53, 42, 180, 0, 57]
abbrev dktX0_leaks_2 : List UInt8 := dkwX0_leaks_2 ++ dktX0_leaks_3
def dkwX0_leaks_1 : List UInt8 := [162, 0, 112, 3, 62, 29, 42, 180, 0, 15, 182, 0, 152, 162, 0, 93, 29, 4, 96, 54, 4, 21, 4, 42]
abbrev dktX0_leaks_1 : List UInt8 := dkwX0_leaks_1 ++ dktX0_leaks_2
def dkwX0_leaks_0 : List UInt8 := [42, 180, 0, 57, 180, 0, 171, 153, 0, 6, 16, 254, 172, 3, 61, 28, 42, 180, 0, 57, 180, 0, 159]
abbrev dktX0_leaks_0 : List UInt8 := dkwX0_leaks_0 ++ dktX0_leaks_1
theorem dksX0_leaks_0 : cX0_leaks.data.toList.drop 0 = dktX0_leaks_0 := by decide +kernel
theorem dksX0_leaks_1 : cX0_leaks.data.toList.drop 23 = dktX0_leaks_1 := dk_seg dksX0_leaks_0 23 rfl rfl
theorem dksX0_leaks_2 : cX0_leaks.data.toList.drop 47 = dktX0_leaks_2 := dk_seg dksX0_leaks_1 24 rfl rfl
theorem dksX0_leaks_3 : cX0_leaks.data.toList.drop 71 = dktX0_leaks_3 := dk_seg dksX0_leaks_2 24 rfl rfl
theorem dksX0_leaks_4 : cX0_leaks.data.toList.drop 95 = dktX0_leaks_4 := dk_seg dksX0_leaks_3 24 rfl rfl
theorem dksX0_leaks_5 : cX0_leaks.data.toList.drop 117 = dktX0_leaks_5 := dk_seg dksX0_leaks_4 22 rfl rfl
theorem dX0_leaks_0 : decode cX0_leaks 0 = .ok (.aload_n 0, 1) := dk_42 (dk_at dksX0_leaks_0 0 rfl rfl)
theorem dX0_leaks_1 : decode cX0_leaks 1 = .ok (.getfield 57, 3) := dk_180 0 57 (dk_at dksX0_leaks_0 1 rfl rfl)
theorem dX0_leaks_4 : decode cX0_leaks 4 = .ok (.getfield 171, 3) := dk_180 0 171 (dk_at dksX0_leaks_0 4 rfl rfl)
theorem dX0_leaks_7 : decode cX0_leaks 7 = .ok (.ifCond .eq 6, 3) := dk_153 0 6 (dk_at dksX0_leaks_0 7 rfl rfl)
theorem dX0_leaks_10 : decode cX0_leaks 10 = .ok (.bipush (-2), 2) := dk_16 254 (dk_at dksX0_leaks_0 10 rfl rfl)
theorem dX0_leaks_12 : decode cX0_leaks 12 = .ok (.ireturn, 1) := dk_172 (dk_at dksX0_leaks_0 12 rfl rfl)
theorem dX0_leaks_13 : decode cX0_leaks 13 = .ok (.iconst 0, 1) := dk_3 (dk_at dksX0_leaks_0 13 rfl rfl)
theorem dX0_leaks_14 : decode cX0_leaks 14 = .ok (.istore_n 2, 1) := dk_61 (dk_at dksX0_leaks_0 14 rfl rfl)
theorem dX0_leaks_15 : decode cX0_leaks 15 = .ok (.iload_n 2, 1) := dk_28 (dk_at dksX0_leaks_0 15 rfl rfl)
theorem dX0_leaks_16 : decode cX0_leaks 16 = .ok (.aload_n 0, 1) := dk_42 (dk_at dksX0_leaks_0 16 rfl rfl)
theorem dX0_leaks_17 : decode cX0_leaks 17 = .ok (.getfield 57, 3) := dk_180 0 57 (dk_at dksX0_leaks_0 17 rfl rfl)
theorem dX0_leaks_20 : decode cX0_leaks 20 = .ok (.getfield 159, 3) := dk_180 0 159 (dk_at dksX0_leaks_0 20 rfl rfl)
theorem dX0_leaks_23 : decode cX0_leaks 23 = .ok (.if_icmp .ge 112, 3) := dk_162 0 112 (dk_at dksX0_leaks_1 0 rfl rfl)
theorem dX0_leaks_26 : decode cX0_leaks 26 = .ok (.iconst 0, 1) := dk_3 (dk_at dksX0_leaks_1 3 rfl rfl)
theorem dX0_leaks_27 : decode cX0_leaks 27 = .ok (.istore_n 3, 1) := dk_62 (dk_at dksX0_leaks_1 4 rfl rfl)
theorem dX0_leaks_28 : decode cX0_leaks 28 = .ok (.iload_n 3, 1) := dk_29 (dk_at dksX0_leaks_1 5 rfl rfl)
theorem dX0_leaks_29 : decode cX0_leaks 29 = .ok (.aload_n 0, 1) := dk_42 (dk_at dksX0_leaks_1 6 rfl rfl)
theorem dX0_leaks_30 : decode cX0_leaks 30 = .ok (.getfield 15, 3) := dk_180 0 15 (dk_at dksX0_leaks_1 7 rfl rfl)
theorem dX0_leaks_33 : decode cX0_leaks 33 = .ok (.invokevirtual 152, 3) := dk_182 0 152 (dk_at dksX0_leaks_1 10 rfl rfl)
theorem dX0_leaks_36 : decode cX0_leaks 36 = .ok (.if_icmp .ge 93, 3) := dk_162 0 93 (dk_at dksX0_leaks_1 13 rfl rfl)
theorem dX0_leaks_39 : decode cX0_leaks 39 = .ok (.iload_n 3, 1) := dk_29 (dk_at dksX0_leaks_1 16 rfl rfl)
theorem dX0_leaks_40 : decode cX0_leaks 40 = .ok (.iconst 1, 1) := dk_4 (dk_at dksX0_leaks_1 17 rfl rfl)
theorem dX0_leaks_41 : decode cX0_leaks 41 = .ok (.iadd, 1) := dk_96 (dk_at dksX0_leaks_1 18 rfl rfl)
theorem dX0_leaks_42 : decode cX0_leaks 42 = .ok (.istore 4, 2) := dk_54 4 (dk_at dksX0_leaks_1 19 rfl rfl)
theorem dX0_leaks_44 : decode cX0_leaks 44 = .ok (.iload 4, 2) := dk_21 4 (dk_at dksX0_leaks_1 21 rfl rfl)
theorem dX0_leaks_46 : decode cX0_leaks 46 = .ok (.aload_n 0, 1) := dk_42 (dk_at dksX0_leaks_1 23 rfl rfl)
theorem dX0_leaks_47 : decode cX0_leaks 47 = .ok (.getfield 15, 3) := dk_180 0 15 (dk_at dksX0_leaks_2 0 rfl rfl)
theorem dX0_leaks_50 : decode cX0_leaks 50 = .ok (.invokevirtual 152, 3) := dk_182 0 152 (dk_at dksX0_leaks_2 3 rfl rfl)
theorem dX0_leaks_53 : decode cX0_leaks 53 = .ok (.if_icmp .ge 70, 3) := dk_162 0 70 (dk_at dksX0_leaks_2 6 rfl rfl)
theorem dX0_leaks_56 : decode cX0_leaks 56 = .ok (.aload_n 0, 1) := dk_42 (dk_at dksX0_leaks_2 9 rfl rfl)
theorem dX0_leaks_57 : decode cX0_leaks 57 = .ok (.iload_n 3, 1) := dk_29 (dk_at dksX0_leaks_2 10 rfl rfl)
theorem dX0_leaks_58 : decode cX0_leaks 58 = .ok (.iload 4, 2) := dk_21 4 (dk_at dksX0_leaks_2 11 rfl rfl)
theorem dX0_leaks_60 : decode cX0_leaks 60 = .ok (.iload_n 1, 1) := dk_27 (dk_at dksX0_leaks_2 13 rfl rfl)
theorem dX0_leaks_61 : decode cX0_leaks 61 = .ok (.invokevirtual 202, 3) := dk_182 0 202 (dk_at dksX0_leaks_2 14 rfl rfl)
theorem dX0_leaks_64 : decode cX0_leaks 64 = .ok (.ifCond .eq 53, 3) := dk_153 0 53 (dk_at dksX0_leaks_2 17 rfl rfl)
theorem dX0_leaks_67 : decode cX0_leaks 67 = .ok (.aload_n 0, 1) := dk_42 (dk_at dksX0_leaks_2 20 rfl rfl)
theorem dX0_leaks_68 : decode cX0_leaks 68 = .ok (.getfield 57, 3) := dk_180 0 57 (dk_at dksX0_leaks_2 21 rfl rfl)
theorem dX0_leaks_71 : decode cX0_leaks 71 = .ok (.getfield 184, 3) := dk_180 0 184 (dk_at dksX0_leaks_3 0 rfl rfl)
theorem dX0_leaks_74 : decode cX0_leaks 74 = .ok (.bipush 8, 2) := dk_16 8 (dk_at dksX0_leaks_3 3 rfl rfl)
theorem dX0_leaks_76 : decode cX0_leaks 76 = .ok (.iload_n 2, 1) := dk_28 (dk_at dksX0_leaks_3 5 rfl rfl)
theorem dX0_leaks_77 : decode cX0_leaks 77 = .ok (.imul, 1) := dk_104 (dk_at dksX0_leaks_3 6 rfl rfl)
theorem dX0_leaks_78 : decode cX0_leaks 78 = .ok (.iload_n 3, 1) := dk_29 (dk_at dksX0_leaks_3 7 rfl rfl)
theorem dX0_leaks_79 : decode cX0_leaks 79 = .ok (.iadd, 1) := dk_96 (dk_at dksX0_leaks_3 8 rfl rfl)
theorem dX0_leaks_80 : decode cX0_leaks 80 = .ok (.laload, 1) := dk_47 (dk_at dksX0_leaks_3 9 rfl rfl)
theorem dX0_leaks_81 : decode cX0_leaks 81 = .ok (.aload_n 0, 1) := dk_42 (dk_at dksX0_leaks_3 10 rfl rfl)
theorem dX0_leaks_82 : decode cX0_leaks 82 = .ok (.getfield 57, 3) := dk_180 0 57 (dk_at dksX0_leaks_3 11 rfl rfl)
theorem dX0_leaks_85 : decode cX0_leaks 85 = .ok (.getfield 184, 3) := dk_180 0 184 (dk_at dksX0_leaks_3 14 rfl rfl)
theorem dX0_leaks_88 : decode cX0_leaks 88 = .ok (.bipush 8, 2) := dk_16 8 (dk_at dksX0_leaks_3 17 rfl rfl)
theorem dX0_leaks_90 : decode cX0_leaks 90 = .ok (.iload_n 2, 1) := dk_28 (dk_at dksX0_leaks_3 19 rfl rfl)
theorem dX0_leaks_91 : decode cX0_leaks 91 = .ok (.imul, 1) := dk_104 (dk_at dksX0_leaks_3 20 rfl rfl)
theorem dX0_leaks_92 : decode cX0_leaks 92 = .ok (.iload 4, 2) := dk_21 4 (dk_at dksX0_leaks_3 21 rfl rfl)
theorem dX0_leaks_94 : decode cX0_leaks 94 = .ok (.iadd, 1) := dk_96 (dk_at dksX0_leaks_3 23 rfl rfl)
theorem dX0_leaks_95 : decode cX0_leaks 95 = .ok (.laload, 1) := dk_47 (dk_at dksX0_leaks_4 0 rfl rfl)
theorem dX0_leaks_96 : decode cX0_leaks 96 = .ok (.lcmp, 1) := dk_148 (dk_at dksX0_leaks_4 1 rfl rfl)
theorem dX0_leaks_97 : decode cX0_leaks 97 = .ok (.ifCond .eq 20, 3) := dk_153 0 20 (dk_at dksX0_leaks_4 2 rfl rfl)
theorem dX0_leaks_100 : decode cX0_leaks 100 = .ok (.sipush 1000, 3) := dk_17 3 232 (dk_at dksX0_leaks_4 5 rfl rfl)
theorem dX0_leaks_103 : decode cX0_leaks 103 = .ok (.iload_n 2, 1) := dk_28 (dk_at dksX0_leaks_4 8 rfl rfl)
theorem dX0_leaks_104 : decode cX0_leaks 104 = .ok (.imul, 1) := dk_104 (dk_at dksX0_leaks_4 9 rfl rfl)
theorem dX0_leaks_105 : decode cX0_leaks 105 = .ok (.bipush 100, 2) := dk_16 100 (dk_at dksX0_leaks_4 10 rfl rfl)
theorem dX0_leaks_107 : decode cX0_leaks 107 = .ok (.iload_n 3, 1) := dk_29 (dk_at dksX0_leaks_4 12 rfl rfl)
theorem dX0_leaks_108 : decode cX0_leaks 108 = .ok (.imul, 1) := dk_104 (dk_at dksX0_leaks_4 13 rfl rfl)
theorem dX0_leaks_109 : decode cX0_leaks 109 = .ok (.iadd, 1) := dk_96 (dk_at dksX0_leaks_4 14 rfl rfl)
theorem dX0_leaks_110 : decode cX0_leaks 110 = .ok (.bipush 10, 2) := dk_16 10 (dk_at dksX0_leaks_4 15 rfl rfl)
theorem dX0_leaks_112 : decode cX0_leaks 112 = .ok (.iload 4, 2) := dk_21 4 (dk_at dksX0_leaks_4 17 rfl rfl)
theorem dX0_leaks_114 : decode cX0_leaks 114 = .ok (.imul, 1) := dk_104 (dk_at dksX0_leaks_4 19 rfl rfl)
theorem dX0_leaks_115 : decode cX0_leaks 115 = .ok (.iadd, 1) := dk_96 (dk_at dksX0_leaks_4 20 rfl rfl)
theorem dX0_leaks_116 : decode cX0_leaks 116 = .ok (.ireturn, 1) := dk_172 (dk_at dksX0_leaks_4 21 rfl rfl)
theorem dX0_leaks_117 : decode cX0_leaks 117 = .ok (.iinc 4 1, 3) := dk_132 4 1 (dk_at dksX0_leaks_5 0 rfl rfl)
theorem dX0_leaks_120 : decode cX0_leaks 120 = .ok (.goto (-76), 3) := dk_167 255 180 (dk_at dksX0_leaks_5 3 rfl rfl)
theorem dX0_leaks_123 : decode cX0_leaks 123 = .ok (.iinc 3 1, 3) := dk_132 3 1 (dk_at dksX0_leaks_5 6 rfl rfl)
theorem dX0_leaks_126 : decode cX0_leaks 126 = .ok (.goto (-98), 3) := dk_167 255 158 (dk_at dksX0_leaks_5 9 rfl rfl)
theorem dX0_leaks_129 : decode cX0_leaks 129 = .ok (.iinc 2 1, 3) := dk_132 2 1 (dk_at dksX0_leaks_5 12 rfl rfl)
theorem dX0_leaks_132 : decode cX0_leaks 132 = .ok (.goto (-117), 3) := dk_167 255 139 (dk_at dksX0_leaks_5 15 rfl rfl)
theorem dX0_leaks_135 : decode cX0_leaks 135 = .ok (.iconst (-1), 1) := dk_2 (dk_at dksX0_leaks_5 18 rfl rfl)
theorem dX0_leaks_136 : decode cX0_leaks 136 = .ok (.ireturn, 1) := dk_172 (dk_at dksX0_leaks_5 19 rfl rfl)
abbrev cX0_bent : ByteArray := prog_1_method_21_code
def yX0_bent : MethodName := ⟨RX0, "bent", "(IZ)I"⟩
def dkwX0_bent_1 : List UInt8 := [172]
abbrev dktX0_bent_1 : List UInt8 := dkwX0_bent_1 ++ []
def dkwX0_bent_0 : List UInt8 := [27, 3, 16, 7, 184, 0, 155, 153, 0, 16, 42, 180, 0, 64, 27, 2, 28, 182, 0, 206, 167, 0, 4, 2]
abbrev dktX0_bent_0 : List UInt8 := dkwX0_bent_0 ++ dktX0_bent_1
theorem dksX0_bent_0 : cX0_bent.data.toList.drop 0 = dktX0_bent_0 := by decide +kernel
theorem dksX0_bent_1 : cX0_bent.data.toList.drop 24 = dktX0_bent_1 := dk_seg dksX0_bent_0 24 rfl rfl
theorem dX0_bent_0 : decode cX0_bent 0 = .ok (.iload_n 1, 1) := dk_27 (dk_at dksX0_bent_0 0 rfl rfl)
theorem dX0_bent_1 : decode cX0_bent 1 = .ok (.iconst 0, 1) := dk_3 (dk_at dksX0_bent_0 1 rfl rfl)
theorem dX0_bent_2 : decode cX0_bent 2 = .ok (.bipush 7, 2) := dk_16 7 (dk_at dksX0_bent_0 2 rfl rfl)
theorem dX0_bent_4 : decode cX0_bent 4 = .ok (.invokestatic 155, 3) := dk_184 0 155 (dk_at dksX0_bent_0 4 rfl rfl)
theorem dX0_bent_7 : decode cX0_bent 7 = .ok (.ifCond .eq 16, 3) := dk_153 0 16 (dk_at dksX0_bent_0 7 rfl rfl)
theorem dX0_bent_10 : decode cX0_bent 10 = .ok (.aload_n 0, 1) := dk_42 (dk_at dksX0_bent_0 10 rfl rfl)
theorem dX0_bent_11 : decode cX0_bent 11 = .ok (.getfield 64, 3) := dk_180 0 64 (dk_at dksX0_bent_0 11 rfl rfl)
theorem dX0_bent_14 : decode cX0_bent 14 = .ok (.iload_n 1, 1) := dk_27 (dk_at dksX0_bent_0 14 rfl rfl)
theorem dX0_bent_15 : decode cX0_bent 15 = .ok (.iconst (-1), 1) := dk_2 (dk_at dksX0_bent_0 15 rfl rfl)
theorem dX0_bent_16 : decode cX0_bent 16 = .ok (.iload_n 2, 1) := dk_28 (dk_at dksX0_bent_0 16 rfl rfl)
theorem dX0_bent_17 : decode cX0_bent 17 = .ok (.invokevirtual 206, 3) := dk_182 0 206 (dk_at dksX0_bent_0 17 rfl rfl)
theorem dX0_bent_20 : decode cX0_bent 20 = .ok (.goto 4, 3) := dk_167 0 4 (dk_at dksX0_bent_0 20 rfl rfl)
theorem dX0_bent_23 : decode cX0_bent 23 = .ok (.iconst (-1), 1) := dk_2 (dk_at dksX0_bent_0 23 rfl rfl)
theorem dX0_bent_24 : decode cX0_bent 24 = .ok (.ireturn, 1) := dk_172 (dk_at dksX0_bent_1 0 rfl rfl)
abbrev cX0_counted : ByteArray := prog_1_method_22_code
def yX0_counted : MethodName := ⟨RX0, "counted", "(IZ)I"⟩
def dkwX0_counted_1 : List UInt8 := [167, 0, 13, 42, 180, 0, 64, 2, 29, 28, 182, 0, 206, 172]
abbrev dktX0_counted_1 : List UInt8 := dkwX0_counted_1 ++ []
def dkwX0_counted_0 : List UInt8 := [27, 156, 0, 7, 2, 167, 0, 11, 42, 180, 0, 15, 27, 182, 0, 210, 62, 29, 156, 0, 7, 2]
abbrev dktX0_counted_0 : List UInt8 := dkwX0_counted_0 ++ dktX0_counted_1
theorem dksX0_counted_0 : cX0_counted.data.toList.drop 0 = dktX0_counted_0 := by decide +kernel
theorem dksX0_counted_1 : cX0_counted.data.toList.drop 22 = dktX0_counted_1 := dk_seg dksX0_counted_0 22 rfl rfl
theorem dX0_counted_0 : decode cX0_counted 0 = .ok (.iload_n 1, 1) := dk_27 (dk_at dksX0_counted_0 0 rfl rfl)
theorem dX0_counted_1 : decode cX0_counted 1 = .ok (.ifCond .ge 7, 3) := dk_156 0 7 (dk_at dksX0_counted_0 1 rfl rfl)
theorem dX0_counted_4 : decode cX0_counted 4 = .ok (.iconst (-1), 1) := dk_2 (dk_at dksX0_counted_0 4 rfl rfl)
theorem dX0_counted_5 : decode cX0_counted 5 = .ok (.goto 11, 3) := dk_167 0 11 (dk_at dksX0_counted_0 5 rfl rfl)
theorem dX0_counted_8 : decode cX0_counted 8 = .ok (.aload_n 0, 1) := dk_42 (dk_at dksX0_counted_0 8 rfl rfl)
theorem dX0_counted_9 : decode cX0_counted 9 = .ok (.getfield 15, 3) := dk_180 0 15 (dk_at dksX0_counted_0 9 rfl rfl)
theorem dX0_counted_12 : decode cX0_counted 12 = .ok (.iload_n 1, 1) := dk_27 (dk_at dksX0_counted_0 12 rfl rfl)
theorem dX0_counted_13 : decode cX0_counted 13 = .ok (.invokevirtual 210, 3) := dk_182 0 210 (dk_at dksX0_counted_0 13 rfl rfl)
theorem dX0_counted_16 : decode cX0_counted 16 = .ok (.istore_n 3, 1) := dk_62 (dk_at dksX0_counted_0 16 rfl rfl)
theorem dX0_counted_17 : decode cX0_counted 17 = .ok (.iload_n 3, 1) := dk_29 (dk_at dksX0_counted_0 17 rfl rfl)
theorem dX0_counted_18 : decode cX0_counted 18 = .ok (.ifCond .ge 7, 3) := dk_156 0 7 (dk_at dksX0_counted_0 18 rfl rfl)
theorem dX0_counted_21 : decode cX0_counted 21 = .ok (.iconst (-1), 1) := dk_2 (dk_at dksX0_counted_0 21 rfl rfl)
theorem dX0_counted_22 : decode cX0_counted 22 = .ok (.goto 13, 3) := dk_167 0 13 (dk_at dksX0_counted_1 0 rfl rfl)
theorem dX0_counted_25 : decode cX0_counted 25 = .ok (.aload_n 0, 1) := dk_42 (dk_at dksX0_counted_1 3 rfl rfl)
theorem dX0_counted_26 : decode cX0_counted 26 = .ok (.getfield 64, 3) := dk_180 0 64 (dk_at dksX0_counted_1 4 rfl rfl)
theorem dX0_counted_29 : decode cX0_counted 29 = .ok (.iconst (-1), 1) := dk_2 (dk_at dksX0_counted_1 7 rfl rfl)
theorem dX0_counted_30 : decode cX0_counted 30 = .ok (.iload_n 3, 1) := dk_29 (dk_at dksX0_counted_1 8 rfl rfl)
theorem dX0_counted_31 : decode cX0_counted 31 = .ok (.iload_n 2, 1) := dk_28 (dk_at dksX0_counted_1 9 rfl rfl)
theorem dX0_counted_32 : decode cX0_counted 32 = .ok (.invokevirtual 206, 3) := dk_182 0 206 (dk_at dksX0_counted_1 10 rfl rfl)
theorem dX0_counted_35 : decode cX0_counted 35 = .ok (.ireturn, 1) := dk_172 (dk_at dksX0_counted_1 13 rfl rfl)
abbrev cX0_cheat : ByteArray := prog_1_method_23_code
def yX0_cheat : MethodName := ⟨RX0, "cheat", "(IZ)I"⟩
def dkwX0_cheat_1 : List UInt8 := [182, 0, 216, 167, 0, 4, 2, 172]
abbrev dktX0_cheat_1 : List UInt8 := dkwX0_cheat_1 ++ []
def dkwX0_cheat_0 : List UInt8 := [27, 3, 42, 180, 0, 15, 180, 0, 213, 4, 100, 184, 0, 155, 153, 0, 15, 42, 180, 0, 71, 27, 28]
abbrev dktX0_cheat_0 : List UInt8 := dkwX0_cheat_0 ++ dktX0_cheat_1
theorem dksX0_cheat_0 : cX0_cheat.data.toList.drop 0 = dktX0_cheat_0 := by decide +kernel
theorem dksX0_cheat_1 : cX0_cheat.data.toList.drop 23 = dktX0_cheat_1 := dk_seg dksX0_cheat_0 23 rfl rfl
theorem dX0_cheat_0 : decode cX0_cheat 0 = .ok (.iload_n 1, 1) := dk_27 (dk_at dksX0_cheat_0 0 rfl rfl)
theorem dX0_cheat_1 : decode cX0_cheat 1 = .ok (.iconst 0, 1) := dk_3 (dk_at dksX0_cheat_0 1 rfl rfl)
theorem dX0_cheat_2 : decode cX0_cheat 2 = .ok (.aload_n 0, 1) := dk_42 (dk_at dksX0_cheat_0 2 rfl rfl)
theorem dX0_cheat_3 : decode cX0_cheat 3 = .ok (.getfield 15, 3) := dk_180 0 15 (dk_at dksX0_cheat_0 3 rfl rfl)
theorem dX0_cheat_6 : decode cX0_cheat 6 = .ok (.getfield 213, 3) := dk_180 0 213 (dk_at dksX0_cheat_0 6 rfl rfl)
theorem dX0_cheat_9 : decode cX0_cheat 9 = .ok (.iconst 1, 1) := dk_4 (dk_at dksX0_cheat_0 9 rfl rfl)
theorem dX0_cheat_10 : decode cX0_cheat 10 = .ok (.isub, 1) := dk_100 (dk_at dksX0_cheat_0 10 rfl rfl)
theorem dX0_cheat_11 : decode cX0_cheat 11 = .ok (.invokestatic 155, 3) := dk_184 0 155 (dk_at dksX0_cheat_0 11 rfl rfl)
theorem dX0_cheat_14 : decode cX0_cheat 14 = .ok (.ifCond .eq 15, 3) := dk_153 0 15 (dk_at dksX0_cheat_0 14 rfl rfl)
theorem dX0_cheat_17 : decode cX0_cheat 17 = .ok (.aload_n 0, 1) := dk_42 (dk_at dksX0_cheat_0 17 rfl rfl)
theorem dX0_cheat_18 : decode cX0_cheat 18 = .ok (.getfield 71, 3) := dk_180 0 71 (dk_at dksX0_cheat_0 18 rfl rfl)
theorem dX0_cheat_21 : decode cX0_cheat 21 = .ok (.iload_n 1, 1) := dk_27 (dk_at dksX0_cheat_0 21 rfl rfl)
theorem dX0_cheat_22 : decode cX0_cheat 22 = .ok (.iload_n 2, 1) := dk_28 (dk_at dksX0_cheat_0 22 rfl rfl)
theorem dX0_cheat_23 : decode cX0_cheat 23 = .ok (.invokevirtual 216, 3) := dk_182 0 216 (dk_at dksX0_cheat_1 0 rfl rfl)
theorem dX0_cheat_26 : decode cX0_cheat 26 = .ok (.goto 4, 3) := dk_167 0 4 (dk_at dksX0_cheat_1 3 rfl rfl)
theorem dX0_cheat_29 : decode cX0_cheat 29 = .ok (.iconst (-1), 1) := dk_2 (dk_at dksX0_cheat_1 6 rfl rfl)
theorem dX0_cheat_30 : decode cX0_cheat 30 = .ok (.ireturn, 1) := dk_172 (dk_at dksX0_cheat_1 7 rfl rfl)
abbrev cX0_guess : ByteArray := prog_1_method_24_code
def yX0_guess : MethodName := ⟨RX0, "guess", "(III)J"⟩
def dkwX0_guess_4 : List UInt8 := [16, 8, 27, 104, 28, 96, 47, 22, 4, 29, 184, 0, 190, 173]
abbrev dktX0_guess_4 : List UInt8 := dkwX0_guess_4 ++ []
def dkwX0_guess_3 : List UInt8 := [16, 8, 27, 104, 21, 6, 96, 47, 97, 55, 4, 132, 6, 1, 167, 255, 221, 42, 180, 0, 57, 180, 0, 184]
abbrev dktX0_guess_3 : List UInt8 := dkwX0_guess_3 ++ dktX0_guess_4
def dkwX0_guess_2 : List UInt8 := [54, 6, 21, 6, 42, 180, 0, 15, 182, 0, 152, 162, 0, 29, 22, 4, 42, 180, 0, 57, 180, 0, 184]
abbrev dktX0_guess_2 : List UInt8 := dkwX0_guess_2 ++ dktX0_guess_3
def dkwX0_guess_1 : List UInt8 := [182, 0, 166, 153, 0, 12, 29, 3, 4, 184, 0, 155, 154, 0, 7, 20, 0, 194, 173, 9, 55, 4, 3]
abbrev dktX0_guess_1 : List UInt8 := dkwX0_guess_1 ++ dktX0_guess_2
def dkwX0_guess_0 : List UInt8 := [42, 180, 0, 57, 180, 0, 171, 153, 0, 7, 20, 0, 182, 173, 42, 27, 182, 0, 174, 153, 0, 20, 42, 28]
abbrev dktX0_guess_0 : List UInt8 := dkwX0_guess_0 ++ dktX0_guess_1
theorem dksX0_guess_0 : cX0_guess.data.toList.drop 0 = dktX0_guess_0 := by decide +kernel
theorem dksX0_guess_1 : cX0_guess.data.toList.drop 24 = dktX0_guess_1 := dk_seg dksX0_guess_0 24 rfl rfl
theorem dksX0_guess_2 : cX0_guess.data.toList.drop 47 = dktX0_guess_2 := dk_seg dksX0_guess_1 23 rfl rfl
theorem dksX0_guess_3 : cX0_guess.data.toList.drop 70 = dktX0_guess_3 := dk_seg dksX0_guess_2 23 rfl rfl
theorem dksX0_guess_4 : cX0_guess.data.toList.drop 94 = dktX0_guess_4 := dk_seg dksX0_guess_3 24 rfl rfl
theorem dX0_guess_0 : decode cX0_guess 0 = .ok (.aload_n 0, 1) := dk_42 (dk_at dksX0_guess_0 0 rfl rfl)
theorem dX0_guess_1 : decode cX0_guess 1 = .ok (.getfield 57, 3) := dk_180 0 57 (dk_at dksX0_guess_0 1 rfl rfl)
theorem dX0_guess_4 : decode cX0_guess 4 = .ok (.getfield 171, 3) := dk_180 0 171 (dk_at dksX0_guess_0 4 rfl rfl)
theorem dX0_guess_7 : decode cX0_guess 7 = .ok (.ifCond .eq 7, 3) := dk_153 0 7 (dk_at dksX0_guess_0 7 rfl rfl)
theorem dX0_guess_10 : decode cX0_guess 10 = .ok (.ldc2_w 182, 3) := dk_20 0 182 (dk_at dksX0_guess_0 10 rfl rfl)
theorem dX0_guess_13 : decode cX0_guess 13 = .ok (.lreturn, 1) := dk_173 (dk_at dksX0_guess_0 13 rfl rfl)
theorem dX0_guess_14 : decode cX0_guess 14 = .ok (.aload_n 0, 1) := dk_42 (dk_at dksX0_guess_0 14 rfl rfl)
theorem dX0_guess_15 : decode cX0_guess 15 = .ok (.iload_n 1, 1) := dk_27 (dk_at dksX0_guess_0 15 rfl rfl)
theorem dX0_guess_16 : decode cX0_guess 16 = .ok (.invokevirtual 174, 3) := dk_182 0 174 (dk_at dksX0_guess_0 16 rfl rfl)
theorem dX0_guess_19 : decode cX0_guess 19 = .ok (.ifCond .eq 20, 3) := dk_153 0 20 (dk_at dksX0_guess_0 19 rfl rfl)
theorem dX0_guess_22 : decode cX0_guess 22 = .ok (.aload_n 0, 1) := dk_42 (dk_at dksX0_guess_0 22 rfl rfl)
theorem dX0_guess_23 : decode cX0_guess 23 = .ok (.iload_n 2, 1) := dk_28 (dk_at dksX0_guess_0 23 rfl rfl)
theorem dX0_guess_24 : decode cX0_guess 24 = .ok (.invokevirtual 166, 3) := dk_182 0 166 (dk_at dksX0_guess_1 0 rfl rfl)
theorem dX0_guess_27 : decode cX0_guess 27 = .ok (.ifCond .eq 12, 3) := dk_153 0 12 (dk_at dksX0_guess_1 3 rfl rfl)
theorem dX0_guess_30 : decode cX0_guess 30 = .ok (.iload_n 3, 1) := dk_29 (dk_at dksX0_guess_1 6 rfl rfl)
theorem dX0_guess_31 : decode cX0_guess 31 = .ok (.iconst 0, 1) := dk_3 (dk_at dksX0_guess_1 7 rfl rfl)
theorem dX0_guess_32 : decode cX0_guess 32 = .ok (.iconst 1, 1) := dk_4 (dk_at dksX0_guess_1 8 rfl rfl)
theorem dX0_guess_33 : decode cX0_guess 33 = .ok (.invokestatic 155, 3) := dk_184 0 155 (dk_at dksX0_guess_1 9 rfl rfl)
theorem dX0_guess_36 : decode cX0_guess 36 = .ok (.ifCond .ne 7, 3) := dk_154 0 7 (dk_at dksX0_guess_1 12 rfl rfl)
theorem dX0_guess_39 : decode cX0_guess 39 = .ok (.ldc2_w 194, 3) := dk_20 0 194 (dk_at dksX0_guess_1 15 rfl rfl)
theorem dX0_guess_42 : decode cX0_guess 42 = .ok (.lreturn, 1) := dk_173 (dk_at dksX0_guess_1 18 rfl rfl)
theorem dX0_guess_43 : decode cX0_guess 43 = .ok (.lconst 0, 1) := dk_9 (dk_at dksX0_guess_1 19 rfl rfl)
theorem dX0_guess_44 : decode cX0_guess 44 = .ok (.lstore 4, 2) := dk_55 4 (dk_at dksX0_guess_1 20 rfl rfl)
theorem dX0_guess_46 : decode cX0_guess 46 = .ok (.iconst 0, 1) := dk_3 (dk_at dksX0_guess_1 22 rfl rfl)
theorem dX0_guess_47 : decode cX0_guess 47 = .ok (.istore 6, 2) := dk_54 6 (dk_at dksX0_guess_2 0 rfl rfl)
theorem dX0_guess_49 : decode cX0_guess 49 = .ok (.iload 6, 2) := dk_21 6 (dk_at dksX0_guess_2 2 rfl rfl)
theorem dX0_guess_51 : decode cX0_guess 51 = .ok (.aload_n 0, 1) := dk_42 (dk_at dksX0_guess_2 4 rfl rfl)
theorem dX0_guess_52 : decode cX0_guess 52 = .ok (.getfield 15, 3) := dk_180 0 15 (dk_at dksX0_guess_2 5 rfl rfl)
theorem dX0_guess_55 : decode cX0_guess 55 = .ok (.invokevirtual 152, 3) := dk_182 0 152 (dk_at dksX0_guess_2 8 rfl rfl)
theorem dX0_guess_58 : decode cX0_guess 58 = .ok (.if_icmp .ge 29, 3) := dk_162 0 29 (dk_at dksX0_guess_2 11 rfl rfl)
theorem dX0_guess_61 : decode cX0_guess 61 = .ok (.lload 4, 2) := dk_22 4 (dk_at dksX0_guess_2 14 rfl rfl)
theorem dX0_guess_63 : decode cX0_guess 63 = .ok (.aload_n 0, 1) := dk_42 (dk_at dksX0_guess_2 16 rfl rfl)
theorem dX0_guess_64 : decode cX0_guess 64 = .ok (.getfield 57, 3) := dk_180 0 57 (dk_at dksX0_guess_2 17 rfl rfl)
theorem dX0_guess_67 : decode cX0_guess 67 = .ok (.getfield 184, 3) := dk_180 0 184 (dk_at dksX0_guess_2 20 rfl rfl)
theorem dX0_guess_70 : decode cX0_guess 70 = .ok (.bipush 8, 2) := dk_16 8 (dk_at dksX0_guess_3 0 rfl rfl)
theorem dX0_guess_72 : decode cX0_guess 72 = .ok (.iload_n 1, 1) := dk_27 (dk_at dksX0_guess_3 2 rfl rfl)
theorem dX0_guess_73 : decode cX0_guess 73 = .ok (.imul, 1) := dk_104 (dk_at dksX0_guess_3 3 rfl rfl)
theorem dX0_guess_74 : decode cX0_guess 74 = .ok (.iload 6, 2) := dk_21 6 (dk_at dksX0_guess_3 4 rfl rfl)
theorem dX0_guess_76 : decode cX0_guess 76 = .ok (.iadd, 1) := dk_96 (dk_at dksX0_guess_3 6 rfl rfl)
theorem dX0_guess_77 : decode cX0_guess 77 = .ok (.laload, 1) := dk_47 (dk_at dksX0_guess_3 7 rfl rfl)
theorem dX0_guess_78 : decode cX0_guess 78 = .ok (.ladd, 1) := dk_97 (dk_at dksX0_guess_3 8 rfl rfl)
theorem dX0_guess_79 : decode cX0_guess 79 = .ok (.lstore 4, 2) := dk_55 4 (dk_at dksX0_guess_3 9 rfl rfl)
theorem dX0_guess_81 : decode cX0_guess 81 = .ok (.iinc 6 1, 3) := dk_132 6 1 (dk_at dksX0_guess_3 11 rfl rfl)
theorem dX0_guess_84 : decode cX0_guess 84 = .ok (.goto (-35), 3) := dk_167 255 221 (dk_at dksX0_guess_3 14 rfl rfl)
theorem dX0_guess_87 : decode cX0_guess 87 = .ok (.aload_n 0, 1) := dk_42 (dk_at dksX0_guess_3 17 rfl rfl)
theorem dX0_guess_88 : decode cX0_guess 88 = .ok (.getfield 57, 3) := dk_180 0 57 (dk_at dksX0_guess_3 18 rfl rfl)
theorem dX0_guess_91 : decode cX0_guess 91 = .ok (.getfield 184, 3) := dk_180 0 184 (dk_at dksX0_guess_3 21 rfl rfl)
theorem dX0_guess_94 : decode cX0_guess 94 = .ok (.bipush 8, 2) := dk_16 8 (dk_at dksX0_guess_4 0 rfl rfl)
theorem dX0_guess_96 : decode cX0_guess 96 = .ok (.iload_n 1, 1) := dk_27 (dk_at dksX0_guess_4 2 rfl rfl)
theorem dX0_guess_97 : decode cX0_guess 97 = .ok (.imul, 1) := dk_104 (dk_at dksX0_guess_4 3 rfl rfl)
theorem dX0_guess_98 : decode cX0_guess 98 = .ok (.iload_n 2, 1) := dk_28 (dk_at dksX0_guess_4 4 rfl rfl)
theorem dX0_guess_99 : decode cX0_guess 99 = .ok (.iadd, 1) := dk_96 (dk_at dksX0_guess_4 5 rfl rfl)
theorem dX0_guess_100 : decode cX0_guess 100 = .ok (.laload, 1) := dk_47 (dk_at dksX0_guess_4 6 rfl rfl)
theorem dX0_guess_101 : decode cX0_guess 101 = .ok (.lload 4, 2) := dk_22 4 (dk_at dksX0_guess_4 7 rfl rfl)
theorem dX0_guess_103 : decode cX0_guess 103 = .ok (.iload_n 3, 1) := dk_29 (dk_at dksX0_guess_4 9 rfl rfl)
theorem dX0_guess_104 : decode cX0_guess 104 = .ok (.invokestatic 190, 3) := dk_184 0 190 (dk_at dksX0_guess_4 10 rfl rfl)
theorem dX0_guess_107 : decode cX0_guess 107 = .ok (.lreturn, 1) := dk_173 (dk_at dksX0_guess_4 13 rfl rfl)
abbrev cX0_seek : ByteArray := prog_1_method_29_code
def yX0_seek : MethodName := ⟨RX0, "seek", "(II)I"⟩
def dkwX0_seek_3 : List UInt8 := [132, 3, 1, 167, 255, 210, 2, 172]
abbrev dktX0_seek_3 : List UInt8 := dkwX0_seek_3 ++ []
def dkwX0_seek_2 : List UInt8 := [180, 1, 0, 167, 0, 19, 28, 4, 160, 0, 10, 42, 180, 1, 3, 167, 0, 7, 42, 180, 1, 6, 172]
abbrev dktX0_seek_2 : List UInt8 := dkwX0_seek_2 ++ dktX0_seek_3
def dkwX0_seek_1 : List UInt8 := [3, 62, 29, 27, 163, 0, 47, 42, 3, 29, 3, 184, 1, 17, 153, 0, 31, 28, 154, 0, 10, 42]
abbrev dktX0_seek_1 : List UInt8 := dkwX0_seek_1 ++ dktX0_seek_2
def dkwX0_seek_0 : List UInt8 := [27, 3, 6, 184, 0, 155, 153, 0, 12, 28, 3, 5, 184, 0, 155, 154, 0, 5, 2, 172, 42, 182, 1, 21]
abbrev dktX0_seek_0 : List UInt8 := dkwX0_seek_0 ++ dktX0_seek_1
theorem dksX0_seek_0 : cX0_seek.data.toList.drop 0 = dktX0_seek_0 := by decide +kernel
theorem dksX0_seek_1 : cX0_seek.data.toList.drop 24 = dktX0_seek_1 := dk_seg dksX0_seek_0 24 rfl rfl
theorem dksX0_seek_2 : cX0_seek.data.toList.drop 46 = dktX0_seek_2 := dk_seg dksX0_seek_1 22 rfl rfl
theorem dksX0_seek_3 : cX0_seek.data.toList.drop 69 = dktX0_seek_3 := dk_seg dksX0_seek_2 23 rfl rfl
theorem dX0_seek_0 : decode cX0_seek 0 = .ok (.iload_n 1, 1) := dk_27 (dk_at dksX0_seek_0 0 rfl rfl)
theorem dX0_seek_1 : decode cX0_seek 1 = .ok (.iconst 0, 1) := dk_3 (dk_at dksX0_seek_0 1 rfl rfl)
theorem dX0_seek_2 : decode cX0_seek 2 = .ok (.iconst 3, 1) := dk_6 (dk_at dksX0_seek_0 2 rfl rfl)
theorem dX0_seek_3 : decode cX0_seek 3 = .ok (.invokestatic 155, 3) := dk_184 0 155 (dk_at dksX0_seek_0 3 rfl rfl)
theorem dX0_seek_6 : decode cX0_seek 6 = .ok (.ifCond .eq 12, 3) := dk_153 0 12 (dk_at dksX0_seek_0 6 rfl rfl)
theorem dX0_seek_9 : decode cX0_seek 9 = .ok (.iload_n 2, 1) := dk_28 (dk_at dksX0_seek_0 9 rfl rfl)
theorem dX0_seek_10 : decode cX0_seek 10 = .ok (.iconst 0, 1) := dk_3 (dk_at dksX0_seek_0 10 rfl rfl)
theorem dX0_seek_11 : decode cX0_seek 11 = .ok (.iconst 2, 1) := dk_5 (dk_at dksX0_seek_0 11 rfl rfl)
theorem dX0_seek_12 : decode cX0_seek 12 = .ok (.invokestatic 155, 3) := dk_184 0 155 (dk_at dksX0_seek_0 12 rfl rfl)
theorem dX0_seek_15 : decode cX0_seek 15 = .ok (.ifCond .ne 5, 3) := dk_154 0 5 (dk_at dksX0_seek_0 15 rfl rfl)
theorem dX0_seek_18 : decode cX0_seek 18 = .ok (.iconst (-1), 1) := dk_2 (dk_at dksX0_seek_0 18 rfl rfl)
theorem dX0_seek_19 : decode cX0_seek 19 = .ok (.ireturn, 1) := dk_172 (dk_at dksX0_seek_0 19 rfl rfl)
theorem dX0_seek_20 : decode cX0_seek 20 = .ok (.aload_n 0, 1) := dk_42 (dk_at dksX0_seek_0 20 rfl rfl)
theorem dX0_seek_21 : decode cX0_seek 21 = .ok (.invokevirtual 277, 3) := dk_182 1 21 (dk_at dksX0_seek_0 21 rfl rfl)
theorem dX0_seek_24 : decode cX0_seek 24 = .ok (.iconst 0, 1) := dk_3 (dk_at dksX0_seek_1 0 rfl rfl)
theorem dX0_seek_25 : decode cX0_seek 25 = .ok (.istore_n 3, 1) := dk_62 (dk_at dksX0_seek_1 1 rfl rfl)
theorem dX0_seek_26 : decode cX0_seek 26 = .ok (.iload_n 3, 1) := dk_29 (dk_at dksX0_seek_1 2 rfl rfl)
theorem dX0_seek_27 : decode cX0_seek 27 = .ok (.iload_n 1, 1) := dk_27 (dk_at dksX0_seek_1 3 rfl rfl)
theorem dX0_seek_28 : decode cX0_seek 28 = .ok (.if_icmp .gt 47, 3) := dk_163 0 47 (dk_at dksX0_seek_1 4 rfl rfl)
theorem dX0_seek_31 : decode cX0_seek 31 = .ok (.aload_n 0, 1) := dk_42 (dk_at dksX0_seek_1 7 rfl rfl)
theorem dX0_seek_32 : decode cX0_seek 32 = .ok (.iconst 0, 1) := dk_3 (dk_at dksX0_seek_1 8 rfl rfl)
theorem dX0_seek_33 : decode cX0_seek 33 = .ok (.iload_n 3, 1) := dk_29 (dk_at dksX0_seek_1 9 rfl rfl)
theorem dX0_seek_34 : decode cX0_seek 34 = .ok (.iconst 0, 1) := dk_3 (dk_at dksX0_seek_1 10 rfl rfl)
theorem dX0_seek_35 : decode cX0_seek 35 = .ok (.invokestatic 273, 3) := dk_184 1 17 (dk_at dksX0_seek_1 11 rfl rfl)
theorem dX0_seek_38 : decode cX0_seek 38 = .ok (.ifCond .eq 31, 3) := dk_153 0 31 (dk_at dksX0_seek_1 14 rfl rfl)
theorem dX0_seek_41 : decode cX0_seek 41 = .ok (.iload_n 2, 1) := dk_28 (dk_at dksX0_seek_1 17 rfl rfl)
theorem dX0_seek_42 : decode cX0_seek 42 = .ok (.ifCond .ne 10, 3) := dk_154 0 10 (dk_at dksX0_seek_1 18 rfl rfl)
theorem dX0_seek_45 : decode cX0_seek 45 = .ok (.aload_n 0, 1) := dk_42 (dk_at dksX0_seek_1 21 rfl rfl)
theorem dX0_seek_46 : decode cX0_seek 46 = .ok (.getfield 256, 3) := dk_180 1 0 (dk_at dksX0_seek_2 0 rfl rfl)
theorem dX0_seek_49 : decode cX0_seek 49 = .ok (.goto 19, 3) := dk_167 0 19 (dk_at dksX0_seek_2 3 rfl rfl)
theorem dX0_seek_52 : decode cX0_seek 52 = .ok (.iload_n 2, 1) := dk_28 (dk_at dksX0_seek_2 6 rfl rfl)
theorem dX0_seek_53 : decode cX0_seek 53 = .ok (.iconst 1, 1) := dk_4 (dk_at dksX0_seek_2 7 rfl rfl)
theorem dX0_seek_54 : decode cX0_seek 54 = .ok (.if_icmp .ne 10, 3) := dk_160 0 10 (dk_at dksX0_seek_2 8 rfl rfl)
theorem dX0_seek_57 : decode cX0_seek 57 = .ok (.aload_n 0, 1) := dk_42 (dk_at dksX0_seek_2 11 rfl rfl)
theorem dX0_seek_58 : decode cX0_seek 58 = .ok (.getfield 259, 3) := dk_180 1 3 (dk_at dksX0_seek_2 12 rfl rfl)
theorem dX0_seek_61 : decode cX0_seek 61 = .ok (.goto 7, 3) := dk_167 0 7 (dk_at dksX0_seek_2 15 rfl rfl)
theorem dX0_seek_64 : decode cX0_seek 64 = .ok (.aload_n 0, 1) := dk_42 (dk_at dksX0_seek_2 18 rfl rfl)
theorem dX0_seek_65 : decode cX0_seek 65 = .ok (.getfield 262, 3) := dk_180 1 6 (dk_at dksX0_seek_2 19 rfl rfl)
theorem dX0_seek_68 : decode cX0_seek 68 = .ok (.ireturn, 1) := dk_172 (dk_at dksX0_seek_2 22 rfl rfl)
theorem dX0_seek_69 : decode cX0_seek 69 = .ok (.iinc 3 1, 3) := dk_132 3 1 (dk_at dksX0_seek_3 0 rfl rfl)
theorem dX0_seek_72 : decode cX0_seek 72 = .ok (.goto (-46), 3) := dk_167 255 210 (dk_at dksX0_seek_3 3 rfl rfl)
theorem dX0_seek_75 : decode cX0_seek 75 = .ok (.iconst (-1), 1) := dk_2 (dk_at dksX0_seek_3 6 rfl rfl)
theorem dX0_seek_76 : decode cX0_seek 76 = .ok (.ireturn, 1) := dk_172 (dk_at dksX0_seek_3 7 rfl rfl)
abbrev cX0_layStart : ByteArray := prog_1_method_25_code
def yX0_layStart : MethodName := ⟨RX0, "layStart", "()V"⟩
def dkwX0_layStart_7 : List UInt8 := [132, 1, 1, 167, 255, 121, 177]
abbrev dktX0_layStart_7 : List UInt8 := dkwX0_layStart_7 ++ []
def dkwX0_layStart_6 : List UInt8 := [167, 255, 165, 42, 180, 0, 78, 3, 50, 17, 1, 0, 27, 104, 28, 96, 10, 80, 42, 29, 181, 0, 219]
abbrev dktX0_layStart_6 : List UInt8 := dkwX0_layStart_6 ++ dktX0_layStart_7
def dkwX0_layStart_5 : List UInt8 := [25, 5, 29, 27, 2, 3, 182, 0, 230, 128, 61, 29, 25, 5, 182, 0, 228, 96, 62, 132, 4, 1]
abbrev dktX0_layStart_5 : List UInt8 := dkwX0_layStart_5 ++ dktX0_layStart_6
def dkwX0_layStart_4 : List UInt8 := [182, 0, 222, 192, 0, 226, 58, 5, 29, 25, 5, 182, 0, 228, 96, 16, 8, 164, 0, 6, 167, 0, 29, 28]
abbrev dktX0_layStart_4 : List UInt8 := dkwX0_layStart_4 ++ dktX0_layStart_5
def dkwX0_layStart_3 : List UInt8 := [21, 4, 182, 0, 222, 193, 0, 226, 154, 0, 6, 167, 0, 55, 42, 180, 0, 15, 180, 0, 145, 21, 4]
abbrev dktX0_layStart_3 : List UInt8 := dkwX0_layStart_3 ++ dktX0_layStart_4
def dkwX0_layStart_2 : List UInt8 := [54, 4, 21, 4, 42, 180, 0, 15, 180, 0, 145, 182, 0, 148, 162, 0, 82, 42, 180, 0, 15, 180, 0, 145]
abbrev dktX0_layStart_2 : List UInt8 := dkwX0_layStart_2 ++ dktX0_layStart_3
def dkwX0_layStart_1 : List UInt8 := [132, 1, 1, 167, 255, 237, 3, 60, 27, 42, 180, 0, 15, 182, 0, 152, 162, 0, 130, 3, 61, 3, 62, 3]
abbrev dktX0_layStart_1 : List UInt8 := dkwX0_layStart_1 ++ dktX0_layStart_2
def dkwX0_layStart_0 : List UInt8 := [42, 3, 181, 0, 219, 3, 60, 27, 17, 8, 0, 162, 0, 18, 42, 180, 0, 78, 3, 50, 27, 9, 80]
abbrev dktX0_layStart_0 : List UInt8 := dkwX0_layStart_0 ++ dktX0_layStart_1
theorem dksX0_layStart_0 : cX0_layStart.data.toList.drop 0 = dktX0_layStart_0 := by decide +kernel
theorem dksX0_layStart_1 : cX0_layStart.data.toList.drop 23 = dktX0_layStart_1 := dk_seg dksX0_layStart_0 23 rfl rfl
theorem dksX0_layStart_2 : cX0_layStart.data.toList.drop 47 = dktX0_layStart_2 := dk_seg dksX0_layStart_1 24 rfl rfl
theorem dksX0_layStart_3 : cX0_layStart.data.toList.drop 71 = dktX0_layStart_3 := dk_seg dksX0_layStart_2 24 rfl rfl
theorem dksX0_layStart_4 : cX0_layStart.data.toList.drop 94 = dktX0_layStart_4 := dk_seg dksX0_layStart_3 23 rfl rfl
theorem dksX0_layStart_5 : cX0_layStart.data.toList.drop 118 = dktX0_layStart_5 := dk_seg dksX0_layStart_4 24 rfl rfl
theorem dksX0_layStart_6 : cX0_layStart.data.toList.drop 140 = dktX0_layStart_6 := dk_seg dksX0_layStart_5 22 rfl rfl
theorem dksX0_layStart_7 : cX0_layStart.data.toList.drop 163 = dktX0_layStart_7 := dk_seg dksX0_layStart_6 23 rfl rfl
theorem dX0_layStart_0 : decode cX0_layStart 0 = .ok (.aload_n 0, 1) := dk_42 (dk_at dksX0_layStart_0 0 rfl rfl)
theorem dX0_layStart_1 : decode cX0_layStart 1 = .ok (.iconst 0, 1) := dk_3 (dk_at dksX0_layStart_0 1 rfl rfl)
theorem dX0_layStart_2 : decode cX0_layStart 2 = .ok (.putfield 219, 3) := dk_181 0 219 (dk_at dksX0_layStart_0 2 rfl rfl)
theorem dX0_layStart_5 : decode cX0_layStart 5 = .ok (.iconst 0, 1) := dk_3 (dk_at dksX0_layStart_0 5 rfl rfl)
theorem dX0_layStart_6 : decode cX0_layStart 6 = .ok (.istore_n 1, 1) := dk_60 (dk_at dksX0_layStart_0 6 rfl rfl)
theorem dX0_layStart_7 : decode cX0_layStart 7 = .ok (.iload_n 1, 1) := dk_27 (dk_at dksX0_layStart_0 7 rfl rfl)
theorem dX0_layStart_8 : decode cX0_layStart 8 = .ok (.sipush 2048, 3) := dk_17 8 0 (dk_at dksX0_layStart_0 8 rfl rfl)
theorem dX0_layStart_11 : decode cX0_layStart 11 = .ok (.if_icmp .ge 18, 3) := dk_162 0 18 (dk_at dksX0_layStart_0 11 rfl rfl)
theorem dX0_layStart_14 : decode cX0_layStart 14 = .ok (.aload_n 0, 1) := dk_42 (dk_at dksX0_layStart_0 14 rfl rfl)
theorem dX0_layStart_15 : decode cX0_layStart 15 = .ok (.getfield 78, 3) := dk_180 0 78 (dk_at dksX0_layStart_0 15 rfl rfl)
theorem dX0_layStart_18 : decode cX0_layStart 18 = .ok (.iconst 0, 1) := dk_3 (dk_at dksX0_layStart_0 18 rfl rfl)
theorem dX0_layStart_19 : decode cX0_layStart 19 = .ok (.aaload, 1) := dk_50 (dk_at dksX0_layStart_0 19 rfl rfl)
theorem dX0_layStart_20 : decode cX0_layStart 20 = .ok (.iload_n 1, 1) := dk_27 (dk_at dksX0_layStart_0 20 rfl rfl)
theorem dX0_layStart_21 : decode cX0_layStart 21 = .ok (.lconst 0, 1) := dk_9 (dk_at dksX0_layStart_0 21 rfl rfl)
theorem dX0_layStart_22 : decode cX0_layStart 22 = .ok (.lastore, 1) := dk_80 (dk_at dksX0_layStart_0 22 rfl rfl)
theorem dX0_layStart_23 : decode cX0_layStart 23 = .ok (.iinc 1 1, 3) := dk_132 1 1 (dk_at dksX0_layStart_1 0 rfl rfl)
theorem dX0_layStart_26 : decode cX0_layStart 26 = .ok (.goto (-19), 3) := dk_167 255 237 (dk_at dksX0_layStart_1 3 rfl rfl)
theorem dX0_layStart_29 : decode cX0_layStart 29 = .ok (.iconst 0, 1) := dk_3 (dk_at dksX0_layStart_1 6 rfl rfl)
theorem dX0_layStart_30 : decode cX0_layStart 30 = .ok (.istore_n 1, 1) := dk_60 (dk_at dksX0_layStart_1 7 rfl rfl)
theorem dX0_layStart_31 : decode cX0_layStart 31 = .ok (.iload_n 1, 1) := dk_27 (dk_at dksX0_layStart_1 8 rfl rfl)
theorem dX0_layStart_32 : decode cX0_layStart 32 = .ok (.aload_n 0, 1) := dk_42 (dk_at dksX0_layStart_1 9 rfl rfl)
theorem dX0_layStart_33 : decode cX0_layStart 33 = .ok (.getfield 15, 3) := dk_180 0 15 (dk_at dksX0_layStart_1 10 rfl rfl)
theorem dX0_layStart_36 : decode cX0_layStart 36 = .ok (.invokevirtual 152, 3) := dk_182 0 152 (dk_at dksX0_layStart_1 13 rfl rfl)
theorem dX0_layStart_39 : decode cX0_layStart 39 = .ok (.if_icmp .ge 130, 3) := dk_162 0 130 (dk_at dksX0_layStart_1 16 rfl rfl)
theorem dX0_layStart_42 : decode cX0_layStart 42 = .ok (.iconst 0, 1) := dk_3 (dk_at dksX0_layStart_1 19 rfl rfl)
theorem dX0_layStart_43 : decode cX0_layStart 43 = .ok (.istore_n 2, 1) := dk_61 (dk_at dksX0_layStart_1 20 rfl rfl)
theorem dX0_layStart_44 : decode cX0_layStart 44 = .ok (.iconst 0, 1) := dk_3 (dk_at dksX0_layStart_1 21 rfl rfl)
theorem dX0_layStart_45 : decode cX0_layStart 45 = .ok (.istore_n 3, 1) := dk_62 (dk_at dksX0_layStart_1 22 rfl rfl)
theorem dX0_layStart_46 : decode cX0_layStart 46 = .ok (.iconst 0, 1) := dk_3 (dk_at dksX0_layStart_1 23 rfl rfl)
theorem dX0_layStart_47 : decode cX0_layStart 47 = .ok (.istore 4, 2) := dk_54 4 (dk_at dksX0_layStart_2 0 rfl rfl)
theorem dX0_layStart_49 : decode cX0_layStart 49 = .ok (.iload 4, 2) := dk_21 4 (dk_at dksX0_layStart_2 2 rfl rfl)
theorem dX0_layStart_51 : decode cX0_layStart 51 = .ok (.aload_n 0, 1) := dk_42 (dk_at dksX0_layStart_2 4 rfl rfl)
theorem dX0_layStart_52 : decode cX0_layStart 52 = .ok (.getfield 15, 3) := dk_180 0 15 (dk_at dksX0_layStart_2 5 rfl rfl)
theorem dX0_layStart_55 : decode cX0_layStart 55 = .ok (.getfield 145, 3) := dk_180 0 145 (dk_at dksX0_layStart_2 8 rfl rfl)
theorem dX0_layStart_58 : decode cX0_layStart 58 = .ok (.invokevirtual 148, 3) := dk_182 0 148 (dk_at dksX0_layStart_2 11 rfl rfl)
theorem dX0_layStart_61 : decode cX0_layStart 61 = .ok (.if_icmp .ge 82, 3) := dk_162 0 82 (dk_at dksX0_layStart_2 14 rfl rfl)
theorem dX0_layStart_64 : decode cX0_layStart 64 = .ok (.aload_n 0, 1) := dk_42 (dk_at dksX0_layStart_2 17 rfl rfl)
theorem dX0_layStart_65 : decode cX0_layStart 65 = .ok (.getfield 15, 3) := dk_180 0 15 (dk_at dksX0_layStart_2 18 rfl rfl)
theorem dX0_layStart_68 : decode cX0_layStart 68 = .ok (.getfield 145, 3) := dk_180 0 145 (dk_at dksX0_layStart_2 21 rfl rfl)
theorem dX0_layStart_71 : decode cX0_layStart 71 = .ok (.iload 4, 2) := dk_21 4 (dk_at dksX0_layStart_3 0 rfl rfl)
theorem dX0_layStart_73 : decode cX0_layStart 73 = .ok (.invokevirtual 222, 3) := dk_182 0 222 (dk_at dksX0_layStart_3 2 rfl rfl)
theorem dX0_layStart_76 : decode cX0_layStart 76 = .ok (.instanceof 226, 3) := dk_193 0 226 (dk_at dksX0_layStart_3 5 rfl rfl)
theorem dX0_layStart_79 : decode cX0_layStart 79 = .ok (.ifCond .ne 6, 3) := dk_154 0 6 (dk_at dksX0_layStart_3 8 rfl rfl)
theorem dX0_layStart_82 : decode cX0_layStart 82 = .ok (.goto 55, 3) := dk_167 0 55 (dk_at dksX0_layStart_3 11 rfl rfl)
theorem dX0_layStart_85 : decode cX0_layStart 85 = .ok (.aload_n 0, 1) := dk_42 (dk_at dksX0_layStart_3 14 rfl rfl)
theorem dX0_layStart_86 : decode cX0_layStart 86 = .ok (.getfield 15, 3) := dk_180 0 15 (dk_at dksX0_layStart_3 15 rfl rfl)
theorem dX0_layStart_89 : decode cX0_layStart 89 = .ok (.getfield 145, 3) := dk_180 0 145 (dk_at dksX0_layStart_3 18 rfl rfl)
theorem dX0_layStart_92 : decode cX0_layStart 92 = .ok (.iload 4, 2) := dk_21 4 (dk_at dksX0_layStart_3 21 rfl rfl)
theorem dX0_layStart_94 : decode cX0_layStart 94 = .ok (.invokevirtual 222, 3) := dk_182 0 222 (dk_at dksX0_layStart_4 0 rfl rfl)
theorem dX0_layStart_97 : decode cX0_layStart 97 = .ok (.checkcast 226, 3) := dk_192 0 226 (dk_at dksX0_layStart_4 3 rfl rfl)
theorem dX0_layStart_100 : decode cX0_layStart 100 = .ok (.astore 5, 2) := dk_58 5 (dk_at dksX0_layStart_4 6 rfl rfl)
theorem dX0_layStart_102 : decode cX0_layStart 102 = .ok (.iload_n 3, 1) := dk_29 (dk_at dksX0_layStart_4 8 rfl rfl)
theorem dX0_layStart_103 : decode cX0_layStart 103 = .ok (.aload 5, 2) := dk_25 5 (dk_at dksX0_layStart_4 9 rfl rfl)
theorem dX0_layStart_105 : decode cX0_layStart 105 = .ok (.invokevirtual 228, 3) := dk_182 0 228 (dk_at dksX0_layStart_4 11 rfl rfl)
theorem dX0_layStart_108 : decode cX0_layStart 108 = .ok (.iadd, 1) := dk_96 (dk_at dksX0_layStart_4 14 rfl rfl)
theorem dX0_layStart_109 : decode cX0_layStart 109 = .ok (.bipush 8, 2) := dk_16 8 (dk_at dksX0_layStart_4 15 rfl rfl)
theorem dX0_layStart_111 : decode cX0_layStart 111 = .ok (.if_icmp .le 6, 3) := dk_164 0 6 (dk_at dksX0_layStart_4 17 rfl rfl)
theorem dX0_layStart_114 : decode cX0_layStart 114 = .ok (.goto 29, 3) := dk_167 0 29 (dk_at dksX0_layStart_4 20 rfl rfl)
theorem dX0_layStart_117 : decode cX0_layStart 117 = .ok (.iload_n 2, 1) := dk_28 (dk_at dksX0_layStart_4 23 rfl rfl)
theorem dX0_layStart_118 : decode cX0_layStart 118 = .ok (.aload 5, 2) := dk_25 5 (dk_at dksX0_layStart_5 0 rfl rfl)
theorem dX0_layStart_120 : decode cX0_layStart 120 = .ok (.iload_n 3, 1) := dk_29 (dk_at dksX0_layStart_5 2 rfl rfl)
theorem dX0_layStart_121 : decode cX0_layStart 121 = .ok (.iload_n 1, 1) := dk_27 (dk_at dksX0_layStart_5 3 rfl rfl)
theorem dX0_layStart_122 : decode cX0_layStart 122 = .ok (.iconst (-1), 1) := dk_2 (dk_at dksX0_layStart_5 4 rfl rfl)
theorem dX0_layStart_123 : decode cX0_layStart 123 = .ok (.iconst 0, 1) := dk_3 (dk_at dksX0_layStart_5 5 rfl rfl)
theorem dX0_layStart_124 : decode cX0_layStart 124 = .ok (.invokevirtual 230, 3) := dk_182 0 230 (dk_at dksX0_layStart_5 6 rfl rfl)
theorem dX0_layStart_127 : decode cX0_layStart 127 = .ok (.ior, 1) := dk_128 (dk_at dksX0_layStart_5 9 rfl rfl)
theorem dX0_layStart_128 : decode cX0_layStart 128 = .ok (.istore_n 2, 1) := dk_61 (dk_at dksX0_layStart_5 10 rfl rfl)
theorem dX0_layStart_129 : decode cX0_layStart 129 = .ok (.iload_n 3, 1) := dk_29 (dk_at dksX0_layStart_5 11 rfl rfl)
theorem dX0_layStart_130 : decode cX0_layStart 130 = .ok (.aload 5, 2) := dk_25 5 (dk_at dksX0_layStart_5 12 rfl rfl)
theorem dX0_layStart_132 : decode cX0_layStart 132 = .ok (.invokevirtual 228, 3) := dk_182 0 228 (dk_at dksX0_layStart_5 14 rfl rfl)
theorem dX0_layStart_135 : decode cX0_layStart 135 = .ok (.iadd, 1) := dk_96 (dk_at dksX0_layStart_5 17 rfl rfl)
theorem dX0_layStart_136 : decode cX0_layStart 136 = .ok (.istore_n 3, 1) := dk_62 (dk_at dksX0_layStart_5 18 rfl rfl)
theorem dX0_layStart_137 : decode cX0_layStart 137 = .ok (.iinc 4 1, 3) := dk_132 4 1 (dk_at dksX0_layStart_5 19 rfl rfl)
theorem dX0_layStart_140 : decode cX0_layStart 140 = .ok (.goto (-91), 3) := dk_167 255 165 (dk_at dksX0_layStart_6 0 rfl rfl)
theorem dX0_layStart_143 : decode cX0_layStart 143 = .ok (.aload_n 0, 1) := dk_42 (dk_at dksX0_layStart_6 3 rfl rfl)
theorem dX0_layStart_144 : decode cX0_layStart 144 = .ok (.getfield 78, 3) := dk_180 0 78 (dk_at dksX0_layStart_6 4 rfl rfl)
theorem dX0_layStart_147 : decode cX0_layStart 147 = .ok (.iconst 0, 1) := dk_3 (dk_at dksX0_layStart_6 7 rfl rfl)
theorem dX0_layStart_148 : decode cX0_layStart 148 = .ok (.aaload, 1) := dk_50 (dk_at dksX0_layStart_6 8 rfl rfl)
theorem dX0_layStart_149 : decode cX0_layStart 149 = .ok (.sipush 256, 3) := dk_17 1 0 (dk_at dksX0_layStart_6 9 rfl rfl)
theorem dX0_layStart_152 : decode cX0_layStart 152 = .ok (.iload_n 1, 1) := dk_27 (dk_at dksX0_layStart_6 12 rfl rfl)
theorem dX0_layStart_153 : decode cX0_layStart 153 = .ok (.imul, 1) := dk_104 (dk_at dksX0_layStart_6 13 rfl rfl)
theorem dX0_layStart_154 : decode cX0_layStart 154 = .ok (.iload_n 2, 1) := dk_28 (dk_at dksX0_layStart_6 14 rfl rfl)
theorem dX0_layStart_155 : decode cX0_layStart 155 = .ok (.iadd, 1) := dk_96 (dk_at dksX0_layStart_6 15 rfl rfl)
theorem dX0_layStart_156 : decode cX0_layStart 156 = .ok (.lconst 1, 1) := dk_10 (dk_at dksX0_layStart_6 16 rfl rfl)
theorem dX0_layStart_157 : decode cX0_layStart 157 = .ok (.lastore, 1) := dk_80 (dk_at dksX0_layStart_6 17 rfl rfl)
theorem dX0_layStart_158 : decode cX0_layStart 158 = .ok (.aload_n 0, 1) := dk_42 (dk_at dksX0_layStart_6 18 rfl rfl)
theorem dX0_layStart_159 : decode cX0_layStart 159 = .ok (.iload_n 3, 1) := dk_29 (dk_at dksX0_layStart_6 19 rfl rfl)
theorem dX0_layStart_160 : decode cX0_layStart 160 = .ok (.putfield 219, 3) := dk_181 0 219 (dk_at dksX0_layStart_6 20 rfl rfl)
theorem dX0_layStart_163 : decode cX0_layStart 163 = .ok (.iinc 1 1, 3) := dk_132 1 1 (dk_at dksX0_layStart_7 0 rfl rfl)
theorem dX0_layStart_166 : decode cX0_layStart 166 = .ok (.goto (-135), 3) := dk_167 255 121 (dk_at dksX0_layStart_7 3 rfl rfl)
theorem dX0_layStart_169 : decode cX0_layStart 169 = .ok (.return_, 1) := dk_177 (dk_at dksX0_layStart_7 6 rfl rfl)
abbrev cX0_seekFrom : ByteArray := prog_1_method_28_code
def yX0_seekFrom : MethodName := ⟨RX0, "seekFrom", "(LBlindCards;III)Z"⟩
def dkwX0_seekFrom_7 : List UInt8 := [167, 255, 166, 3, 172]
abbrev dktX0_seekFrom_7 : List UInt8 := dkwX0_seekFrom_7 ++ []
def dkwX0_seekFrom_6 : List UInt8 := [28, 4, 100, 16, 10, 29, 104, 21, 4, 96, 4, 96, 184, 1, 17, 153, 0, 5, 4, 172, 132, 4, 1]
abbrev dktX0_seekFrom_6 : List UInt8 := dkwX0_seekFrom_6 ++ dktX0_seekFrom_7
def dkwX0_seekFrom_5 : List UInt8 := [42, 27, 42, 180, 0, 15, 180, 1, 9, 21, 4, 182, 0, 222, 192, 0, 234, 182, 1, 13, 42, 27, 4, 96]
abbrev dktX0_seekFrom_5 : List UInt8 := dkwX0_seekFrom_5 ++ dktX0_seekFrom_6
def dkwX0_seekFrom_4 : List UInt8 := [180, 1, 9, 21, 4, 182, 0, 222, 192, 0, 234, 182, 1, 12, 42, 180, 0, 219, 164, 0, 6, 167, 0, 47]
abbrev dktX0_seekFrom_4 : List UInt8 := dkwX0_seekFrom_4 ++ dktX0_seekFrom_5
def dkwX0_seekFrom_3 : List UInt8 := [3, 172, 3, 54, 4, 21, 4, 42, 180, 0, 15, 180, 1, 9, 182, 0, 148, 162, 0, 81, 42, 180, 0, 15]
abbrev dktX0_seekFrom_3 : List UInt8 := dkwX0_seekFrom_3 ++ dktX0_seekFrom_4
def dkwX0_seekFrom_2 : List UInt8 := [42, 27, 181, 1, 0, 42, 29, 181, 1, 3, 42, 21, 4, 181, 1, 6, 4, 172, 132, 4, 1, 167, 255, 194]
abbrev dktX0_seekFrom_2 : List UInt8 := dkwX0_seekFrom_2 ++ dktX0_seekFrom_3
def dkwX0_seekFrom_1 : List UInt8 := [42, 180, 0, 15, 180, 0, 249, 21, 4, 182, 0, 222, 192, 0, 242, 182, 0, 252, 154, 0, 6, 167, 0, 21]
abbrev dktX0_seekFrom_1 : List UInt8 := dkwX0_seekFrom_1 ++ dktX0_seekFrom_2
def dkwX0_seekFrom_0 : List UInt8 := [28, 154, 0, 73, 3, 54, 4, 21, 4, 42, 180, 0, 15, 180, 0, 249, 182, 0, 148, 162, 0, 53, 42, 27]
abbrev dktX0_seekFrom_0 : List UInt8 := dkwX0_seekFrom_0 ++ dktX0_seekFrom_1
theorem dksX0_seekFrom_0 : cX0_seekFrom.data.toList.drop 0 = dktX0_seekFrom_0 := by decide +kernel
theorem dksX0_seekFrom_1 : cX0_seekFrom.data.toList.drop 24 = dktX0_seekFrom_1 := dk_seg dksX0_seekFrom_0 24 rfl rfl
theorem dksX0_seekFrom_2 : cX0_seekFrom.data.toList.drop 48 = dktX0_seekFrom_2 := dk_seg dksX0_seekFrom_1 24 rfl rfl
theorem dksX0_seekFrom_3 : cX0_seekFrom.data.toList.drop 72 = dktX0_seekFrom_3 := dk_seg dksX0_seekFrom_2 24 rfl rfl
theorem dksX0_seekFrom_4 : cX0_seekFrom.data.toList.drop 96 = dktX0_seekFrom_4 := dk_seg dksX0_seekFrom_3 24 rfl rfl
theorem dksX0_seekFrom_5 : cX0_seekFrom.data.toList.drop 120 = dktX0_seekFrom_5 := dk_seg dksX0_seekFrom_4 24 rfl rfl
theorem dksX0_seekFrom_6 : cX0_seekFrom.data.toList.drop 144 = dktX0_seekFrom_6 := dk_seg dksX0_seekFrom_5 24 rfl rfl
theorem dksX0_seekFrom_7 : cX0_seekFrom.data.toList.drop 167 = dktX0_seekFrom_7 := dk_seg dksX0_seekFrom_6 23 rfl rfl
theorem dX0_seekFrom_0 : decode cX0_seekFrom 0 = .ok (.iload_n 2, 1) := dk_28 (dk_at dksX0_seekFrom_0 0 rfl rfl)
theorem dX0_seekFrom_1 : decode cX0_seekFrom 1 = .ok (.ifCond .ne 73, 3) := dk_154 0 73 (dk_at dksX0_seekFrom_0 1 rfl rfl)
theorem dX0_seekFrom_4 : decode cX0_seekFrom 4 = .ok (.iconst 0, 1) := dk_3 (dk_at dksX0_seekFrom_0 4 rfl rfl)
theorem dX0_seekFrom_5 : decode cX0_seekFrom 5 = .ok (.istore 4, 2) := dk_54 4 (dk_at dksX0_seekFrom_0 5 rfl rfl)
theorem dX0_seekFrom_7 : decode cX0_seekFrom 7 = .ok (.iload 4, 2) := dk_21 4 (dk_at dksX0_seekFrom_0 7 rfl rfl)
theorem dX0_seekFrom_9 : decode cX0_seekFrom 9 = .ok (.aload_n 0, 1) := dk_42 (dk_at dksX0_seekFrom_0 9 rfl rfl)
theorem dX0_seekFrom_10 : decode cX0_seekFrom 10 = .ok (.getfield 15, 3) := dk_180 0 15 (dk_at dksX0_seekFrom_0 10 rfl rfl)
theorem dX0_seekFrom_13 : decode cX0_seekFrom 13 = .ok (.getfield 249, 3) := dk_180 0 249 (dk_at dksX0_seekFrom_0 13 rfl rfl)
theorem dX0_seekFrom_16 : decode cX0_seekFrom 16 = .ok (.invokevirtual 148, 3) := dk_182 0 148 (dk_at dksX0_seekFrom_0 16 rfl rfl)
theorem dX0_seekFrom_19 : decode cX0_seekFrom 19 = .ok (.if_icmp .ge 53, 3) := dk_162 0 53 (dk_at dksX0_seekFrom_0 19 rfl rfl)
theorem dX0_seekFrom_22 : decode cX0_seekFrom 22 = .ok (.aload_n 0, 1) := dk_42 (dk_at dksX0_seekFrom_0 22 rfl rfl)
theorem dX0_seekFrom_23 : decode cX0_seekFrom 23 = .ok (.iload_n 1, 1) := dk_27 (dk_at dksX0_seekFrom_0 23 rfl rfl)
theorem dX0_seekFrom_24 : decode cX0_seekFrom 24 = .ok (.aload_n 0, 1) := dk_42 (dk_at dksX0_seekFrom_1 0 rfl rfl)
theorem dX0_seekFrom_25 : decode cX0_seekFrom 25 = .ok (.getfield 15, 3) := dk_180 0 15 (dk_at dksX0_seekFrom_1 1 rfl rfl)
theorem dX0_seekFrom_28 : decode cX0_seekFrom 28 = .ok (.getfield 249, 3) := dk_180 0 249 (dk_at dksX0_seekFrom_1 4 rfl rfl)
theorem dX0_seekFrom_31 : decode cX0_seekFrom 31 = .ok (.iload 4, 2) := dk_21 4 (dk_at dksX0_seekFrom_1 7 rfl rfl)
theorem dX0_seekFrom_33 : decode cX0_seekFrom 33 = .ok (.invokevirtual 222, 3) := dk_182 0 222 (dk_at dksX0_seekFrom_1 9 rfl rfl)
theorem dX0_seekFrom_36 : decode cX0_seekFrom 36 = .ok (.checkcast 242, 3) := dk_192 0 242 (dk_at dksX0_seekFrom_1 12 rfl rfl)
theorem dX0_seekFrom_39 : decode cX0_seekFrom 39 = .ok (.invokevirtual 252, 3) := dk_182 0 252 (dk_at dksX0_seekFrom_1 15 rfl rfl)
theorem dX0_seekFrom_42 : decode cX0_seekFrom 42 = .ok (.ifCond .ne 6, 3) := dk_154 0 6 (dk_at dksX0_seekFrom_1 18 rfl rfl)
theorem dX0_seekFrom_45 : decode cX0_seekFrom 45 = .ok (.goto 21, 3) := dk_167 0 21 (dk_at dksX0_seekFrom_1 21 rfl rfl)
theorem dX0_seekFrom_48 : decode cX0_seekFrom 48 = .ok (.aload_n 0, 1) := dk_42 (dk_at dksX0_seekFrom_2 0 rfl rfl)
theorem dX0_seekFrom_49 : decode cX0_seekFrom 49 = .ok (.iload_n 1, 1) := dk_27 (dk_at dksX0_seekFrom_2 1 rfl rfl)
theorem dX0_seekFrom_50 : decode cX0_seekFrom 50 = .ok (.putfield 256, 3) := dk_181 1 0 (dk_at dksX0_seekFrom_2 2 rfl rfl)
theorem dX0_seekFrom_53 : decode cX0_seekFrom 53 = .ok (.aload_n 0, 1) := dk_42 (dk_at dksX0_seekFrom_2 5 rfl rfl)
theorem dX0_seekFrom_54 : decode cX0_seekFrom 54 = .ok (.iload_n 3, 1) := dk_29 (dk_at dksX0_seekFrom_2 6 rfl rfl)
theorem dX0_seekFrom_55 : decode cX0_seekFrom 55 = .ok (.putfield 259, 3) := dk_181 1 3 (dk_at dksX0_seekFrom_2 7 rfl rfl)
theorem dX0_seekFrom_58 : decode cX0_seekFrom 58 = .ok (.aload_n 0, 1) := dk_42 (dk_at dksX0_seekFrom_2 10 rfl rfl)
theorem dX0_seekFrom_59 : decode cX0_seekFrom 59 = .ok (.iload 4, 2) := dk_21 4 (dk_at dksX0_seekFrom_2 11 rfl rfl)
theorem dX0_seekFrom_61 : decode cX0_seekFrom 61 = .ok (.putfield 262, 3) := dk_181 1 6 (dk_at dksX0_seekFrom_2 13 rfl rfl)
theorem dX0_seekFrom_64 : decode cX0_seekFrom 64 = .ok (.iconst 1, 1) := dk_4 (dk_at dksX0_seekFrom_2 16 rfl rfl)
theorem dX0_seekFrom_65 : decode cX0_seekFrom 65 = .ok (.ireturn, 1) := dk_172 (dk_at dksX0_seekFrom_2 17 rfl rfl)
theorem dX0_seekFrom_66 : decode cX0_seekFrom 66 = .ok (.iinc 4 1, 3) := dk_132 4 1 (dk_at dksX0_seekFrom_2 18 rfl rfl)
theorem dX0_seekFrom_69 : decode cX0_seekFrom 69 = .ok (.goto (-62), 3) := dk_167 255 194 (dk_at dksX0_seekFrom_2 21 rfl rfl)
theorem dX0_seekFrom_72 : decode cX0_seekFrom 72 = .ok (.iconst 0, 1) := dk_3 (dk_at dksX0_seekFrom_3 0 rfl rfl)
theorem dX0_seekFrom_73 : decode cX0_seekFrom 73 = .ok (.ireturn, 1) := dk_172 (dk_at dksX0_seekFrom_3 1 rfl rfl)
theorem dX0_seekFrom_74 : decode cX0_seekFrom 74 = .ok (.iconst 0, 1) := dk_3 (dk_at dksX0_seekFrom_3 2 rfl rfl)
theorem dX0_seekFrom_75 : decode cX0_seekFrom 75 = .ok (.istore 4, 2) := dk_54 4 (dk_at dksX0_seekFrom_3 3 rfl rfl)
theorem dX0_seekFrom_77 : decode cX0_seekFrom 77 = .ok (.iload 4, 2) := dk_21 4 (dk_at dksX0_seekFrom_3 5 rfl rfl)
theorem dX0_seekFrom_79 : decode cX0_seekFrom 79 = .ok (.aload_n 0, 1) := dk_42 (dk_at dksX0_seekFrom_3 7 rfl rfl)
theorem dX0_seekFrom_80 : decode cX0_seekFrom 80 = .ok (.getfield 15, 3) := dk_180 0 15 (dk_at dksX0_seekFrom_3 8 rfl rfl)
theorem dX0_seekFrom_83 : decode cX0_seekFrom 83 = .ok (.getfield 265, 3) := dk_180 1 9 (dk_at dksX0_seekFrom_3 11 rfl rfl)
theorem dX0_seekFrom_86 : decode cX0_seekFrom 86 = .ok (.invokevirtual 148, 3) := dk_182 0 148 (dk_at dksX0_seekFrom_3 14 rfl rfl)
theorem dX0_seekFrom_89 : decode cX0_seekFrom 89 = .ok (.if_icmp .ge 81, 3) := dk_162 0 81 (dk_at dksX0_seekFrom_3 17 rfl rfl)
theorem dX0_seekFrom_92 : decode cX0_seekFrom 92 = .ok (.aload_n 0, 1) := dk_42 (dk_at dksX0_seekFrom_3 20 rfl rfl)
theorem dX0_seekFrom_93 : decode cX0_seekFrom 93 = .ok (.getfield 15, 3) := dk_180 0 15 (dk_at dksX0_seekFrom_3 21 rfl rfl)
theorem dX0_seekFrom_96 : decode cX0_seekFrom 96 = .ok (.getfield 265, 3) := dk_180 1 9 (dk_at dksX0_seekFrom_4 0 rfl rfl)
theorem dX0_seekFrom_99 : decode cX0_seekFrom 99 = .ok (.iload 4, 2) := dk_21 4 (dk_at dksX0_seekFrom_4 3 rfl rfl)
theorem dX0_seekFrom_101 : decode cX0_seekFrom 101 = .ok (.invokevirtual 222, 3) := dk_182 0 222 (dk_at dksX0_seekFrom_4 5 rfl rfl)
theorem dX0_seekFrom_104 : decode cX0_seekFrom 104 = .ok (.checkcast 234, 3) := dk_192 0 234 (dk_at dksX0_seekFrom_4 8 rfl rfl)
theorem dX0_seekFrom_107 : decode cX0_seekFrom 107 = .ok (.invokevirtual 268, 3) := dk_182 1 12 (dk_at dksX0_seekFrom_4 11 rfl rfl)
theorem dX0_seekFrom_110 : decode cX0_seekFrom 110 = .ok (.aload_n 0, 1) := dk_42 (dk_at dksX0_seekFrom_4 14 rfl rfl)
theorem dX0_seekFrom_111 : decode cX0_seekFrom 111 = .ok (.getfield 219, 3) := dk_180 0 219 (dk_at dksX0_seekFrom_4 15 rfl rfl)
theorem dX0_seekFrom_114 : decode cX0_seekFrom 114 = .ok (.if_icmp .le 6, 3) := dk_164 0 6 (dk_at dksX0_seekFrom_4 18 rfl rfl)
theorem dX0_seekFrom_117 : decode cX0_seekFrom 117 = .ok (.goto 47, 3) := dk_167 0 47 (dk_at dksX0_seekFrom_4 21 rfl rfl)
theorem dX0_seekFrom_120 : decode cX0_seekFrom 120 = .ok (.aload_n 0, 1) := dk_42 (dk_at dksX0_seekFrom_5 0 rfl rfl)
theorem dX0_seekFrom_121 : decode cX0_seekFrom 121 = .ok (.iload_n 1, 1) := dk_27 (dk_at dksX0_seekFrom_5 1 rfl rfl)
theorem dX0_seekFrom_122 : decode cX0_seekFrom 122 = .ok (.aload_n 0, 1) := dk_42 (dk_at dksX0_seekFrom_5 2 rfl rfl)
theorem dX0_seekFrom_123 : decode cX0_seekFrom 123 = .ok (.getfield 15, 3) := dk_180 0 15 (dk_at dksX0_seekFrom_5 3 rfl rfl)
theorem dX0_seekFrom_126 : decode cX0_seekFrom 126 = .ok (.getfield 265, 3) := dk_180 1 9 (dk_at dksX0_seekFrom_5 6 rfl rfl)
theorem dX0_seekFrom_129 : decode cX0_seekFrom 129 = .ok (.iload 4, 2) := dk_21 4 (dk_at dksX0_seekFrom_5 9 rfl rfl)
theorem dX0_seekFrom_131 : decode cX0_seekFrom 131 = .ok (.invokevirtual 222, 3) := dk_182 0 222 (dk_at dksX0_seekFrom_5 11 rfl rfl)
theorem dX0_seekFrom_134 : decode cX0_seekFrom 134 = .ok (.checkcast 234, 3) := dk_192 0 234 (dk_at dksX0_seekFrom_5 14 rfl rfl)
theorem dX0_seekFrom_137 : decode cX0_seekFrom 137 = .ok (.invokevirtual 269, 3) := dk_182 1 13 (dk_at dksX0_seekFrom_5 17 rfl rfl)
theorem dX0_seekFrom_140 : decode cX0_seekFrom 140 = .ok (.aload_n 0, 1) := dk_42 (dk_at dksX0_seekFrom_5 20 rfl rfl)
theorem dX0_seekFrom_141 : decode cX0_seekFrom 141 = .ok (.iload_n 1, 1) := dk_27 (dk_at dksX0_seekFrom_5 21 rfl rfl)
theorem dX0_seekFrom_142 : decode cX0_seekFrom 142 = .ok (.iconst 1, 1) := dk_4 (dk_at dksX0_seekFrom_5 22 rfl rfl)
theorem dX0_seekFrom_143 : decode cX0_seekFrom 143 = .ok (.iadd, 1) := dk_96 (dk_at dksX0_seekFrom_5 23 rfl rfl)
theorem dX0_seekFrom_144 : decode cX0_seekFrom 144 = .ok (.iload_n 2, 1) := dk_28 (dk_at dksX0_seekFrom_6 0 rfl rfl)
theorem dX0_seekFrom_145 : decode cX0_seekFrom 145 = .ok (.iconst 1, 1) := dk_4 (dk_at dksX0_seekFrom_6 1 rfl rfl)
theorem dX0_seekFrom_146 : decode cX0_seekFrom 146 = .ok (.isub, 1) := dk_100 (dk_at dksX0_seekFrom_6 2 rfl rfl)
theorem dX0_seekFrom_147 : decode cX0_seekFrom 147 = .ok (.bipush 10, 2) := dk_16 10 (dk_at dksX0_seekFrom_6 3 rfl rfl)
theorem dX0_seekFrom_149 : decode cX0_seekFrom 149 = .ok (.iload_n 3, 1) := dk_29 (dk_at dksX0_seekFrom_6 5 rfl rfl)
theorem dX0_seekFrom_150 : decode cX0_seekFrom 150 = .ok (.imul, 1) := dk_104 (dk_at dksX0_seekFrom_6 6 rfl rfl)
theorem dX0_seekFrom_151 : decode cX0_seekFrom 151 = .ok (.iload 4, 2) := dk_21 4 (dk_at dksX0_seekFrom_6 7 rfl rfl)
theorem dX0_seekFrom_153 : decode cX0_seekFrom 153 = .ok (.iadd, 1) := dk_96 (dk_at dksX0_seekFrom_6 9 rfl rfl)
theorem dX0_seekFrom_154 : decode cX0_seekFrom 154 = .ok (.iconst 1, 1) := dk_4 (dk_at dksX0_seekFrom_6 10 rfl rfl)
theorem dX0_seekFrom_155 : decode cX0_seekFrom 155 = .ok (.iadd, 1) := dk_96 (dk_at dksX0_seekFrom_6 11 rfl rfl)
theorem dX0_seekFrom_156 : decode cX0_seekFrom 156 = .ok (.invokestatic 273, 3) := dk_184 1 17 (dk_at dksX0_seekFrom_6 12 rfl rfl)
theorem dX0_seekFrom_159 : decode cX0_seekFrom 159 = .ok (.ifCond .eq 5, 3) := dk_153 0 5 (dk_at dksX0_seekFrom_6 15 rfl rfl)
theorem dX0_seekFrom_162 : decode cX0_seekFrom 162 = .ok (.iconst 1, 1) := dk_4 (dk_at dksX0_seekFrom_6 18 rfl rfl)
theorem dX0_seekFrom_163 : decode cX0_seekFrom 163 = .ok (.ireturn, 1) := dk_172 (dk_at dksX0_seekFrom_6 19 rfl rfl)
theorem dX0_seekFrom_164 : decode cX0_seekFrom 164 = .ok (.iinc 4 1, 3) := dk_132 4 1 (dk_at dksX0_seekFrom_6 20 rfl rfl)
theorem dX0_seekFrom_167 : decode cX0_seekFrom 167 = .ok (.goto (-90), 3) := dk_167 255 166 (dk_at dksX0_seekFrom_7 0 rfl rfl)
theorem dX0_seekFrom_170 : decode cX0_seekFrom 170 = .ok (.iconst 0, 1) := dk_3 (dk_at dksX0_seekFrom_7 3 rfl rfl)
theorem dX0_seekFrom_171 : decode cX0_seekFrom 171 = .ok (.ireturn, 1) := dk_172 (dk_at dksX0_seekFrom_7 4 rfl rfl)
abbrev cX0_isGood : ByteArray := prog_1_method_27_code
def yX0_isGood : MethodName := ⟨RX0, "isGood", "(ILBlindCards$Open;)Z"⟩
def dkwX0_isGood_9 : List UInt8 := [167, 255, 61, 4, 172]
abbrev dktX0_isGood_9 : List UInt8 := dkwX0_isGood_9 ++ []
def dkwX0_isGood_8 : List UInt8 := [47, 9, 148, 158, 0, 5, 3, 172, 132, 5, 1, 167, 255, 187, 132, 4, 1, 167, 255, 166, 132, 3, 1]
abbrev dktX0_isGood_8 : List UInt8 := dkwX0_isGood_8 ++ dktX0_isGood_9
def dkwX0_isGood_7 : List UInt8 := [153, 0, 32, 167, 0, 27, 42, 180, 0, 81, 21, 4, 47, 9, 148, 158, 0, 17, 42, 180, 0, 81, 21, 5]
abbrev dktX0_isGood_7 : List UInt8 := dkwX0_isGood_7 ++ dktX0_isGood_8
def dkwX0_isGood_6 : List UInt8 := [3, 182, 0, 202, 153, 0, 24, 42, 180, 0, 81, 21, 4, 47, 42, 180, 0, 81, 21, 5, 47, 148]
abbrev dktX0_isGood_6 : List UInt8 := dkwX0_isGood_6 ++ dktX0_isGood_7
def dkwX0_isGood_5 : List UInt8 := [180, 0, 15, 182, 0, 152, 162, 0, 84, 3, 54, 5, 21, 5, 21, 4, 162, 0, 68, 42, 21, 4, 21, 5]
abbrev dktX0_isGood_5 : List UInt8 := dkwX0_isGood_5 ++ dktX0_isGood_6
def dkwX0_isGood_4 : List UInt8 := [167, 0, 4, 9, 97, 80, 132, 5, 1, 167, 255, 205, 132, 4, 1, 167, 255, 176, 3, 54, 4, 21, 4, 42]
abbrev dktX0_isGood_4 : List UInt8 := dkwX0_isGood_4 ++ dktX0_isGood_5
def dkwX0_isGood_3 : List UInt8 := [182, 0, 247, 29, 160, 0, 22, 42, 180, 0, 78, 27, 50, 17, 1, 0, 21, 4, 104, 21, 5, 96, 47]
abbrev dktX0_isGood_3 : List UInt8 := dkwX0_isGood_3 ++ dktX0_isGood_4
def dkwX0_isGood_2 : List UInt8 := [9, 80, 3, 54, 5, 21, 5, 17, 1, 0, 162, 0, 49, 42, 180, 0, 81, 21, 4, 92, 47, 44, 21, 5]
abbrev dktX0_isGood_2 : List UInt8 := dkwX0_isGood_2 ++ dktX0_isGood_3
def dkwX0_isGood_1 : List UInt8 := [162, 0, 191, 3, 54, 4, 21, 4, 42, 180, 0, 15, 182, 0, 152, 162, 0, 74, 42, 180, 0, 81, 21, 4]
abbrev dktX0_isGood_1 : List UInt8 := dkwX0_isGood_1 ++ dktX0_isGood_2
def dkwX0_isGood_0 : List UInt8 := [44, 182, 0, 241, 42, 180, 0, 219, 164, 0, 5, 3, 172, 3, 62, 29, 4, 44, 180, 0, 246, 120]
abbrev dktX0_isGood_0 : List UInt8 := dkwX0_isGood_0 ++ dktX0_isGood_1
theorem dksX0_isGood_0 : cX0_isGood.data.toList.drop 0 = dktX0_isGood_0 := by decide +kernel
theorem dksX0_isGood_1 : cX0_isGood.data.toList.drop 22 = dktX0_isGood_1 := dk_seg dksX0_isGood_0 22 rfl rfl
theorem dksX0_isGood_2 : cX0_isGood.data.toList.drop 46 = dktX0_isGood_2 := dk_seg dksX0_isGood_1 24 rfl rfl
theorem dksX0_isGood_3 : cX0_isGood.data.toList.drop 70 = dktX0_isGood_3 := dk_seg dksX0_isGood_2 24 rfl rfl
theorem dksX0_isGood_4 : cX0_isGood.data.toList.drop 93 = dktX0_isGood_4 := dk_seg dksX0_isGood_3 23 rfl rfl
theorem dksX0_isGood_5 : cX0_isGood.data.toList.drop 117 = dktX0_isGood_5 := dk_seg dksX0_isGood_4 24 rfl rfl
theorem dksX0_isGood_6 : cX0_isGood.data.toList.drop 141 = dktX0_isGood_6 := dk_seg dksX0_isGood_5 24 rfl rfl
theorem dksX0_isGood_7 : cX0_isGood.data.toList.drop 163 = dktX0_isGood_7 := dk_seg dksX0_isGood_6 22 rfl rfl
theorem dksX0_isGood_8 : cX0_isGood.data.toList.drop 187 = dktX0_isGood_8 := dk_seg dksX0_isGood_7 24 rfl rfl
theorem dksX0_isGood_9 : cX0_isGood.data.toList.drop 210 = dktX0_isGood_9 := dk_seg dksX0_isGood_8 23 rfl rfl
theorem dX0_isGood_0 : decode cX0_isGood 0 = .ok (.aload_n 2, 1) := dk_44 (dk_at dksX0_isGood_0 0 rfl rfl)
theorem dX0_isGood_1 : decode cX0_isGood 1 = .ok (.invokevirtual 241, 3) := dk_182 0 241 (dk_at dksX0_isGood_0 1 rfl rfl)
theorem dX0_isGood_4 : decode cX0_isGood 4 = .ok (.aload_n 0, 1) := dk_42 (dk_at dksX0_isGood_0 4 rfl rfl)
theorem dX0_isGood_5 : decode cX0_isGood 5 = .ok (.getfield 219, 3) := dk_180 0 219 (dk_at dksX0_isGood_0 5 rfl rfl)
theorem dX0_isGood_8 : decode cX0_isGood 8 = .ok (.if_icmp .le 5, 3) := dk_164 0 5 (dk_at dksX0_isGood_0 8 rfl rfl)
theorem dX0_isGood_11 : decode cX0_isGood 11 = .ok (.iconst 0, 1) := dk_3 (dk_at dksX0_isGood_0 11 rfl rfl)
theorem dX0_isGood_12 : decode cX0_isGood 12 = .ok (.ireturn, 1) := dk_172 (dk_at dksX0_isGood_0 12 rfl rfl)
theorem dX0_isGood_13 : decode cX0_isGood 13 = .ok (.iconst 0, 1) := dk_3 (dk_at dksX0_isGood_0 13 rfl rfl)
theorem dX0_isGood_14 : decode cX0_isGood 14 = .ok (.istore_n 3, 1) := dk_62 (dk_at dksX0_isGood_0 14 rfl rfl)
theorem dX0_isGood_15 : decode cX0_isGood 15 = .ok (.iload_n 3, 1) := dk_29 (dk_at dksX0_isGood_0 15 rfl rfl)
theorem dX0_isGood_16 : decode cX0_isGood 16 = .ok (.iconst 1, 1) := dk_4 (dk_at dksX0_isGood_0 16 rfl rfl)
theorem dX0_isGood_17 : decode cX0_isGood 17 = .ok (.aload_n 2, 1) := dk_44 (dk_at dksX0_isGood_0 17 rfl rfl)
theorem dX0_isGood_18 : decode cX0_isGood 18 = .ok (.getfield 246, 3) := dk_180 0 246 (dk_at dksX0_isGood_0 18 rfl rfl)
theorem dX0_isGood_21 : decode cX0_isGood 21 = .ok (.ishl, 1) := dk_120 (dk_at dksX0_isGood_0 21 rfl rfl)
theorem dX0_isGood_22 : decode cX0_isGood 22 = .ok (.if_icmp .ge 191, 3) := dk_162 0 191 (dk_at dksX0_isGood_1 0 rfl rfl)
theorem dX0_isGood_25 : decode cX0_isGood 25 = .ok (.iconst 0, 1) := dk_3 (dk_at dksX0_isGood_1 3 rfl rfl)
theorem dX0_isGood_26 : decode cX0_isGood 26 = .ok (.istore 4, 2) := dk_54 4 (dk_at dksX0_isGood_1 4 rfl rfl)
theorem dX0_isGood_28 : decode cX0_isGood 28 = .ok (.iload 4, 2) := dk_21 4 (dk_at dksX0_isGood_1 6 rfl rfl)
theorem dX0_isGood_30 : decode cX0_isGood 30 = .ok (.aload_n 0, 1) := dk_42 (dk_at dksX0_isGood_1 8 rfl rfl)
theorem dX0_isGood_31 : decode cX0_isGood 31 = .ok (.getfield 15, 3) := dk_180 0 15 (dk_at dksX0_isGood_1 9 rfl rfl)
theorem dX0_isGood_34 : decode cX0_isGood 34 = .ok (.invokevirtual 152, 3) := dk_182 0 152 (dk_at dksX0_isGood_1 12 rfl rfl)
theorem dX0_isGood_37 : decode cX0_isGood 37 = .ok (.if_icmp .ge 74, 3) := dk_162 0 74 (dk_at dksX0_isGood_1 15 rfl rfl)
theorem dX0_isGood_40 : decode cX0_isGood 40 = .ok (.aload_n 0, 1) := dk_42 (dk_at dksX0_isGood_1 18 rfl rfl)
theorem dX0_isGood_41 : decode cX0_isGood 41 = .ok (.getfield 81, 3) := dk_180 0 81 (dk_at dksX0_isGood_1 19 rfl rfl)
theorem dX0_isGood_44 : decode cX0_isGood 44 = .ok (.iload 4, 2) := dk_21 4 (dk_at dksX0_isGood_1 22 rfl rfl)
theorem dX0_isGood_46 : decode cX0_isGood 46 = .ok (.lconst 0, 1) := dk_9 (dk_at dksX0_isGood_2 0 rfl rfl)
theorem dX0_isGood_47 : decode cX0_isGood 47 = .ok (.lastore, 1) := dk_80 (dk_at dksX0_isGood_2 1 rfl rfl)
theorem dX0_isGood_48 : decode cX0_isGood 48 = .ok (.iconst 0, 1) := dk_3 (dk_at dksX0_isGood_2 2 rfl rfl)
theorem dX0_isGood_49 : decode cX0_isGood 49 = .ok (.istore 5, 2) := dk_54 5 (dk_at dksX0_isGood_2 3 rfl rfl)
theorem dX0_isGood_51 : decode cX0_isGood 51 = .ok (.iload 5, 2) := dk_21 5 (dk_at dksX0_isGood_2 5 rfl rfl)
theorem dX0_isGood_53 : decode cX0_isGood 53 = .ok (.sipush 256, 3) := dk_17 1 0 (dk_at dksX0_isGood_2 7 rfl rfl)
theorem dX0_isGood_56 : decode cX0_isGood 56 = .ok (.if_icmp .ge 49, 3) := dk_162 0 49 (dk_at dksX0_isGood_2 10 rfl rfl)
theorem dX0_isGood_59 : decode cX0_isGood 59 = .ok (.aload_n 0, 1) := dk_42 (dk_at dksX0_isGood_2 13 rfl rfl)
theorem dX0_isGood_60 : decode cX0_isGood 60 = .ok (.getfield 81, 3) := dk_180 0 81 (dk_at dksX0_isGood_2 14 rfl rfl)
theorem dX0_isGood_63 : decode cX0_isGood 63 = .ok (.iload 4, 2) := dk_21 4 (dk_at dksX0_isGood_2 17 rfl rfl)
theorem dX0_isGood_65 : decode cX0_isGood 65 = .ok (.dup2, 1) := dk_92 (dk_at dksX0_isGood_2 19 rfl rfl)
theorem dX0_isGood_66 : decode cX0_isGood 66 = .ok (.laload, 1) := dk_47 (dk_at dksX0_isGood_2 20 rfl rfl)
theorem dX0_isGood_67 : decode cX0_isGood 67 = .ok (.aload_n 2, 1) := dk_44 (dk_at dksX0_isGood_2 21 rfl rfl)
theorem dX0_isGood_68 : decode cX0_isGood 68 = .ok (.iload 5, 2) := dk_21 5 (dk_at dksX0_isGood_2 22 rfl rfl)
theorem dX0_isGood_70 : decode cX0_isGood 70 = .ok (.invokevirtual 247, 3) := dk_182 0 247 (dk_at dksX0_isGood_3 0 rfl rfl)
theorem dX0_isGood_73 : decode cX0_isGood 73 = .ok (.iload_n 3, 1) := dk_29 (dk_at dksX0_isGood_3 3 rfl rfl)
theorem dX0_isGood_74 : decode cX0_isGood 74 = .ok (.if_icmp .ne 22, 3) := dk_160 0 22 (dk_at dksX0_isGood_3 4 rfl rfl)
theorem dX0_isGood_77 : decode cX0_isGood 77 = .ok (.aload_n 0, 1) := dk_42 (dk_at dksX0_isGood_3 7 rfl rfl)
theorem dX0_isGood_78 : decode cX0_isGood 78 = .ok (.getfield 78, 3) := dk_180 0 78 (dk_at dksX0_isGood_3 8 rfl rfl)
theorem dX0_isGood_81 : decode cX0_isGood 81 = .ok (.iload_n 1, 1) := dk_27 (dk_at dksX0_isGood_3 11 rfl rfl)
theorem dX0_isGood_82 : decode cX0_isGood 82 = .ok (.aaload, 1) := dk_50 (dk_at dksX0_isGood_3 12 rfl rfl)
theorem dX0_isGood_83 : decode cX0_isGood 83 = .ok (.sipush 256, 3) := dk_17 1 0 (dk_at dksX0_isGood_3 13 rfl rfl)
theorem dX0_isGood_86 : decode cX0_isGood 86 = .ok (.iload 4, 2) := dk_21 4 (dk_at dksX0_isGood_3 16 rfl rfl)
theorem dX0_isGood_88 : decode cX0_isGood 88 = .ok (.imul, 1) := dk_104 (dk_at dksX0_isGood_3 18 rfl rfl)
theorem dX0_isGood_89 : decode cX0_isGood 89 = .ok (.iload 5, 2) := dk_21 5 (dk_at dksX0_isGood_3 19 rfl rfl)
theorem dX0_isGood_91 : decode cX0_isGood 91 = .ok (.iadd, 1) := dk_96 (dk_at dksX0_isGood_3 21 rfl rfl)
theorem dX0_isGood_92 : decode cX0_isGood 92 = .ok (.laload, 1) := dk_47 (dk_at dksX0_isGood_3 22 rfl rfl)
theorem dX0_isGood_93 : decode cX0_isGood 93 = .ok (.goto 4, 3) := dk_167 0 4 (dk_at dksX0_isGood_4 0 rfl rfl)
theorem dX0_isGood_96 : decode cX0_isGood 96 = .ok (.lconst 0, 1) := dk_9 (dk_at dksX0_isGood_4 3 rfl rfl)
theorem dX0_isGood_97 : decode cX0_isGood 97 = .ok (.ladd, 1) := dk_97 (dk_at dksX0_isGood_4 4 rfl rfl)
theorem dX0_isGood_98 : decode cX0_isGood 98 = .ok (.lastore, 1) := dk_80 (dk_at dksX0_isGood_4 5 rfl rfl)
theorem dX0_isGood_99 : decode cX0_isGood 99 = .ok (.iinc 5 1, 3) := dk_132 5 1 (dk_at dksX0_isGood_4 6 rfl rfl)
theorem dX0_isGood_102 : decode cX0_isGood 102 = .ok (.goto (-51), 3) := dk_167 255 205 (dk_at dksX0_isGood_4 9 rfl rfl)
theorem dX0_isGood_105 : decode cX0_isGood 105 = .ok (.iinc 4 1, 3) := dk_132 4 1 (dk_at dksX0_isGood_4 12 rfl rfl)
theorem dX0_isGood_108 : decode cX0_isGood 108 = .ok (.goto (-80), 3) := dk_167 255 176 (dk_at dksX0_isGood_4 15 rfl rfl)
theorem dX0_isGood_111 : decode cX0_isGood 111 = .ok (.iconst 0, 1) := dk_3 (dk_at dksX0_isGood_4 18 rfl rfl)
theorem dX0_isGood_112 : decode cX0_isGood 112 = .ok (.istore 4, 2) := dk_54 4 (dk_at dksX0_isGood_4 19 rfl rfl)
theorem dX0_isGood_114 : decode cX0_isGood 114 = .ok (.iload 4, 2) := dk_21 4 (dk_at dksX0_isGood_4 21 rfl rfl)
theorem dX0_isGood_116 : decode cX0_isGood 116 = .ok (.aload_n 0, 1) := dk_42 (dk_at dksX0_isGood_4 23 rfl rfl)
theorem dX0_isGood_117 : decode cX0_isGood 117 = .ok (.getfield 15, 3) := dk_180 0 15 (dk_at dksX0_isGood_5 0 rfl rfl)
theorem dX0_isGood_120 : decode cX0_isGood 120 = .ok (.invokevirtual 152, 3) := dk_182 0 152 (dk_at dksX0_isGood_5 3 rfl rfl)
theorem dX0_isGood_123 : decode cX0_isGood 123 = .ok (.if_icmp .ge 84, 3) := dk_162 0 84 (dk_at dksX0_isGood_5 6 rfl rfl)
theorem dX0_isGood_126 : decode cX0_isGood 126 = .ok (.iconst 0, 1) := dk_3 (dk_at dksX0_isGood_5 9 rfl rfl)
theorem dX0_isGood_127 : decode cX0_isGood 127 = .ok (.istore 5, 2) := dk_54 5 (dk_at dksX0_isGood_5 10 rfl rfl)
theorem dX0_isGood_129 : decode cX0_isGood 129 = .ok (.iload 5, 2) := dk_21 5 (dk_at dksX0_isGood_5 12 rfl rfl)
theorem dX0_isGood_131 : decode cX0_isGood 131 = .ok (.iload 4, 2) := dk_21 4 (dk_at dksX0_isGood_5 14 rfl rfl)
theorem dX0_isGood_133 : decode cX0_isGood 133 = .ok (.if_icmp .ge 68, 3) := dk_162 0 68 (dk_at dksX0_isGood_5 16 rfl rfl)
theorem dX0_isGood_136 : decode cX0_isGood 136 = .ok (.aload_n 0, 1) := dk_42 (dk_at dksX0_isGood_5 19 rfl rfl)
theorem dX0_isGood_137 : decode cX0_isGood 137 = .ok (.iload 4, 2) := dk_21 4 (dk_at dksX0_isGood_5 20 rfl rfl)
theorem dX0_isGood_139 : decode cX0_isGood 139 = .ok (.iload 5, 2) := dk_21 5 (dk_at dksX0_isGood_5 22 rfl rfl)
theorem dX0_isGood_141 : decode cX0_isGood 141 = .ok (.iconst 0, 1) := dk_3 (dk_at dksX0_isGood_6 0 rfl rfl)
theorem dX0_isGood_142 : decode cX0_isGood 142 = .ok (.invokevirtual 202, 3) := dk_182 0 202 (dk_at dksX0_isGood_6 1 rfl rfl)
theorem dX0_isGood_145 : decode cX0_isGood 145 = .ok (.ifCond .eq 24, 3) := dk_153 0 24 (dk_at dksX0_isGood_6 4 rfl rfl)
theorem dX0_isGood_148 : decode cX0_isGood 148 = .ok (.aload_n 0, 1) := dk_42 (dk_at dksX0_isGood_6 7 rfl rfl)
theorem dX0_isGood_149 : decode cX0_isGood 149 = .ok (.getfield 81, 3) := dk_180 0 81 (dk_at dksX0_isGood_6 8 rfl rfl)
theorem dX0_isGood_152 : decode cX0_isGood 152 = .ok (.iload 4, 2) := dk_21 4 (dk_at dksX0_isGood_6 11 rfl rfl)
theorem dX0_isGood_154 : decode cX0_isGood 154 = .ok (.laload, 1) := dk_47 (dk_at dksX0_isGood_6 13 rfl rfl)
theorem dX0_isGood_155 : decode cX0_isGood 155 = .ok (.aload_n 0, 1) := dk_42 (dk_at dksX0_isGood_6 14 rfl rfl)
theorem dX0_isGood_156 : decode cX0_isGood 156 = .ok (.getfield 81, 3) := dk_180 0 81 (dk_at dksX0_isGood_6 15 rfl rfl)
theorem dX0_isGood_159 : decode cX0_isGood 159 = .ok (.iload 5, 2) := dk_21 5 (dk_at dksX0_isGood_6 18 rfl rfl)
theorem dX0_isGood_161 : decode cX0_isGood 161 = .ok (.laload, 1) := dk_47 (dk_at dksX0_isGood_6 20 rfl rfl)
theorem dX0_isGood_162 : decode cX0_isGood 162 = .ok (.lcmp, 1) := dk_148 (dk_at dksX0_isGood_6 21 rfl rfl)
theorem dX0_isGood_163 : decode cX0_isGood 163 = .ok (.ifCond .eq 32, 3) := dk_153 0 32 (dk_at dksX0_isGood_7 0 rfl rfl)
theorem dX0_isGood_166 : decode cX0_isGood 166 = .ok (.goto 27, 3) := dk_167 0 27 (dk_at dksX0_isGood_7 3 rfl rfl)
theorem dX0_isGood_169 : decode cX0_isGood 169 = .ok (.aload_n 0, 1) := dk_42 (dk_at dksX0_isGood_7 6 rfl rfl)
theorem dX0_isGood_170 : decode cX0_isGood 170 = .ok (.getfield 81, 3) := dk_180 0 81 (dk_at dksX0_isGood_7 7 rfl rfl)
theorem dX0_isGood_173 : decode cX0_isGood 173 = .ok (.iload 4, 2) := dk_21 4 (dk_at dksX0_isGood_7 10 rfl rfl)
theorem dX0_isGood_175 : decode cX0_isGood 175 = .ok (.laload, 1) := dk_47 (dk_at dksX0_isGood_7 12 rfl rfl)
theorem dX0_isGood_176 : decode cX0_isGood 176 = .ok (.lconst 0, 1) := dk_9 (dk_at dksX0_isGood_7 13 rfl rfl)
theorem dX0_isGood_177 : decode cX0_isGood 177 = .ok (.lcmp, 1) := dk_148 (dk_at dksX0_isGood_7 14 rfl rfl)
theorem dX0_isGood_178 : decode cX0_isGood 178 = .ok (.ifCond .le 17, 3) := dk_158 0 17 (dk_at dksX0_isGood_7 15 rfl rfl)
theorem dX0_isGood_181 : decode cX0_isGood 181 = .ok (.aload_n 0, 1) := dk_42 (dk_at dksX0_isGood_7 18 rfl rfl)
theorem dX0_isGood_182 : decode cX0_isGood 182 = .ok (.getfield 81, 3) := dk_180 0 81 (dk_at dksX0_isGood_7 19 rfl rfl)
theorem dX0_isGood_185 : decode cX0_isGood 185 = .ok (.iload 5, 2) := dk_21 5 (dk_at dksX0_isGood_7 22 rfl rfl)
theorem dX0_isGood_187 : decode cX0_isGood 187 = .ok (.laload, 1) := dk_47 (dk_at dksX0_isGood_8 0 rfl rfl)
theorem dX0_isGood_188 : decode cX0_isGood 188 = .ok (.lconst 0, 1) := dk_9 (dk_at dksX0_isGood_8 1 rfl rfl)
theorem dX0_isGood_189 : decode cX0_isGood 189 = .ok (.lcmp, 1) := dk_148 (dk_at dksX0_isGood_8 2 rfl rfl)
theorem dX0_isGood_190 : decode cX0_isGood 190 = .ok (.ifCond .le 5, 3) := dk_158 0 5 (dk_at dksX0_isGood_8 3 rfl rfl)
theorem dX0_isGood_193 : decode cX0_isGood 193 = .ok (.iconst 0, 1) := dk_3 (dk_at dksX0_isGood_8 6 rfl rfl)
theorem dX0_isGood_194 : decode cX0_isGood 194 = .ok (.ireturn, 1) := dk_172 (dk_at dksX0_isGood_8 7 rfl rfl)
theorem dX0_isGood_195 : decode cX0_isGood 195 = .ok (.iinc 5 1, 3) := dk_132 5 1 (dk_at dksX0_isGood_8 8 rfl rfl)
theorem dX0_isGood_198 : decode cX0_isGood 198 = .ok (.goto (-69), 3) := dk_167 255 187 (dk_at dksX0_isGood_8 11 rfl rfl)
theorem dX0_isGood_201 : decode cX0_isGood 201 = .ok (.iinc 4 1, 3) := dk_132 4 1 (dk_at dksX0_isGood_8 14 rfl rfl)
theorem dX0_isGood_204 : decode cX0_isGood 204 = .ok (.goto (-90), 3) := dk_167 255 166 (dk_at dksX0_isGood_8 17 rfl rfl)
theorem dX0_isGood_207 : decode cX0_isGood 207 = .ok (.iinc 3 1, 3) := dk_132 3 1 (dk_at dksX0_isGood_8 20 rfl rfl)
theorem dX0_isGood_210 : decode cX0_isGood 210 = .ok (.goto (-195), 3) := dk_167 255 61 (dk_at dksX0_isGood_9 0 rfl rfl)
theorem dX0_isGood_213 : decode cX0_isGood 213 = .ok (.iconst 1, 1) := dk_4 (dk_at dksX0_isGood_9 3 rfl rfl)
theorem dX0_isGood_214 : decode cX0_isGood 214 = .ok (.ireturn, 1) := dk_172 (dk_at dksX0_isGood_9 4 rfl rfl)
abbrev cX0_moveOn : ByteArray := prog_1_method_26_code
def yX0_moveOn : MethodName := ⟨RX0, "moveOn", "(ILBlindCards$Move;)V"⟩
def dkwX0_moveOn_5 : List UInt8 := [96, 47, 97, 80, 132, 5, 1, 167, 255, 203, 132, 4, 1, 167, 255, 166, 132, 3, 1, 167, 255, 146, 177]
abbrev dktX0_moveOn_5 : List UInt8 := dkwX0_moveOn_5 ++ []
def dkwX0_moveOn_4 : List UInt8 := [44, 21, 4, 21, 5, 182, 0, 237, 96, 92, 47, 42, 180, 0, 78, 27, 50, 17, 1, 0, 29, 104, 21, 4]
abbrev dktX0_moveOn_4 : List UInt8 := dkwX0_moveOn_4 ++ dktX0_moveOn_5
def dkwX0_moveOn_3 : List UInt8 := [54, 5, 21, 5, 44, 182, 0, 233, 162, 0, 50, 42, 180, 0, 78, 27, 4, 96, 50, 17, 1, 0, 29, 104]
abbrev dktX0_moveOn_3 : List UInt8 := dkwX0_moveOn_3 ++ dktX0_moveOn_4
def dkwX0_moveOn_2 : List UInt8 := [162, 0, 88, 42, 180, 0, 78, 27, 50, 17, 1, 0, 29, 104, 21, 4, 96, 47, 9, 148, 158, 0, 62, 3]
abbrev dktX0_moveOn_2 : List UInt8 := dkwX0_moveOn_2 ++ dktX0_moveOn_3
def dkwX0_moveOn_1 : List UInt8 := [167, 255, 235, 3, 62, 29, 42, 180, 0, 15, 182, 0, 152, 162, 0, 105, 3, 54, 4, 21, 4, 17, 1, 0]
abbrev dktX0_moveOn_1 : List UInt8 := dkwX0_moveOn_1 ++ dktX0_moveOn_2
def dkwX0_moveOn_0 : List UInt8 := [3, 62, 29, 17, 8, 0, 162, 0, 20, 42, 180, 0, 78, 27, 4, 96, 50, 29, 9, 80, 132, 3, 1]
abbrev dktX0_moveOn_0 : List UInt8 := dkwX0_moveOn_0 ++ dktX0_moveOn_1
theorem dksX0_moveOn_0 : cX0_moveOn.data.toList.drop 0 = dktX0_moveOn_0 := by decide +kernel
theorem dksX0_moveOn_1 : cX0_moveOn.data.toList.drop 23 = dktX0_moveOn_1 := dk_seg dksX0_moveOn_0 23 rfl rfl
theorem dksX0_moveOn_2 : cX0_moveOn.data.toList.drop 47 = dktX0_moveOn_2 := dk_seg dksX0_moveOn_1 24 rfl rfl
theorem dksX0_moveOn_3 : cX0_moveOn.data.toList.drop 71 = dktX0_moveOn_3 := dk_seg dksX0_moveOn_2 24 rfl rfl
theorem dksX0_moveOn_4 : cX0_moveOn.data.toList.drop 95 = dktX0_moveOn_4 := dk_seg dksX0_moveOn_3 24 rfl rfl
theorem dksX0_moveOn_5 : cX0_moveOn.data.toList.drop 119 = dktX0_moveOn_5 := dk_seg dksX0_moveOn_4 24 rfl rfl
theorem dX0_moveOn_0 : decode cX0_moveOn 0 = .ok (.iconst 0, 1) := dk_3 (dk_at dksX0_moveOn_0 0 rfl rfl)
theorem dX0_moveOn_1 : decode cX0_moveOn 1 = .ok (.istore_n 3, 1) := dk_62 (dk_at dksX0_moveOn_0 1 rfl rfl)
theorem dX0_moveOn_2 : decode cX0_moveOn 2 = .ok (.iload_n 3, 1) := dk_29 (dk_at dksX0_moveOn_0 2 rfl rfl)
theorem dX0_moveOn_3 : decode cX0_moveOn 3 = .ok (.sipush 2048, 3) := dk_17 8 0 (dk_at dksX0_moveOn_0 3 rfl rfl)
theorem dX0_moveOn_6 : decode cX0_moveOn 6 = .ok (.if_icmp .ge 20, 3) := dk_162 0 20 (dk_at dksX0_moveOn_0 6 rfl rfl)
theorem dX0_moveOn_9 : decode cX0_moveOn 9 = .ok (.aload_n 0, 1) := dk_42 (dk_at dksX0_moveOn_0 9 rfl rfl)
theorem dX0_moveOn_10 : decode cX0_moveOn 10 = .ok (.getfield 78, 3) := dk_180 0 78 (dk_at dksX0_moveOn_0 10 rfl rfl)
theorem dX0_moveOn_13 : decode cX0_moveOn 13 = .ok (.iload_n 1, 1) := dk_27 (dk_at dksX0_moveOn_0 13 rfl rfl)
theorem dX0_moveOn_14 : decode cX0_moveOn 14 = .ok (.iconst 1, 1) := dk_4 (dk_at dksX0_moveOn_0 14 rfl rfl)
theorem dX0_moveOn_15 : decode cX0_moveOn 15 = .ok (.iadd, 1) := dk_96 (dk_at dksX0_moveOn_0 15 rfl rfl)
theorem dX0_moveOn_16 : decode cX0_moveOn 16 = .ok (.aaload, 1) := dk_50 (dk_at dksX0_moveOn_0 16 rfl rfl)
theorem dX0_moveOn_17 : decode cX0_moveOn 17 = .ok (.iload_n 3, 1) := dk_29 (dk_at dksX0_moveOn_0 17 rfl rfl)
theorem dX0_moveOn_18 : decode cX0_moveOn 18 = .ok (.lconst 0, 1) := dk_9 (dk_at dksX0_moveOn_0 18 rfl rfl)
theorem dX0_moveOn_19 : decode cX0_moveOn 19 = .ok (.lastore, 1) := dk_80 (dk_at dksX0_moveOn_0 19 rfl rfl)
theorem dX0_moveOn_20 : decode cX0_moveOn 20 = .ok (.iinc 3 1, 3) := dk_132 3 1 (dk_at dksX0_moveOn_0 20 rfl rfl)
theorem dX0_moveOn_23 : decode cX0_moveOn 23 = .ok (.goto (-21), 3) := dk_167 255 235 (dk_at dksX0_moveOn_1 0 rfl rfl)
theorem dX0_moveOn_26 : decode cX0_moveOn 26 = .ok (.iconst 0, 1) := dk_3 (dk_at dksX0_moveOn_1 3 rfl rfl)
theorem dX0_moveOn_27 : decode cX0_moveOn 27 = .ok (.istore_n 3, 1) := dk_62 (dk_at dksX0_moveOn_1 4 rfl rfl)
theorem dX0_moveOn_28 : decode cX0_moveOn 28 = .ok (.iload_n 3, 1) := dk_29 (dk_at dksX0_moveOn_1 5 rfl rfl)
theorem dX0_moveOn_29 : decode cX0_moveOn 29 = .ok (.aload_n 0, 1) := dk_42 (dk_at dksX0_moveOn_1 6 rfl rfl)
theorem dX0_moveOn_30 : decode cX0_moveOn 30 = .ok (.getfield 15, 3) := dk_180 0 15 (dk_at dksX0_moveOn_1 7 rfl rfl)
theorem dX0_moveOn_33 : decode cX0_moveOn 33 = .ok (.invokevirtual 152, 3) := dk_182 0 152 (dk_at dksX0_moveOn_1 10 rfl rfl)
theorem dX0_moveOn_36 : decode cX0_moveOn 36 = .ok (.if_icmp .ge 105, 3) := dk_162 0 105 (dk_at dksX0_moveOn_1 13 rfl rfl)
theorem dX0_moveOn_39 : decode cX0_moveOn 39 = .ok (.iconst 0, 1) := dk_3 (dk_at dksX0_moveOn_1 16 rfl rfl)
theorem dX0_moveOn_40 : decode cX0_moveOn 40 = .ok (.istore 4, 2) := dk_54 4 (dk_at dksX0_moveOn_1 17 rfl rfl)
theorem dX0_moveOn_42 : decode cX0_moveOn 42 = .ok (.iload 4, 2) := dk_21 4 (dk_at dksX0_moveOn_1 19 rfl rfl)
theorem dX0_moveOn_44 : decode cX0_moveOn 44 = .ok (.sipush 256, 3) := dk_17 1 0 (dk_at dksX0_moveOn_1 21 rfl rfl)
theorem dX0_moveOn_47 : decode cX0_moveOn 47 = .ok (.if_icmp .ge 88, 3) := dk_162 0 88 (dk_at dksX0_moveOn_2 0 rfl rfl)
theorem dX0_moveOn_50 : decode cX0_moveOn 50 = .ok (.aload_n 0, 1) := dk_42 (dk_at dksX0_moveOn_2 3 rfl rfl)
theorem dX0_moveOn_51 : decode cX0_moveOn 51 = .ok (.getfield 78, 3) := dk_180 0 78 (dk_at dksX0_moveOn_2 4 rfl rfl)
theorem dX0_moveOn_54 : decode cX0_moveOn 54 = .ok (.iload_n 1, 1) := dk_27 (dk_at dksX0_moveOn_2 7 rfl rfl)
theorem dX0_moveOn_55 : decode cX0_moveOn 55 = .ok (.aaload, 1) := dk_50 (dk_at dksX0_moveOn_2 8 rfl rfl)
theorem dX0_moveOn_56 : decode cX0_moveOn 56 = .ok (.sipush 256, 3) := dk_17 1 0 (dk_at dksX0_moveOn_2 9 rfl rfl)
theorem dX0_moveOn_59 : decode cX0_moveOn 59 = .ok (.iload_n 3, 1) := dk_29 (dk_at dksX0_moveOn_2 12 rfl rfl)
theorem dX0_moveOn_60 : decode cX0_moveOn 60 = .ok (.imul, 1) := dk_104 (dk_at dksX0_moveOn_2 13 rfl rfl)
theorem dX0_moveOn_61 : decode cX0_moveOn 61 = .ok (.iload 4, 2) := dk_21 4 (dk_at dksX0_moveOn_2 14 rfl rfl)
theorem dX0_moveOn_63 : decode cX0_moveOn 63 = .ok (.iadd, 1) := dk_96 (dk_at dksX0_moveOn_2 16 rfl rfl)
theorem dX0_moveOn_64 : decode cX0_moveOn 64 = .ok (.laload, 1) := dk_47 (dk_at dksX0_moveOn_2 17 rfl rfl)
theorem dX0_moveOn_65 : decode cX0_moveOn 65 = .ok (.lconst 0, 1) := dk_9 (dk_at dksX0_moveOn_2 18 rfl rfl)
theorem dX0_moveOn_66 : decode cX0_moveOn 66 = .ok (.lcmp, 1) := dk_148 (dk_at dksX0_moveOn_2 19 rfl rfl)
theorem dX0_moveOn_67 : decode cX0_moveOn 67 = .ok (.ifCond .le 62, 3) := dk_158 0 62 (dk_at dksX0_moveOn_2 20 rfl rfl)
theorem dX0_moveOn_70 : decode cX0_moveOn 70 = .ok (.iconst 0, 1) := dk_3 (dk_at dksX0_moveOn_2 23 rfl rfl)
theorem dX0_moveOn_71 : decode cX0_moveOn 71 = .ok (.istore 5, 2) := dk_54 5 (dk_at dksX0_moveOn_3 0 rfl rfl)
theorem dX0_moveOn_73 : decode cX0_moveOn 73 = .ok (.iload 5, 2) := dk_21 5 (dk_at dksX0_moveOn_3 2 rfl rfl)
theorem dX0_moveOn_75 : decode cX0_moveOn 75 = .ok (.aload_n 2, 1) := dk_44 (dk_at dksX0_moveOn_3 4 rfl rfl)
theorem dX0_moveOn_76 : decode cX0_moveOn 76 = .ok (.invokevirtual 233, 3) := dk_182 0 233 (dk_at dksX0_moveOn_3 5 rfl rfl)
theorem dX0_moveOn_79 : decode cX0_moveOn 79 = .ok (.if_icmp .ge 50, 3) := dk_162 0 50 (dk_at dksX0_moveOn_3 8 rfl rfl)
theorem dX0_moveOn_82 : decode cX0_moveOn 82 = .ok (.aload_n 0, 1) := dk_42 (dk_at dksX0_moveOn_3 11 rfl rfl)
theorem dX0_moveOn_83 : decode cX0_moveOn 83 = .ok (.getfield 78, 3) := dk_180 0 78 (dk_at dksX0_moveOn_3 12 rfl rfl)
theorem dX0_moveOn_86 : decode cX0_moveOn 86 = .ok (.iload_n 1, 1) := dk_27 (dk_at dksX0_moveOn_3 15 rfl rfl)
theorem dX0_moveOn_87 : decode cX0_moveOn 87 = .ok (.iconst 1, 1) := dk_4 (dk_at dksX0_moveOn_3 16 rfl rfl)
theorem dX0_moveOn_88 : decode cX0_moveOn 88 = .ok (.iadd, 1) := dk_96 (dk_at dksX0_moveOn_3 17 rfl rfl)
theorem dX0_moveOn_89 : decode cX0_moveOn 89 = .ok (.aaload, 1) := dk_50 (dk_at dksX0_moveOn_3 18 rfl rfl)
theorem dX0_moveOn_90 : decode cX0_moveOn 90 = .ok (.sipush 256, 3) := dk_17 1 0 (dk_at dksX0_moveOn_3 19 rfl rfl)
theorem dX0_moveOn_93 : decode cX0_moveOn 93 = .ok (.iload_n 3, 1) := dk_29 (dk_at dksX0_moveOn_3 22 rfl rfl)
theorem dX0_moveOn_94 : decode cX0_moveOn 94 = .ok (.imul, 1) := dk_104 (dk_at dksX0_moveOn_3 23 rfl rfl)
theorem dX0_moveOn_95 : decode cX0_moveOn 95 = .ok (.aload_n 2, 1) := dk_44 (dk_at dksX0_moveOn_4 0 rfl rfl)
theorem dX0_moveOn_96 : decode cX0_moveOn 96 = .ok (.iload 4, 2) := dk_21 4 (dk_at dksX0_moveOn_4 1 rfl rfl)
theorem dX0_moveOn_98 : decode cX0_moveOn 98 = .ok (.iload 5, 2) := dk_21 5 (dk_at dksX0_moveOn_4 3 rfl rfl)
theorem dX0_moveOn_100 : decode cX0_moveOn 100 = .ok (.invokevirtual 237, 3) := dk_182 0 237 (dk_at dksX0_moveOn_4 5 rfl rfl)
theorem dX0_moveOn_103 : decode cX0_moveOn 103 = .ok (.iadd, 1) := dk_96 (dk_at dksX0_moveOn_4 8 rfl rfl)
theorem dX0_moveOn_104 : decode cX0_moveOn 104 = .ok (.dup2, 1) := dk_92 (dk_at dksX0_moveOn_4 9 rfl rfl)
theorem dX0_moveOn_105 : decode cX0_moveOn 105 = .ok (.laload, 1) := dk_47 (dk_at dksX0_moveOn_4 10 rfl rfl)
theorem dX0_moveOn_106 : decode cX0_moveOn 106 = .ok (.aload_n 0, 1) := dk_42 (dk_at dksX0_moveOn_4 11 rfl rfl)
theorem dX0_moveOn_107 : decode cX0_moveOn 107 = .ok (.getfield 78, 3) := dk_180 0 78 (dk_at dksX0_moveOn_4 12 rfl rfl)
theorem dX0_moveOn_110 : decode cX0_moveOn 110 = .ok (.iload_n 1, 1) := dk_27 (dk_at dksX0_moveOn_4 15 rfl rfl)
theorem dX0_moveOn_111 : decode cX0_moveOn 111 = .ok (.aaload, 1) := dk_50 (dk_at dksX0_moveOn_4 16 rfl rfl)
theorem dX0_moveOn_112 : decode cX0_moveOn 112 = .ok (.sipush 256, 3) := dk_17 1 0 (dk_at dksX0_moveOn_4 17 rfl rfl)
theorem dX0_moveOn_115 : decode cX0_moveOn 115 = .ok (.iload_n 3, 1) := dk_29 (dk_at dksX0_moveOn_4 20 rfl rfl)
theorem dX0_moveOn_116 : decode cX0_moveOn 116 = .ok (.imul, 1) := dk_104 (dk_at dksX0_moveOn_4 21 rfl rfl)
theorem dX0_moveOn_117 : decode cX0_moveOn 117 = .ok (.iload 4, 2) := dk_21 4 (dk_at dksX0_moveOn_4 22 rfl rfl)
theorem dX0_moveOn_119 : decode cX0_moveOn 119 = .ok (.iadd, 1) := dk_96 (dk_at dksX0_moveOn_5 0 rfl rfl)
theorem dX0_moveOn_120 : decode cX0_moveOn 120 = .ok (.laload, 1) := dk_47 (dk_at dksX0_moveOn_5 1 rfl rfl)
theorem dX0_moveOn_121 : decode cX0_moveOn 121 = .ok (.ladd, 1) := dk_97 (dk_at dksX0_moveOn_5 2 rfl rfl)
theorem dX0_moveOn_122 : decode cX0_moveOn 122 = .ok (.lastore, 1) := dk_80 (dk_at dksX0_moveOn_5 3 rfl rfl)
theorem dX0_moveOn_123 : decode cX0_moveOn 123 = .ok (.iinc 5 1, 3) := dk_132 5 1 (dk_at dksX0_moveOn_5 4 rfl rfl)
theorem dX0_moveOn_126 : decode cX0_moveOn 126 = .ok (.goto (-53), 3) := dk_167 255 203 (dk_at dksX0_moveOn_5 7 rfl rfl)
theorem dX0_moveOn_129 : decode cX0_moveOn 129 = .ok (.iinc 4 1, 3) := dk_132 4 1 (dk_at dksX0_moveOn_5 10 rfl rfl)
theorem dX0_moveOn_132 : decode cX0_moveOn 132 = .ok (.goto (-90), 3) := dk_167 255 166 (dk_at dksX0_moveOn_5 13 rfl rfl)
theorem dX0_moveOn_135 : decode cX0_moveOn 135 = .ok (.iinc 3 1, 3) := dk_132 3 1 (dk_at dksX0_moveOn_5 16 rfl rfl)
theorem dX0_moveOn_138 : decode cX0_moveOn 138 = .ok (.goto (-110), 3) := dk_167 255 146 (dk_at dksX0_moveOn_5 19 rfl rfl)
theorem dX0_moveOn_141 : decode cX0_moveOn 141 = .ok (.return_, 1) := dk_177 (dk_at dksX0_moveOn_5 22 rfl rfl)
abbrev cX0_play : ByteArray := prog_1_method_31_code
def yX0_play : MethodName := ⟨RX0, "play", "(I)I"⟩
def dkwX0_play_3 : List UInt8 := [180, 0, 57, 42, 180, 0, 84, 42, 27, 182, 1, 37, 182, 1, 40, 172]
abbrev dktX0_play_3 : List UInt8 := dkwX0_play_3 ++ []
def dkwX0_play_2 : List UInt8 := [3, 61, 28, 16, 8, 162, 0, 16, 42, 180, 0, 88, 28, 2, 79, 132, 2, 1, 167, 255, 240, 42]
abbrev dktX0_play_2 : List UInt8 := dkwX0_play_2 ++ dktX0_play_3
def dkwX0_play_1 : List UInt8 := [4, 181, 0, 130, 42, 2, 181, 1, 25, 42, 3, 181, 1, 28, 42, 3, 181, 1, 31, 42, 3, 181, 1, 34]
abbrev dktX0_play_1 : List UInt8 := dkwX0_play_1 ++ dktX0_play_2
def dkwX0_play_0 : List UInt8 := [42, 27, 182, 0, 166, 154, 0, 5, 2, 172, 42, 180, 0, 57, 180, 0, 171, 153, 0, 6, 16, 254, 172, 42]
abbrev dktX0_play_0 : List UInt8 := dkwX0_play_0 ++ dktX0_play_1
theorem dksX0_play_0 : cX0_play.data.toList.drop 0 = dktX0_play_0 := by decide +kernel
theorem dksX0_play_1 : cX0_play.data.toList.drop 24 = dktX0_play_1 := dk_seg dksX0_play_0 24 rfl rfl
theorem dksX0_play_2 : cX0_play.data.toList.drop 48 = dktX0_play_2 := dk_seg dksX0_play_1 24 rfl rfl
theorem dksX0_play_3 : cX0_play.data.toList.drop 70 = dktX0_play_3 := dk_seg dksX0_play_2 22 rfl rfl
theorem dX0_play_0 : decode cX0_play 0 = .ok (.aload_n 0, 1) := dk_42 (dk_at dksX0_play_0 0 rfl rfl)
theorem dX0_play_1 : decode cX0_play 1 = .ok (.iload_n 1, 1) := dk_27 (dk_at dksX0_play_0 1 rfl rfl)
theorem dX0_play_2 : decode cX0_play 2 = .ok (.invokevirtual 166, 3) := dk_182 0 166 (dk_at dksX0_play_0 2 rfl rfl)
theorem dX0_play_5 : decode cX0_play 5 = .ok (.ifCond .ne 5, 3) := dk_154 0 5 (dk_at dksX0_play_0 5 rfl rfl)
theorem dX0_play_8 : decode cX0_play 8 = .ok (.iconst (-1), 1) := dk_2 (dk_at dksX0_play_0 8 rfl rfl)
theorem dX0_play_9 : decode cX0_play 9 = .ok (.ireturn, 1) := dk_172 (dk_at dksX0_play_0 9 rfl rfl)
theorem dX0_play_10 : decode cX0_play 10 = .ok (.aload_n 0, 1) := dk_42 (dk_at dksX0_play_0 10 rfl rfl)
theorem dX0_play_11 : decode cX0_play 11 = .ok (.getfield 57, 3) := dk_180 0 57 (dk_at dksX0_play_0 11 rfl rfl)
theorem dX0_play_14 : decode cX0_play 14 = .ok (.getfield 171, 3) := dk_180 0 171 (dk_at dksX0_play_0 14 rfl rfl)
theorem dX0_play_17 : decode cX0_play 17 = .ok (.ifCond .eq 6, 3) := dk_153 0 6 (dk_at dksX0_play_0 17 rfl rfl)
theorem dX0_play_20 : decode cX0_play 20 = .ok (.bipush (-2), 2) := dk_16 254 (dk_at dksX0_play_0 20 rfl rfl)
theorem dX0_play_22 : decode cX0_play 22 = .ok (.ireturn, 1) := dk_172 (dk_at dksX0_play_0 22 rfl rfl)
theorem dX0_play_23 : decode cX0_play 23 = .ok (.aload_n 0, 1) := dk_42 (dk_at dksX0_play_0 23 rfl rfl)
theorem dX0_play_24 : decode cX0_play 24 = .ok (.iconst 1, 1) := dk_4 (dk_at dksX0_play_1 0 rfl rfl)
theorem dX0_play_25 : decode cX0_play 25 = .ok (.putfield 130, 3) := dk_181 0 130 (dk_at dksX0_play_1 1 rfl rfl)
theorem dX0_play_28 : decode cX0_play 28 = .ok (.aload_n 0, 1) := dk_42 (dk_at dksX0_play_1 4 rfl rfl)
theorem dX0_play_29 : decode cX0_play 29 = .ok (.iconst (-1), 1) := dk_2 (dk_at dksX0_play_1 5 rfl rfl)
theorem dX0_play_30 : decode cX0_play 30 = .ok (.putfield 281, 3) := dk_181 1 25 (dk_at dksX0_play_1 6 rfl rfl)
theorem dX0_play_33 : decode cX0_play 33 = .ok (.aload_n 0, 1) := dk_42 (dk_at dksX0_play_1 9 rfl rfl)
theorem dX0_play_34 : decode cX0_play 34 = .ok (.iconst 0, 1) := dk_3 (dk_at dksX0_play_1 10 rfl rfl)
theorem dX0_play_35 : decode cX0_play 35 = .ok (.putfield 284, 3) := dk_181 1 28 (dk_at dksX0_play_1 11 rfl rfl)
theorem dX0_play_38 : decode cX0_play 38 = .ok (.aload_n 0, 1) := dk_42 (dk_at dksX0_play_1 14 rfl rfl)
theorem dX0_play_39 : decode cX0_play 39 = .ok (.iconst 0, 1) := dk_3 (dk_at dksX0_play_1 15 rfl rfl)
theorem dX0_play_40 : decode cX0_play 40 = .ok (.putfield 287, 3) := dk_181 1 31 (dk_at dksX0_play_1 16 rfl rfl)
theorem dX0_play_43 : decode cX0_play 43 = .ok (.aload_n 0, 1) := dk_42 (dk_at dksX0_play_1 19 rfl rfl)
theorem dX0_play_44 : decode cX0_play 44 = .ok (.iconst 0, 1) := dk_3 (dk_at dksX0_play_1 20 rfl rfl)
theorem dX0_play_45 : decode cX0_play 45 = .ok (.putfield 290, 3) := dk_181 1 34 (dk_at dksX0_play_1 21 rfl rfl)
theorem dX0_play_48 : decode cX0_play 48 = .ok (.iconst 0, 1) := dk_3 (dk_at dksX0_play_2 0 rfl rfl)
theorem dX0_play_49 : decode cX0_play 49 = .ok (.istore_n 2, 1) := dk_61 (dk_at dksX0_play_2 1 rfl rfl)
theorem dX0_play_50 : decode cX0_play 50 = .ok (.iload_n 2, 1) := dk_28 (dk_at dksX0_play_2 2 rfl rfl)
theorem dX0_play_51 : decode cX0_play 51 = .ok (.bipush 8, 2) := dk_16 8 (dk_at dksX0_play_2 3 rfl rfl)
theorem dX0_play_53 : decode cX0_play 53 = .ok (.if_icmp .ge 16, 3) := dk_162 0 16 (dk_at dksX0_play_2 5 rfl rfl)
theorem dX0_play_56 : decode cX0_play 56 = .ok (.aload_n 0, 1) := dk_42 (dk_at dksX0_play_2 8 rfl rfl)
theorem dX0_play_57 : decode cX0_play 57 = .ok (.getfield 88, 3) := dk_180 0 88 (dk_at dksX0_play_2 9 rfl rfl)
theorem dX0_play_60 : decode cX0_play 60 = .ok (.iload_n 2, 1) := dk_28 (dk_at dksX0_play_2 12 rfl rfl)
theorem dX0_play_61 : decode cX0_play 61 = .ok (.iconst (-1), 1) := dk_2 (dk_at dksX0_play_2 13 rfl rfl)
theorem dX0_play_62 : decode cX0_play 62 = .ok (.iastore, 1) := dk_79 (dk_at dksX0_play_2 14 rfl rfl)
theorem dX0_play_63 : decode cX0_play 63 = .ok (.iinc 2 1, 3) := dk_132 2 1 (dk_at dksX0_play_2 15 rfl rfl)
theorem dX0_play_66 : decode cX0_play 66 = .ok (.goto (-16), 3) := dk_167 255 240 (dk_at dksX0_play_2 18 rfl rfl)
theorem dX0_play_69 : decode cX0_play 69 = .ok (.aload_n 0, 1) := dk_42 (dk_at dksX0_play_2 21 rfl rfl)
theorem dX0_play_70 : decode cX0_play 70 = .ok (.getfield 57, 3) := dk_180 0 57 (dk_at dksX0_play_3 0 rfl rfl)
theorem dX0_play_73 : decode cX0_play 73 = .ok (.aload_n 0, 1) := dk_42 (dk_at dksX0_play_3 3 rfl rfl)
theorem dX0_play_74 : decode cX0_play 74 = .ok (.getfield 84, 3) := dk_180 0 84 (dk_at dksX0_play_3 4 rfl rfl)
theorem dX0_play_77 : decode cX0_play 77 = .ok (.aload_n 0, 1) := dk_42 (dk_at dksX0_play_3 7 rfl rfl)
theorem dX0_play_78 : decode cX0_play 78 = .ok (.iload_n 1, 1) := dk_27 (dk_at dksX0_play_3 8 rfl rfl)
theorem dX0_play_79 : decode cX0_play 79 = .ok (.invokevirtual 293, 3) := dk_182 1 37 (dk_at dksX0_play_3 9 rfl rfl)
theorem dX0_play_82 : decode cX0_play 82 = .ok (.invokevirtual 296, 3) := dk_182 1 40 (dk_at dksX0_play_3 12 rfl rfl)
theorem dX0_play_85 : decode cX0_play 85 = .ok (.ireturn, 1) := dk_172 (dk_at dksX0_play_3 15 rfl rfl)
abbrev cX0_playOn : ByteArray := prog_1_method_32_code
def yX0_playOn : MethodName := ⟨RX0, "playOn", "(I)I"⟩
def dkwX0_playOn_15 : List UInt8 := [184, 1, 68, 181, 1, 25, 28, 172, 132, 3, 1, 167, 254, 158, 28, 172]
abbrev dktX0_playOn_15 : List UInt8 := dkwX0_playOn_15 ++ []
def dkwX0_playOn_14 : List UInt8 := [25, 4, 193, 0, 1, 154, 0, 11, 25, 4, 193, 0, 7, 153, 0, 18, 42, 25, 4, 42, 180, 1, 31]
abbrev dktX0_playOn_14 : List UInt8 := dkwX0_playOn_14 ++ dktX0_playOn_15
def dkwX0_playOn_13 : List UInt8 := [180, 1, 62, 153, 0, 7, 4, 167, 0, 4, 3, 160, 0, 9, 25, 5, 180, 1, 65, 62, 167, 0, 34]
abbrev dktX0_playOn_13 : List UInt8 := dkwX0_playOn_13 ++ dktX0_playOn_14
def dkwX0_playOn_12 : List UInt8 := [153, 0, 45, 25, 4, 192, 1, 57, 58, 5, 42, 180, 0, 88, 25, 5, 180, 1, 59, 46, 25, 5]
abbrev dktX0_playOn_12 : List UInt8 := dkwX0_playOn_12 ++ dktX0_playOn_13
def dkwX0_playOn_11 : List UInt8 := [21, 6, 122, 4, 126, 79, 132, 6, 1, 167, 255, 219, 132, 2, 1, 167, 0, 84, 25, 4, 193, 1, 57]
abbrev dktX0_playOn_11 : List UInt8 := dkwX0_playOn_11 ++ dktX0_playOn_12
def dkwX0_playOn_10 : List UInt8 := [180, 0, 246, 162, 0, 33, 42, 180, 0, 88, 25, 5, 180, 1, 54, 21, 6, 46, 42, 180, 0, 84, 28, 46]
abbrev dktX0_playOn_10 : List UInt8 := dkwX0_playOn_10 ++ dktX0_playOn_11
def dkwX0_playOn_9 : List UInt8 := [58, 5, 42, 180, 0, 84, 28, 25, 5, 42, 180, 1, 31, 182, 0, 247, 79, 3, 54, 6, 21, 6, 25, 5]
abbrev dktX0_playOn_9 : List UInt8 := dkwX0_playOn_9 ++ dktX0_playOn_10
def dkwX0_playOn_8 : List UInt8 := [3, 182, 0, 237, 181, 1, 31, 167, 0, 163, 25, 4, 193, 0, 242, 153, 0, 74, 25, 4, 192, 0, 242]
abbrev dktX0_playOn_8 : List UInt8 := dkwX0_playOn_8 ++ dktX0_playOn_9
def dkwX0_playOn_7 : List UInt8 := [181, 1, 31, 167, 0, 191, 25, 4, 193, 0, 234, 153, 0, 23, 42, 25, 4, 192, 0, 234, 42, 180, 1, 31]
abbrev dktX0_playOn_7 : List UInt8 := dkwX0_playOn_7 ++ dktX0_playOn_8
def dkwX0_playOn_6 : List UInt8 := [192, 1, 47, 42, 180, 1, 31, 42, 25, 4, 192, 1, 47, 182, 1, 49, 182, 1, 50, 182, 1, 53]
abbrev dktX0_playOn_6 : List UInt8 := dkwX0_playOn_6 ++ dktX0_playOn_7
def dkwX0_playOn_5 : List UInt8 := [25, 5, 182, 0, 228, 96, 181, 1, 34, 167, 0, 230, 25, 4, 193, 1, 47, 153, 0, 34, 42, 25, 4]
abbrev dktX0_playOn_5 : List UInt8 := dkwX0_playOn_5 ++ dktX0_playOn_6
def dkwX0_playOn_4 : List UInt8 := [180, 1, 31, 25, 5, 42, 180, 1, 34, 27, 2, 3, 182, 0, 230, 128, 181, 1, 31, 42, 89, 180, 1, 34]
abbrev dktX0_playOn_4 : List UInt8 := dkwX0_playOn_4 ++ dktX0_playOn_5
def dkwX0_playOn_3 : List UInt8 := [192, 0, 226, 58, 5, 42, 180, 1, 34, 25, 5, 182, 0, 228, 96, 16, 8, 164, 0, 5, 28, 172, 42, 89]
abbrev dktX0_playOn_3 : List UInt8 := dkwX0_playOn_3 ++ dktX0_playOn_4
def dkwX0_playOn_2 : List UInt8 := [182, 1, 46, 42, 180, 1, 34, 164, 0, 5, 28, 172, 25, 4, 193, 0, 226, 153, 0, 65, 25, 4]
abbrev dktX0_playOn_2 : List UInt8 := dkwX0_playOn_2 ++ dktX0_playOn_3
def dkwX0_playOn_1 : List UInt8 := [180, 0, 145, 29, 182, 0, 222, 192, 1, 44, 58, 4, 42, 89, 180, 1, 28, 4, 96, 181, 1, 28, 25, 4]
abbrev dktX0_playOn_1 : List UInt8 := dkwX0_playOn_1 ++ dktX0_playOn_2
def dkwX0_playOn_0 : List UInt8 := [3, 61, 3, 62, 29, 42, 180, 0, 15, 180, 0, 145, 182, 0, 148, 162, 1, 90, 42, 180, 0, 15]
abbrev dktX0_playOn_0 : List UInt8 := dkwX0_playOn_0 ++ dktX0_playOn_1
theorem dksX0_playOn_0 : cX0_playOn.data.toList.drop 0 = dktX0_playOn_0 := by decide +kernel
theorem dksX0_playOn_1 : cX0_playOn.data.toList.drop 22 = dktX0_playOn_1 := dk_seg dksX0_playOn_0 22 rfl rfl
theorem dksX0_playOn_2 : cX0_playOn.data.toList.drop 46 = dktX0_playOn_2 := dk_seg dksX0_playOn_1 24 rfl rfl
theorem dksX0_playOn_3 : cX0_playOn.data.toList.drop 68 = dktX0_playOn_3 := dk_seg dksX0_playOn_2 22 rfl rfl
theorem dksX0_playOn_4 : cX0_playOn.data.toList.drop 92 = dktX0_playOn_4 := dk_seg dksX0_playOn_3 24 rfl rfl
theorem dksX0_playOn_5 : cX0_playOn.data.toList.drop 116 = dktX0_playOn_5 := dk_seg dksX0_playOn_4 24 rfl rfl
theorem dksX0_playOn_6 : cX0_playOn.data.toList.drop 139 = dktX0_playOn_6 := dk_seg dksX0_playOn_5 23 rfl rfl
theorem dksX0_playOn_7 : cX0_playOn.data.toList.drop 161 = dktX0_playOn_7 := dk_seg dksX0_playOn_6 22 rfl rfl
theorem dksX0_playOn_8 : cX0_playOn.data.toList.drop 185 = dktX0_playOn_8 := dk_seg dksX0_playOn_7 24 rfl rfl
theorem dksX0_playOn_9 : cX0_playOn.data.toList.drop 208 = dktX0_playOn_9 := dk_seg dksX0_playOn_8 23 rfl rfl
theorem dksX0_playOn_10 : cX0_playOn.data.toList.drop 232 = dktX0_playOn_10 := dk_seg dksX0_playOn_9 24 rfl rfl
theorem dksX0_playOn_11 : cX0_playOn.data.toList.drop 256 = dktX0_playOn_11 := dk_seg dksX0_playOn_10 24 rfl rfl
theorem dksX0_playOn_12 : cX0_playOn.data.toList.drop 279 = dktX0_playOn_12 := dk_seg dksX0_playOn_11 23 rfl rfl
theorem dksX0_playOn_13 : cX0_playOn.data.toList.drop 301 = dktX0_playOn_13 := dk_seg dksX0_playOn_12 22 rfl rfl
theorem dksX0_playOn_14 : cX0_playOn.data.toList.drop 324 = dktX0_playOn_14 := dk_seg dksX0_playOn_13 23 rfl rfl
theorem dksX0_playOn_15 : cX0_playOn.data.toList.drop 347 = dktX0_playOn_15 := dk_seg dksX0_playOn_14 23 rfl rfl
theorem dX0_playOn_0 : decode cX0_playOn 0 = .ok (.iconst 0, 1) := dk_3 (dk_at dksX0_playOn_0 0 rfl rfl)
theorem dX0_playOn_1 : decode cX0_playOn 1 = .ok (.istore_n 2, 1) := dk_61 (dk_at dksX0_playOn_0 1 rfl rfl)
theorem dX0_playOn_2 : decode cX0_playOn 2 = .ok (.iconst 0, 1) := dk_3 (dk_at dksX0_playOn_0 2 rfl rfl)
theorem dX0_playOn_3 : decode cX0_playOn 3 = .ok (.istore_n 3, 1) := dk_62 (dk_at dksX0_playOn_0 3 rfl rfl)
theorem dX0_playOn_4 : decode cX0_playOn 4 = .ok (.iload_n 3, 1) := dk_29 (dk_at dksX0_playOn_0 4 rfl rfl)
theorem dX0_playOn_5 : decode cX0_playOn 5 = .ok (.aload_n 0, 1) := dk_42 (dk_at dksX0_playOn_0 5 rfl rfl)
theorem dX0_playOn_6 : decode cX0_playOn 6 = .ok (.getfield 15, 3) := dk_180 0 15 (dk_at dksX0_playOn_0 6 rfl rfl)
theorem dX0_playOn_9 : decode cX0_playOn 9 = .ok (.getfield 145, 3) := dk_180 0 145 (dk_at dksX0_playOn_0 9 rfl rfl)
theorem dX0_playOn_12 : decode cX0_playOn 12 = .ok (.invokevirtual 148, 3) := dk_182 0 148 (dk_at dksX0_playOn_0 12 rfl rfl)
theorem dX0_playOn_15 : decode cX0_playOn 15 = .ok (.if_icmp .ge 346, 3) := dk_162 1 90 (dk_at dksX0_playOn_0 15 rfl rfl)
theorem dX0_playOn_18 : decode cX0_playOn 18 = .ok (.aload_n 0, 1) := dk_42 (dk_at dksX0_playOn_0 18 rfl rfl)
theorem dX0_playOn_19 : decode cX0_playOn 19 = .ok (.getfield 15, 3) := dk_180 0 15 (dk_at dksX0_playOn_0 19 rfl rfl)
theorem dX0_playOn_22 : decode cX0_playOn 22 = .ok (.getfield 145, 3) := dk_180 0 145 (dk_at dksX0_playOn_1 0 rfl rfl)
theorem dX0_playOn_25 : decode cX0_playOn 25 = .ok (.iload_n 3, 1) := dk_29 (dk_at dksX0_playOn_1 3 rfl rfl)
theorem dX0_playOn_26 : decode cX0_playOn 26 = .ok (.invokevirtual 222, 3) := dk_182 0 222 (dk_at dksX0_playOn_1 4 rfl rfl)
theorem dX0_playOn_29 : decode cX0_playOn 29 = .ok (.checkcast 300, 3) := dk_192 1 44 (dk_at dksX0_playOn_1 7 rfl rfl)
theorem dX0_playOn_32 : decode cX0_playOn 32 = .ok (.astore 4, 2) := dk_58 4 (dk_at dksX0_playOn_1 10 rfl rfl)
theorem dX0_playOn_34 : decode cX0_playOn 34 = .ok (.aload_n 0, 1) := dk_42 (dk_at dksX0_playOn_1 12 rfl rfl)
theorem dX0_playOn_35 : decode cX0_playOn 35 = .ok (.dup, 1) := dk_89 (dk_at dksX0_playOn_1 13 rfl rfl)
theorem dX0_playOn_36 : decode cX0_playOn 36 = .ok (.getfield 284, 3) := dk_180 1 28 (dk_at dksX0_playOn_1 14 rfl rfl)
theorem dX0_playOn_39 : decode cX0_playOn 39 = .ok (.iconst 1, 1) := dk_4 (dk_at dksX0_playOn_1 17 rfl rfl)
theorem dX0_playOn_40 : decode cX0_playOn 40 = .ok (.iadd, 1) := dk_96 (dk_at dksX0_playOn_1 18 rfl rfl)
theorem dX0_playOn_41 : decode cX0_playOn 41 = .ok (.putfield 284, 3) := dk_181 1 28 (dk_at dksX0_playOn_1 19 rfl rfl)
theorem dX0_playOn_44 : decode cX0_playOn 44 = .ok (.aload 4, 2) := dk_25 4 (dk_at dksX0_playOn_1 22 rfl rfl)
theorem dX0_playOn_46 : decode cX0_playOn 46 = .ok (.invokevirtual 302, 3) := dk_182 1 46 (dk_at dksX0_playOn_2 0 rfl rfl)
theorem dX0_playOn_49 : decode cX0_playOn 49 = .ok (.aload_n 0, 1) := dk_42 (dk_at dksX0_playOn_2 3 rfl rfl)
theorem dX0_playOn_50 : decode cX0_playOn 50 = .ok (.getfield 290, 3) := dk_180 1 34 (dk_at dksX0_playOn_2 4 rfl rfl)
theorem dX0_playOn_53 : decode cX0_playOn 53 = .ok (.if_icmp .le 5, 3) := dk_164 0 5 (dk_at dksX0_playOn_2 7 rfl rfl)
theorem dX0_playOn_56 : decode cX0_playOn 56 = .ok (.iload_n 2, 1) := dk_28 (dk_at dksX0_playOn_2 10 rfl rfl)
theorem dX0_playOn_57 : decode cX0_playOn 57 = .ok (.ireturn, 1) := dk_172 (dk_at dksX0_playOn_2 11 rfl rfl)
theorem dX0_playOn_58 : decode cX0_playOn 58 = .ok (.aload 4, 2) := dk_25 4 (dk_at dksX0_playOn_2 12 rfl rfl)
theorem dX0_playOn_60 : decode cX0_playOn 60 = .ok (.instanceof 226, 3) := dk_193 0 226 (dk_at dksX0_playOn_2 14 rfl rfl)
theorem dX0_playOn_63 : decode cX0_playOn 63 = .ok (.ifCond .eq 65, 3) := dk_153 0 65 (dk_at dksX0_playOn_2 17 rfl rfl)
theorem dX0_playOn_66 : decode cX0_playOn 66 = .ok (.aload 4, 2) := dk_25 4 (dk_at dksX0_playOn_2 20 rfl rfl)
theorem dX0_playOn_68 : decode cX0_playOn 68 = .ok (.checkcast 226, 3) := dk_192 0 226 (dk_at dksX0_playOn_3 0 rfl rfl)
theorem dX0_playOn_71 : decode cX0_playOn 71 = .ok (.astore 5, 2) := dk_58 5 (dk_at dksX0_playOn_3 3 rfl rfl)
theorem dX0_playOn_73 : decode cX0_playOn 73 = .ok (.aload_n 0, 1) := dk_42 (dk_at dksX0_playOn_3 5 rfl rfl)
theorem dX0_playOn_74 : decode cX0_playOn 74 = .ok (.getfield 290, 3) := dk_180 1 34 (dk_at dksX0_playOn_3 6 rfl rfl)
theorem dX0_playOn_77 : decode cX0_playOn 77 = .ok (.aload 5, 2) := dk_25 5 (dk_at dksX0_playOn_3 9 rfl rfl)
theorem dX0_playOn_79 : decode cX0_playOn 79 = .ok (.invokevirtual 228, 3) := dk_182 0 228 (dk_at dksX0_playOn_3 11 rfl rfl)
theorem dX0_playOn_82 : decode cX0_playOn 82 = .ok (.iadd, 1) := dk_96 (dk_at dksX0_playOn_3 14 rfl rfl)
theorem dX0_playOn_83 : decode cX0_playOn 83 = .ok (.bipush 8, 2) := dk_16 8 (dk_at dksX0_playOn_3 15 rfl rfl)
theorem dX0_playOn_85 : decode cX0_playOn 85 = .ok (.if_icmp .le 5, 3) := dk_164 0 5 (dk_at dksX0_playOn_3 17 rfl rfl)
theorem dX0_playOn_88 : decode cX0_playOn 88 = .ok (.iload_n 2, 1) := dk_28 (dk_at dksX0_playOn_3 20 rfl rfl)
theorem dX0_playOn_89 : decode cX0_playOn 89 = .ok (.ireturn, 1) := dk_172 (dk_at dksX0_playOn_3 21 rfl rfl)
theorem dX0_playOn_90 : decode cX0_playOn 90 = .ok (.aload_n 0, 1) := dk_42 (dk_at dksX0_playOn_3 22 rfl rfl)
theorem dX0_playOn_91 : decode cX0_playOn 91 = .ok (.dup, 1) := dk_89 (dk_at dksX0_playOn_3 23 rfl rfl)
theorem dX0_playOn_92 : decode cX0_playOn 92 = .ok (.getfield 287, 3) := dk_180 1 31 (dk_at dksX0_playOn_4 0 rfl rfl)
theorem dX0_playOn_95 : decode cX0_playOn 95 = .ok (.aload 5, 2) := dk_25 5 (dk_at dksX0_playOn_4 3 rfl rfl)
theorem dX0_playOn_97 : decode cX0_playOn 97 = .ok (.aload_n 0, 1) := dk_42 (dk_at dksX0_playOn_4 5 rfl rfl)
theorem dX0_playOn_98 : decode cX0_playOn 98 = .ok (.getfield 290, 3) := dk_180 1 34 (dk_at dksX0_playOn_4 6 rfl rfl)
theorem dX0_playOn_101 : decode cX0_playOn 101 = .ok (.iload_n 1, 1) := dk_27 (dk_at dksX0_playOn_4 9 rfl rfl)
theorem dX0_playOn_102 : decode cX0_playOn 102 = .ok (.iconst (-1), 1) := dk_2 (dk_at dksX0_playOn_4 10 rfl rfl)
theorem dX0_playOn_103 : decode cX0_playOn 103 = .ok (.iconst 0, 1) := dk_3 (dk_at dksX0_playOn_4 11 rfl rfl)
theorem dX0_playOn_104 : decode cX0_playOn 104 = .ok (.invokevirtual 230, 3) := dk_182 0 230 (dk_at dksX0_playOn_4 12 rfl rfl)
theorem dX0_playOn_107 : decode cX0_playOn 107 = .ok (.ior, 1) := dk_128 (dk_at dksX0_playOn_4 15 rfl rfl)
theorem dX0_playOn_108 : decode cX0_playOn 108 = .ok (.putfield 287, 3) := dk_181 1 31 (dk_at dksX0_playOn_4 16 rfl rfl)
theorem dX0_playOn_111 : decode cX0_playOn 111 = .ok (.aload_n 0, 1) := dk_42 (dk_at dksX0_playOn_4 19 rfl rfl)
theorem dX0_playOn_112 : decode cX0_playOn 112 = .ok (.dup, 1) := dk_89 (dk_at dksX0_playOn_4 20 rfl rfl)
theorem dX0_playOn_113 : decode cX0_playOn 113 = .ok (.getfield 290, 3) := dk_180 1 34 (dk_at dksX0_playOn_4 21 rfl rfl)
theorem dX0_playOn_116 : decode cX0_playOn 116 = .ok (.aload 5, 2) := dk_25 5 (dk_at dksX0_playOn_5 0 rfl rfl)
theorem dX0_playOn_118 : decode cX0_playOn 118 = .ok (.invokevirtual 228, 3) := dk_182 0 228 (dk_at dksX0_playOn_5 2 rfl rfl)
theorem dX0_playOn_121 : decode cX0_playOn 121 = .ok (.iadd, 1) := dk_96 (dk_at dksX0_playOn_5 5 rfl rfl)
theorem dX0_playOn_122 : decode cX0_playOn 122 = .ok (.putfield 290, 3) := dk_181 1 34 (dk_at dksX0_playOn_5 6 rfl rfl)
theorem dX0_playOn_125 : decode cX0_playOn 125 = .ok (.goto 230, 3) := dk_167 0 230 (dk_at dksX0_playOn_5 9 rfl rfl)
theorem dX0_playOn_128 : decode cX0_playOn 128 = .ok (.aload 4, 2) := dk_25 4 (dk_at dksX0_playOn_5 12 rfl rfl)
theorem dX0_playOn_130 : decode cX0_playOn 130 = .ok (.instanceof 303, 3) := dk_193 1 47 (dk_at dksX0_playOn_5 14 rfl rfl)
theorem dX0_playOn_133 : decode cX0_playOn 133 = .ok (.ifCond .eq 34, 3) := dk_153 0 34 (dk_at dksX0_playOn_5 17 rfl rfl)
theorem dX0_playOn_136 : decode cX0_playOn 136 = .ok (.aload_n 0, 1) := dk_42 (dk_at dksX0_playOn_5 20 rfl rfl)
theorem dX0_playOn_137 : decode cX0_playOn 137 = .ok (.aload 4, 2) := dk_25 4 (dk_at dksX0_playOn_5 21 rfl rfl)
theorem dX0_playOn_139 : decode cX0_playOn 139 = .ok (.checkcast 303, 3) := dk_192 1 47 (dk_at dksX0_playOn_6 0 rfl rfl)
theorem dX0_playOn_142 : decode cX0_playOn 142 = .ok (.aload_n 0, 1) := dk_42 (dk_at dksX0_playOn_6 3 rfl rfl)
theorem dX0_playOn_143 : decode cX0_playOn 143 = .ok (.getfield 287, 3) := dk_180 1 31 (dk_at dksX0_playOn_6 4 rfl rfl)
theorem dX0_playOn_146 : decode cX0_playOn 146 = .ok (.aload_n 0, 1) := dk_42 (dk_at dksX0_playOn_6 7 rfl rfl)
theorem dX0_playOn_147 : decode cX0_playOn 147 = .ok (.aload 4, 2) := dk_25 4 (dk_at dksX0_playOn_6 8 rfl rfl)
theorem dX0_playOn_149 : decode cX0_playOn 149 = .ok (.checkcast 303, 3) := dk_192 1 47 (dk_at dksX0_playOn_6 10 rfl rfl)
theorem dX0_playOn_152 : decode cX0_playOn 152 = .ok (.invokevirtual 305, 3) := dk_182 1 49 (dk_at dksX0_playOn_6 13 rfl rfl)
theorem dX0_playOn_155 : decode cX0_playOn 155 = .ok (.invokevirtual 306, 3) := dk_182 1 50 (dk_at dksX0_playOn_6 16 rfl rfl)
theorem dX0_playOn_158 : decode cX0_playOn 158 = .ok (.invokevirtual 309, 3) := dk_182 1 53 (dk_at dksX0_playOn_6 19 rfl rfl)
theorem dX0_playOn_161 : decode cX0_playOn 161 = .ok (.putfield 287, 3) := dk_181 1 31 (dk_at dksX0_playOn_7 0 rfl rfl)
theorem dX0_playOn_164 : decode cX0_playOn 164 = .ok (.goto 191, 3) := dk_167 0 191 (dk_at dksX0_playOn_7 3 rfl rfl)
theorem dX0_playOn_167 : decode cX0_playOn 167 = .ok (.aload 4, 2) := dk_25 4 (dk_at dksX0_playOn_7 6 rfl rfl)
theorem dX0_playOn_169 : decode cX0_playOn 169 = .ok (.instanceof 234, 3) := dk_193 0 234 (dk_at dksX0_playOn_7 8 rfl rfl)
theorem dX0_playOn_172 : decode cX0_playOn 172 = .ok (.ifCond .eq 23, 3) := dk_153 0 23 (dk_at dksX0_playOn_7 11 rfl rfl)
theorem dX0_playOn_175 : decode cX0_playOn 175 = .ok (.aload_n 0, 1) := dk_42 (dk_at dksX0_playOn_7 14 rfl rfl)
theorem dX0_playOn_176 : decode cX0_playOn 176 = .ok (.aload 4, 2) := dk_25 4 (dk_at dksX0_playOn_7 15 rfl rfl)
theorem dX0_playOn_178 : decode cX0_playOn 178 = .ok (.checkcast 234, 3) := dk_192 0 234 (dk_at dksX0_playOn_7 17 rfl rfl)
theorem dX0_playOn_181 : decode cX0_playOn 181 = .ok (.aload_n 0, 1) := dk_42 (dk_at dksX0_playOn_7 20 rfl rfl)
theorem dX0_playOn_182 : decode cX0_playOn 182 = .ok (.getfield 287, 3) := dk_180 1 31 (dk_at dksX0_playOn_7 21 rfl rfl)
theorem dX0_playOn_185 : decode cX0_playOn 185 = .ok (.iconst 0, 1) := dk_3 (dk_at dksX0_playOn_8 0 rfl rfl)
theorem dX0_playOn_186 : decode cX0_playOn 186 = .ok (.invokevirtual 237, 3) := dk_182 0 237 (dk_at dksX0_playOn_8 1 rfl rfl)
theorem dX0_playOn_189 : decode cX0_playOn 189 = .ok (.putfield 287, 3) := dk_181 1 31 (dk_at dksX0_playOn_8 4 rfl rfl)
theorem dX0_playOn_192 : decode cX0_playOn 192 = .ok (.goto 163, 3) := dk_167 0 163 (dk_at dksX0_playOn_8 7 rfl rfl)
theorem dX0_playOn_195 : decode cX0_playOn 195 = .ok (.aload 4, 2) := dk_25 4 (dk_at dksX0_playOn_8 10 rfl rfl)
theorem dX0_playOn_197 : decode cX0_playOn 197 = .ok (.instanceof 242, 3) := dk_193 0 242 (dk_at dksX0_playOn_8 12 rfl rfl)
theorem dX0_playOn_200 : decode cX0_playOn 200 = .ok (.ifCond .eq 74, 3) := dk_153 0 74 (dk_at dksX0_playOn_8 15 rfl rfl)
theorem dX0_playOn_203 : decode cX0_playOn 203 = .ok (.aload 4, 2) := dk_25 4 (dk_at dksX0_playOn_8 18 rfl rfl)
theorem dX0_playOn_205 : decode cX0_playOn 205 = .ok (.checkcast 242, 3) := dk_192 0 242 (dk_at dksX0_playOn_8 20 rfl rfl)
theorem dX0_playOn_208 : decode cX0_playOn 208 = .ok (.astore 5, 2) := dk_58 5 (dk_at dksX0_playOn_9 0 rfl rfl)
theorem dX0_playOn_210 : decode cX0_playOn 210 = .ok (.aload_n 0, 1) := dk_42 (dk_at dksX0_playOn_9 2 rfl rfl)
theorem dX0_playOn_211 : decode cX0_playOn 211 = .ok (.getfield 84, 3) := dk_180 0 84 (dk_at dksX0_playOn_9 3 rfl rfl)
theorem dX0_playOn_214 : decode cX0_playOn 214 = .ok (.iload_n 2, 1) := dk_28 (dk_at dksX0_playOn_9 6 rfl rfl)
theorem dX0_playOn_215 : decode cX0_playOn 215 = .ok (.aload 5, 2) := dk_25 5 (dk_at dksX0_playOn_9 7 rfl rfl)
theorem dX0_playOn_217 : decode cX0_playOn 217 = .ok (.aload_n 0, 1) := dk_42 (dk_at dksX0_playOn_9 9 rfl rfl)
theorem dX0_playOn_218 : decode cX0_playOn 218 = .ok (.getfield 287, 3) := dk_180 1 31 (dk_at dksX0_playOn_9 10 rfl rfl)
theorem dX0_playOn_221 : decode cX0_playOn 221 = .ok (.invokevirtual 247, 3) := dk_182 0 247 (dk_at dksX0_playOn_9 13 rfl rfl)
theorem dX0_playOn_224 : decode cX0_playOn 224 = .ok (.iastore, 1) := dk_79 (dk_at dksX0_playOn_9 16 rfl rfl)
theorem dX0_playOn_225 : decode cX0_playOn 225 = .ok (.iconst 0, 1) := dk_3 (dk_at dksX0_playOn_9 17 rfl rfl)
theorem dX0_playOn_226 : decode cX0_playOn 226 = .ok (.istore 6, 2) := dk_54 6 (dk_at dksX0_playOn_9 18 rfl rfl)
theorem dX0_playOn_228 : decode cX0_playOn 228 = .ok (.iload 6, 2) := dk_21 6 (dk_at dksX0_playOn_9 20 rfl rfl)
theorem dX0_playOn_230 : decode cX0_playOn 230 = .ok (.aload 5, 2) := dk_25 5 (dk_at dksX0_playOn_9 22 rfl rfl)
theorem dX0_playOn_232 : decode cX0_playOn 232 = .ok (.getfield 246, 3) := dk_180 0 246 (dk_at dksX0_playOn_10 0 rfl rfl)
theorem dX0_playOn_235 : decode cX0_playOn 235 = .ok (.if_icmp .ge 33, 3) := dk_162 0 33 (dk_at dksX0_playOn_10 3 rfl rfl)
theorem dX0_playOn_238 : decode cX0_playOn 238 = .ok (.aload_n 0, 1) := dk_42 (dk_at dksX0_playOn_10 6 rfl rfl)
theorem dX0_playOn_239 : decode cX0_playOn 239 = .ok (.getfield 88, 3) := dk_180 0 88 (dk_at dksX0_playOn_10 7 rfl rfl)
theorem dX0_playOn_242 : decode cX0_playOn 242 = .ok (.aload 5, 2) := dk_25 5 (dk_at dksX0_playOn_10 10 rfl rfl)
theorem dX0_playOn_244 : decode cX0_playOn 244 = .ok (.getfield 310, 3) := dk_180 1 54 (dk_at dksX0_playOn_10 12 rfl rfl)
theorem dX0_playOn_247 : decode cX0_playOn 247 = .ok (.iload 6, 2) := dk_21 6 (dk_at dksX0_playOn_10 15 rfl rfl)
theorem dX0_playOn_249 : decode cX0_playOn 249 = .ok (.iaload, 1) := dk_46 (dk_at dksX0_playOn_10 17 rfl rfl)
theorem dX0_playOn_250 : decode cX0_playOn 250 = .ok (.aload_n 0, 1) := dk_42 (dk_at dksX0_playOn_10 18 rfl rfl)
theorem dX0_playOn_251 : decode cX0_playOn 251 = .ok (.getfield 84, 3) := dk_180 0 84 (dk_at dksX0_playOn_10 19 rfl rfl)
theorem dX0_playOn_254 : decode cX0_playOn 254 = .ok (.iload_n 2, 1) := dk_28 (dk_at dksX0_playOn_10 22 rfl rfl)
theorem dX0_playOn_255 : decode cX0_playOn 255 = .ok (.iaload, 1) := dk_46 (dk_at dksX0_playOn_10 23 rfl rfl)
theorem dX0_playOn_256 : decode cX0_playOn 256 = .ok (.iload 6, 2) := dk_21 6 (dk_at dksX0_playOn_11 0 rfl rfl)
theorem dX0_playOn_258 : decode cX0_playOn 258 = .ok (.ishr, 1) := dk_122 (dk_at dksX0_playOn_11 2 rfl rfl)
theorem dX0_playOn_259 : decode cX0_playOn 259 = .ok (.iconst 1, 1) := dk_4 (dk_at dksX0_playOn_11 3 rfl rfl)
theorem dX0_playOn_260 : decode cX0_playOn 260 = .ok (.iand, 1) := dk_126 (dk_at dksX0_playOn_11 4 rfl rfl)
theorem dX0_playOn_261 : decode cX0_playOn 261 = .ok (.iastore, 1) := dk_79 (dk_at dksX0_playOn_11 5 rfl rfl)
theorem dX0_playOn_262 : decode cX0_playOn 262 = .ok (.iinc 6 1, 3) := dk_132 6 1 (dk_at dksX0_playOn_11 6 rfl rfl)
theorem dX0_playOn_265 : decode cX0_playOn 265 = .ok (.goto (-37), 3) := dk_167 255 219 (dk_at dksX0_playOn_11 9 rfl rfl)
theorem dX0_playOn_268 : decode cX0_playOn 268 = .ok (.iinc 2 1, 3) := dk_132 2 1 (dk_at dksX0_playOn_11 12 rfl rfl)
theorem dX0_playOn_271 : decode cX0_playOn 271 = .ok (.goto 84, 3) := dk_167 0 84 (dk_at dksX0_playOn_11 15 rfl rfl)
theorem dX0_playOn_274 : decode cX0_playOn 274 = .ok (.aload 4, 2) := dk_25 4 (dk_at dksX0_playOn_11 18 rfl rfl)
theorem dX0_playOn_276 : decode cX0_playOn 276 = .ok (.instanceof 313, 3) := dk_193 1 57 (dk_at dksX0_playOn_11 20 rfl rfl)
theorem dX0_playOn_279 : decode cX0_playOn 279 = .ok (.ifCond .eq 45, 3) := dk_153 0 45 (dk_at dksX0_playOn_12 0 rfl rfl)
theorem dX0_playOn_282 : decode cX0_playOn 282 = .ok (.aload 4, 2) := dk_25 4 (dk_at dksX0_playOn_12 3 rfl rfl)
theorem dX0_playOn_284 : decode cX0_playOn 284 = .ok (.checkcast 313, 3) := dk_192 1 57 (dk_at dksX0_playOn_12 5 rfl rfl)
theorem dX0_playOn_287 : decode cX0_playOn 287 = .ok (.astore 5, 2) := dk_58 5 (dk_at dksX0_playOn_12 8 rfl rfl)
theorem dX0_playOn_289 : decode cX0_playOn 289 = .ok (.aload_n 0, 1) := dk_42 (dk_at dksX0_playOn_12 10 rfl rfl)
theorem dX0_playOn_290 : decode cX0_playOn 290 = .ok (.getfield 88, 3) := dk_180 0 88 (dk_at dksX0_playOn_12 11 rfl rfl)
theorem dX0_playOn_293 : decode cX0_playOn 293 = .ok (.aload 5, 2) := dk_25 5 (dk_at dksX0_playOn_12 14 rfl rfl)
theorem dX0_playOn_295 : decode cX0_playOn 295 = .ok (.getfield 315, 3) := dk_180 1 59 (dk_at dksX0_playOn_12 16 rfl rfl)
theorem dX0_playOn_298 : decode cX0_playOn 298 = .ok (.iaload, 1) := dk_46 (dk_at dksX0_playOn_12 19 rfl rfl)
theorem dX0_playOn_299 : decode cX0_playOn 299 = .ok (.aload 5, 2) := dk_25 5 (dk_at dksX0_playOn_12 20 rfl rfl)
theorem dX0_playOn_301 : decode cX0_playOn 301 = .ok (.getfield 318, 3) := dk_180 1 62 (dk_at dksX0_playOn_13 0 rfl rfl)
theorem dX0_playOn_304 : decode cX0_playOn 304 = .ok (.ifCond .eq 7, 3) := dk_153 0 7 (dk_at dksX0_playOn_13 3 rfl rfl)
theorem dX0_playOn_307 : decode cX0_playOn 307 = .ok (.iconst 1, 1) := dk_4 (dk_at dksX0_playOn_13 6 rfl rfl)
theorem dX0_playOn_308 : decode cX0_playOn 308 = .ok (.goto 4, 3) := dk_167 0 4 (dk_at dksX0_playOn_13 7 rfl rfl)
theorem dX0_playOn_311 : decode cX0_playOn 311 = .ok (.iconst 0, 1) := dk_3 (dk_at dksX0_playOn_13 10 rfl rfl)
theorem dX0_playOn_312 : decode cX0_playOn 312 = .ok (.if_icmp .ne 9, 3) := dk_160 0 9 (dk_at dksX0_playOn_13 11 rfl rfl)
theorem dX0_playOn_315 : decode cX0_playOn 315 = .ok (.aload 5, 2) := dk_25 5 (dk_at dksX0_playOn_13 14 rfl rfl)
theorem dX0_playOn_317 : decode cX0_playOn 317 = .ok (.getfield 321, 3) := dk_180 1 65 (dk_at dksX0_playOn_13 16 rfl rfl)
theorem dX0_playOn_320 : decode cX0_playOn 320 = .ok (.istore_n 3, 1) := dk_62 (dk_at dksX0_playOn_13 19 rfl rfl)
theorem dX0_playOn_321 : decode cX0_playOn 321 = .ok (.goto 34, 3) := dk_167 0 34 (dk_at dksX0_playOn_13 20 rfl rfl)
theorem dX0_playOn_324 : decode cX0_playOn 324 = .ok (.aload 4, 2) := dk_25 4 (dk_at dksX0_playOn_14 0 rfl rfl)
theorem dX0_playOn_326 : decode cX0_playOn 326 = .ok (.instanceof 1, 3) := dk_193 0 1 (dk_at dksX0_playOn_14 2 rfl rfl)
theorem dX0_playOn_329 : decode cX0_playOn 329 = .ok (.ifCond .ne 11, 3) := dk_154 0 11 (dk_at dksX0_playOn_14 5 rfl rfl)
theorem dX0_playOn_332 : decode cX0_playOn 332 = .ok (.aload 4, 2) := dk_25 4 (dk_at dksX0_playOn_14 8 rfl rfl)
theorem dX0_playOn_334 : decode cX0_playOn 334 = .ok (.instanceof 7, 3) := dk_193 0 7 (dk_at dksX0_playOn_14 10 rfl rfl)
theorem dX0_playOn_337 : decode cX0_playOn 337 = .ok (.ifCond .eq 18, 3) := dk_153 0 18 (dk_at dksX0_playOn_14 13 rfl rfl)
theorem dX0_playOn_340 : decode cX0_playOn 340 = .ok (.aload_n 0, 1) := dk_42 (dk_at dksX0_playOn_14 16 rfl rfl)
theorem dX0_playOn_341 : decode cX0_playOn 341 = .ok (.aload 4, 2) := dk_25 4 (dk_at dksX0_playOn_14 17 rfl rfl)
theorem dX0_playOn_343 : decode cX0_playOn 343 = .ok (.aload_n 0, 1) := dk_42 (dk_at dksX0_playOn_14 19 rfl rfl)
theorem dX0_playOn_344 : decode cX0_playOn 344 = .ok (.getfield 287, 3) := dk_180 1 31 (dk_at dksX0_playOn_14 20 rfl rfl)
theorem dX0_playOn_347 : decode cX0_playOn 347 = .ok (.invokestatic 324, 3) := dk_184 1 68 (dk_at dksX0_playOn_15 0 rfl rfl)
theorem dX0_playOn_350 : decode cX0_playOn 350 = .ok (.putfield 281, 3) := dk_181 1 25 (dk_at dksX0_playOn_15 3 rfl rfl)
theorem dX0_playOn_353 : decode cX0_playOn 353 = .ok (.iload_n 2, 1) := dk_28 (dk_at dksX0_playOn_15 6 rfl rfl)
theorem dX0_playOn_354 : decode cX0_playOn 354 = .ok (.ireturn, 1) := dk_172 (dk_at dksX0_playOn_15 7 rfl rfl)
theorem dX0_playOn_355 : decode cX0_playOn 355 = .ok (.iinc 3 1, 3) := dk_132 3 1 (dk_at dksX0_playOn_15 8 rfl rfl)
theorem dX0_playOn_358 : decode cX0_playOn 358 = .ok (.goto (-354), 3) := dk_167 254 158 (dk_at dksX0_playOn_15 11 rfl rfl)
theorem dX0_playOn_361 : decode cX0_playOn 361 = .ok (.iload_n 2, 1) := dk_28 (dk_at dksX0_playOn_15 14 rfl rfl)
theorem dX0_playOn_362 : decode cX0_playOn 362 = .ok (.ireturn, 1) := dk_172 (dk_at dksX0_playOn_15 15 rfl rfl)
abbrev cX0_draw : ByteArray := prog_1_method_30_code
def yX0_draw : MethodName := ⟨RX0, "draw", "(I)I"⟩
def dkwX0_draw_1 : List UInt8 := [112, 172]
abbrev dktX0_draw_1 : List UInt8 := dkwX0_draw_1 ++ []
def dkwX0_draw_0 : List UInt8 := [42, 42, 180, 0, 75, 19, 1, 24, 104, 17, 48, 57, 96, 181, 0, 75, 42, 180, 0, 75, 16, 16, 124, 27]
abbrev dktX0_draw_0 : List UInt8 := dkwX0_draw_0 ++ dktX0_draw_1
theorem dksX0_draw_0 : cX0_draw.data.toList.drop 0 = dktX0_draw_0 := by decide +kernel
theorem dksX0_draw_1 : cX0_draw.data.toList.drop 24 = dktX0_draw_1 := dk_seg dksX0_draw_0 24 rfl rfl
theorem dX0_draw_0 : decode cX0_draw 0 = .ok (.aload_n 0, 1) := dk_42 (dk_at dksX0_draw_0 0 rfl rfl)
theorem dX0_draw_1 : decode cX0_draw 1 = .ok (.aload_n 0, 1) := dk_42 (dk_at dksX0_draw_0 1 rfl rfl)
theorem dX0_draw_2 : decode cX0_draw 2 = .ok (.getfield 75, 3) := dk_180 0 75 (dk_at dksX0_draw_0 2 rfl rfl)
theorem dX0_draw_5 : decode cX0_draw 5 = .ok (.ldc_w 280, 3) := dk_19 1 24 (dk_at dksX0_draw_0 5 rfl rfl)
theorem dX0_draw_8 : decode cX0_draw 8 = .ok (.imul, 1) := dk_104 (dk_at dksX0_draw_0 8 rfl rfl)
theorem dX0_draw_9 : decode cX0_draw 9 = .ok (.sipush 12345, 3) := dk_17 48 57 (dk_at dksX0_draw_0 9 rfl rfl)
theorem dX0_draw_12 : decode cX0_draw 12 = .ok (.iadd, 1) := dk_96 (dk_at dksX0_draw_0 12 rfl rfl)
theorem dX0_draw_13 : decode cX0_draw 13 = .ok (.putfield 75, 3) := dk_181 0 75 (dk_at dksX0_draw_0 13 rfl rfl)
theorem dX0_draw_16 : decode cX0_draw 16 = .ok (.aload_n 0, 1) := dk_42 (dk_at dksX0_draw_0 16 rfl rfl)
theorem dX0_draw_17 : decode cX0_draw 17 = .ok (.getfield 75, 3) := dk_180 0 75 (dk_at dksX0_draw_0 17 rfl rfl)
theorem dX0_draw_20 : decode cX0_draw 20 = .ok (.bipush 16, 2) := dk_16 16 (dk_at dksX0_draw_0 20 rfl rfl)
theorem dX0_draw_22 : decode cX0_draw 22 = .ok (.iushr, 1) := dk_124 (dk_at dksX0_draw_0 22 rfl rfl)
theorem dX0_draw_23 : decode cX0_draw 23 = .ok (.iload_n 1, 1) := dk_27 (dk_at dksX0_draw_0 23 rfl rfl)
theorem dX0_draw_24 : decode cX0_draw 24 = .ok (.irem, 1) := dk_112 (dk_at dksX0_draw_1 0 rfl rfl)
theorem dX0_draw_25 : decode cX0_draw 25 = .ok (.ireturn, 1) := dk_172 (dk_at dksX0_draw_1 1 rfl rfl)
abbrev cX0_played : ByteArray := prog_1_method_33_code
def yX0_played : MethodName := ⟨RX0, "played", "(I)I"⟩
def dkwX0_played_2 : List UInt8 := [42, 180, 1, 25, 172, 42, 180, 1, 28, 172, 42, 180, 1, 31, 172, 42, 180, 1, 34, 172, 2, 172]
abbrev dktX0_played_2 : List UInt8 := dkwX0_played_2 ++ []
def dkwX0_played_1 : List UInt8 := [170, 0, 0, 0, 0, 50, 0, 0, 0, 0, 0, 0, 0, 3, 0, 0, 0, 30, 0, 0, 0, 35, 0, 0, 0, 40, 0, 0, 0, 45]
abbrev dktX0_played_1 : List UInt8 := dkwX0_played_1 ++ dktX0_played_2
def dkwX0_played_0 : List UInt8 := [42, 180, 0, 130, 154, 0, 5, 2, 172, 27]
abbrev dktX0_played_0 : List UInt8 := dkwX0_played_0 ++ dktX0_played_1
theorem dksX0_played_0 : cX0_played.data.toList.drop 0 = dktX0_played_0 := by decide +kernel
theorem dksX0_played_1 : cX0_played.data.toList.drop 10 = dktX0_played_1 := dk_seg dksX0_played_0 10 rfl rfl
theorem dksX0_played_2 : cX0_played.data.toList.drop 40 = dktX0_played_2 := dk_seg dksX0_played_1 30 rfl rfl
theorem dX0_played_0 : decode cX0_played 0 = .ok (.aload_n 0, 1) := dk_42 (dk_at dksX0_played_0 0 rfl rfl)
theorem dX0_played_1 : decode cX0_played 1 = .ok (.getfield 130, 3) := dk_180 0 130 (dk_at dksX0_played_0 1 rfl rfl)
theorem dX0_played_4 : decode cX0_played 4 = .ok (.ifCond .ne 5, 3) := dk_154 0 5 (dk_at dksX0_played_0 4 rfl rfl)
theorem dX0_played_7 : decode cX0_played 7 = .ok (.iconst (-1), 1) := dk_2 (dk_at dksX0_played_0 7 rfl rfl)
theorem dX0_played_8 : decode cX0_played 8 = .ok (.ireturn, 1) := dk_172 (dk_at dksX0_played_0 8 rfl rfl)
theorem dX0_played_9 : decode cX0_played 9 = .ok (.iload_n 1, 1) := dk_27 (dk_at dksX0_played_0 9 rfl rfl)
theorem dX0_played_10 : decode cX0_played 10 = .ok (.tableswitch 50 0 3 #[30, 35, 40, 45], 30) := by decide +kernel
theorem dX0_played_40 : decode cX0_played 40 = .ok (.aload_n 0, 1) := dk_42 (dk_at dksX0_played_2 0 rfl rfl)
theorem dX0_played_41 : decode cX0_played 41 = .ok (.getfield 281, 3) := dk_180 1 25 (dk_at dksX0_played_2 1 rfl rfl)
theorem dX0_played_44 : decode cX0_played 44 = .ok (.ireturn, 1) := dk_172 (dk_at dksX0_played_2 4 rfl rfl)
theorem dX0_played_45 : decode cX0_played 45 = .ok (.aload_n 0, 1) := dk_42 (dk_at dksX0_played_2 5 rfl rfl)
theorem dX0_played_46 : decode cX0_played 46 = .ok (.getfield 284, 3) := dk_180 1 28 (dk_at dksX0_played_2 6 rfl rfl)
theorem dX0_played_49 : decode cX0_played 49 = .ok (.ireturn, 1) := dk_172 (dk_at dksX0_played_2 9 rfl rfl)
theorem dX0_played_50 : decode cX0_played 50 = .ok (.aload_n 0, 1) := dk_42 (dk_at dksX0_played_2 10 rfl rfl)
theorem dX0_played_51 : decode cX0_played 51 = .ok (.getfield 287, 3) := dk_180 1 31 (dk_at dksX0_played_2 11 rfl rfl)
theorem dX0_played_54 : decode cX0_played 54 = .ok (.ireturn, 1) := dk_172 (dk_at dksX0_played_2 14 rfl rfl)
theorem dX0_played_55 : decode cX0_played 55 = .ok (.aload_n 0, 1) := dk_42 (dk_at dksX0_played_2 15 rfl rfl)
theorem dX0_played_56 : decode cX0_played 56 = .ok (.getfield 290, 3) := dk_180 1 34 (dk_at dksX0_played_2 16 rfl rfl)
theorem dX0_played_59 : decode cX0_played 59 = .ok (.ireturn, 1) := dk_172 (dk_at dksX0_played_2 19 rfl rfl)
theorem dX0_played_60 : decode cX0_played 60 = .ok (.iconst (-1), 1) := dk_2 (dk_at dksX0_played_2 20 rfl rfl)
theorem dX0_played_61 : decode cX0_played 61 = .ok (.ireturn, 1) := dk_172 (dk_at dksX0_played_2 21 rfl rfl)
abbrev cX0_tell : ByteArray := prog_1_method_34_code
def yX0_tell : MethodName := ⟨RX0, "tell", "(I)I"⟩
def dkwX0_tell_2 : List UInt8 := [183, 1, 76, 182, 0, 110, 87, 42, 180, 0, 96, 182, 0, 148, 4, 100, 172]
abbrev dktX0_tell_2 : List UInt8 := dkwX0_tell_2 ++ []
def dkwX0_tell_1 : List UInt8 := [182, 0, 148, 16, 20, 160, 0, 5, 2, 172, 42, 180, 0, 96, 187, 1, 71, 89, 27, 42, 180, 1, 73]
abbrev dktX0_tell_1 : List UInt8 := dkwX0_tell_1 ++ dktX0_tell_2
def dkwX0_tell_0 : List UInt8 := [42, 180, 0, 57, 180, 0, 171, 154, 0, 23, 42, 27, 182, 0, 174, 153, 0, 15, 42, 180, 0, 96]
abbrev dktX0_tell_0 : List UInt8 := dkwX0_tell_0 ++ dktX0_tell_1
theorem dksX0_tell_0 : cX0_tell.data.toList.drop 0 = dktX0_tell_0 := by decide +kernel
theorem dksX0_tell_1 : cX0_tell.data.toList.drop 22 = dktX0_tell_1 := dk_seg dksX0_tell_0 22 rfl rfl
theorem dksX0_tell_2 : cX0_tell.data.toList.drop 45 = dktX0_tell_2 := dk_seg dksX0_tell_1 23 rfl rfl
theorem dX0_tell_0 : decode cX0_tell 0 = .ok (.aload_n 0, 1) := dk_42 (dk_at dksX0_tell_0 0 rfl rfl)
theorem dX0_tell_1 : decode cX0_tell 1 = .ok (.getfield 57, 3) := dk_180 0 57 (dk_at dksX0_tell_0 1 rfl rfl)
theorem dX0_tell_4 : decode cX0_tell 4 = .ok (.getfield 171, 3) := dk_180 0 171 (dk_at dksX0_tell_0 4 rfl rfl)
theorem dX0_tell_7 : decode cX0_tell 7 = .ok (.ifCond .ne 23, 3) := dk_154 0 23 (dk_at dksX0_tell_0 7 rfl rfl)
theorem dX0_tell_10 : decode cX0_tell 10 = .ok (.aload_n 0, 1) := dk_42 (dk_at dksX0_tell_0 10 rfl rfl)
theorem dX0_tell_11 : decode cX0_tell 11 = .ok (.iload_n 1, 1) := dk_27 (dk_at dksX0_tell_0 11 rfl rfl)
theorem dX0_tell_12 : decode cX0_tell 12 = .ok (.invokevirtual 174, 3) := dk_182 0 174 (dk_at dksX0_tell_0 12 rfl rfl)
theorem dX0_tell_15 : decode cX0_tell 15 = .ok (.ifCond .eq 15, 3) := dk_153 0 15 (dk_at dksX0_tell_0 15 rfl rfl)
theorem dX0_tell_18 : decode cX0_tell 18 = .ok (.aload_n 0, 1) := dk_42 (dk_at dksX0_tell_0 18 rfl rfl)
theorem dX0_tell_19 : decode cX0_tell 19 = .ok (.getfield 96, 3) := dk_180 0 96 (dk_at dksX0_tell_0 19 rfl rfl)
theorem dX0_tell_22 : decode cX0_tell 22 = .ok (.invokevirtual 148, 3) := dk_182 0 148 (dk_at dksX0_tell_1 0 rfl rfl)
theorem dX0_tell_25 : decode cX0_tell 25 = .ok (.bipush 20, 2) := dk_16 20 (dk_at dksX0_tell_1 3 rfl rfl)
theorem dX0_tell_27 : decode cX0_tell 27 = .ok (.if_icmp .ne 5, 3) := dk_160 0 5 (dk_at dksX0_tell_1 5 rfl rfl)
theorem dX0_tell_30 : decode cX0_tell 30 = .ok (.iconst (-1), 1) := dk_2 (dk_at dksX0_tell_1 8 rfl rfl)
theorem dX0_tell_31 : decode cX0_tell 31 = .ok (.ireturn, 1) := dk_172 (dk_at dksX0_tell_1 9 rfl rfl)
theorem dX0_tell_32 : decode cX0_tell 32 = .ok (.aload_n 0, 1) := dk_42 (dk_at dksX0_tell_1 10 rfl rfl)
theorem dX0_tell_33 : decode cX0_tell 33 = .ok (.getfield 96, 3) := dk_180 0 96 (dk_at dksX0_tell_1 11 rfl rfl)
theorem dX0_tell_36 : decode cX0_tell 36 = .ok (.new 327, 3) := dk_187 1 71 (dk_at dksX0_tell_1 14 rfl rfl)
theorem dX0_tell_39 : decode cX0_tell 39 = .ok (.dup, 1) := dk_89 (dk_at dksX0_tell_1 17 rfl rfl)
theorem dX0_tell_40 : decode cX0_tell 40 = .ok (.iload_n 1, 1) := dk_27 (dk_at dksX0_tell_1 18 rfl rfl)
theorem dX0_tell_41 : decode cX0_tell 41 = .ok (.aload_n 0, 1) := dk_42 (dk_at dksX0_tell_1 19 rfl rfl)
theorem dX0_tell_42 : decode cX0_tell 42 = .ok (.getfield 329, 3) := dk_180 1 73 (dk_at dksX0_tell_1 20 rfl rfl)
theorem dX0_tell_45 : decode cX0_tell 45 = .ok (.invokespecial 332, 3) := dk_183 1 76 (dk_at dksX0_tell_2 0 rfl rfl)
theorem dX0_tell_48 : decode cX0_tell 48 = .ok (.invokevirtual 110, 3) := dk_182 0 110 (dk_at dksX0_tell_2 3 rfl rfl)
theorem dX0_tell_51 : decode cX0_tell 51 = .ok (.pop, 1) := dk_87 (dk_at dksX0_tell_2 6 rfl rfl)
theorem dX0_tell_52 : decode cX0_tell 52 = .ok (.aload_n 0, 1) := dk_42 (dk_at dksX0_tell_2 7 rfl rfl)
theorem dX0_tell_53 : decode cX0_tell 53 = .ok (.getfield 96, 3) := dk_180 0 96 (dk_at dksX0_tell_2 8 rfl rfl)
theorem dX0_tell_56 : decode cX0_tell 56 = .ok (.invokevirtual 148, 3) := dk_182 0 148 (dk_at dksX0_tell_2 11 rfl rfl)
theorem dX0_tell_59 : decode cX0_tell 59 = .ok (.iconst 1, 1) := dk_4 (dk_at dksX0_tell_2 14 rfl rfl)
theorem dX0_tell_60 : decode cX0_tell 60 = .ok (.isub, 1) := dk_100 (dk_at dksX0_tell_2 15 rfl rfl)
theorem dX0_tell_61 : decode cX0_tell 61 = .ok (.ireturn, 1) := dk_172 (dk_at dksX0_tell_2 16 rfl rfl)
abbrev cX0_untell : ByteArray := prog_1_method_35_code
def yX0_untell : MethodName := ⟨RX0, "untell", "(I)Z"⟩
def dkwX0_untell_1 : List UInt8 := [182, 0, 222, 192, 1, 71, 42, 180, 1, 73, 182, 1, 79, 153, 0, 7, 4, 167, 0, 4, 3, 172]
abbrev dktX0_untell_1 : List UInt8 := dkwX0_untell_1 ++ []
def dkwX0_untell_0 : List UInt8 := [27, 3, 42, 180, 0, 96, 182, 0, 148, 4, 100, 184, 0, 155, 153, 0, 28, 42, 180, 0, 96, 27]
abbrev dktX0_untell_0 : List UInt8 := dkwX0_untell_0 ++ dktX0_untell_1
theorem dksX0_untell_0 : cX0_untell.data.toList.drop 0 = dktX0_untell_0 := by decide +kernel
theorem dksX0_untell_1 : cX0_untell.data.toList.drop 22 = dktX0_untell_1 := dk_seg dksX0_untell_0 22 rfl rfl
theorem dX0_untell_0 : decode cX0_untell 0 = .ok (.iload_n 1, 1) := dk_27 (dk_at dksX0_untell_0 0 rfl rfl)
theorem dX0_untell_1 : decode cX0_untell 1 = .ok (.iconst 0, 1) := dk_3 (dk_at dksX0_untell_0 1 rfl rfl)
theorem dX0_untell_2 : decode cX0_untell 2 = .ok (.aload_n 0, 1) := dk_42 (dk_at dksX0_untell_0 2 rfl rfl)
theorem dX0_untell_3 : decode cX0_untell 3 = .ok (.getfield 96, 3) := dk_180 0 96 (dk_at dksX0_untell_0 3 rfl rfl)
theorem dX0_untell_6 : decode cX0_untell 6 = .ok (.invokevirtual 148, 3) := dk_182 0 148 (dk_at dksX0_untell_0 6 rfl rfl)
theorem dX0_untell_9 : decode cX0_untell 9 = .ok (.iconst 1, 1) := dk_4 (dk_at dksX0_untell_0 9 rfl rfl)
theorem dX0_untell_10 : decode cX0_untell 10 = .ok (.isub, 1) := dk_100 (dk_at dksX0_untell_0 10 rfl rfl)
theorem dX0_untell_11 : decode cX0_untell 11 = .ok (.invokestatic 155, 3) := dk_184 0 155 (dk_at dksX0_untell_0 11 rfl rfl)
theorem dX0_untell_14 : decode cX0_untell 14 = .ok (.ifCond .eq 28, 3) := dk_153 0 28 (dk_at dksX0_untell_0 14 rfl rfl)
theorem dX0_untell_17 : decode cX0_untell 17 = .ok (.aload_n 0, 1) := dk_42 (dk_at dksX0_untell_0 17 rfl rfl)
theorem dX0_untell_18 : decode cX0_untell 18 = .ok (.getfield 96, 3) := dk_180 0 96 (dk_at dksX0_untell_0 18 rfl rfl)
theorem dX0_untell_21 : decode cX0_untell 21 = .ok (.iload_n 1, 1) := dk_27 (dk_at dksX0_untell_0 21 rfl rfl)
theorem dX0_untell_22 : decode cX0_untell 22 = .ok (.invokevirtual 222, 3) := dk_182 0 222 (dk_at dksX0_untell_1 0 rfl rfl)
theorem dX0_untell_25 : decode cX0_untell 25 = .ok (.checkcast 327, 3) := dk_192 1 71 (dk_at dksX0_untell_1 3 rfl rfl)
theorem dX0_untell_28 : decode cX0_untell 28 = .ok (.aload_n 0, 1) := dk_42 (dk_at dksX0_untell_1 6 rfl rfl)
theorem dX0_untell_29 : decode cX0_untell 29 = .ok (.getfield 329, 3) := dk_180 1 73 (dk_at dksX0_untell_1 7 rfl rfl)
theorem dX0_untell_32 : decode cX0_untell 32 = .ok (.invokevirtual 335, 3) := dk_182 1 79 (dk_at dksX0_untell_1 10 rfl rfl)
theorem dX0_untell_35 : decode cX0_untell 35 = .ok (.ifCond .eq 7, 3) := dk_153 0 7 (dk_at dksX0_untell_1 13 rfl rfl)
theorem dX0_untell_38 : decode cX0_untell 38 = .ok (.iconst 1, 1) := dk_4 (dk_at dksX0_untell_1 16 rfl rfl)
theorem dX0_untell_39 : decode cX0_untell 39 = .ok (.goto 4, 3) := dk_167 0 4 (dk_at dksX0_untell_1 17 rfl rfl)
theorem dX0_untell_42 : decode cX0_untell 42 = .ok (.iconst 0, 1) := dk_3 (dk_at dksX0_untell_1 20 rfl rfl)
theorem dX0_untell_43 : decode cX0_untell 43 = .ok (.ireturn, 1) := dk_172 (dk_at dksX0_untell_1 21 rfl rfl)
abbrev cX0_later : ByteArray := prog_1_method_36_code
def yX0_later : MethodName := ⟨RX0, "later", "(I)I"⟩
def dkwX0_later_1 : List UInt8 := [172, 42, 89, 180, 1, 73, 27, 96, 181, 1, 73, 42, 180, 1, 73, 172]
abbrev dktX0_later_1 : List UInt8 := dkwX0_later_1 ++ []
def dkwX0_later_0 : List UInt8 := [27, 155, 0, 22, 27, 17, 3, 232, 163, 0, 15, 42, 180, 1, 73, 27, 96, 19, 1, 82, 164, 0, 5, 2]
abbrev dktX0_later_0 : List UInt8 := dkwX0_later_0 ++ dktX0_later_1
theorem dksX0_later_0 : cX0_later.data.toList.drop 0 = dktX0_later_0 := by decide +kernel
theorem dksX0_later_1 : cX0_later.data.toList.drop 24 = dktX0_later_1 := dk_seg dksX0_later_0 24 rfl rfl
theorem dX0_later_0 : decode cX0_later 0 = .ok (.iload_n 1, 1) := dk_27 (dk_at dksX0_later_0 0 rfl rfl)
theorem dX0_later_1 : decode cX0_later 1 = .ok (.ifCond .lt 22, 3) := dk_155 0 22 (dk_at dksX0_later_0 1 rfl rfl)
theorem dX0_later_4 : decode cX0_later 4 = .ok (.iload_n 1, 1) := dk_27 (dk_at dksX0_later_0 4 rfl rfl)
theorem dX0_later_5 : decode cX0_later 5 = .ok (.sipush 1000, 3) := dk_17 3 232 (dk_at dksX0_later_0 5 rfl rfl)
theorem dX0_later_8 : decode cX0_later 8 = .ok (.if_icmp .gt 15, 3) := dk_163 0 15 (dk_at dksX0_later_0 8 rfl rfl)
theorem dX0_later_11 : decode cX0_later 11 = .ok (.aload_n 0, 1) := dk_42 (dk_at dksX0_later_0 11 rfl rfl)
theorem dX0_later_12 : decode cX0_later 12 = .ok (.getfield 329, 3) := dk_180 1 73 (dk_at dksX0_later_0 12 rfl rfl)
theorem dX0_later_15 : decode cX0_later 15 = .ok (.iload_n 1, 1) := dk_27 (dk_at dksX0_later_0 15 rfl rfl)
theorem dX0_later_16 : decode cX0_later 16 = .ok (.iadd, 1) := dk_96 (dk_at dksX0_later_0 16 rfl rfl)
theorem dX0_later_17 : decode cX0_later 17 = .ok (.ldc_w 338, 3) := dk_19 1 82 (dk_at dksX0_later_0 17 rfl rfl)
theorem dX0_later_20 : decode cX0_later 20 = .ok (.if_icmp .le 5, 3) := dk_164 0 5 (dk_at dksX0_later_0 20 rfl rfl)
theorem dX0_later_23 : decode cX0_later 23 = .ok (.iconst (-1), 1) := dk_2 (dk_at dksX0_later_0 23 rfl rfl)
theorem dX0_later_24 : decode cX0_later 24 = .ok (.ireturn, 1) := dk_172 (dk_at dksX0_later_1 0 rfl rfl)
theorem dX0_later_25 : decode cX0_later 25 = .ok (.aload_n 0, 1) := dk_42 (dk_at dksX0_later_1 1 rfl rfl)
theorem dX0_later_26 : decode cX0_later 26 = .ok (.dup, 1) := dk_89 (dk_at dksX0_later_1 2 rfl rfl)
theorem dX0_later_27 : decode cX0_later 27 = .ok (.getfield 329, 3) := dk_180 1 73 (dk_at dksX0_later_1 3 rfl rfl)
theorem dX0_later_30 : decode cX0_later 30 = .ok (.iload_n 1, 1) := dk_27 (dk_at dksX0_later_1 6 rfl rfl)
theorem dX0_later_31 : decode cX0_later 31 = .ok (.iadd, 1) := dk_96 (dk_at dksX0_later_1 7 rfl rfl)
theorem dX0_later_32 : decode cX0_later 32 = .ok (.putfield 329, 3) := dk_181 1 73 (dk_at dksX0_later_1 8 rfl rfl)
theorem dX0_later_35 : decode cX0_later 35 = .ok (.aload_n 0, 1) := dk_42 (dk_at dksX0_later_1 11 rfl rfl)
theorem dX0_later_36 : decode cX0_later 36 = .ok (.getfield 329, 3) := dk_180 1 73 (dk_at dksX0_later_1 12 rfl rfl)
theorem dX0_later_39 : decode cX0_later 39 = .ok (.ireturn, 1) := dk_172 (dk_at dksX0_later_1 15 rfl rfl)
abbrev cX0_can : ByteArray := prog_1_method_37_code
def yX0_can : MethodName := ⟨RX0, "can", "(I)I"⟩
def dkwX0_can_4 : List UInt8 := [4, 21, 4, 120, 2, 130, 126, 61, 132, 4, 1, 167, 255, 181, 132, 3, 1, 167, 255, 161, 28, 172]
abbrev dktX0_can_4 : List UInt8 := dkwX0_can_4 ++ []
def dkwX0_can_3 : List UInt8 := [180, 0, 96, 29, 182, 0, 222, 192, 1, 71, 180, 1, 86, 104, 21, 4, 96, 47, 9, 148, 154, 0, 12, 28]
abbrev dktX0_can_3 : List UInt8 := dkwX0_can_3 ++ dktX0_can_4
def dkwX0_can_2 : List UInt8 := [182, 0, 222, 192, 1, 71, 27, 182, 1, 83, 153, 0, 45, 42, 180, 0, 57, 180, 0, 184, 16, 8, 42]
abbrev dktX0_can_2 : List UInt8 := dkwX0_can_2 ++ dktX0_can_3
def dkwX0_can_1 : List UInt8 := [162, 0, 90, 3, 54, 4, 21, 4, 42, 180, 0, 15, 182, 0, 152, 162, 0, 69, 42, 180, 0, 96, 29]
abbrev dktX0_can_1 : List UInt8 := dkwX0_can_1 ++ dktX0_can_2
def dkwX0_can_0 : List UInt8 := [4, 42, 180, 0, 15, 182, 0, 152, 120, 4, 100, 61, 3, 62, 29, 42, 180, 0, 96, 182, 0, 148]
abbrev dktX0_can_0 : List UInt8 := dkwX0_can_0 ++ dktX0_can_1
theorem dksX0_can_0 : cX0_can.data.toList.drop 0 = dktX0_can_0 := by decide +kernel
theorem dksX0_can_1 : cX0_can.data.toList.drop 22 = dktX0_can_1 := dk_seg dksX0_can_0 22 rfl rfl
theorem dksX0_can_2 : cX0_can.data.toList.drop 45 = dktX0_can_2 := dk_seg dksX0_can_1 23 rfl rfl
theorem dksX0_can_3 : cX0_can.data.toList.drop 68 = dktX0_can_3 := dk_seg dksX0_can_2 23 rfl rfl
theorem dksX0_can_4 : cX0_can.data.toList.drop 92 = dktX0_can_4 := dk_seg dksX0_can_3 24 rfl rfl
theorem dX0_can_0 : decode cX0_can 0 = .ok (.iconst 1, 1) := dk_4 (dk_at dksX0_can_0 0 rfl rfl)
theorem dX0_can_1 : decode cX0_can 1 = .ok (.aload_n 0, 1) := dk_42 (dk_at dksX0_can_0 1 rfl rfl)
theorem dX0_can_2 : decode cX0_can 2 = .ok (.getfield 15, 3) := dk_180 0 15 (dk_at dksX0_can_0 2 rfl rfl)
theorem dX0_can_5 : decode cX0_can 5 = .ok (.invokevirtual 152, 3) := dk_182 0 152 (dk_at dksX0_can_0 5 rfl rfl)
theorem dX0_can_8 : decode cX0_can 8 = .ok (.ishl, 1) := dk_120 (dk_at dksX0_can_0 8 rfl rfl)
theorem dX0_can_9 : decode cX0_can 9 = .ok (.iconst 1, 1) := dk_4 (dk_at dksX0_can_0 9 rfl rfl)
theorem dX0_can_10 : decode cX0_can 10 = .ok (.isub, 1) := dk_100 (dk_at dksX0_can_0 10 rfl rfl)
theorem dX0_can_11 : decode cX0_can 11 = .ok (.istore_n 2, 1) := dk_61 (dk_at dksX0_can_0 11 rfl rfl)
theorem dX0_can_12 : decode cX0_can 12 = .ok (.iconst 0, 1) := dk_3 (dk_at dksX0_can_0 12 rfl rfl)
theorem dX0_can_13 : decode cX0_can 13 = .ok (.istore_n 3, 1) := dk_62 (dk_at dksX0_can_0 13 rfl rfl)
theorem dX0_can_14 : decode cX0_can 14 = .ok (.iload_n 3, 1) := dk_29 (dk_at dksX0_can_0 14 rfl rfl)
theorem dX0_can_15 : decode cX0_can 15 = .ok (.aload_n 0, 1) := dk_42 (dk_at dksX0_can_0 15 rfl rfl)
theorem dX0_can_16 : decode cX0_can 16 = .ok (.getfield 96, 3) := dk_180 0 96 (dk_at dksX0_can_0 16 rfl rfl)
theorem dX0_can_19 : decode cX0_can 19 = .ok (.invokevirtual 148, 3) := dk_182 0 148 (dk_at dksX0_can_0 19 rfl rfl)
theorem dX0_can_22 : decode cX0_can 22 = .ok (.if_icmp .ge 90, 3) := dk_162 0 90 (dk_at dksX0_can_1 0 rfl rfl)
theorem dX0_can_25 : decode cX0_can 25 = .ok (.iconst 0, 1) := dk_3 (dk_at dksX0_can_1 3 rfl rfl)
theorem dX0_can_26 : decode cX0_can 26 = .ok (.istore 4, 2) := dk_54 4 (dk_at dksX0_can_1 4 rfl rfl)
theorem dX0_can_28 : decode cX0_can 28 = .ok (.iload 4, 2) := dk_21 4 (dk_at dksX0_can_1 6 rfl rfl)
theorem dX0_can_30 : decode cX0_can 30 = .ok (.aload_n 0, 1) := dk_42 (dk_at dksX0_can_1 8 rfl rfl)
theorem dX0_can_31 : decode cX0_can 31 = .ok (.getfield 15, 3) := dk_180 0 15 (dk_at dksX0_can_1 9 rfl rfl)
theorem dX0_can_34 : decode cX0_can 34 = .ok (.invokevirtual 152, 3) := dk_182 0 152 (dk_at dksX0_can_1 12 rfl rfl)
theorem dX0_can_37 : decode cX0_can 37 = .ok (.if_icmp .ge 69, 3) := dk_162 0 69 (dk_at dksX0_can_1 15 rfl rfl)
theorem dX0_can_40 : decode cX0_can 40 = .ok (.aload_n 0, 1) := dk_42 (dk_at dksX0_can_1 18 rfl rfl)
theorem dX0_can_41 : decode cX0_can 41 = .ok (.getfield 96, 3) := dk_180 0 96 (dk_at dksX0_can_1 19 rfl rfl)
theorem dX0_can_44 : decode cX0_can 44 = .ok (.iload_n 3, 1) := dk_29 (dk_at dksX0_can_1 22 rfl rfl)
theorem dX0_can_45 : decode cX0_can 45 = .ok (.invokevirtual 222, 3) := dk_182 0 222 (dk_at dksX0_can_2 0 rfl rfl)
theorem dX0_can_48 : decode cX0_can 48 = .ok (.checkcast 327, 3) := dk_192 1 71 (dk_at dksX0_can_2 3 rfl rfl)
theorem dX0_can_51 : decode cX0_can 51 = .ok (.iload_n 1, 1) := dk_27 (dk_at dksX0_can_2 6 rfl rfl)
theorem dX0_can_52 : decode cX0_can 52 = .ok (.invokevirtual 339, 3) := dk_182 1 83 (dk_at dksX0_can_2 7 rfl rfl)
theorem dX0_can_55 : decode cX0_can 55 = .ok (.ifCond .eq 45, 3) := dk_153 0 45 (dk_at dksX0_can_2 10 rfl rfl)
theorem dX0_can_58 : decode cX0_can 58 = .ok (.aload_n 0, 1) := dk_42 (dk_at dksX0_can_2 13 rfl rfl)
theorem dX0_can_59 : decode cX0_can 59 = .ok (.getfield 57, 3) := dk_180 0 57 (dk_at dksX0_can_2 14 rfl rfl)
theorem dX0_can_62 : decode cX0_can 62 = .ok (.getfield 184, 3) := dk_180 0 184 (dk_at dksX0_can_2 17 rfl rfl)
theorem dX0_can_65 : decode cX0_can 65 = .ok (.bipush 8, 2) := dk_16 8 (dk_at dksX0_can_2 20 rfl rfl)
theorem dX0_can_67 : decode cX0_can 67 = .ok (.aload_n 0, 1) := dk_42 (dk_at dksX0_can_2 22 rfl rfl)
theorem dX0_can_68 : decode cX0_can 68 = .ok (.getfield 96, 3) := dk_180 0 96 (dk_at dksX0_can_3 0 rfl rfl)
theorem dX0_can_71 : decode cX0_can 71 = .ok (.iload_n 3, 1) := dk_29 (dk_at dksX0_can_3 3 rfl rfl)
theorem dX0_can_72 : decode cX0_can 72 = .ok (.invokevirtual 222, 3) := dk_182 0 222 (dk_at dksX0_can_3 4 rfl rfl)
theorem dX0_can_75 : decode cX0_can 75 = .ok (.checkcast 327, 3) := dk_192 1 71 (dk_at dksX0_can_3 7 rfl rfl)
theorem dX0_can_78 : decode cX0_can 78 = .ok (.getfield 342, 3) := dk_180 1 86 (dk_at dksX0_can_3 10 rfl rfl)
theorem dX0_can_81 : decode cX0_can 81 = .ok (.imul, 1) := dk_104 (dk_at dksX0_can_3 13 rfl rfl)
theorem dX0_can_82 : decode cX0_can 82 = .ok (.iload 4, 2) := dk_21 4 (dk_at dksX0_can_3 14 rfl rfl)
theorem dX0_can_84 : decode cX0_can 84 = .ok (.iadd, 1) := dk_96 (dk_at dksX0_can_3 16 rfl rfl)
theorem dX0_can_85 : decode cX0_can 85 = .ok (.laload, 1) := dk_47 (dk_at dksX0_can_3 17 rfl rfl)
theorem dX0_can_86 : decode cX0_can 86 = .ok (.lconst 0, 1) := dk_9 (dk_at dksX0_can_3 18 rfl rfl)
theorem dX0_can_87 : decode cX0_can 87 = .ok (.lcmp, 1) := dk_148 (dk_at dksX0_can_3 19 rfl rfl)
theorem dX0_can_88 : decode cX0_can 88 = .ok (.ifCond .ne 12, 3) := dk_154 0 12 (dk_at dksX0_can_3 20 rfl rfl)
theorem dX0_can_91 : decode cX0_can 91 = .ok (.iload_n 2, 1) := dk_28 (dk_at dksX0_can_3 23 rfl rfl)
theorem dX0_can_92 : decode cX0_can 92 = .ok (.iconst 1, 1) := dk_4 (dk_at dksX0_can_4 0 rfl rfl)
theorem dX0_can_93 : decode cX0_can 93 = .ok (.iload 4, 2) := dk_21 4 (dk_at dksX0_can_4 1 rfl rfl)
theorem dX0_can_95 : decode cX0_can 95 = .ok (.ishl, 1) := dk_120 (dk_at dksX0_can_4 3 rfl rfl)
theorem dX0_can_96 : decode cX0_can 96 = .ok (.iconst (-1), 1) := dk_2 (dk_at dksX0_can_4 4 rfl rfl)
theorem dX0_can_97 : decode cX0_can 97 = .ok (.ixor, 1) := dk_130 (dk_at dksX0_can_4 5 rfl rfl)
theorem dX0_can_98 : decode cX0_can 98 = .ok (.iand, 1) := dk_126 (dk_at dksX0_can_4 6 rfl rfl)
theorem dX0_can_99 : decode cX0_can 99 = .ok (.istore_n 2, 1) := dk_61 (dk_at dksX0_can_4 7 rfl rfl)
theorem dX0_can_100 : decode cX0_can 100 = .ok (.iinc 4 1, 3) := dk_132 4 1 (dk_at dksX0_can_4 8 rfl rfl)
theorem dX0_can_103 : decode cX0_can 103 = .ok (.goto (-75), 3) := dk_167 255 181 (dk_at dksX0_can_4 11 rfl rfl)
theorem dX0_can_106 : decode cX0_can 106 = .ok (.iinc 3 1, 3) := dk_132 3 1 (dk_at dksX0_can_4 14 rfl rfl)
theorem dX0_can_109 : decode cX0_can 109 = .ok (.goto (-95), 3) := dk_167 255 161 (dk_at dksX0_can_4 17 rfl rfl)
theorem dX0_can_112 : decode cX0_can 112 = .ok (.iload_n 2, 1) := dk_28 (dk_at dksX0_can_4 20 rfl rfl)
theorem dX0_can_113 : decode cX0_can 113 = .ok (.ireturn, 1) := dk_172 (dk_at dksX0_can_4 21 rfl rfl)
abbrev cX0_seed : ByteArray := prog_1_method_40_code
def yX0_seed : MethodName := ⟨RX0, "seed", "(I)I"⟩
def dkwX0_seed_0 : List UInt8 := [42, 180, 0, 75, 61, 42, 27, 181, 0, 75, 28, 172]
abbrev dktX0_seed_0 : List UInt8 := dkwX0_seed_0 ++ []
theorem dksX0_seed_0 : cX0_seed.data.toList.drop 0 = dktX0_seed_0 := by decide +kernel
theorem dX0_seed_0 : decode cX0_seed 0 = .ok (.aload_n 0, 1) := dk_42 (dk_at dksX0_seed_0 0 rfl rfl)
theorem dX0_seed_1 : decode cX0_seed 1 = .ok (.getfield 75, 3) := dk_180 0 75 (dk_at dksX0_seed_0 1 rfl rfl)
theorem dX0_seed_4 : decode cX0_seed 4 = .ok (.istore_n 2, 1) := dk_61 (dk_at dksX0_seed_0 4 rfl rfl)
theorem dX0_seed_5 : decode cX0_seed 5 = .ok (.aload_n 0, 1) := dk_42 (dk_at dksX0_seed_0 5 rfl rfl)
theorem dX0_seed_6 : decode cX0_seed 6 = .ok (.iload_n 1, 1) := dk_27 (dk_at dksX0_seed_0 6 rfl rfl)
theorem dX0_seed_7 : decode cX0_seed 7 = .ok (.putfield 75, 3) := dk_181 0 75 (dk_at dksX0_seed_0 7 rfl rfl)
theorem dX0_seed_10 : decode cX0_seed 10 = .ok (.iload_n 2, 1) := dk_28 (dk_at dksX0_seed_0 10 rfl rfl)
theorem dX0_seed_11 : decode cX0_seed 11 = .ok (.ireturn, 1) := dk_172 (dk_at dksX0_seed_0 11 rfl rfl)
abbrev cX0_image : ByteArray := prog_1_method_41_code
def yX0_image : MethodName := ⟨RX0, "image", "(I)I"⟩
def dkwX0_image_2 : List UInt8 := [182, 0, 148, 172]
abbrev dktX0_image_2 : List UInt8 := dkwX0_image_2 ++ []
def dkwX0_image_1 : List UInt8 := [184, 1, 95, 42, 180, 0, 107, 27, 42, 180, 0, 75, 79, 42, 180, 0, 103, 27, 4, 84, 42, 180, 0, 96]
abbrev dktX0_image_1 : List UInt8 := dkwX0_image_1 ++ dktX0_image_2
def dkwX0_image_0 : List UInt8 := [27, 184, 1, 92, 154, 0, 5, 2, 172, 42, 180, 0, 96, 42, 180, 0, 100, 27, 182, 0, 222, 192, 0, 91]
abbrev dktX0_image_0 : List UInt8 := dkwX0_image_0 ++ dktX0_image_1
theorem dksX0_image_0 : cX0_image.data.toList.drop 0 = dktX0_image_0 := by decide +kernel
theorem dksX0_image_1 : cX0_image.data.toList.drop 24 = dktX0_image_1 := dk_seg dksX0_image_0 24 rfl rfl
theorem dksX0_image_2 : cX0_image.data.toList.drop 48 = dktX0_image_2 := dk_seg dksX0_image_1 24 rfl rfl
theorem dX0_image_0 : decode cX0_image 0 = .ok (.iload_n 1, 1) := dk_27 (dk_at dksX0_image_0 0 rfl rfl)
theorem dX0_image_1 : decode cX0_image 1 = .ok (.invokestatic 348, 3) := dk_184 1 92 (dk_at dksX0_image_0 1 rfl rfl)
theorem dX0_image_4 : decode cX0_image 4 = .ok (.ifCond .ne 5, 3) := dk_154 0 5 (dk_at dksX0_image_0 4 rfl rfl)
theorem dX0_image_7 : decode cX0_image 7 = .ok (.iconst (-1), 1) := dk_2 (dk_at dksX0_image_0 7 rfl rfl)
theorem dX0_image_8 : decode cX0_image 8 = .ok (.ireturn, 1) := dk_172 (dk_at dksX0_image_0 8 rfl rfl)
theorem dX0_image_9 : decode cX0_image 9 = .ok (.aload_n 0, 1) := dk_42 (dk_at dksX0_image_0 9 rfl rfl)
theorem dX0_image_10 : decode cX0_image 10 = .ok (.getfield 96, 3) := dk_180 0 96 (dk_at dksX0_image_0 10 rfl rfl)
theorem dX0_image_13 : decode cX0_image 13 = .ok (.aload_n 0, 1) := dk_42 (dk_at dksX0_image_0 13 rfl rfl)
theorem dX0_image_14 : decode cX0_image 14 = .ok (.getfield 100, 3) := dk_180 0 100 (dk_at dksX0_image_0 14 rfl rfl)
theorem dX0_image_17 : decode cX0_image 17 = .ok (.iload_n 1, 1) := dk_27 (dk_at dksX0_image_0 17 rfl rfl)
theorem dX0_image_18 : decode cX0_image 18 = .ok (.invokevirtual 222, 3) := dk_182 0 222 (dk_at dksX0_image_0 18 rfl rfl)
theorem dX0_image_21 : decode cX0_image 21 = .ok (.checkcast 91, 3) := dk_192 0 91 (dk_at dksX0_image_0 21 rfl rfl)
theorem dX0_image_24 : decode cX0_image 24 = .ok (.invokestatic 351, 3) := dk_184 1 95 (dk_at dksX0_image_1 0 rfl rfl)
theorem dX0_image_27 : decode cX0_image 27 = .ok (.aload_n 0, 1) := dk_42 (dk_at dksX0_image_1 3 rfl rfl)
theorem dX0_image_28 : decode cX0_image 28 = .ok (.getfield 107, 3) := dk_180 0 107 (dk_at dksX0_image_1 4 rfl rfl)
theorem dX0_image_31 : decode cX0_image 31 = .ok (.iload_n 1, 1) := dk_27 (dk_at dksX0_image_1 7 rfl rfl)
theorem dX0_image_32 : decode cX0_image 32 = .ok (.aload_n 0, 1) := dk_42 (dk_at dksX0_image_1 8 rfl rfl)
theorem dX0_image_33 : decode cX0_image 33 = .ok (.getfield 75, 3) := dk_180 0 75 (dk_at dksX0_image_1 9 rfl rfl)
theorem dX0_image_36 : decode cX0_image 36 = .ok (.iastore, 1) := dk_79 (dk_at dksX0_image_1 12 rfl rfl)
theorem dX0_image_37 : decode cX0_image 37 = .ok (.aload_n 0, 1) := dk_42 (dk_at dksX0_image_1 13 rfl rfl)
theorem dX0_image_38 : decode cX0_image 38 = .ok (.getfield 103, 3) := dk_180 0 103 (dk_at dksX0_image_1 14 rfl rfl)
theorem dX0_image_41 : decode cX0_image 41 = .ok (.iload_n 1, 1) := dk_27 (dk_at dksX0_image_1 17 rfl rfl)
theorem dX0_image_42 : decode cX0_image 42 = .ok (.iconst 1, 1) := dk_4 (dk_at dksX0_image_1 18 rfl rfl)
theorem dX0_image_43 : decode cX0_image 43 = .ok (.bastore, 1) := dk_84 (dk_at dksX0_image_1 19 rfl rfl)
theorem dX0_image_44 : decode cX0_image 44 = .ok (.aload_n 0, 1) := dk_42 (dk_at dksX0_image_1 20 rfl rfl)
theorem dX0_image_45 : decode cX0_image 45 = .ok (.getfield 96, 3) := dk_180 0 96 (dk_at dksX0_image_1 21 rfl rfl)
theorem dX0_image_48 : decode cX0_image 48 = .ok (.invokevirtual 148, 3) := dk_182 0 148 (dk_at dksX0_image_2 0 rfl rfl)
theorem dX0_image_51 : decode cX0_image 51 = .ok (.ireturn, 1) := dk_172 (dk_at dksX0_image_2 3 rfl rfl)
abbrev cX0_isBox : ByteArray := prog_1_method_38_code
def yX0_isBox : MethodName := ⟨RX0, "isBox", "(I)Z"⟩
def dkwX0_isBox_0 : List UInt8 := [26, 3, 5, 184, 0, 155, 172]
abbrev dktX0_isBox_0 : List UInt8 := dkwX0_isBox_0 ++ []
theorem dksX0_isBox_0 : cX0_isBox.data.toList.drop 0 = dktX0_isBox_0 := by decide +kernel
theorem dX0_isBox_0 : decode cX0_isBox 0 = .ok (.iload_n 0, 1) := dk_26 (dk_at dksX0_isBox_0 0 rfl rfl)
theorem dX0_isBox_1 : decode cX0_isBox 1 = .ok (.iconst 0, 1) := dk_3 (dk_at dksX0_isBox_0 1 rfl rfl)
theorem dX0_isBox_2 : decode cX0_isBox 2 = .ok (.iconst 2, 1) := dk_5 (dk_at dksX0_isBox_0 2 rfl rfl)
theorem dX0_isBox_3 : decode cX0_isBox 3 = .ok (.invokestatic 155, 3) := dk_184 0 155 (dk_at dksX0_isBox_0 3 rfl rfl)
theorem dX0_isBox_6 : decode cX0_isBox 6 = .ok (.ireturn, 1) := dk_172 (dk_at dksX0_isBox_0 6 rfl rfl)
abbrev cX0_copy : ByteArray := prog_1_method_39_code
def yX0_copy : MethodName := ⟨RX0, "copy", "(Ljava/util/ArrayList;Ljava/util/ArrayList;)V"⟩
def dkwX0_copy_1 : List UInt8 := [182, 1, 88, 182, 0, 110, 87, 132, 2, 1, 167, 255, 229, 177]
abbrev dktX0_copy_1 : List UInt8 := dkwX0_copy_1 ++ []
def dkwX0_copy_0 : List UInt8 := [43, 182, 0, 127, 3, 61, 28, 42, 182, 0, 148, 162, 0, 25, 43, 42, 28, 182, 0, 222, 192, 1, 71]
abbrev dktX0_copy_0 : List UInt8 := dkwX0_copy_0 ++ dktX0_copy_1
theorem dksX0_copy_0 : cX0_copy.data.toList.drop 0 = dktX0_copy_0 := by decide +kernel
theorem dksX0_copy_1 : cX0_copy.data.toList.drop 23 = dktX0_copy_1 := dk_seg dksX0_copy_0 23 rfl rfl
theorem dX0_copy_0 : decode cX0_copy 0 = .ok (.aload_n 1, 1) := dk_43 (dk_at dksX0_copy_0 0 rfl rfl)
theorem dX0_copy_1 : decode cX0_copy 1 = .ok (.invokevirtual 127, 3) := dk_182 0 127 (dk_at dksX0_copy_0 1 rfl rfl)
theorem dX0_copy_4 : decode cX0_copy 4 = .ok (.iconst 0, 1) := dk_3 (dk_at dksX0_copy_0 4 rfl rfl)
theorem dX0_copy_5 : decode cX0_copy 5 = .ok (.istore_n 2, 1) := dk_61 (dk_at dksX0_copy_0 5 rfl rfl)
theorem dX0_copy_6 : decode cX0_copy 6 = .ok (.iload_n 2, 1) := dk_28 (dk_at dksX0_copy_0 6 rfl rfl)
theorem dX0_copy_7 : decode cX0_copy 7 = .ok (.aload_n 0, 1) := dk_42 (dk_at dksX0_copy_0 7 rfl rfl)
theorem dX0_copy_8 : decode cX0_copy 8 = .ok (.invokevirtual 148, 3) := dk_182 0 148 (dk_at dksX0_copy_0 8 rfl rfl)
theorem dX0_copy_11 : decode cX0_copy 11 = .ok (.if_icmp .ge 25, 3) := dk_162 0 25 (dk_at dksX0_copy_0 11 rfl rfl)
theorem dX0_copy_14 : decode cX0_copy 14 = .ok (.aload_n 1, 1) := dk_43 (dk_at dksX0_copy_0 14 rfl rfl)
theorem dX0_copy_15 : decode cX0_copy 15 = .ok (.aload_n 0, 1) := dk_42 (dk_at dksX0_copy_0 15 rfl rfl)
theorem dX0_copy_16 : decode cX0_copy 16 = .ok (.iload_n 2, 1) := dk_28 (dk_at dksX0_copy_0 16 rfl rfl)
theorem dX0_copy_17 : decode cX0_copy 17 = .ok (.invokevirtual 222, 3) := dk_182 0 222 (dk_at dksX0_copy_0 17 rfl rfl)
theorem dX0_copy_20 : decode cX0_copy 20 = .ok (.checkcast 327, 3) := dk_192 1 71 (dk_at dksX0_copy_0 20 rfl rfl)
theorem dX0_copy_23 : decode cX0_copy 23 = .ok (.invokevirtual 344, 3) := dk_182 1 88 (dk_at dksX0_copy_1 0 rfl rfl)
theorem dX0_copy_26 : decode cX0_copy 26 = .ok (.invokevirtual 110, 3) := dk_182 0 110 (dk_at dksX0_copy_1 3 rfl rfl)
theorem dX0_copy_29 : decode cX0_copy 29 = .ok (.pop, 1) := dk_87 (dk_at dksX0_copy_1 6 rfl rfl)
theorem dX0_copy_30 : decode cX0_copy 30 = .ok (.iinc 2 1, 3) := dk_132 2 1 (dk_at dksX0_copy_1 7 rfl rfl)
theorem dX0_copy_33 : decode cX0_copy 33 = .ok (.goto (-27), 3) := dk_167 255 229 (dk_at dksX0_copy_1 10 rfl rfl)
theorem dX0_copy_36 : decode cX0_copy 36 = .ok (.return_, 1) := dk_177 (dk_at dksX0_copy_1 13 rfl rfl)
abbrev cX0_back : ByteArray := prog_1_method_42_code
def yX0_back : MethodName := ⟨RX0, "back", "(I)I"⟩
def dkwX0_back_2 : List UInt8 := [180, 0, 96, 182, 0, 148, 172]
abbrev dktX0_back_2 : List UInt8 := dkwX0_back_2 ++ []
def dkwX0_back_1 : List UInt8 := [182, 0, 222, 192, 0, 91, 42, 180, 0, 96, 184, 1, 95, 42, 42, 180, 0, 107, 27, 46, 181, 0, 75, 42]
abbrev dktX0_back_1 : List UInt8 := dkwX0_back_1 ++ dktX0_back_2
def dkwX0_back_0 : List UInt8 := [27, 184, 1, 92, 153, 0, 12, 42, 180, 0, 103, 27, 51, 154, 0, 5, 2, 172, 42, 180, 0, 100, 27]
abbrev dktX0_back_0 : List UInt8 := dkwX0_back_0 ++ dktX0_back_1
theorem dksX0_back_0 : cX0_back.data.toList.drop 0 = dktX0_back_0 := by decide +kernel
theorem dksX0_back_1 : cX0_back.data.toList.drop 23 = dktX0_back_1 := dk_seg dksX0_back_0 23 rfl rfl
theorem dksX0_back_2 : cX0_back.data.toList.drop 47 = dktX0_back_2 := dk_seg dksX0_back_1 24 rfl rfl
theorem dX0_back_0 : decode cX0_back 0 = .ok (.iload_n 1, 1) := dk_27 (dk_at dksX0_back_0 0 rfl rfl)
theorem dX0_back_1 : decode cX0_back 1 = .ok (.invokestatic 348, 3) := dk_184 1 92 (dk_at dksX0_back_0 1 rfl rfl)
theorem dX0_back_4 : decode cX0_back 4 = .ok (.ifCond .eq 12, 3) := dk_153 0 12 (dk_at dksX0_back_0 4 rfl rfl)
theorem dX0_back_7 : decode cX0_back 7 = .ok (.aload_n 0, 1) := dk_42 (dk_at dksX0_back_0 7 rfl rfl)
theorem dX0_back_8 : decode cX0_back 8 = .ok (.getfield 103, 3) := dk_180 0 103 (dk_at dksX0_back_0 8 rfl rfl)
theorem dX0_back_11 : decode cX0_back 11 = .ok (.iload_n 1, 1) := dk_27 (dk_at dksX0_back_0 11 rfl rfl)
theorem dX0_back_12 : decode cX0_back 12 = .ok (.baload, 1) := dk_51 (dk_at dksX0_back_0 12 rfl rfl)
theorem dX0_back_13 : decode cX0_back 13 = .ok (.ifCond .ne 5, 3) := dk_154 0 5 (dk_at dksX0_back_0 13 rfl rfl)
theorem dX0_back_16 : decode cX0_back 16 = .ok (.iconst (-1), 1) := dk_2 (dk_at dksX0_back_0 16 rfl rfl)
theorem dX0_back_17 : decode cX0_back 17 = .ok (.ireturn, 1) := dk_172 (dk_at dksX0_back_0 17 rfl rfl)
theorem dX0_back_18 : decode cX0_back 18 = .ok (.aload_n 0, 1) := dk_42 (dk_at dksX0_back_0 18 rfl rfl)
theorem dX0_back_19 : decode cX0_back 19 = .ok (.getfield 100, 3) := dk_180 0 100 (dk_at dksX0_back_0 19 rfl rfl)
theorem dX0_back_22 : decode cX0_back 22 = .ok (.iload_n 1, 1) := dk_27 (dk_at dksX0_back_0 22 rfl rfl)
theorem dX0_back_23 : decode cX0_back 23 = .ok (.invokevirtual 222, 3) := dk_182 0 222 (dk_at dksX0_back_1 0 rfl rfl)
theorem dX0_back_26 : decode cX0_back 26 = .ok (.checkcast 91, 3) := dk_192 0 91 (dk_at dksX0_back_1 3 rfl rfl)
theorem dX0_back_29 : decode cX0_back 29 = .ok (.aload_n 0, 1) := dk_42 (dk_at dksX0_back_1 6 rfl rfl)
theorem dX0_back_30 : decode cX0_back 30 = .ok (.getfield 96, 3) := dk_180 0 96 (dk_at dksX0_back_1 7 rfl rfl)
theorem dX0_back_33 : decode cX0_back 33 = .ok (.invokestatic 351, 3) := dk_184 1 95 (dk_at dksX0_back_1 10 rfl rfl)
theorem dX0_back_36 : decode cX0_back 36 = .ok (.aload_n 0, 1) := dk_42 (dk_at dksX0_back_1 13 rfl rfl)
theorem dX0_back_37 : decode cX0_back 37 = .ok (.aload_n 0, 1) := dk_42 (dk_at dksX0_back_1 14 rfl rfl)
theorem dX0_back_38 : decode cX0_back 38 = .ok (.getfield 107, 3) := dk_180 0 107 (dk_at dksX0_back_1 15 rfl rfl)
theorem dX0_back_41 : decode cX0_back 41 = .ok (.iload_n 1, 1) := dk_27 (dk_at dksX0_back_1 18 rfl rfl)
theorem dX0_back_42 : decode cX0_back 42 = .ok (.iaload, 1) := dk_46 (dk_at dksX0_back_1 19 rfl rfl)
theorem dX0_back_43 : decode cX0_back 43 = .ok (.putfield 75, 3) := dk_181 0 75 (dk_at dksX0_back_1 20 rfl rfl)
theorem dX0_back_46 : decode cX0_back 46 = .ok (.aload_n 0, 1) := dk_42 (dk_at dksX0_back_1 23 rfl rfl)
theorem dX0_back_47 : decode cX0_back 47 = .ok (.getfield 96, 3) := dk_180 0 96 (dk_at dksX0_back_2 0 rfl rfl)
theorem dX0_back_50 : decode cX0_back 50 = .ok (.invokevirtual 148, 3) := dk_182 0 148 (dk_at dksX0_back_2 3 rfl rfl)
theorem dX0_back_53 : decode cX0_back 53 = .ok (.ireturn, 1) := dk_172 (dk_at dksX0_back_2 6 rfl rfl)
abbrev cX0_about : ByteArray := prog_1_method_43_code
def yX0_about : MethodName := ⟨RX0, "about", "(I)I"⟩
def dkwX0_about_5 : List UInt8 := [180, 0, 75, 172, 42, 180, 0, 15, 180, 1, 99, 172, 2, 172]
abbrev dktX0_about_5 : List UInt8 := dkwX0_about_5 ++ []
def dkwX0_about_4 : List UInt8 := [180, 0, 219, 172, 42, 180, 0, 96, 182, 0, 148, 172, 42, 180, 1, 73, 172, 42, 180, 0, 117, 172, 42]
abbrev dktX0_about_4 : List UInt8 := dkwX0_about_4 ++ dktX0_about_5
def dkwX0_about_3 : List UInt8 := [180, 1, 9, 182, 0, 148, 172, 42, 180, 0, 15, 180, 0, 249, 182, 0, 148, 172, 42, 182, 1, 21, 42]
abbrev dktX0_about_3 : List UInt8 := dkwX0_about_3 ++ dktX0_about_4
def dkwX0_about_2 : List UInt8 := [42, 180, 0, 15, 180, 0, 213, 172, 42, 180, 0, 15, 180, 0, 145, 182, 0, 148, 172, 42, 180, 0, 15]
abbrev dktX0_about_2 : List UInt8 := dkwX0_about_2 ++ dktX0_about_3
def dkwX0_about_1 : List UInt8 := [170, 0, 0, 0, 0, 0, 136, 0, 0, 0, 0, 0, 0, 0, 9, 0, 0, 0, 55, 0, 0, 0, 63, 0, 0, 0, 74, 0, 0, 0, 85, 0, 0, 0, 96, 0, 0, 0, 105, 0, 0, 0, 113, 0, 0, 0, 118, 0, 0, 0, 123, 0, 0, 0, 128]
abbrev dktX0_about_1 : List UInt8 := dkwX0_about_1 ++ dktX0_about_2
def dkwX0_about_0 : List UInt8 := [27]
abbrev dktX0_about_0 : List UInt8 := dkwX0_about_0 ++ dktX0_about_1
theorem dksX0_about_0 : cX0_about.data.toList.drop 0 = dktX0_about_0 := by decide +kernel
theorem dksX0_about_1 : cX0_about.data.toList.drop 1 = dktX0_about_1 := dk_seg dksX0_about_0 1 rfl rfl
theorem dksX0_about_2 : cX0_about.data.toList.drop 56 = dktX0_about_2 := dk_seg dksX0_about_1 55 rfl rfl
theorem dksX0_about_3 : cX0_about.data.toList.drop 79 = dktX0_about_3 := dk_seg dksX0_about_2 23 rfl rfl
theorem dksX0_about_4 : cX0_about.data.toList.drop 102 = dktX0_about_4 := dk_seg dksX0_about_3 23 rfl rfl
theorem dksX0_about_5 : cX0_about.data.toList.drop 125 = dktX0_about_5 := dk_seg dksX0_about_4 23 rfl rfl
theorem dX0_about_0 : decode cX0_about 0 = .ok (.iload_n 1, 1) := dk_27 (dk_at dksX0_about_0 0 rfl rfl)
theorem dX0_about_1 : decode cX0_about 1 = .ok (.tableswitch 136 0 9 #[55, 63, 74, 85, 96, 105, 113, 118, 123, 128], 55) := by decide +kernel
theorem dX0_about_56 : decode cX0_about 56 = .ok (.aload_n 0, 1) := dk_42 (dk_at dksX0_about_2 0 rfl rfl)
theorem dX0_about_57 : decode cX0_about 57 = .ok (.getfield 15, 3) := dk_180 0 15 (dk_at dksX0_about_2 1 rfl rfl)
theorem dX0_about_60 : decode cX0_about 60 = .ok (.getfield 213, 3) := dk_180 0 213 (dk_at dksX0_about_2 4 rfl rfl)
theorem dX0_about_63 : decode cX0_about 63 = .ok (.ireturn, 1) := dk_172 (dk_at dksX0_about_2 7 rfl rfl)
theorem dX0_about_64 : decode cX0_about 64 = .ok (.aload_n 0, 1) := dk_42 (dk_at dksX0_about_2 8 rfl rfl)
theorem dX0_about_65 : decode cX0_about 65 = .ok (.getfield 15, 3) := dk_180 0 15 (dk_at dksX0_about_2 9 rfl rfl)
theorem dX0_about_68 : decode cX0_about 68 = .ok (.getfield 145, 3) := dk_180 0 145 (dk_at dksX0_about_2 12 rfl rfl)
theorem dX0_about_71 : decode cX0_about 71 = .ok (.invokevirtual 148, 3) := dk_182 0 148 (dk_at dksX0_about_2 15 rfl rfl)
theorem dX0_about_74 : decode cX0_about 74 = .ok (.ireturn, 1) := dk_172 (dk_at dksX0_about_2 18 rfl rfl)
theorem dX0_about_75 : decode cX0_about 75 = .ok (.aload_n 0, 1) := dk_42 (dk_at dksX0_about_2 19 rfl rfl)
theorem dX0_about_76 : decode cX0_about 76 = .ok (.getfield 15, 3) := dk_180 0 15 (dk_at dksX0_about_2 20 rfl rfl)
theorem dX0_about_79 : decode cX0_about 79 = .ok (.getfield 265, 3) := dk_180 1 9 (dk_at dksX0_about_3 0 rfl rfl)
theorem dX0_about_82 : decode cX0_about 82 = .ok (.invokevirtual 148, 3) := dk_182 0 148 (dk_at dksX0_about_3 3 rfl rfl)
theorem dX0_about_85 : decode cX0_about 85 = .ok (.ireturn, 1) := dk_172 (dk_at dksX0_about_3 6 rfl rfl)
theorem dX0_about_86 : decode cX0_about 86 = .ok (.aload_n 0, 1) := dk_42 (dk_at dksX0_about_3 7 rfl rfl)
theorem dX0_about_87 : decode cX0_about 87 = .ok (.getfield 15, 3) := dk_180 0 15 (dk_at dksX0_about_3 8 rfl rfl)
theorem dX0_about_90 : decode cX0_about 90 = .ok (.getfield 249, 3) := dk_180 0 249 (dk_at dksX0_about_3 11 rfl rfl)
theorem dX0_about_93 : decode cX0_about 93 = .ok (.invokevirtual 148, 3) := dk_182 0 148 (dk_at dksX0_about_3 14 rfl rfl)
theorem dX0_about_96 : decode cX0_about 96 = .ok (.ireturn, 1) := dk_172 (dk_at dksX0_about_3 17 rfl rfl)
theorem dX0_about_97 : decode cX0_about 97 = .ok (.aload_n 0, 1) := dk_42 (dk_at dksX0_about_3 18 rfl rfl)
theorem dX0_about_98 : decode cX0_about 98 = .ok (.invokevirtual 277, 3) := dk_182 1 21 (dk_at dksX0_about_3 19 rfl rfl)
theorem dX0_about_101 : decode cX0_about 101 = .ok (.aload_n 0, 1) := dk_42 (dk_at dksX0_about_3 22 rfl rfl)
theorem dX0_about_102 : decode cX0_about 102 = .ok (.getfield 219, 3) := dk_180 0 219 (dk_at dksX0_about_4 0 rfl rfl)
theorem dX0_about_105 : decode cX0_about 105 = .ok (.ireturn, 1) := dk_172 (dk_at dksX0_about_4 3 rfl rfl)
theorem dX0_about_106 : decode cX0_about 106 = .ok (.aload_n 0, 1) := dk_42 (dk_at dksX0_about_4 4 rfl rfl)
theorem dX0_about_107 : decode cX0_about 107 = .ok (.getfield 96, 3) := dk_180 0 96 (dk_at dksX0_about_4 5 rfl rfl)
theorem dX0_about_110 : decode cX0_about 110 = .ok (.invokevirtual 148, 3) := dk_182 0 148 (dk_at dksX0_about_4 8 rfl rfl)
theorem dX0_about_113 : decode cX0_about 113 = .ok (.ireturn, 1) := dk_172 (dk_at dksX0_about_4 11 rfl rfl)
theorem dX0_about_114 : decode cX0_about 114 = .ok (.aload_n 0, 1) := dk_42 (dk_at dksX0_about_4 12 rfl rfl)
theorem dX0_about_115 : decode cX0_about 115 = .ok (.getfield 329, 3) := dk_180 1 73 (dk_at dksX0_about_4 13 rfl rfl)
theorem dX0_about_118 : decode cX0_about 118 = .ok (.ireturn, 1) := dk_172 (dk_at dksX0_about_4 16 rfl rfl)
theorem dX0_about_119 : decode cX0_about 119 = .ok (.aload_n 0, 1) := dk_42 (dk_at dksX0_about_4 17 rfl rfl)
theorem dX0_about_120 : decode cX0_about 120 = .ok (.getfield 117, 3) := dk_180 0 117 (dk_at dksX0_about_4 18 rfl rfl)
theorem dX0_about_123 : decode cX0_about 123 = .ok (.ireturn, 1) := dk_172 (dk_at dksX0_about_4 21 rfl rfl)
theorem dX0_about_124 : decode cX0_about 124 = .ok (.aload_n 0, 1) := dk_42 (dk_at dksX0_about_4 22 rfl rfl)
theorem dX0_about_125 : decode cX0_about 125 = .ok (.getfield 75, 3) := dk_180 0 75 (dk_at dksX0_about_5 0 rfl rfl)
theorem dX0_about_128 : decode cX0_about 128 = .ok (.ireturn, 1) := dk_172 (dk_at dksX0_about_5 3 rfl rfl)
theorem dX0_about_129 : decode cX0_about 129 = .ok (.aload_n 0, 1) := dk_42 (dk_at dksX0_about_5 4 rfl rfl)
theorem dX0_about_130 : decode cX0_about 130 = .ok (.getfield 15, 3) := dk_180 0 15 (dk_at dksX0_about_5 5 rfl rfl)
theorem dX0_about_133 : decode cX0_about 133 = .ok (.getfield 355, 3) := dk_180 1 99 (dk_at dksX0_about_5 8 rfl rfl)
theorem dX0_about_136 : decode cX0_about 136 = .ok (.ireturn, 1) := dk_172 (dk_at dksX0_about_5 11 rfl rfl)
theorem dX0_about_137 : decode cX0_about 137 = .ok (.iconst (-1), 1) := dk_2 (dk_at dksX0_about_5 12 rfl rfl)
theorem dX0_about_138 : decode cX0_about 138 = .ok (.ireturn, 1) := dk_172 (dk_at dksX0_about_5 13 rfl rfl)
theorem q125 : (Jvm.Cond.initialized "BlindCards") ∈ lw_all := lw_g (lw_at lw_m1 1 rfl) rfl
theorem q170 : (Jvm.Cond.instantiable "BlindCards" (30 : Nat)) ∈ lw_all := lw_g (lw_at lw_m1 46 rfl) rfl
theorem q172 : (Jvm.Cond.instanceMethod ({ cls := "BlindCards", name := "<init>", desc := "()V" } : Jvm.MethodName)) ∈ lw_all := lw_g (lw_at lw_m1 48 rfl) rfl
theorem q173 : (Jvm.Cond.code ({ cls := "BlindCards", name := "<init>", desc := "()V" } : Jvm.MethodName) prog_1_method_4_code (2 : Nat) (Option.none : Option Jvm.ClassFile.FieldType)) ∈ lw_all := lw_g (lw_at lw_m1 49 rfl) rfl
theorem q174 : (Jvm.Cond.methodLink "BlindCards" (24 : Nat) ({ cls := "java/lang/Object", name := "<init>", desc := "()V" } : Jvm.MethodName)) ∈ lw_all := lw_g (lw_at lw_m1 50 rfl) rfl
theorem q177 : (Jvm.Cond.classLink "BlindCards" (30 : Nat) "[[J") ∈ lw_all := lw_g (lw_at lw_m1 53 rfl) rfl
theorem q179 : (Jvm.Cond.classLink "BlindCards" (35 : Nat) "[[I") ∈ lw_all := lw_g (lw_at lw_m1 55 rfl) rfl
theorem q181 : (Jvm.Cond.classLink "BlindCards" (20 : Nat) "BlindCards$Recipe") ∈ lw_all := lw_g (lw_at lw_m1 57 rfl) rfl
theorem q183 : (Jvm.Cond.methodLinkNest "BlindCards" (51 : Nat) ({ cls := "BlindCards$Recipe", name := "<init>", desc := "()V" } : Jvm.MethodName) "BlindCards") ∈ lw_tbl := lw_at lw_m1 59 rfl
theorem q220 : (Jvm.Cond.fieldLink "BlindCards" (145 : Nat) "BlindCards$Recipe" "steps" "Ljava/util/ArrayList;") ∈ lw_all := lw_g (lw_at lw_m1 96 rfl) rfl
theorem q224 : (Jvm.Cond.fieldLink "BlindCards" (265 : Nat) "BlindCards$Recipe" "mays" "Ljava/util/ArrayList;") ∈ lw_all := lw_g (lw_at lw_m1 100 rfl) rfl
theorem q227 : (Jvm.Cond.fieldLink "BlindCards" (249 : Nat) "BlindCards$Recipe" "mayOpens" "Ljava/util/ArrayList;") ∈ lw_all := lw_g (lw_at lw_m1 103 rfl) rfl
theorem q230 : (Jvm.Cond.fieldLink "BlindCards" (213 : Nat) "BlindCards$Recipe" "people" "I") ∈ lw_all := lw_g (lw_at lw_m1 106 rfl) rfl
theorem q232 : (Jvm.Cond.fieldLink "BlindCards" (355 : Nat) "BlindCards$Recipe" "units" "I") ∈ lw_all := lw_g (lw_at lw_m1 108 rfl) rfl
theorem q260 : (Jvm.Cond.classLink "BlindCards" (52 : Nat) "BlindCards$Keeper") ∈ lw_all := lw_g (lw_at lw_m1 136 rfl) rfl
theorem q262 : (Jvm.Cond.methodLinkNest "BlindCards" (54 : Nat) ({ cls := "BlindCards$Keeper", name := "<init>", desc := "(LBlindCards;)V" } : Jvm.MethodName) "BlindCards") ∈ lw_tbl := lw_at lw_m1 138 rfl
theorem q270 : (Jvm.Cond.fieldLink "BlindCards" (179 : Nat) "BlindCards$Keeper" "rows" "[I") ∈ lw_all := lw_g (lw_at lw_m1 146 rfl) rfl
theorem q272 : (Jvm.Cond.fieldLink "BlindCards" (177 : Nat) "BlindCards$Keeper" "looked" "[I") ∈ lw_all := lw_g (lw_at lw_m1 148 rfl) rfl
theorem q274 : (Jvm.Cond.fieldLink "BlindCards" (196 : Nat) "BlindCards$Keeper" "ends" "[I") ∈ lw_all := lw_g (lw_at lw_m1 150 rfl) rfl
theorem q276 : (Jvm.Cond.fieldLink "BlindCards" (184 : Nat) "BlindCards$Keeper" "ways" "[J") ∈ lw_all := lw_g (lw_at lw_m1 152 rfl) rfl
theorem q278 : (Jvm.Cond.fieldLink "BlindCards" (187 : Nat) "BlindCards$Keeper" "all" "[J") ∈ lw_all := lw_g (lw_at lw_m1 154 rfl) rfl
theorem q280 : (Jvm.Cond.fieldLink "BlindCards" (159 : Nat) "BlindCards$Keeper" "many" "I") ∈ lw_all := lw_g (lw_at lw_m1 156 rfl) rfl
theorem q282 : (Jvm.Cond.fieldLink "BlindCards" (199 : Nat) "BlindCards$Keeper" "wrong" "I") ∈ lw_all := lw_g (lw_at lw_m1 158 rfl) rfl
theorem q284 : (Jvm.Cond.fieldLink "BlindCards" (171 : Nat) "BlindCards$Keeper" "isSpent" "Z") ∈ lw_all := lw_g (lw_at lw_m1 160 rfl) rfl
theorem q338 : (Jvm.Cond.classLink "BlindCards" (61 : Nat) "BlindCards$Closer") ∈ lw_all := lw_g (lw_at lw_m1 214 rfl) rfl
theorem q340 : (Jvm.Cond.methodLinkNest "BlindCards" (63 : Nat) ({ cls := "BlindCards$Closer", name := "<init>", desc := "(LBlindCards;)V" } : Jvm.MethodName) "BlindCards") ∈ lw_tbl := lw_at lw_m1 216 rfl
theorem q367 : (Jvm.Cond.classLink "BlindCards" (68 : Nat) "BlindCards$Cheater") ∈ lw_all := lw_g (lw_at lw_m2 3 rfl) rfl
theorem q369 : (Jvm.Cond.methodLinkNest "BlindCards" (70 : Nat) ({ cls := "BlindCards$Cheater", name := "<init>", desc := "(LBlindCards;)V" } : Jvm.MethodName) "BlindCards") ∈ lw_tbl := lw_at lw_m2 5 rfl
theorem q390 : (Jvm.Cond.classLink "BlindCards" (91 : Nat) "java/util/ArrayList") ∈ lw_all := lw_g (lw_at lw_m2 26 rfl) rfl
theorem q391 : (Jvm.Cond.methodLink "BlindCards" (93 : Nat) ({ cls := "java/util/ArrayList", name := "<init>", desc := "(I)V" } : Jvm.MethodName)) ∈ lw_all := lw_g (lw_at lw_m2 27 rfl) rfl
theorem q392 : (Jvm.Cond.methodLink "BlindCards" (110 : Nat) ({ cls := "java/util/ArrayList", name := "add", desc := "(Ljava/lang/Object;)Z" } : Jvm.MethodName)) ∈ lw_all := lw_g (lw_at lw_m2 28 rfl) rfl
theorem q426 : (Jvm.Cond.selects "BlindCards" ({ cls := "java/lang/Object", name := "getClass", desc := "()Ljava/lang/Class;" } : Jvm.MethodName) ({ cls := "java/lang/Object", name := "getClass", desc := "()Ljava/lang/Class;" } : Jvm.MethodName)) ∈ lw_all := lw_g (lw_at lw_m2 62 rfl) rfl
theorem q469 : (Jvm.Cond.methodLink "BlindCards" (114 : Nat) ({ cls := "BlindCards$Keeper", name := "lay", desc := "()V" } : Jvm.MethodName)) ∈ lw_all := lw_g (lw_at lw_m2 105 rfl) rfl
theorem q635 : (Jvm.Cond.static ({ cls := "BlindCards", name := "answer", desc := "(LBlindCards$Step;I)I" } : Jvm.MethodName)) ∈ lw_all := lw_g (lw_at lw_m3 31 rfl) rfl
theorem q636 : (Jvm.Cond.code ({ cls := "BlindCards", name := "answer", desc := "(LBlindCards$Step;I)I" } : Jvm.MethodName) prog_1_method_1_code (2 : Nat) (Option.some Jvm.ClassFile.FieldType.int)) ∈ lw_all := lw_g (lw_at lw_m3 32 rfl) rfl
theorem q637 : (Jvm.Cond.classLink "BlindCards" (1 : Nat) "BlindCards$End") ∈ lw_all := lw_g (lw_at lw_m3 33 rfl) rfl
theorem q638 : (Jvm.Cond.methodLink "BlindCards" (3 : Nat) ({ cls := "BlindCards$End", name := "answer", desc := "(I)I" } : Jvm.MethodName)) ∈ lw_all := lw_g (lw_at lw_m3 34 rfl) rfl
theorem q642 : (Jvm.Cond.classLink "BlindCards" (7 : Nat) "BlindCards$Says") ∈ lw_all := lw_g (lw_at lw_m3 38 rfl) rfl
theorem q644 : (Jvm.Cond.static ({ cls := "BlindCards", name := "bitOf", desc := "(I)I" } : Jvm.MethodName)) ∈ lw_all := lw_g (lw_at lw_m3 40 rfl) rfl
theorem q645 : (Jvm.Cond.code ({ cls := "BlindCards", name := "bitOf", desc := "(I)I" } : Jvm.MethodName) prog_1_method_2_code (1 : Nat) (Option.some Jvm.ClassFile.FieldType.int)) ∈ lw_all := lw_g (lw_at lw_m3 41 rfl) rfl
theorem q651 : (Jvm.Cond.privateMethod ({ cls := "BlindCards", name := "areLike", desc := "(IIZ)Z" } : Jvm.MethodName)) ∈ lw_tbl := lw_at lw_m3 47 rfl
theorem q652 : (Jvm.Cond.instanceMethod ({ cls := "BlindCards", name := "areLike", desc := "(IIZ)Z" } : Jvm.MethodName)) ∈ lw_all := lw_g (lw_at lw_m3 48 rfl) rfl
theorem q653 : (Jvm.Cond.code ({ cls := "BlindCards", name := "areLike", desc := "(IIZ)Z" } : Jvm.MethodName) prog_1_method_3_code (4 : Nat) (Option.some Jvm.ClassFile.FieldType.boolean)) ∈ lw_all := lw_g (lw_at lw_m3 49 rfl) rfl
theorem q654 : (Jvm.Cond.methodLink "BlindCards" (19 : Nat) ({ cls := "BlindCards$Recipe", name := "asked", desc := "(I)I" } : Jvm.MethodName)) ∈ lw_all := lw_g (lw_at lw_m3 50 rfl) rfl
theorem q740 : (Jvm.Cond.fieldLink "BlindCards" (32 : Nat) "BlindCards" "often" "[[J") ∈ lw_all := lw_g (lw_at lw_m3 136 rfl) rfl
theorem q743 : (Jvm.Cond.fieldLink "BlindCards" (37 : Nat) "BlindCards" "seen" "[[I") ∈ lw_all := lw_g (lw_at lw_m3 139 rfl) rfl
theorem q745 : (Jvm.Cond.fieldLink "BlindCards" (40 : Nat) "BlindCards" "spare" "[J") ∈ lw_all := lw_g (lw_at lw_m3 141 rfl) rfl
theorem q748 : (Jvm.Cond.fieldLink "BlindCards" (44 : Nat) "BlindCards" "tape" "[B") ∈ lw_all := lw_g (lw_at lw_m3 144 rfl) rfl
theorem q750 : (Jvm.Cond.fieldLink "BlindCards" (117 : Nat) "BlindCards" "taped" "I") ∈ lw_all := lw_g (lw_at lw_m3 146 rfl) rfl
theorem q751 : (Jvm.Cond.fieldLink "BlindCards" (139 : Nat) "BlindCards" "faultKind" "I") ∈ lw_all := lw_g (lw_at lw_m3 147 rfl) rfl
theorem q752 : (Jvm.Cond.fieldLink "BlindCards" (48 : Nat) "BlindCards" "faultPlace" "I") ∈ lw_all := lw_g (lw_at lw_m3 148 rfl) rfl
theorem q753 : (Jvm.Cond.fieldLink "BlindCards" (15 : Nat) "BlindCards" "recipe" "LBlindCards$Recipe;") ∈ lw_all := lw_g (lw_at lw_m3 149 rfl) rfl
theorem q758 : (Jvm.Cond.fieldLink "BlindCards" (57 : Nat) "BlindCards" "keeper" "LBlindCards$Keeper;") ∈ lw_all := lw_g (lw_at lw_m3 154 rfl) rfl
theorem q759 : (Jvm.Cond.fieldLink "BlindCards" (64 : Nat) "BlindCards" "closer" "LBlindCards$Closer;") ∈ lw_all := lw_g (lw_at lw_m3 155 rfl) rfl
theorem q760 : (Jvm.Cond.fieldLink "BlindCards" (71 : Nat) "BlindCards" "cheater" "LBlindCards$Cheater;") ∈ lw_all := lw_g (lw_at lw_m3 156 rfl) rfl
theorem q761 : (Jvm.Cond.fieldLink "BlindCards" (75 : Nat) "BlindCards" "w" "I") ∈ lw_all := lw_g (lw_at lw_m3 157 rfl) rfl
theorem q762 : (Jvm.Cond.fieldLink "BlindCards" (329 : Nat) "BlindCards" "time" "I") ∈ lw_all := lw_g (lw_at lw_m3 158 rfl) rfl
theorem q763 : (Jvm.Cond.fieldLink "BlindCards" (78 : Nat) "BlindCards" "sought" "[[J") ∈ lw_all := lw_g (lw_at lw_m3 159 rfl) rfl
theorem q764 : (Jvm.Cond.fieldLink "BlindCards" (81 : Nat) "BlindCards" "looked" "[J") ∈ lw_all := lw_g (lw_at lw_m3 160 rfl) rfl
theorem q765 : (Jvm.Cond.fieldLink "BlindCards" (219 : Nat) "BlindCards" "cards" "I") ∈ lw_all := lw_g (lw_at lw_m3 161 rfl) rfl
theorem q766 : (Jvm.Cond.fieldLink "BlindCards" (256 : Nat) "BlindCards" "bestMoves" "I") ∈ lw_all := lw_g (lw_at lw_m3 162 rfl) rfl
theorem q767 : (Jvm.Cond.fieldLink "BlindCards" (259 : Nat) "BlindCards" "bestRow" "I") ∈ lw_all := lw_g (lw_at lw_m3 163 rfl) rfl
theorem q768 : (Jvm.Cond.fieldLink "BlindCards" (262 : Nat) "BlindCards" "bestOpen" "I") ∈ lw_all := lw_g (lw_at lw_m3 164 rfl) rfl
theorem q769 : (Jvm.Cond.fieldLink "BlindCards" (84 : Nat) "BlindCards" "gameLooks" "[I") ∈ lw_all := lw_g (lw_at lw_m3 165 rfl) rfl
theorem q770 : (Jvm.Cond.fieldLink "BlindCards" (88 : Nat) "BlindCards" "gameSeen" "[I") ∈ lw_all := lw_g (lw_at lw_m3 166 rfl) rfl
theorem q771 : (Jvm.Cond.fieldLink "BlindCards" (130 : Nat) "BlindCards" "hasGame" "Z") ∈ lw_all := lw_g (lw_at lw_m3 167 rfl) rfl
theorem q772 : (Jvm.Cond.fieldLink "BlindCards" (281 : Nat) "BlindCards" "gameAnswer" "I") ∈ lw_all := lw_g (lw_at lw_m3 168 rfl) rfl
theorem q773 : (Jvm.Cond.fieldLink "BlindCards" (284 : Nat) "BlindCards" "gameSteps" "I") ∈ lw_all := lw_g (lw_at lw_m3 169 rfl) rfl
theorem q774 : (Jvm.Cond.fieldLink "BlindCards" (287 : Nat) "BlindCards" "gameRow" "I") ∈ lw_all := lw_g (lw_at lw_m3 170 rfl) rfl
theorem q775 : (Jvm.Cond.fieldLink "BlindCards" (290 : Nat) "BlindCards" "gameCards" "I") ∈ lw_all := lw_g (lw_at lw_m3 171 rfl) rfl
theorem q776 : (Jvm.Cond.fieldLink "BlindCards" (96 : Nat) "BlindCards" "told" "Ljava/util/ArrayList;") ∈ lw_all := lw_g (lw_at lw_m3 172 rfl) rfl
theorem q777 : (Jvm.Cond.fieldLink "BlindCards" (100 : Nat) "BlindCards" "boxes" "Ljava/util/ArrayList;") ∈ lw_all := lw_g (lw_at lw_m3 173 rfl) rfl
theorem q778 : (Jvm.Cond.fieldLink "BlindCards" (103 : Nat) "BlindCards" "isThere" "[Z") ∈ lw_all := lw_g (lw_at lw_m3 174 rfl) rfl
theorem q779 : (Jvm.Cond.fieldLink "BlindCards" (107 : Nat) "BlindCards" "boxW" "[I") ∈ lw_all := lw_g (lw_at lw_m3 175 rfl) rfl
theorem q780 : (Jvm.Cond.laysFinal "BlindCards" "BlindCards" "often" "[[J") ∈ lw_all := lw_g (lw_at lw_m3 176 rfl) rfl
theorem q781 : (Jvm.Cond.soleField "BlindCards" "often") ∈ lw_all := lw_g (lw_at lw_m3 177 rfl) rfl
theorem q782 : (Jvm.Cond.laysFinal "BlindCards" "BlindCards" "seen" "[[I") ∈ lw_all := lw_g (lw_at lw_m3 178 rfl) rfl
theorem q783 : (Jvm.Cond.soleField "BlindCards" "seen") ∈ lw_all := lw_g (lw_at lw_m3 179 rfl) rfl
theorem q784 : (Jvm.Cond.laysFinal "BlindCards" "BlindCards" "spare" "[J") ∈ lw_all := lw_g (lw_at lw_m3 180 rfl) rfl
theorem q785 : (Jvm.Cond.soleField "BlindCards" "spare") ∈ lw_all := lw_g (lw_at lw_m3 181 rfl) rfl
theorem q786 : (Jvm.Cond.laysFinal "BlindCards" "BlindCards" "tape" "[B") ∈ lw_all := lw_g (lw_at lw_m3 182 rfl) rfl
theorem q787 : (Jvm.Cond.soleField "BlindCards" "tape") ∈ lw_all := lw_g (lw_at lw_m3 183 rfl) rfl
theorem q788 : (Jvm.Cond.lays "BlindCards" "BlindCards" "taped" "I") ∈ lw_all := lw_g (lw_at lw_m3 184 rfl) rfl
theorem q789 : (Jvm.Cond.soleField "BlindCards" "taped") ∈ lw_all := lw_g (lw_at lw_m3 185 rfl) rfl
theorem q790 : (Jvm.Cond.lays "BlindCards" "BlindCards" "faultKind" "I") ∈ lw_all := lw_g (lw_at lw_m3 186 rfl) rfl
theorem q791 : (Jvm.Cond.soleField "BlindCards" "faultKind") ∈ lw_all := lw_g (lw_at lw_m3 187 rfl) rfl
theorem q792 : (Jvm.Cond.lays "BlindCards" "BlindCards" "faultPlace" "I") ∈ lw_all := lw_g (lw_at lw_m3 188 rfl) rfl
theorem q793 : (Jvm.Cond.soleField "BlindCards" "faultPlace") ∈ lw_all := lw_g (lw_at lw_m3 189 rfl) rfl
theorem q794 : (Jvm.Cond.lays "BlindCards" "BlindCards" "recipe" "LBlindCards$Recipe;") ∈ lw_all := lw_g (lw_at lw_m3 190 rfl) rfl
theorem q795 : (Jvm.Cond.soleField "BlindCards" "recipe") ∈ lw_all := lw_g (lw_at lw_m3 191 rfl) rfl
theorem q796 : (Jvm.Cond.laysFinal "BlindCards" "BlindCards" "keeper" "LBlindCards$Keeper;") ∈ lw_all := lw_g (lw_at lw_m3 192 rfl) rfl
theorem q797 : (Jvm.Cond.soleField "BlindCards" "keeper") ∈ lw_all := lw_g (lw_at lw_m3 193 rfl) rfl
theorem q798 : (Jvm.Cond.laysFinal "BlindCards" "BlindCards" "closer" "LBlindCards$Closer;") ∈ lw_all := lw_g (lw_at lw_m3 194 rfl) rfl
theorem q799 : (Jvm.Cond.soleField "BlindCards" "closer") ∈ lw_all := lw_g (lw_at lw_m3 195 rfl) rfl
theorem q800 : (Jvm.Cond.laysFinal "BlindCards" "BlindCards" "cheater" "LBlindCards$Cheater;") ∈ lw_all := lw_g (lw_at lw_m3 196 rfl) rfl
theorem q801 : (Jvm.Cond.soleField "BlindCards" "cheater") ∈ lw_all := lw_g (lw_at lw_m3 197 rfl) rfl
theorem q802 : (Jvm.Cond.lays "BlindCards" "BlindCards" "w" "I") ∈ lw_all := lw_g (lw_at lw_m3 198 rfl) rfl
theorem q803 : (Jvm.Cond.soleField "BlindCards" "w") ∈ lw_all := lw_g (lw_at lw_m3 199 rfl) rfl
theorem q804 : (Jvm.Cond.lays "BlindCards" "BlindCards" "time" "I") ∈ lw_all := lw_g (lw_at lw_m3 200 rfl) rfl
theorem q805 : (Jvm.Cond.soleField "BlindCards" "time") ∈ lw_all := lw_g (lw_at lw_m3 201 rfl) rfl
theorem q806 : (Jvm.Cond.laysFinal "BlindCards" "BlindCards" "sought" "[[J") ∈ lw_all := lw_g (lw_at lw_m3 202 rfl) rfl
theorem q807 : (Jvm.Cond.soleField "BlindCards" "sought") ∈ lw_all := lw_g (lw_at lw_m3 203 rfl) rfl
theorem q808 : (Jvm.Cond.laysFinal "BlindCards" "BlindCards" "looked" "[J") ∈ lw_all := lw_g (lw_at lw_m3 204 rfl) rfl
theorem q809 : (Jvm.Cond.soleField "BlindCards" "looked") ∈ lw_all := lw_g (lw_at lw_m3 205 rfl) rfl
theorem q810 : (Jvm.Cond.lays "BlindCards" "BlindCards" "cards" "I") ∈ lw_all := lw_g (lw_at lw_m3 206 rfl) rfl
theorem q811 : (Jvm.Cond.soleField "BlindCards" "cards") ∈ lw_all := lw_g (lw_at lw_m3 207 rfl) rfl
theorem q812 : (Jvm.Cond.lays "BlindCards" "BlindCards" "bestMoves" "I") ∈ lw_all := lw_g (lw_at lw_m3 208 rfl) rfl
theorem q813 : (Jvm.Cond.soleField "BlindCards" "bestMoves") ∈ lw_all := lw_g (lw_at lw_m3 209 rfl) rfl
theorem q814 : (Jvm.Cond.lays "BlindCards" "BlindCards" "bestRow" "I") ∈ lw_all := lw_g (lw_at lw_m3 210 rfl) rfl
theorem q815 : (Jvm.Cond.soleField "BlindCards" "bestRow") ∈ lw_all := lw_g (lw_at lw_m3 211 rfl) rfl
theorem q816 : (Jvm.Cond.lays "BlindCards" "BlindCards" "bestOpen" "I") ∈ lw_all := lw_g (lw_at lw_m3 212 rfl) rfl
theorem q817 : (Jvm.Cond.soleField "BlindCards" "bestOpen") ∈ lw_all := lw_g (lw_at lw_m3 213 rfl) rfl
theorem q818 : (Jvm.Cond.laysFinal "BlindCards" "BlindCards" "gameLooks" "[I") ∈ lw_all := lw_g (lw_at lw_m3 214 rfl) rfl
theorem q819 : (Jvm.Cond.soleField "BlindCards" "gameLooks") ∈ lw_all := lw_g (lw_at lw_m3 215 rfl) rfl
theorem q820 : (Jvm.Cond.laysFinal "BlindCards" "BlindCards" "gameSeen" "[I") ∈ lw_all := lw_g (lw_at lw_m3 216 rfl) rfl
theorem q821 : (Jvm.Cond.soleField "BlindCards" "gameSeen") ∈ lw_all := lw_g (lw_at lw_m3 217 rfl) rfl
theorem q822 : (Jvm.Cond.lays "BlindCards" "BlindCards" "hasGame" "Z") ∈ lw_all := lw_g (lw_at lw_m3 218 rfl) rfl
theorem q823 : (Jvm.Cond.soleField "BlindCards" "hasGame") ∈ lw_all := lw_g (lw_at lw_m3 219 rfl) rfl
theorem q824 : (Jvm.Cond.lays "BlindCards" "BlindCards" "gameAnswer" "I") ∈ lw_all := lw_g (lw_at lw_m3 220 rfl) rfl
theorem q825 : (Jvm.Cond.soleField "BlindCards" "gameAnswer") ∈ lw_all := lw_g (lw_at lw_m3 221 rfl) rfl
theorem q826 : (Jvm.Cond.lays "BlindCards" "BlindCards" "gameSteps" "I") ∈ lw_all := lw_g (lw_at lw_m3 222 rfl) rfl
theorem q827 : (Jvm.Cond.soleField "BlindCards" "gameSteps") ∈ lw_all := lw_g (lw_at lw_m3 223 rfl) rfl
theorem q828 : (Jvm.Cond.lays "BlindCards" "BlindCards" "gameRow" "I") ∈ lw_all := lw_g (lw_at lw_m3 224 rfl) rfl
theorem q829 : (Jvm.Cond.soleField "BlindCards" "gameRow") ∈ lw_all := lw_g (lw_at lw_m3 225 rfl) rfl
theorem q830 : (Jvm.Cond.lays "BlindCards" "BlindCards" "gameCards" "I") ∈ lw_all := lw_g (lw_at lw_m3 226 rfl) rfl
theorem q831 : (Jvm.Cond.soleField "BlindCards" "gameCards") ∈ lw_all := lw_g (lw_at lw_m3 227 rfl) rfl
theorem q832 : (Jvm.Cond.laysFinal "BlindCards" "BlindCards" "told" "Ljava/util/ArrayList;") ∈ lw_all := lw_g (lw_at lw_m3 228 rfl) rfl
theorem q833 : (Jvm.Cond.soleField "BlindCards" "told") ∈ lw_all := lw_g (lw_at lw_m3 229 rfl) rfl
theorem q834 : (Jvm.Cond.laysFinal "BlindCards" "BlindCards" "boxes" "Ljava/util/ArrayList;") ∈ lw_all := lw_g (lw_at lw_m3 230 rfl) rfl
theorem q835 : (Jvm.Cond.soleField "BlindCards" "boxes") ∈ lw_all := lw_g (lw_at lw_m3 231 rfl) rfl
theorem q836 : (Jvm.Cond.laysFinal "BlindCards" "BlindCards" "isThere" "[Z") ∈ lw_all := lw_g (lw_at lw_m3 232 rfl) rfl
theorem q837 : (Jvm.Cond.soleField "BlindCards" "isThere") ∈ lw_all := lw_g (lw_at lw_m3 233 rfl) rfl
theorem q838 : (Jvm.Cond.laysFinal "BlindCards" "BlindCards" "boxW" "[I") ∈ lw_all := lw_g (lw_at lw_m3 234 rfl) rfl
theorem q839 : (Jvm.Cond.soleField "BlindCards" "boxW") ∈ lw_all := lw_g (lw_at lw_m3 235 rfl) rfl
theorem q840 : (Jvm.Cond.superclass "BlindCards" "java/lang/Object") ∈ lw_all := lw_g (lw_at lw_m3 236 rfl) rfl
theorem q843 : (Jvm.Cond.instanceMethod ({ cls := "BlindCards", name := "feed", desc := "(IIIII)I" } : Jvm.MethodName)) ∈ lw_all := lw_g (lw_at lw_m3 239 rfl) rfl
theorem q844 : (Jvm.Cond.selects "BlindCards" ({ cls := "BlindCards", name := "feed", desc := "(IIIII)I" } : Jvm.MethodName) ({ cls := "BlindCards", name := "feed", desc := "(IIIII)I" } : Jvm.MethodName)) ∈ lw_all := lw_g (lw_at lw_m4 0 rfl) rfl
theorem q845 : (Jvm.Cond.code ({ cls := "BlindCards", name := "feed", desc := "(IIIII)I" } : Jvm.MethodName) prog_1_method_5_code (12 : Nat) (Option.some Jvm.ClassFile.FieldType.int)) ∈ lw_all := lw_g (lw_at lw_m4 1 rfl) rfl
theorem q847 : (Jvm.Cond.instanceMethod ({ cls := "BlindCards", name := "end", desc := "(I)I" } : Jvm.MethodName)) ∈ lw_all := lw_g (lw_at lw_m4 3 rfl) rfl
theorem q848 : (Jvm.Cond.selects "BlindCards" ({ cls := "BlindCards", name := "end", desc := "(I)I" } : Jvm.MethodName) ({ cls := "BlindCards", name := "end", desc := "(I)I" } : Jvm.MethodName)) ∈ lw_all := lw_g (lw_at lw_m4 4 rfl) rfl
theorem q849 : (Jvm.Cond.code ({ cls := "BlindCards", name := "end", desc := "(I)I" } : Jvm.MethodName) prog_1_method_6_code (2 : Nat) (Option.some Jvm.ClassFile.FieldType.int)) ∈ lw_all := lw_g (lw_at lw_m4 5 rfl) rfl
theorem q851 : (Jvm.Cond.instanceMethod ({ cls := "BlindCards", name := "recipe", desc := "()I" } : Jvm.MethodName)) ∈ lw_all := lw_g (lw_at lw_m4 7 rfl) rfl
theorem q852 : (Jvm.Cond.selects "BlindCards" ({ cls := "BlindCards", name := "recipe", desc := "()I" } : Jvm.MethodName) ({ cls := "BlindCards", name := "recipe", desc := "()I" } : Jvm.MethodName)) ∈ lw_all := lw_g (lw_at lw_m4 8 rfl) rfl
theorem q853 : (Jvm.Cond.codeWith ({ cls := "BlindCards", name := "recipe", desc := "()I" } : Jvm.MethodName) prog_1_method_7_code (3 : Nat) (Option.some Jvm.ClassFile.FieldType.int) [((2 : Nat), (56 : Nat), (59 : Nat), (134 : Nat))]) ∈ lw_all := lw_g (lw_at lw_m4 9 rfl) rfl
theorem q854 : (Jvm.Cond.classLink "BlindCards" (134 : Nat) "BlindCards$Wrong") ∈ lw_all := lw_g (lw_at lw_m4 10 rfl) rfl
theorem q855 : (Jvm.Cond.classLink "BlindCards" (120 : Nat) "BlindCards$Reader") ∈ lw_all := lw_g (lw_at lw_m4 11 rfl) rfl
theorem q857 : (Jvm.Cond.methodLinkNest "BlindCards" (122 : Nat) ({ cls := "BlindCards$Reader", name := "<init>", desc := "(LBlindCards;)V" } : Jvm.MethodName) "BlindCards") ∈ lw_tbl := lw_at lw_m4 13 rfl
theorem q889 : (Jvm.Cond.methodLink "BlindCards" (123 : Nat) ({ cls := "BlindCards$Reader", name := "text", desc := "()LBlindCards$Recipe;" } : Jvm.MethodName)) ∈ lw_all := lw_g (lw_at lw_m4 45 rfl) rfl
theorem q1156 : (Jvm.Cond.fieldLink "BlindCards" (136 : Nat) "BlindCards$Wrong" "kind" "I") ∈ lw_all := lw_g (lw_at lw_m5 72 rfl) rfl
theorem q1158 : (Jvm.Cond.fieldLink "BlindCards" (142 : Nat) "BlindCards$Wrong" "place" "I") ∈ lw_all := lw_g (lw_at lw_m5 74 rfl) rfl
theorem q1378 : (Jvm.Cond.fieldLink "BlindCards" (310 : Nat) "BlindCards$Open" "places" "[I") ∈ lw_all := lw_g (lw_at lw_m6 54 rfl) rfl
theorem q1382 : (Jvm.Cond.fieldLink "BlindCards" (246 : Nat) "BlindCards$Open" "many" "I") ∈ lw_all := lw_g (lw_at lw_m6 58 rfl) rfl
theorem q1507 : (Jvm.Cond.fieldLink "BlindCards" (315 : Nat) "BlindCards$If" "at" "I") ∈ lw_all := lw_g (lw_at lw_m6 183 rfl) rfl
theorem q1510 : (Jvm.Cond.fieldLink "BlindCards" (318 : Nat) "BlindCards$If" "isRed" "Z") ∈ lw_all := lw_g (lw_at lw_m6 186 rfl) rfl
theorem q1518 : (Jvm.Cond.fieldLink "BlindCards" (321 : Nat) "BlindCards$If" "goes" "I") ∈ lw_all := lw_g (lw_at lw_m6 194 rfl) rfl
theorem q1573 : (Jvm.Cond.fieldLink "BlindCards" (9 : Nat) "BlindCards$Says" "what" "I") ∈ lw_all := lw_g (lw_at lw_m7 9 rfl) rfl
theorem q1578 : (Jvm.Cond.methodLink "BlindCards" (127 : Nat) ({ cls := "java/util/ArrayList", name := "clear", desc := "()V" } : Jvm.MethodName)) ∈ lw_all := lw_g (lw_at lw_m7 14 rfl) rfl
theorem q1582 : (Jvm.Cond.methodLink "BlindCards" (148 : Nat) ({ cls := "java/util/ArrayList", name := "size", desc := "()I" } : Jvm.MethodName)) ∈ lw_all := lw_g (lw_at lw_m7 18 rfl) rfl
theorem q1584 : (Jvm.Cond.instanceMethod ({ cls := "BlindCards", name := "fault", desc := "(I)I" } : Jvm.MethodName)) ∈ lw_all := lw_g (lw_at lw_m7 20 rfl) rfl
theorem q1585 : (Jvm.Cond.selects "BlindCards" ({ cls := "BlindCards", name := "fault", desc := "(I)I" } : Jvm.MethodName) ({ cls := "BlindCards", name := "fault", desc := "(I)I" } : Jvm.MethodName)) ∈ lw_all := lw_g (lw_at lw_m7 21 rfl) rfl
theorem q1586 : (Jvm.Cond.code ({ cls := "BlindCards", name := "fault", desc := "(I)I" } : Jvm.MethodName) prog_1_method_8_code (2 : Nat) (Option.some Jvm.ClassFile.FieldType.int)) ∈ lw_all := lw_g (lw_at lw_m7 22 rfl) rfl
theorem q1588 : (Jvm.Cond.instanceMethod ({ cls := "BlindCards", name := "asked", desc := "(I)I" } : Jvm.MethodName)) ∈ lw_all := lw_g (lw_at lw_m7 24 rfl) rfl
theorem q1589 : (Jvm.Cond.selects "BlindCards" ({ cls := "BlindCards", name := "asked", desc := "(I)I" } : Jvm.MethodName) ({ cls := "BlindCards", name := "asked", desc := "(I)I" } : Jvm.MethodName)) ∈ lw_all := lw_g (lw_at lw_m7 25 rfl) rfl
theorem q1590 : (Jvm.Cond.code ({ cls := "BlindCards", name := "asked", desc := "(I)I" } : Jvm.MethodName) prog_1_method_14_code (2 : Nat) (Option.some Jvm.ClassFile.FieldType.int)) ∈ lw_all := lw_g (lw_at lw_m7 26 rfl) rfl
theorem q1591 : (Jvm.Cond.methodLink "BlindCards" (166 : Nat) ({ cls := "BlindCards", name := "isInput", desc := "(I)Z" } : Jvm.MethodName)) ∈ lw_all := lw_g (lw_at lw_m7 27 rfl) rfl
theorem q1592 : (Jvm.Cond.privateMethod ({ cls := "BlindCards", name := "isInput", desc := "(I)Z" } : Jvm.MethodName)) ∈ lw_tbl := lw_at lw_m7 28 rfl
theorem q1593 : (Jvm.Cond.instanceMethod ({ cls := "BlindCards", name := "isInput", desc := "(I)Z" } : Jvm.MethodName)) ∈ lw_all := lw_g (lw_at lw_m7 29 rfl) rfl
theorem q1594 : (Jvm.Cond.code ({ cls := "BlindCards", name := "isInput", desc := "(I)Z" } : Jvm.MethodName) prog_1_method_10_code (2 : Nat) (Option.some Jvm.ClassFile.FieldType.boolean)) ∈ lw_all := lw_g (lw_at lw_m7 30 rfl) rfl
theorem q1595 : (Jvm.Cond.methodLink "BlindCards" (152 : Nat) ({ cls := "BlindCards$Recipe", name := "inputs", desc := "()I" } : Jvm.MethodName)) ∈ lw_all := lw_g (lw_at lw_m7 31 rfl) rfl
theorem q1596 : (Jvm.Cond.methodLink "BlindCards" (155 : Nat) ({ cls := "BlindCards", name := "isIn", desc := "(III)Z" } : Jvm.MethodName)) ∈ lw_all := lw_g (lw_at lw_m7 32 rfl) rfl
theorem q1597 : (Jvm.Cond.static ({ cls := "BlindCards", name := "isIn", desc := "(III)Z" } : Jvm.MethodName)) ∈ lw_all := lw_g (lw_at lw_m7 33 rfl) rfl
theorem q1598 : (Jvm.Cond.code ({ cls := "BlindCards", name := "isIn", desc := "(III)Z" } : Jvm.MethodName) prog_1_method_9_code (3 : Nat) (Option.some Jvm.ClassFile.FieldType.boolean)) ∈ lw_all := lw_g (lw_at lw_m7 34 rfl) rfl
theorem q1599 : (Jvm.Cond.constant "BlindCards" (170 : Nat) (-1000000 : Int32)) ∈ lw_all := lw_g (lw_at lw_m7 35 rfl) rfl
theorem q1601 : (Jvm.Cond.instanceMethod ({ cls := "BlindCards", name := "paths", desc := "()I" } : Jvm.MethodName)) ∈ lw_all := lw_g (lw_at lw_m7 37 rfl) rfl
theorem q1602 : (Jvm.Cond.selects "BlindCards" ({ cls := "BlindCards", name := "paths", desc := "()I" } : Jvm.MethodName) ({ cls := "BlindCards", name := "paths", desc := "()I" } : Jvm.MethodName)) ∈ lw_all := lw_g (lw_at lw_m7 38 rfl) rfl
theorem q1603 : (Jvm.Cond.code ({ cls := "BlindCards", name := "paths", desc := "()I" } : Jvm.MethodName) prog_1_method_15_code (1 : Nat) (Option.some Jvm.ClassFile.FieldType.int)) ∈ lw_all := lw_g (lw_at lw_m7 39 rfl) rfl
theorem q1605 : (Jvm.Cond.instanceMethod ({ cls := "BlindCards", name := "look", desc := "(II)I" } : Jvm.MethodName)) ∈ lw_all := lw_g (lw_at lw_m7 41 rfl) rfl
theorem q1606 : (Jvm.Cond.selects "BlindCards" ({ cls := "BlindCards", name := "look", desc := "(II)I" } : Jvm.MethodName) ({ cls := "BlindCards", name := "look", desc := "(II)I" } : Jvm.MethodName)) ∈ lw_all := lw_g (lw_at lw_m7 42 rfl) rfl
theorem q1607 : (Jvm.Cond.code ({ cls := "BlindCards", name := "look", desc := "(II)I" } : Jvm.MethodName) prog_1_method_16_code (3 : Nat) (Option.some Jvm.ClassFile.FieldType.int)) ∈ lw_all := lw_g (lw_at lw_m7 43 rfl) rfl
theorem q1608 : (Jvm.Cond.methodLink "BlindCards" (174 : Nat) ({ cls := "BlindCards", name := "isPath", desc := "(I)Z" } : Jvm.MethodName)) ∈ lw_all := lw_g (lw_at lw_m7 44 rfl) rfl
theorem q1609 : (Jvm.Cond.privateMethod ({ cls := "BlindCards", name := "isPath", desc := "(I)Z" } : Jvm.MethodName)) ∈ lw_tbl := lw_at lw_m7 45 rfl
theorem q1610 : (Jvm.Cond.instanceMethod ({ cls := "BlindCards", name := "isPath", desc := "(I)Z" } : Jvm.MethodName)) ∈ lw_all := lw_g (lw_at lw_m7 46 rfl) rfl
theorem q1611 : (Jvm.Cond.code ({ cls := "BlindCards", name := "isPath", desc := "(I)Z" } : Jvm.MethodName) prog_1_method_11_code (2 : Nat) (Option.some Jvm.ClassFile.FieldType.boolean)) ∈ lw_all := lw_g (lw_at lw_m7 47 rfl) rfl
theorem q1613 : (Jvm.Cond.instanceMethod ({ cls := "BlindCards", name := "odds", desc := "(III)J" } : Jvm.MethodName)) ∈ lw_all := lw_g (lw_at lw_m7 49 rfl) rfl
theorem q1614 : (Jvm.Cond.selects "BlindCards" ({ cls := "BlindCards", name := "odds", desc := "(III)J" } : Jvm.MethodName) ({ cls := "BlindCards", name := "odds", desc := "(III)J" } : Jvm.MethodName)) ∈ lw_all := lw_g (lw_at lw_m7 50 rfl) rfl
theorem q1615 : (Jvm.Cond.code ({ cls := "BlindCards", name := "odds", desc := "(III)J" } : Jvm.MethodName) prog_1_method_17_code (4 : Nat) (Option.some Jvm.ClassFile.FieldType.long)) ∈ lw_all := lw_g (lw_at lw_m7 51 rfl) rfl
theorem q1616 : (Jvm.Cond.constantLong "BlindCards" (182 : Nat) (-2 : Int64)) ∈ lw_all := lw_g (lw_at lw_m7 52 rfl) rfl
theorem q1617 : (Jvm.Cond.methodLink "BlindCards" (190 : Nat) ({ cls := "BlindCards", name := "partOf", desc := "(JJI)J" } : Jvm.MethodName)) ∈ lw_all := lw_g (lw_at lw_m7 53 rfl) rfl
theorem q1618 : (Jvm.Cond.static ({ cls := "BlindCards", name := "partOf", desc := "(JJI)J" } : Jvm.MethodName)) ∈ lw_all := lw_g (lw_at lw_m7 54 rfl) rfl
theorem q1619 : (Jvm.Cond.code ({ cls := "BlindCards", name := "partOf", desc := "(JJI)J" } : Jvm.MethodName) prog_1_method_13_code (7 : Nat) (Option.some Jvm.ClassFile.FieldType.long)) ∈ lw_all := lw_g (lw_at lw_m7 55 rfl) rfl
theorem q1620 : (Jvm.Cond.methodLink "BlindCards" (162 : Nat) ({ cls := "BlindCards", name := "common", desc := "(JJ)J" } : Jvm.MethodName)) ∈ lw_all := lw_g (lw_at lw_m7 56 rfl) rfl
theorem q1621 : (Jvm.Cond.static ({ cls := "BlindCards", name := "common", desc := "(JJ)J" } : Jvm.MethodName)) ∈ lw_all := lw_g (lw_at lw_m7 57 rfl) rfl
theorem q1622 : (Jvm.Cond.code ({ cls := "BlindCards", name := "common", desc := "(JJ)J" } : Jvm.MethodName) prog_1_method_12_code (4 : Nat) (Option.some Jvm.ClassFile.FieldType.long)) ∈ lw_all := lw_g (lw_at lw_m7 58 rfl) rfl
theorem q1623 : (Jvm.Cond.constantLong "BlindCards" (194 : Nat) (-1 : Int64)) ∈ lw_all := lw_g (lw_at lw_m7 59 rfl) rfl
theorem q1625 : (Jvm.Cond.instanceMethod ({ cls := "BlindCards", name := "ends", desc := "(II)I" } : Jvm.MethodName)) ∈ lw_all := lw_g (lw_at lw_m7 61 rfl) rfl
theorem q1626 : (Jvm.Cond.selects "BlindCards" ({ cls := "BlindCards", name := "ends", desc := "(II)I" } : Jvm.MethodName) ({ cls := "BlindCards", name := "ends", desc := "(II)I" } : Jvm.MethodName)) ∈ lw_all := lw_g (lw_at lw_m7 62 rfl) rfl
theorem q1627 : (Jvm.Cond.code ({ cls := "BlindCards", name := "ends", desc := "(II)I" } : Jvm.MethodName) prog_1_method_18_code (3 : Nat) (Option.some Jvm.ClassFile.FieldType.int)) ∈ lw_all := lw_g (lw_at lw_m7 63 rfl) rfl
theorem q1629 : (Jvm.Cond.instanceMethod ({ cls := "BlindCards", name := "wrong", desc := "()I" } : Jvm.MethodName)) ∈ lw_all := lw_g (lw_at lw_m7 65 rfl) rfl
theorem q1630 : (Jvm.Cond.selects "BlindCards" ({ cls := "BlindCards", name := "wrong", desc := "()I" } : Jvm.MethodName) ({ cls := "BlindCards", name := "wrong", desc := "()I" } : Jvm.MethodName)) ∈ lw_all := lw_g (lw_at lw_m7 66 rfl) rfl
theorem q1631 : (Jvm.Cond.code ({ cls := "BlindCards", name := "wrong", desc := "()I" } : Jvm.MethodName) prog_1_method_19_code (1 : Nat) (Option.some Jvm.ClassFile.FieldType.int)) ∈ lw_all := lw_g (lw_at lw_m7 67 rfl) rfl
theorem q1633 : (Jvm.Cond.instanceMethod ({ cls := "BlindCards", name := "leaks", desc := "(Z)I" } : Jvm.MethodName)) ∈ lw_all := lw_g (lw_at lw_m7 69 rfl) rfl
theorem q1634 : (Jvm.Cond.selects "BlindCards" ({ cls := "BlindCards", name := "leaks", desc := "(Z)I" } : Jvm.MethodName) ({ cls := "BlindCards", name := "leaks", desc := "(Z)I" } : Jvm.MethodName)) ∈ lw_all := lw_g (lw_at lw_m7 70 rfl) rfl
theorem q1635 : (Jvm.Cond.code ({ cls := "BlindCards", name := "leaks", desc := "(Z)I" } : Jvm.MethodName) prog_1_method_20_code (5 : Nat) (Option.some Jvm.ClassFile.FieldType.int)) ∈ lw_all := lw_g (lw_at lw_m7 71 rfl) rfl
theorem q1636 : (Jvm.Cond.methodLink "BlindCards" (202 : Nat) ({ cls := "BlindCards", name := "areLike", desc := "(IIZ)Z" } : Jvm.MethodName)) ∈ lw_all := lw_g (lw_at lw_m7 72 rfl) rfl
theorem q1638 : (Jvm.Cond.instanceMethod ({ cls := "BlindCards", name := "bent", desc := "(IZ)I" } : Jvm.MethodName)) ∈ lw_all := lw_g (lw_at lw_m7 74 rfl) rfl
theorem q1639 : (Jvm.Cond.selects "BlindCards" ({ cls := "BlindCards", name := "bent", desc := "(IZ)I" } : Jvm.MethodName) ({ cls := "BlindCards", name := "bent", desc := "(IZ)I" } : Jvm.MethodName)) ∈ lw_all := lw_g (lw_at lw_m7 75 rfl) rfl
theorem q1640 : (Jvm.Cond.code ({ cls := "BlindCards", name := "bent", desc := "(IZ)I" } : Jvm.MethodName) prog_1_method_21_code (3 : Nat) (Option.some Jvm.ClassFile.FieldType.int)) ∈ lw_all := lw_g (lw_at lw_m7 76 rfl) rfl
theorem q1641 : (Jvm.Cond.methodLink "BlindCards" (206 : Nat) ({ cls := "BlindCards$Closer", name := "ask", desc := "(IIZ)I" } : Jvm.MethodName)) ∈ lw_all := lw_g (lw_at lw_m7 77 rfl) rfl
theorem q1649 : (Jvm.Cond.instanceMethod ({ cls := "BlindCards", name := "counted", desc := "(IZ)I" } : Jvm.MethodName)) ∈ lw_all := lw_g (lw_at lw_m7 85 rfl) rfl
theorem q1650 : (Jvm.Cond.selects "BlindCards" ({ cls := "BlindCards", name := "counted", desc := "(IZ)I" } : Jvm.MethodName) ({ cls := "BlindCards", name := "counted", desc := "(IZ)I" } : Jvm.MethodName)) ∈ lw_all := lw_g (lw_at lw_m7 86 rfl) rfl
theorem q1651 : (Jvm.Cond.code ({ cls := "BlindCards", name := "counted", desc := "(IZ)I" } : Jvm.MethodName) prog_1_method_22_code (4 : Nat) (Option.some Jvm.ClassFile.FieldType.int)) ∈ lw_all := lw_g (lw_at lw_m7 87 rfl) rfl
theorem q1652 : (Jvm.Cond.methodLink "BlindCards" (210 : Nat) ({ cls := "BlindCards$Recipe", name := "shuffle", desc := "(I)I" } : Jvm.MethodName)) ∈ lw_all := lw_g (lw_at lw_m7 88 rfl) rfl
theorem q1658 : (Jvm.Cond.instanceMethod ({ cls := "BlindCards", name := "cheat", desc := "(IZ)I" } : Jvm.MethodName)) ∈ lw_all := lw_g (lw_at lw_m7 94 rfl) rfl
theorem q1659 : (Jvm.Cond.selects "BlindCards" ({ cls := "BlindCards", name := "cheat", desc := "(IZ)I" } : Jvm.MethodName) ({ cls := "BlindCards", name := "cheat", desc := "(IZ)I" } : Jvm.MethodName)) ∈ lw_all := lw_g (lw_at lw_m7 95 rfl) rfl
theorem q1660 : (Jvm.Cond.code ({ cls := "BlindCards", name := "cheat", desc := "(IZ)I" } : Jvm.MethodName) prog_1_method_23_code (3 : Nat) (Option.some Jvm.ClassFile.FieldType.int)) ∈ lw_all := lw_g (lw_at lw_m7 96 rfl) rfl
theorem q1661 : (Jvm.Cond.methodLink "BlindCards" (216 : Nat) ({ cls := "BlindCards$Cheater", name := "ask", desc := "(IZ)I" } : Jvm.MethodName)) ∈ lw_all := lw_g (lw_at lw_m7 97 rfl) rfl
theorem q1669 : (Jvm.Cond.instanceMethod ({ cls := "BlindCards", name := "guess", desc := "(III)J" } : Jvm.MethodName)) ∈ lw_all := lw_g (lw_at lw_m7 105 rfl) rfl
theorem q1670 : (Jvm.Cond.selects "BlindCards" ({ cls := "BlindCards", name := "guess", desc := "(III)J" } : Jvm.MethodName) ({ cls := "BlindCards", name := "guess", desc := "(III)J" } : Jvm.MethodName)) ∈ lw_all := lw_g (lw_at lw_m7 106 rfl) rfl
theorem q1671 : (Jvm.Cond.code ({ cls := "BlindCards", name := "guess", desc := "(III)J" } : Jvm.MethodName) prog_1_method_24_code (7 : Nat) (Option.some Jvm.ClassFile.FieldType.long)) ∈ lw_all := lw_g (lw_at lw_m7 107 rfl) rfl
theorem q1673 : (Jvm.Cond.instanceMethod ({ cls := "BlindCards", name := "seek", desc := "(II)I" } : Jvm.MethodName)) ∈ lw_all := lw_g (lw_at lw_m7 109 rfl) rfl
theorem q1674 : (Jvm.Cond.selects "BlindCards" ({ cls := "BlindCards", name := "seek", desc := "(II)I" } : Jvm.MethodName) ({ cls := "BlindCards", name := "seek", desc := "(II)I" } : Jvm.MethodName)) ∈ lw_all := lw_g (lw_at lw_m7 110 rfl) rfl
theorem q1675 : (Jvm.Cond.code ({ cls := "BlindCards", name := "seek", desc := "(II)I" } : Jvm.MethodName) prog_1_method_29_code (4 : Nat) (Option.some Jvm.ClassFile.FieldType.int)) ∈ lw_all := lw_g (lw_at lw_m7 111 rfl) rfl
theorem q1676 : (Jvm.Cond.methodLink "BlindCards" (277 : Nat) ({ cls := "BlindCards", name := "layStart", desc := "()V" } : Jvm.MethodName)) ∈ lw_all := lw_g (lw_at lw_m7 112 rfl) rfl
theorem q1677 : (Jvm.Cond.privateMethod ({ cls := "BlindCards", name := "layStart", desc := "()V" } : Jvm.MethodName)) ∈ lw_tbl := lw_at lw_m7 113 rfl
theorem q1678 : (Jvm.Cond.instanceMethod ({ cls := "BlindCards", name := "layStart", desc := "()V" } : Jvm.MethodName)) ∈ lw_all := lw_g (lw_at lw_m7 114 rfl) rfl
theorem q1679 : (Jvm.Cond.code ({ cls := "BlindCards", name := "layStart", desc := "()V" } : Jvm.MethodName) prog_1_method_25_code (6 : Nat) (Option.none : Option Jvm.ClassFile.FieldType)) ∈ lw_all := lw_g (lw_at lw_m7 115 rfl) rfl
theorem q1680 : (Jvm.Cond.methodLink "BlindCards" (222 : Nat) ({ cls := "java/util/ArrayList", name := "get", desc := "(I)Ljava/lang/Object;" } : Jvm.MethodName)) ∈ lw_all := lw_g (lw_at lw_m7 116 rfl) rfl
theorem q1681 : (Jvm.Cond.classLink "BlindCards" (226 : Nat) "BlindCards$Lay") ∈ lw_all := lw_g (lw_at lw_m7 117 rfl) rfl
theorem q1682 : (Jvm.Cond.methodLink "BlindCards" (228 : Nat) ({ cls := "BlindCards$Lay", name := "many", desc := "()I" } : Jvm.MethodName)) ∈ lw_all := lw_g (lw_at lw_m7 118 rfl) rfl
theorem q1683 : (Jvm.Cond.methodLink "BlindCards" (230 : Nat) ({ cls := "BlindCards$Lay", name := "cards", desc := "(IIIZ)I" } : Jvm.MethodName)) ∈ lw_all := lw_g (lw_at lw_m7 119 rfl) rfl
theorem q1684 : (Jvm.Cond.methodLink "BlindCards" (273 : Nat) ({ cls := "BlindCards", name := "seekFrom", desc := "(LBlindCards;III)Z" } : Jvm.MethodName)) ∈ lw_all := lw_g (lw_at lw_m7 120 rfl) rfl
theorem q1685 : (Jvm.Cond.static ({ cls := "BlindCards", name := "seekFrom", desc := "(LBlindCards;III)Z" } : Jvm.MethodName)) ∈ lw_all := lw_g (lw_at lw_m7 121 rfl) rfl
theorem q1686 : (Jvm.Cond.code ({ cls := "BlindCards", name := "seekFrom", desc := "(LBlindCards;III)Z" } : Jvm.MethodName) prog_1_method_28_code (5 : Nat) (Option.some Jvm.ClassFile.FieldType.boolean)) ∈ lw_all := lw_g (lw_at lw_m7 122 rfl) rfl
theorem q1687 : (Jvm.Cond.classLink "BlindCards" (242 : Nat) "BlindCards$Open") ∈ lw_all := lw_g (lw_at lw_m7 123 rfl) rfl
theorem q1688 : (Jvm.Cond.methodLink "BlindCards" (252 : Nat) ({ cls := "BlindCards", name := "isGood", desc := "(ILBlindCards$Open;)Z" } : Jvm.MethodName)) ∈ lw_all := lw_g (lw_at lw_m7 124 rfl) rfl
theorem q1689 : (Jvm.Cond.privateMethod ({ cls := "BlindCards", name := "isGood", desc := "(ILBlindCards$Open;)Z" } : Jvm.MethodName)) ∈ lw_tbl := lw_at lw_m7 125 rfl
theorem q1690 : (Jvm.Cond.instanceMethod ({ cls := "BlindCards", name := "isGood", desc := "(ILBlindCards$Open;)Z" } : Jvm.MethodName)) ∈ lw_all := lw_g (lw_at lw_m7 126 rfl) rfl
theorem q1691 : (Jvm.Cond.code ({ cls := "BlindCards", name := "isGood", desc := "(ILBlindCards$Open;)Z" } : Jvm.MethodName) prog_1_method_27_code (6 : Nat) (Option.some Jvm.ClassFile.FieldType.boolean)) ∈ lw_all := lw_g (lw_at lw_m7 127 rfl) rfl
theorem q1692 : (Jvm.Cond.methodLink "BlindCards" (241 : Nat) ({ cls := "BlindCards$Open", name := "needs", desc := "()I" } : Jvm.MethodName)) ∈ lw_all := lw_g (lw_at lw_m7 128 rfl) rfl
theorem q1693 : (Jvm.Cond.methodLink "BlindCards" (247 : Nat) ({ cls := "BlindCards$Open", name := "seen", desc := "(I)I" } : Jvm.MethodName)) ∈ lw_all := lw_g (lw_at lw_m7 129 rfl) rfl
theorem q1694 : (Jvm.Cond.classLink "BlindCards" (234 : Nat) "BlindCards$Move") ∈ lw_all := lw_g (lw_at lw_m7 130 rfl) rfl
theorem q1695 : (Jvm.Cond.methodLink "BlindCards" (268 : Nat) ({ cls := "BlindCards$Move", name := "needs", desc := "()I" } : Jvm.MethodName)) ∈ lw_all := lw_g (lw_at lw_m7 131 rfl) rfl
theorem q1702 : (Jvm.Cond.methodLink "BlindCards" (269 : Nat) ({ cls := "BlindCards", name := "moveOn", desc := "(ILBlindCards$Move;)V" } : Jvm.MethodName)) ∈ lw_all := lw_g (lw_at lw_m7 138 rfl) rfl
theorem q1703 : (Jvm.Cond.privateMethod ({ cls := "BlindCards", name := "moveOn", desc := "(ILBlindCards$Move;)V" } : Jvm.MethodName)) ∈ lw_tbl := lw_at lw_m7 139 rfl
theorem q1704 : (Jvm.Cond.instanceMethod ({ cls := "BlindCards", name := "moveOn", desc := "(ILBlindCards$Move;)V" } : Jvm.MethodName)) ∈ lw_all := lw_g (lw_at lw_m7 140 rfl) rfl
theorem q1705 : (Jvm.Cond.code ({ cls := "BlindCards", name := "moveOn", desc := "(ILBlindCards$Move;)V" } : Jvm.MethodName) prog_1_method_26_code (6 : Nat) (Option.none : Option Jvm.ClassFile.FieldType)) ∈ lw_all := lw_g (lw_at lw_m7 141 rfl) rfl
theorem q1706 : (Jvm.Cond.methodLink "BlindCards" (233 : Nat) ({ cls := "BlindCards$Move", name := "ways", desc := "()I" } : Jvm.MethodName)) ∈ lw_all := lw_g (lw_at lw_m7 142 rfl) rfl
theorem q1707 : (Jvm.Cond.methodLink "BlindCards" (237 : Nat) ({ cls := "BlindCards$Move", name := "row", desc := "(II)I" } : Jvm.MethodName)) ∈ lw_all := lw_g (lw_at lw_m7 143 rfl) rfl
theorem q1709 : (Jvm.Cond.instanceMethod ({ cls := "BlindCards", name := "play", desc := "(I)I" } : Jvm.MethodName)) ∈ lw_all := lw_g (lw_at lw_m7 145 rfl) rfl
theorem q1710 : (Jvm.Cond.selects "BlindCards" ({ cls := "BlindCards", name := "play", desc := "(I)I" } : Jvm.MethodName) ({ cls := "BlindCards", name := "play", desc := "(I)I" } : Jvm.MethodName)) ∈ lw_all := lw_g (lw_at lw_m7 146 rfl) rfl
theorem q1711 : (Jvm.Cond.code ({ cls := "BlindCards", name := "play", desc := "(I)I" } : Jvm.MethodName) prog_1_method_31_code (3 : Nat) (Option.some Jvm.ClassFile.FieldType.int)) ∈ lw_all := lw_g (lw_at lw_m7 147 rfl) rfl
theorem q1712 : (Jvm.Cond.methodLink "BlindCards" (293 : Nat) ({ cls := "BlindCards", name := "playOn", desc := "(I)I" } : Jvm.MethodName)) ∈ lw_all := lw_g (lw_at lw_m7 148 rfl) rfl
theorem q1713 : (Jvm.Cond.privateMethod ({ cls := "BlindCards", name := "playOn", desc := "(I)I" } : Jvm.MethodName)) ∈ lw_tbl := lw_at lw_m7 149 rfl
theorem q1714 : (Jvm.Cond.instanceMethod ({ cls := "BlindCards", name := "playOn", desc := "(I)I" } : Jvm.MethodName)) ∈ lw_all := lw_g (lw_at lw_m7 150 rfl) rfl
theorem q1715 : (Jvm.Cond.code ({ cls := "BlindCards", name := "playOn", desc := "(I)I" } : Jvm.MethodName) prog_1_method_32_code (7 : Nat) (Option.some Jvm.ClassFile.FieldType.int)) ∈ lw_all := lw_g (lw_at lw_m7 151 rfl) rfl
theorem q1716 : (Jvm.Cond.classLink "BlindCards" (300 : Nat) "BlindCards$Step") ∈ lw_all := lw_g (lw_at lw_m7 152 rfl) rfl
theorem q1717 : (Jvm.Cond.methodLink "BlindCards" (302 : Nat) ({ cls := "BlindCards$Step", name := "needs", desc := "()I" } : Jvm.MethodName)) ∈ lw_all := lw_g (lw_at lw_m7 153 rfl) rfl
theorem q1718 : (Jvm.Cond.classLink "BlindCards" (303 : Nat) "BlindCards$Cut") ∈ lw_all := lw_g (lw_at lw_m7 154 rfl) rfl
theorem q1719 : (Jvm.Cond.methodLink "BlindCards" (305 : Nat) ({ cls := "BlindCards$Cut", name := "ways", desc := "()I" } : Jvm.MethodName)) ∈ lw_all := lw_g (lw_at lw_m7 155 rfl) rfl
theorem q1720 : (Jvm.Cond.methodLink "BlindCards" (306 : Nat) ({ cls := "BlindCards", name := "draw", desc := "(I)I" } : Jvm.MethodName)) ∈ lw_all := lw_g (lw_at lw_m7 156 rfl) rfl
theorem q1721 : (Jvm.Cond.privateMethod ({ cls := "BlindCards", name := "draw", desc := "(I)I" } : Jvm.MethodName)) ∈ lw_tbl := lw_at lw_m7 157 rfl
theorem q1722 : (Jvm.Cond.instanceMethod ({ cls := "BlindCards", name := "draw", desc := "(I)I" } : Jvm.MethodName)) ∈ lw_all := lw_g (lw_at lw_m7 158 rfl) rfl
theorem q1723 : (Jvm.Cond.code ({ cls := "BlindCards", name := "draw", desc := "(I)I" } : Jvm.MethodName) prog_1_method_30_code (2 : Nat) (Option.some Jvm.ClassFile.FieldType.int)) ∈ lw_all := lw_g (lw_at lw_m7 159 rfl) rfl
theorem q1724 : (Jvm.Cond.constant "BlindCards" (280 : Nat) (1103515245 : Int32)) ∈ lw_all := lw_g (lw_at lw_m7 160 rfl) rfl
theorem q1725 : (Jvm.Cond.methodLink "BlindCards" (309 : Nat) ({ cls := "BlindCards$Cut", name := "row", desc := "(II)I" } : Jvm.MethodName)) ∈ lw_all := lw_g (lw_at lw_m7 161 rfl) rfl
theorem q1731 : (Jvm.Cond.classLink "BlindCards" (313 : Nat) "BlindCards$If") ∈ lw_all := lw_g (lw_at lw_m7 167 rfl) rfl
theorem q1732 : (Jvm.Cond.methodLink "BlindCards" (324 : Nat) ({ cls := "BlindCards", name := "answer", desc := "(LBlindCards$Step;I)I" } : Jvm.MethodName)) ∈ lw_all := lw_g (lw_at lw_m7 168 rfl) rfl
theorem q1733 : (Jvm.Cond.methodLink "BlindCards" (296 : Nat) ({ cls := "BlindCards$Keeper", name := "path", desc := "([II)I" } : Jvm.MethodName)) ∈ lw_all := lw_g (lw_at lw_m7 169 rfl) rfl
theorem q1738 : (Jvm.Cond.instanceMethod ({ cls := "BlindCards", name := "played", desc := "(I)I" } : Jvm.MethodName)) ∈ lw_all := lw_g (lw_at lw_m7 174 rfl) rfl
theorem q1739 : (Jvm.Cond.selects "BlindCards" ({ cls := "BlindCards", name := "played", desc := "(I)I" } : Jvm.MethodName) ({ cls := "BlindCards", name := "played", desc := "(I)I" } : Jvm.MethodName)) ∈ lw_all := lw_g (lw_at lw_m7 175 rfl) rfl
theorem q1740 : (Jvm.Cond.code ({ cls := "BlindCards", name := "played", desc := "(I)I" } : Jvm.MethodName) prog_1_method_33_code (2 : Nat) (Option.some Jvm.ClassFile.FieldType.int)) ∈ lw_all := lw_g (lw_at lw_m7 176 rfl) rfl
theorem q1742 : (Jvm.Cond.instanceMethod ({ cls := "BlindCards", name := "tell", desc := "(I)I" } : Jvm.MethodName)) ∈ lw_all := lw_g (lw_at lw_m7 178 rfl) rfl
theorem q1743 : (Jvm.Cond.selects "BlindCards" ({ cls := "BlindCards", name := "tell", desc := "(I)I" } : Jvm.MethodName) ({ cls := "BlindCards", name := "tell", desc := "(I)I" } : Jvm.MethodName)) ∈ lw_all := lw_g (lw_at lw_m7 179 rfl) rfl
theorem q1744 : (Jvm.Cond.code ({ cls := "BlindCards", name := "tell", desc := "(I)I" } : Jvm.MethodName) prog_1_method_34_code (2 : Nat) (Option.some Jvm.ClassFile.FieldType.int)) ∈ lw_all := lw_g (lw_at lw_m7 180 rfl) rfl
theorem q1745 : (Jvm.Cond.classLink "BlindCards" (327 : Nat) "BlindCards$Look") ∈ lw_all := lw_g (lw_at lw_m7 181 rfl) rfl
theorem q1747 : (Jvm.Cond.methodLink "BlindCards" (332 : Nat) ({ cls := "BlindCards$Look", name := "<init>", desc := "(II)V" } : Jvm.MethodName)) ∈ lw_all := lw_g (lw_at lw_m7 183 rfl) rfl
theorem q1752 : (Jvm.Cond.fieldLink "BlindCards" (342 : Nat) "BlindCards$Look" "path" "I") ∈ lw_all := lw_g (lw_at lw_m7 188 rfl) rfl
theorem q1763 : (Jvm.Cond.instanceMethod ({ cls := "BlindCards", name := "untell", desc := "(I)Z" } : Jvm.MethodName)) ∈ lw_all := lw_g (lw_at lw_m7 199 rfl) rfl
theorem q1764 : (Jvm.Cond.selects "BlindCards" ({ cls := "BlindCards", name := "untell", desc := "(I)Z" } : Jvm.MethodName) ({ cls := "BlindCards", name := "untell", desc := "(I)Z" } : Jvm.MethodName)) ∈ lw_all := lw_g (lw_at lw_m7 200 rfl) rfl
theorem q1765 : (Jvm.Cond.code ({ cls := "BlindCards", name := "untell", desc := "(I)Z" } : Jvm.MethodName) prog_1_method_35_code (2 : Nat) (Option.some Jvm.ClassFile.FieldType.boolean)) ∈ lw_all := lw_g (lw_at lw_m7 201 rfl) rfl
theorem q1766 : (Jvm.Cond.methodLink "BlindCards" (335 : Nat) ({ cls := "BlindCards$Look", name := "untell", desc := "(I)Z" } : Jvm.MethodName)) ∈ lw_all := lw_g (lw_at lw_m7 202 rfl) rfl
theorem q1771 : (Jvm.Cond.instanceMethod ({ cls := "BlindCards", name := "later", desc := "(I)I" } : Jvm.MethodName)) ∈ lw_all := lw_g (lw_at lw_m7 207 rfl) rfl
theorem q1772 : (Jvm.Cond.selects "BlindCards" ({ cls := "BlindCards", name := "later", desc := "(I)I" } : Jvm.MethodName) ({ cls := "BlindCards", name := "later", desc := "(I)I" } : Jvm.MethodName)) ∈ lw_all := lw_g (lw_at lw_m7 208 rfl) rfl
theorem q1773 : (Jvm.Cond.code ({ cls := "BlindCards", name := "later", desc := "(I)I" } : Jvm.MethodName) prog_1_method_36_code (2 : Nat) (Option.some Jvm.ClassFile.FieldType.int)) ∈ lw_all := lw_g (lw_at lw_m7 209 rfl) rfl
theorem q1774 : (Jvm.Cond.constant "BlindCards" (338 : Nat) (100000 : Int32)) ∈ lw_all := lw_g (lw_at lw_m7 210 rfl) rfl
theorem q1776 : (Jvm.Cond.instanceMethod ({ cls := "BlindCards", name := "can", desc := "(I)I" } : Jvm.MethodName)) ∈ lw_all := lw_g (lw_at lw_m7 212 rfl) rfl
theorem q1777 : (Jvm.Cond.selects "BlindCards" ({ cls := "BlindCards", name := "can", desc := "(I)I" } : Jvm.MethodName) ({ cls := "BlindCards", name := "can", desc := "(I)I" } : Jvm.MethodName)) ∈ lw_all := lw_g (lw_at lw_m7 213 rfl) rfl
theorem q1778 : (Jvm.Cond.code ({ cls := "BlindCards", name := "can", desc := "(I)I" } : Jvm.MethodName) prog_1_method_37_code (5 : Nat) (Option.some Jvm.ClassFile.FieldType.int)) ∈ lw_all := lw_g (lw_at lw_m7 214 rfl) rfl
theorem q1779 : (Jvm.Cond.methodLink "BlindCards" (339 : Nat) ({ cls := "BlindCards$Look", name := "isKnown", desc := "(I)Z" } : Jvm.MethodName)) ∈ lw_all := lw_g (lw_at lw_m7 215 rfl) rfl
theorem q1784 : (Jvm.Cond.instanceMethod ({ cls := "BlindCards", name := "seed", desc := "(I)I" } : Jvm.MethodName)) ∈ lw_all := lw_g (lw_at lw_m7 220 rfl) rfl
theorem q1785 : (Jvm.Cond.selects "BlindCards" ({ cls := "BlindCards", name := "seed", desc := "(I)I" } : Jvm.MethodName) ({ cls := "BlindCards", name := "seed", desc := "(I)I" } : Jvm.MethodName)) ∈ lw_all := lw_g (lw_at lw_m7 221 rfl) rfl
theorem q1786 : (Jvm.Cond.code ({ cls := "BlindCards", name := "seed", desc := "(I)I" } : Jvm.MethodName) prog_1_method_40_code (3 : Nat) (Option.some Jvm.ClassFile.FieldType.int)) ∈ lw_all := lw_g (lw_at lw_m7 222 rfl) rfl
theorem q1788 : (Jvm.Cond.instanceMethod ({ cls := "BlindCards", name := "image", desc := "(I)I" } : Jvm.MethodName)) ∈ lw_all := lw_g (lw_at lw_m7 224 rfl) rfl
theorem q1789 : (Jvm.Cond.selects "BlindCards" ({ cls := "BlindCards", name := "image", desc := "(I)I" } : Jvm.MethodName) ({ cls := "BlindCards", name := "image", desc := "(I)I" } : Jvm.MethodName)) ∈ lw_all := lw_g (lw_at lw_m7 225 rfl) rfl
theorem q1790 : (Jvm.Cond.code ({ cls := "BlindCards", name := "image", desc := "(I)I" } : Jvm.MethodName) prog_1_method_41_code (2 : Nat) (Option.some Jvm.ClassFile.FieldType.int)) ∈ lw_all := lw_g (lw_at lw_m7 226 rfl) rfl
theorem q1791 : (Jvm.Cond.methodLink "BlindCards" (348 : Nat) ({ cls := "BlindCards", name := "isBox", desc := "(I)Z" } : Jvm.MethodName)) ∈ lw_all := lw_g (lw_at lw_m7 227 rfl) rfl
theorem q1792 : (Jvm.Cond.static ({ cls := "BlindCards", name := "isBox", desc := "(I)Z" } : Jvm.MethodName)) ∈ lw_all := lw_g (lw_at lw_m7 228 rfl) rfl
theorem q1793 : (Jvm.Cond.code ({ cls := "BlindCards", name := "isBox", desc := "(I)Z" } : Jvm.MethodName) prog_1_method_38_code (1 : Nat) (Option.some Jvm.ClassFile.FieldType.boolean)) ∈ lw_all := lw_g (lw_at lw_m7 229 rfl) rfl
theorem q1794 : (Jvm.Cond.methodLink "BlindCards" (351 : Nat) ({ cls := "BlindCards", name := "copy", desc := "(Ljava/util/ArrayList;Ljava/util/ArrayList;)V" } : Jvm.MethodName)) ∈ lw_all := lw_g (lw_at lw_m7 230 rfl) rfl
theorem q1795 : (Jvm.Cond.static ({ cls := "BlindCards", name := "copy", desc := "(Ljava/util/ArrayList;Ljava/util/ArrayList;)V" } : Jvm.MethodName)) ∈ lw_all := lw_g (lw_at lw_m7 231 rfl) rfl
theorem q1796 : (Jvm.Cond.code ({ cls := "BlindCards", name := "copy", desc := "(Ljava/util/ArrayList;Ljava/util/ArrayList;)V" } : Jvm.MethodName) prog_1_method_39_code (3 : Nat) (Option.none : Option Jvm.ClassFile.FieldType)) ∈ lw_all := lw_g (lw_at lw_m7 232 rfl) rfl
theorem q1797 : (Jvm.Cond.methodLink "BlindCards" (344 : Nat) ({ cls := "BlindCards$Look", name := "again", desc := "()LBlindCards$Look;" } : Jvm.MethodName)) ∈ lw_all := lw_g (lw_at lw_m7 233 rfl) rfl
theorem q1804 : (Jvm.Cond.instanceMethod ({ cls := "BlindCards", name := "back", desc := "(I)I" } : Jvm.MethodName)) ∈ lw_all := lw_g (lw_at lw_m8 0 rfl) rfl
theorem q1805 : (Jvm.Cond.selects "BlindCards" ({ cls := "BlindCards", name := "back", desc := "(I)I" } : Jvm.MethodName) ({ cls := "BlindCards", name := "back", desc := "(I)I" } : Jvm.MethodName)) ∈ lw_all := lw_g (lw_at lw_m8 1 rfl) rfl
theorem q1806 : (Jvm.Cond.code ({ cls := "BlindCards", name := "back", desc := "(I)I" } : Jvm.MethodName) prog_1_method_42_code (2 : Nat) (Option.some Jvm.ClassFile.FieldType.int)) ∈ lw_all := lw_g (lw_at lw_m8 2 rfl) rfl
theorem q1808 : (Jvm.Cond.instanceMethod ({ cls := "BlindCards", name := "about", desc := "(I)I" } : Jvm.MethodName)) ∈ lw_all := lw_g (lw_at lw_m8 4 rfl) rfl
theorem q1809 : (Jvm.Cond.selects "BlindCards" ({ cls := "BlindCards", name := "about", desc := "(I)I" } : Jvm.MethodName) ({ cls := "BlindCards", name := "about", desc := "(I)I" } : Jvm.MethodName)) ∈ lw_all := lw_g (lw_at lw_m8 5 rfl) rfl
theorem q1810 : (Jvm.Cond.code ({ cls := "BlindCards", name := "about", desc := "(I)I" } : Jvm.MethodName) prog_1_method_43_code (2 : Nat) (Option.some Jvm.ClassFile.FieldType.int)) ∈ lw_all := lw_g (lw_at lw_m8 6 rfl) rfl
theorem q2583 : (Jvm.Cond.castable "BlindCards" "java/lang/Object") ∈ lw_tbl := lw_at lw_m11 59 rfl
theorem in_X0 : ∀ w ∈ wsX00, w ∈ lw_all := lw_in wsX00 [780, 782, 784, 786, 788, 790, 792, 794, 796, 798, 800, 802, 804, 806, 808, 810, 812, 814, 816, 818, 820, 822, 824, 826, 828, 830, 832, 834, 836, 838] (by decide +kernel) (by decide +kernel)
