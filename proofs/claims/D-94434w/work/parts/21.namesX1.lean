/-! BlindCards$Reader -/
set_option maxRecDepth 100000
def RX11 : String := "BlindCards$Reader"
def TX11 : u_T := fun k => match k with
  | 0 => ("BlindCards$Reader", "at", "I", false)
  | 1 => ("BlindCards$Reader", "sort", "I", false)
  | 2 => ("BlindCards$Reader", "place", "I", false)
  | 3 => ("BlindCards$Reader", "number", "I", false)
  | 4 => ("BlindCards$Reader", "deep", "I", false)
  | 5 => ("BlindCards$Reader", "word", "Ljava/lang/String;", false)
  | 6 => ("BlindCards$Reader", "made", "LBlindCards$Recipe;", true)
  | _ => ("BlindCards$Reader", "this$0", "LBlindCards;", true)
def tyX11 : Nat → FieldType := fun k => match k with
  | 0 => .int
  | 1 => .int
  | 2 => .int
  | 3 => .int
  | 4 => .int
  | 5 => .object "java/lang/String"
  | 6 => .object "BlindCards$Recipe"
  | _ => .object "BlindCards"
abbrev wsX110 : List Cond := u_ws RX11 TX11 8
theorem nmX11 : ∀ a, a < 8 → ∀ b, b < 8 → a ≠ b → (TX11 a).2.1 ≠ (TX11 b).2.1 := by decide +kernel
theorem tyX11_ok : ∀ k, k < 8 → parseFieldDescriptor (TX11 k).2.2.1 = some (tyX11 k) := by decide +kernel
abbrev cX11_init : ByteArray := prog_23_method_1_code
def yX11_init : MethodName := ⟨RX11, "<init>", "(LBlindCards;)V"⟩
def dkwX11_init_1 : List UInt8 := [181, 0, 24, 177]
abbrev dktX11_init_1 : List UInt8 := dkwX11_init_1 ++ []
def dkwX11_init_0 : List UInt8 := [42, 43, 181, 0, 3, 42, 183, 0, 9, 42, 18, 15, 181, 0, 17, 42, 187, 0, 21, 89, 183, 0, 23]
abbrev dktX11_init_0 : List UInt8 := dkwX11_init_0 ++ dktX11_init_1
theorem dksX11_init_0 : cX11_init.data.toList.drop 0 = dktX11_init_0 := by decide +kernel
theorem dksX11_init_1 : cX11_init.data.toList.drop 23 = dktX11_init_1 := dk_seg dksX11_init_0 23 rfl rfl
theorem dX11_init_0 : decode cX11_init 0 = .ok (.aload_n 0, 1) := dk_42 (dk_at dksX11_init_0 0 rfl rfl)
theorem dX11_init_1 : decode cX11_init 1 = .ok (.aload_n 1, 1) := dk_43 (dk_at dksX11_init_0 1 rfl rfl)
theorem dX11_init_2 : decode cX11_init 2 = .ok (.putfield 3, 3) := dk_181 0 3 (dk_at dksX11_init_0 2 rfl rfl)
theorem dX11_init_5 : decode cX11_init 5 = .ok (.aload_n 0, 1) := dk_42 (dk_at dksX11_init_0 5 rfl rfl)
theorem dX11_init_6 : decode cX11_init 6 = .ok (.invokespecial 9, 3) := dk_183 0 9 (dk_at dksX11_init_0 6 rfl rfl)
theorem dX11_init_9 : decode cX11_init 9 = .ok (.aload_n 0, 1) := dk_42 (dk_at dksX11_init_0 9 rfl rfl)
theorem dX11_init_10 : decode cX11_init 10 = .ok (.ldc 15, 2) := dk_18 15 (dk_at dksX11_init_0 10 rfl rfl)
theorem dX11_init_12 : decode cX11_init 12 = .ok (.putfield 17, 3) := dk_181 0 17 (dk_at dksX11_init_0 12 rfl rfl)
theorem dX11_init_15 : decode cX11_init 15 = .ok (.aload_n 0, 1) := dk_42 (dk_at dksX11_init_0 15 rfl rfl)
theorem dX11_init_16 : decode cX11_init 16 = .ok (.new 21, 3) := dk_187 0 21 (dk_at dksX11_init_0 16 rfl rfl)
theorem dX11_init_19 : decode cX11_init 19 = .ok (.dup, 1) := dk_89 (dk_at dksX11_init_0 19 rfl rfl)
theorem dX11_init_20 : decode cX11_init 20 = .ok (.invokespecial 23, 3) := dk_183 0 23 (dk_at dksX11_init_0 20 rfl rfl)
theorem dX11_init_23 : decode cX11_init 23 = .ok (.putfield 24, 3) := dk_181 0 24 (dk_at dksX11_init_1 0 rfl rfl)
theorem dX11_init_26 : decode cX11_init 26 = .ok (.return_, 1) := dk_177 (dk_at dksX11_init_1 3 rfl rfl)
abbrev cX11_text : ByteArray := prog_23_method_12_code
def yX11_text : MethodName := ⟨RX11, "text", "()LBlindCards$Recipe;"⟩
def dkwX11_text_5 : List UInt8 := [180, 0, 183, 183, 0, 77, 191, 132, 1, 1, 167, 255, 168, 42, 180, 0, 24, 176]
abbrev dktX11_text_5 : List UInt8 := dkwX11_text_5 ++ []
def dkwX11_text_4 : List UInt8 := [180, 0, 174, 182, 0, 177, 181, 0, 180, 44, 180, 0, 180, 156, 0, 17, 187, 0, 75, 89, 16, 6, 44]
abbrev dktX11_text_4 : List UInt8 := dkwX11_text_4 ++ dktX11_text_5
def dkwX11_text_3 : List UInt8 := [167, 0, 54, 42, 180, 0, 24, 180, 0, 159, 27, 182, 0, 168, 192, 0, 172, 77, 44, 42, 180, 0, 24, 44]
abbrev dktX11_text_3 : List UInt8 := dkwX11_text_3 ++ dktX11_text_4
def dkwX11_text_2 : List UInt8 := [182, 0, 163, 162, 0, 80, 42, 180, 0, 24, 180, 0, 159, 27, 182, 0, 168, 193, 0, 172, 154, 0, 6]
abbrev dktX11_text_2 : List UInt8 := dkwX11_text_2 ++ dktX11_text_3
def dkwX11_text_1 : List UInt8 := [42, 182, 0, 90, 191, 42, 182, 0, 94, 167, 255, 227, 3, 60, 27, 42, 180, 0, 24, 180, 0, 159]
abbrev dktX11_text_1 : List UInt8 := dkwX11_text_1 ++ dktX11_text_2
def dkwX11_text_0 : List UInt8 := [42, 182, 0, 94, 42, 180, 0, 46, 153, 0, 28, 42, 182, 0, 156, 42, 180, 0, 46, 16, 59, 159, 0, 8]
abbrev dktX11_text_0 : List UInt8 := dkwX11_text_0 ++ dktX11_text_1
theorem dksX11_text_0 : cX11_text.data.toList.drop 0 = dktX11_text_0 := by decide +kernel
theorem dksX11_text_1 : cX11_text.data.toList.drop 24 = dktX11_text_1 := dk_seg dksX11_text_0 24 rfl rfl
theorem dksX11_text_2 : cX11_text.data.toList.drop 46 = dktX11_text_2 := dk_seg dksX11_text_1 22 rfl rfl
theorem dksX11_text_3 : cX11_text.data.toList.drop 69 = dktX11_text_3 := dk_seg dksX11_text_2 23 rfl rfl
theorem dksX11_text_4 : cX11_text.data.toList.drop 93 = dktX11_text_4 := dk_seg dksX11_text_3 24 rfl rfl
theorem dksX11_text_5 : cX11_text.data.toList.drop 116 = dktX11_text_5 := dk_seg dksX11_text_4 23 rfl rfl
theorem dX11_text_0 : decode cX11_text 0 = .ok (.aload_n 0, 1) := dk_42 (dk_at dksX11_text_0 0 rfl rfl)
theorem dX11_text_1 : decode cX11_text 1 = .ok (.invokevirtual 94, 3) := dk_182 0 94 (dk_at dksX11_text_0 1 rfl rfl)
theorem dX11_text_4 : decode cX11_text 4 = .ok (.aload_n 0, 1) := dk_42 (dk_at dksX11_text_0 4 rfl rfl)
theorem dX11_text_5 : decode cX11_text 5 = .ok (.getfield 46, 3) := dk_180 0 46 (dk_at dksX11_text_0 5 rfl rfl)
theorem dX11_text_8 : decode cX11_text 8 = .ok (.ifCond .eq 28, 3) := dk_153 0 28 (dk_at dksX11_text_0 8 rfl rfl)
theorem dX11_text_11 : decode cX11_text 11 = .ok (.aload_n 0, 1) := dk_42 (dk_at dksX11_text_0 11 rfl rfl)
theorem dX11_text_12 : decode cX11_text 12 = .ok (.invokevirtual 156, 3) := dk_182 0 156 (dk_at dksX11_text_0 12 rfl rfl)
theorem dX11_text_15 : decode cX11_text 15 = .ok (.aload_n 0, 1) := dk_42 (dk_at dksX11_text_0 15 rfl rfl)
theorem dX11_text_16 : decode cX11_text 16 = .ok (.getfield 46, 3) := dk_180 0 46 (dk_at dksX11_text_0 16 rfl rfl)
theorem dX11_text_19 : decode cX11_text 19 = .ok (.bipush 59, 2) := dk_16 59 (dk_at dksX11_text_0 19 rfl rfl)
theorem dX11_text_21 : decode cX11_text 21 = .ok (.if_icmp .eq 8, 3) := dk_159 0 8 (dk_at dksX11_text_0 21 rfl rfl)
theorem dX11_text_24 : decode cX11_text 24 = .ok (.aload_n 0, 1) := dk_42 (dk_at dksX11_text_1 0 rfl rfl)
theorem dX11_text_25 : decode cX11_text 25 = .ok (.invokevirtual 90, 3) := dk_182 0 90 (dk_at dksX11_text_1 1 rfl rfl)
theorem dX11_text_28 : decode cX11_text 28 = .ok (.athrow, 1) := dk_191 (dk_at dksX11_text_1 4 rfl rfl)
theorem dX11_text_29 : decode cX11_text 29 = .ok (.aload_n 0, 1) := dk_42 (dk_at dksX11_text_1 5 rfl rfl)
theorem dX11_text_30 : decode cX11_text 30 = .ok (.invokevirtual 94, 3) := dk_182 0 94 (dk_at dksX11_text_1 6 rfl rfl)
theorem dX11_text_33 : decode cX11_text 33 = .ok (.goto (-29), 3) := dk_167 255 227 (dk_at dksX11_text_1 9 rfl rfl)
theorem dX11_text_36 : decode cX11_text 36 = .ok (.iconst 0, 1) := dk_3 (dk_at dksX11_text_1 12 rfl rfl)
theorem dX11_text_37 : decode cX11_text 37 = .ok (.istore_n 1, 1) := dk_60 (dk_at dksX11_text_1 13 rfl rfl)
theorem dX11_text_38 : decode cX11_text 38 = .ok (.iload_n 1, 1) := dk_27 (dk_at dksX11_text_1 14 rfl rfl)
theorem dX11_text_39 : decode cX11_text 39 = .ok (.aload_n 0, 1) := dk_42 (dk_at dksX11_text_1 15 rfl rfl)
theorem dX11_text_40 : decode cX11_text 40 = .ok (.getfield 24, 3) := dk_180 0 24 (dk_at dksX11_text_1 16 rfl rfl)
theorem dX11_text_43 : decode cX11_text 43 = .ok (.getfield 159, 3) := dk_180 0 159 (dk_at dksX11_text_1 19 rfl rfl)
theorem dX11_text_46 : decode cX11_text 46 = .ok (.invokevirtual 163, 3) := dk_182 0 163 (dk_at dksX11_text_2 0 rfl rfl)
theorem dX11_text_49 : decode cX11_text 49 = .ok (.if_icmp .ge 80, 3) := dk_162 0 80 (dk_at dksX11_text_2 3 rfl rfl)
theorem dX11_text_52 : decode cX11_text 52 = .ok (.aload_n 0, 1) := dk_42 (dk_at dksX11_text_2 6 rfl rfl)
theorem dX11_text_53 : decode cX11_text 53 = .ok (.getfield 24, 3) := dk_180 0 24 (dk_at dksX11_text_2 7 rfl rfl)
theorem dX11_text_56 : decode cX11_text 56 = .ok (.getfield 159, 3) := dk_180 0 159 (dk_at dksX11_text_2 10 rfl rfl)
theorem dX11_text_59 : decode cX11_text 59 = .ok (.iload_n 1, 1) := dk_27 (dk_at dksX11_text_2 13 rfl rfl)
theorem dX11_text_60 : decode cX11_text 60 = .ok (.invokevirtual 168, 3) := dk_182 0 168 (dk_at dksX11_text_2 14 rfl rfl)
theorem dX11_text_63 : decode cX11_text 63 = .ok (.instanceof 172, 3) := dk_193 0 172 (dk_at dksX11_text_2 17 rfl rfl)
theorem dX11_text_66 : decode cX11_text 66 = .ok (.ifCond .ne 6, 3) := dk_154 0 6 (dk_at dksX11_text_2 20 rfl rfl)
theorem dX11_text_69 : decode cX11_text 69 = .ok (.goto 54, 3) := dk_167 0 54 (dk_at dksX11_text_3 0 rfl rfl)
theorem dX11_text_72 : decode cX11_text 72 = .ok (.aload_n 0, 1) := dk_42 (dk_at dksX11_text_3 3 rfl rfl)
theorem dX11_text_73 : decode cX11_text 73 = .ok (.getfield 24, 3) := dk_180 0 24 (dk_at dksX11_text_3 4 rfl rfl)
theorem dX11_text_76 : decode cX11_text 76 = .ok (.getfield 159, 3) := dk_180 0 159 (dk_at dksX11_text_3 7 rfl rfl)
theorem dX11_text_79 : decode cX11_text 79 = .ok (.iload_n 1, 1) := dk_27 (dk_at dksX11_text_3 10 rfl rfl)
theorem dX11_text_80 : decode cX11_text 80 = .ok (.invokevirtual 168, 3) := dk_182 0 168 (dk_at dksX11_text_3 11 rfl rfl)
theorem dX11_text_83 : decode cX11_text 83 = .ok (.checkcast 172, 3) := dk_192 0 172 (dk_at dksX11_text_3 14 rfl rfl)
theorem dX11_text_86 : decode cX11_text 86 = .ok (.astore_n 2, 1) := dk_77 (dk_at dksX11_text_3 17 rfl rfl)
theorem dX11_text_87 : decode cX11_text 87 = .ok (.aload_n 2, 1) := dk_44 (dk_at dksX11_text_3 18 rfl rfl)
theorem dX11_text_88 : decode cX11_text 88 = .ok (.aload_n 0, 1) := dk_42 (dk_at dksX11_text_3 19 rfl rfl)
theorem dX11_text_89 : decode cX11_text 89 = .ok (.getfield 24, 3) := dk_180 0 24 (dk_at dksX11_text_3 20 rfl rfl)
theorem dX11_text_92 : decode cX11_text 92 = .ok (.aload_n 2, 1) := dk_44 (dk_at dksX11_text_3 23 rfl rfl)
theorem dX11_text_93 : decode cX11_text 93 = .ok (.getfield 174, 3) := dk_180 0 174 (dk_at dksX11_text_4 0 rfl rfl)
theorem dX11_text_96 : decode cX11_text 96 = .ok (.invokevirtual 177, 3) := dk_182 0 177 (dk_at dksX11_text_4 3 rfl rfl)
theorem dX11_text_99 : decode cX11_text 99 = .ok (.putfield 180, 3) := dk_181 0 180 (dk_at dksX11_text_4 6 rfl rfl)
theorem dX11_text_102 : decode cX11_text 102 = .ok (.aload_n 2, 1) := dk_44 (dk_at dksX11_text_4 9 rfl rfl)
theorem dX11_text_103 : decode cX11_text 103 = .ok (.getfield 180, 3) := dk_180 0 180 (dk_at dksX11_text_4 10 rfl rfl)
theorem dX11_text_106 : decode cX11_text 106 = .ok (.ifCond .ge 17, 3) := dk_156 0 17 (dk_at dksX11_text_4 13 rfl rfl)
theorem dX11_text_109 : decode cX11_text 109 = .ok (.new 75, 3) := dk_187 0 75 (dk_at dksX11_text_4 16 rfl rfl)
theorem dX11_text_112 : decode cX11_text 112 = .ok (.dup, 1) := dk_89 (dk_at dksX11_text_4 19 rfl rfl)
theorem dX11_text_113 : decode cX11_text 113 = .ok (.bipush 6, 2) := dk_16 6 (dk_at dksX11_text_4 20 rfl rfl)
theorem dX11_text_115 : decode cX11_text 115 = .ok (.aload_n 2, 1) := dk_44 (dk_at dksX11_text_4 22 rfl rfl)
theorem dX11_text_116 : decode cX11_text 116 = .ok (.getfield 183, 3) := dk_180 0 183 (dk_at dksX11_text_5 0 rfl rfl)
theorem dX11_text_119 : decode cX11_text 119 = .ok (.invokespecial 77, 3) := dk_183 0 77 (dk_at dksX11_text_5 3 rfl rfl)
theorem dX11_text_122 : decode cX11_text 122 = .ok (.athrow, 1) := dk_191 (dk_at dksX11_text_5 6 rfl rfl)
theorem dX11_text_123 : decode cX11_text 123 = .ok (.iinc 1 1, 3) := dk_132 1 1 (dk_at dksX11_text_5 7 rfl rfl)
theorem dX11_text_126 : decode cX11_text 126 = .ok (.goto (-88), 3) := dk_167 255 168 (dk_at dksX11_text_5 10 rfl rfl)
theorem dX11_text_129 : decode cX11_text 129 = .ok (.aload_n 0, 1) := dk_42 (dk_at dksX11_text_5 13 rfl rfl)
theorem dX11_text_130 : decode cX11_text 130 = .ok (.getfield 24, 3) := dk_180 0 24 (dk_at dksX11_text_5 14 rfl rfl)
theorem dX11_text_133 : decode cX11_text 133 = .ok (.areturn, 1) := dk_176 (dk_at dksX11_text_5 17 rfl rfl)
abbrev cX11_go : ByteArray := prog_23_method_6_code
def yX11_go : MethodName := ⟨RX11, "go", "()V"⟩
def dkwX11_go_10 : List UInt8 := [181, 0, 28, 177]
abbrev dktX11_go_10 : List UInt8 := dkwX11_go_10 ++ []
def dkwX11_go_9 : List UInt8 := [167, 0, 17, 27, 184, 0, 72, 153, 0, 10, 42, 27, 181, 0, 46, 4, 61, 42, 89, 180, 0, 28, 28, 96]
abbrev dktX11_go_9 : List UInt8 := dkwX11_go_9 ++ dktX11_go_10
def dkwX11_go_8 : List UInt8 := [167, 255, 220, 28, 7, 163, 0, 11, 42, 28, 182, 0, 49, 153, 0, 4, 177, 42, 5, 181, 0, 46]
abbrev dktX11_go_8 : List UInt8 := dkwX11_go_8 ++ dktX11_go_9
def dkwX11_go_7 : List UInt8 := [42, 16, 10, 42, 180, 0, 69, 104, 42, 28, 182, 0, 39, 96, 16, 48, 100, 181, 0, 69, 132, 2, 1]
abbrev dktX11_go_7 : List UInt8 := dkwX11_go_7 ++ dktX11_go_8
def dkwX11_go_6 : List UInt8 := [182, 0, 66, 153, 0, 69, 42, 3, 181, 0, 69, 42, 28, 182, 0, 66, 153, 0, 34, 28, 7, 162, 0, 23]
abbrev dktX11_go_6 : List UInt8 := dkwX11_go_6 ++ dktX11_go_7
def dkwX11_go_5 : List UInt8 := [16, 8, 164, 0, 4, 177, 42, 45, 182, 0, 62, 181, 0, 17, 42, 4, 181, 0, 46, 167, 0, 91, 42, 3]
abbrev dktX11_go_5 : List UInt8 := dkwX11_go_5 ++ dktX11_go_6
def dkwX11_go_4 : List UInt8 := [28, 16, 8, 162, 0, 14, 45, 42, 28, 182, 0, 39, 146, 182, 0, 58, 87, 132, 2, 1, 167, 255, 228, 28]
abbrev dktX11_go_4 : List UInt8 := dkwX11_go_4 ++ dktX11_go_5
def dkwX11_go_3 : List UInt8 := [182, 0, 49, 153, 0, 67, 187, 0, 53, 89, 16, 8, 183, 0, 55, 78, 42, 28, 182, 0, 49, 153, 0, 26]
abbrev dktX11_go_3 : List UInt8 := dkwX11_go_3 ++ dktX11_go_4
def dkwX11_go_2 : List UInt8 := [60, 3, 61, 42, 6, 181, 0, 46, 27, 156, 0, 11, 42, 3, 181, 0, 46, 167, 0, 163, 42, 3]
abbrev dktX11_go_2 : List UInt8 := dkwX11_go_2 ++ dktX11_go_3
def dkwX11_go_1 : List UInt8 := [180, 0, 28, 4, 96, 181, 0, 28, 167, 255, 226, 42, 42, 180, 0, 28, 181, 0, 43, 42, 3, 182, 0, 39]
abbrev dktX11_go_1 : List UInt8 := dkwX11_go_1 ++ dktX11_go_2
def dkwX11_go_0 : List UInt8 := [42, 3, 182, 0, 39, 16, 32, 159, 0, 13, 42, 3, 182, 0, 39, 16, 10, 160, 0, 16, 42, 89]
abbrev dktX11_go_0 : List UInt8 := dkwX11_go_0 ++ dktX11_go_1
theorem dksX11_go_0 : cX11_go.data.toList.drop 0 = dktX11_go_0 := by decide +kernel
theorem dksX11_go_1 : cX11_go.data.toList.drop 22 = dktX11_go_1 := dk_seg dksX11_go_0 22 rfl rfl
theorem dksX11_go_2 : cX11_go.data.toList.drop 46 = dktX11_go_2 := dk_seg dksX11_go_1 24 rfl rfl
theorem dksX11_go_3 : cX11_go.data.toList.drop 68 = dktX11_go_3 := dk_seg dksX11_go_2 22 rfl rfl
theorem dksX11_go_4 : cX11_go.data.toList.drop 92 = dktX11_go_4 := dk_seg dksX11_go_3 24 rfl rfl
theorem dksX11_go_5 : cX11_go.data.toList.drop 116 = dktX11_go_5 := dk_seg dksX11_go_4 24 rfl rfl
theorem dksX11_go_6 : cX11_go.data.toList.drop 140 = dktX11_go_6 := dk_seg dksX11_go_5 24 rfl rfl
theorem dksX11_go_7 : cX11_go.data.toList.drop 164 = dktX11_go_7 := dk_seg dksX11_go_6 24 rfl rfl
theorem dksX11_go_8 : cX11_go.data.toList.drop 187 = dktX11_go_8 := dk_seg dksX11_go_7 23 rfl rfl
theorem dksX11_go_9 : cX11_go.data.toList.drop 209 = dktX11_go_9 := dk_seg dksX11_go_8 22 rfl rfl
theorem dksX11_go_10 : cX11_go.data.toList.drop 233 = dktX11_go_10 := dk_seg dksX11_go_9 24 rfl rfl
theorem dX11_go_0 : decode cX11_go 0 = .ok (.aload_n 0, 1) := dk_42 (dk_at dksX11_go_0 0 rfl rfl)
theorem dX11_go_1 : decode cX11_go 1 = .ok (.iconst 0, 1) := dk_3 (dk_at dksX11_go_0 1 rfl rfl)
theorem dX11_go_2 : decode cX11_go 2 = .ok (.invokevirtual 39, 3) := dk_182 0 39 (dk_at dksX11_go_0 2 rfl rfl)
theorem dX11_go_5 : decode cX11_go 5 = .ok (.bipush 32, 2) := dk_16 32 (dk_at dksX11_go_0 5 rfl rfl)
theorem dX11_go_7 : decode cX11_go 7 = .ok (.if_icmp .eq 13, 3) := dk_159 0 13 (dk_at dksX11_go_0 7 rfl rfl)
theorem dX11_go_10 : decode cX11_go 10 = .ok (.aload_n 0, 1) := dk_42 (dk_at dksX11_go_0 10 rfl rfl)
theorem dX11_go_11 : decode cX11_go 11 = .ok (.iconst 0, 1) := dk_3 (dk_at dksX11_go_0 11 rfl rfl)
theorem dX11_go_12 : decode cX11_go 12 = .ok (.invokevirtual 39, 3) := dk_182 0 39 (dk_at dksX11_go_0 12 rfl rfl)
theorem dX11_go_15 : decode cX11_go 15 = .ok (.bipush 10, 2) := dk_16 10 (dk_at dksX11_go_0 15 rfl rfl)
theorem dX11_go_17 : decode cX11_go 17 = .ok (.if_icmp .ne 16, 3) := dk_160 0 16 (dk_at dksX11_go_0 17 rfl rfl)
theorem dX11_go_20 : decode cX11_go 20 = .ok (.aload_n 0, 1) := dk_42 (dk_at dksX11_go_0 20 rfl rfl)
theorem dX11_go_21 : decode cX11_go 21 = .ok (.dup, 1) := dk_89 (dk_at dksX11_go_0 21 rfl rfl)
theorem dX11_go_22 : decode cX11_go 22 = .ok (.getfield 28, 3) := dk_180 0 28 (dk_at dksX11_go_1 0 rfl rfl)
theorem dX11_go_25 : decode cX11_go 25 = .ok (.iconst 1, 1) := dk_4 (dk_at dksX11_go_1 3 rfl rfl)
theorem dX11_go_26 : decode cX11_go 26 = .ok (.iadd, 1) := dk_96 (dk_at dksX11_go_1 4 rfl rfl)
theorem dX11_go_27 : decode cX11_go 27 = .ok (.putfield 28, 3) := dk_181 0 28 (dk_at dksX11_go_1 5 rfl rfl)
theorem dX11_go_30 : decode cX11_go 30 = .ok (.goto (-30), 3) := dk_167 255 226 (dk_at dksX11_go_1 8 rfl rfl)
theorem dX11_go_33 : decode cX11_go 33 = .ok (.aload_n 0, 1) := dk_42 (dk_at dksX11_go_1 11 rfl rfl)
theorem dX11_go_34 : decode cX11_go 34 = .ok (.aload_n 0, 1) := dk_42 (dk_at dksX11_go_1 12 rfl rfl)
theorem dX11_go_35 : decode cX11_go 35 = .ok (.getfield 28, 3) := dk_180 0 28 (dk_at dksX11_go_1 13 rfl rfl)
theorem dX11_go_38 : decode cX11_go 38 = .ok (.putfield 43, 3) := dk_181 0 43 (dk_at dksX11_go_1 16 rfl rfl)
theorem dX11_go_41 : decode cX11_go 41 = .ok (.aload_n 0, 1) := dk_42 (dk_at dksX11_go_1 19 rfl rfl)
theorem dX11_go_42 : decode cX11_go 42 = .ok (.iconst 0, 1) := dk_3 (dk_at dksX11_go_1 20 rfl rfl)
theorem dX11_go_43 : decode cX11_go 43 = .ok (.invokevirtual 39, 3) := dk_182 0 39 (dk_at dksX11_go_1 21 rfl rfl)
theorem dX11_go_46 : decode cX11_go 46 = .ok (.istore_n 1, 1) := dk_60 (dk_at dksX11_go_2 0 rfl rfl)
theorem dX11_go_47 : decode cX11_go 47 = .ok (.iconst 0, 1) := dk_3 (dk_at dksX11_go_2 1 rfl rfl)
theorem dX11_go_48 : decode cX11_go 48 = .ok (.istore_n 2, 1) := dk_61 (dk_at dksX11_go_2 2 rfl rfl)
theorem dX11_go_49 : decode cX11_go 49 = .ok (.aload_n 0, 1) := dk_42 (dk_at dksX11_go_2 3 rfl rfl)
theorem dX11_go_50 : decode cX11_go 50 = .ok (.iconst 3, 1) := dk_6 (dk_at dksX11_go_2 4 rfl rfl)
theorem dX11_go_51 : decode cX11_go 51 = .ok (.putfield 46, 3) := dk_181 0 46 (dk_at dksX11_go_2 5 rfl rfl)
theorem dX11_go_54 : decode cX11_go 54 = .ok (.iload_n 1, 1) := dk_27 (dk_at dksX11_go_2 8 rfl rfl)
theorem dX11_go_55 : decode cX11_go 55 = .ok (.ifCond .ge 11, 3) := dk_156 0 11 (dk_at dksX11_go_2 9 rfl rfl)
theorem dX11_go_58 : decode cX11_go 58 = .ok (.aload_n 0, 1) := dk_42 (dk_at dksX11_go_2 12 rfl rfl)
theorem dX11_go_59 : decode cX11_go 59 = .ok (.iconst 0, 1) := dk_3 (dk_at dksX11_go_2 13 rfl rfl)
theorem dX11_go_60 : decode cX11_go 60 = .ok (.putfield 46, 3) := dk_181 0 46 (dk_at dksX11_go_2 14 rfl rfl)
theorem dX11_go_63 : decode cX11_go 63 = .ok (.goto 163, 3) := dk_167 0 163 (dk_at dksX11_go_2 17 rfl rfl)
theorem dX11_go_66 : decode cX11_go 66 = .ok (.aload_n 0, 1) := dk_42 (dk_at dksX11_go_2 20 rfl rfl)
theorem dX11_go_67 : decode cX11_go 67 = .ok (.iconst 0, 1) := dk_3 (dk_at dksX11_go_2 21 rfl rfl)
theorem dX11_go_68 : decode cX11_go 68 = .ok (.invokevirtual 49, 3) := dk_182 0 49 (dk_at dksX11_go_3 0 rfl rfl)
theorem dX11_go_71 : decode cX11_go 71 = .ok (.ifCond .eq 67, 3) := dk_153 0 67 (dk_at dksX11_go_3 3 rfl rfl)
theorem dX11_go_74 : decode cX11_go 74 = .ok (.new 53, 3) := dk_187 0 53 (dk_at dksX11_go_3 6 rfl rfl)
theorem dX11_go_77 : decode cX11_go 77 = .ok (.dup, 1) := dk_89 (dk_at dksX11_go_3 9 rfl rfl)
theorem dX11_go_78 : decode cX11_go 78 = .ok (.bipush 8, 2) := dk_16 8 (dk_at dksX11_go_3 10 rfl rfl)
theorem dX11_go_80 : decode cX11_go 80 = .ok (.invokespecial 55, 3) := dk_183 0 55 (dk_at dksX11_go_3 12 rfl rfl)
theorem dX11_go_83 : decode cX11_go 83 = .ok (.astore_n 3, 1) := dk_78 (dk_at dksX11_go_3 15 rfl rfl)
theorem dX11_go_84 : decode cX11_go 84 = .ok (.aload_n 0, 1) := dk_42 (dk_at dksX11_go_3 16 rfl rfl)
theorem dX11_go_85 : decode cX11_go 85 = .ok (.iload_n 2, 1) := dk_28 (dk_at dksX11_go_3 17 rfl rfl)
theorem dX11_go_86 : decode cX11_go 86 = .ok (.invokevirtual 49, 3) := dk_182 0 49 (dk_at dksX11_go_3 18 rfl rfl)
theorem dX11_go_89 : decode cX11_go 89 = .ok (.ifCond .eq 26, 3) := dk_153 0 26 (dk_at dksX11_go_3 21 rfl rfl)
theorem dX11_go_92 : decode cX11_go 92 = .ok (.iload_n 2, 1) := dk_28 (dk_at dksX11_go_4 0 rfl rfl)
theorem dX11_go_93 : decode cX11_go 93 = .ok (.bipush 8, 2) := dk_16 8 (dk_at dksX11_go_4 1 rfl rfl)
theorem dX11_go_95 : decode cX11_go 95 = .ok (.if_icmp .ge 14, 3) := dk_162 0 14 (dk_at dksX11_go_4 3 rfl rfl)
theorem dX11_go_98 : decode cX11_go 98 = .ok (.aload_n 3, 1) := dk_45 (dk_at dksX11_go_4 6 rfl rfl)
theorem dX11_go_99 : decode cX11_go 99 = .ok (.aload_n 0, 1) := dk_42 (dk_at dksX11_go_4 7 rfl rfl)
theorem dX11_go_100 : decode cX11_go 100 = .ok (.iload_n 2, 1) := dk_28 (dk_at dksX11_go_4 8 rfl rfl)
theorem dX11_go_101 : decode cX11_go 101 = .ok (.invokevirtual 39, 3) := dk_182 0 39 (dk_at dksX11_go_4 9 rfl rfl)
theorem dX11_go_104 : decode cX11_go 104 = .ok (.i2c, 1) := dk_146 (dk_at dksX11_go_4 12 rfl rfl)
theorem dX11_go_105 : decode cX11_go 105 = .ok (.invokevirtual 58, 3) := dk_182 0 58 (dk_at dksX11_go_4 13 rfl rfl)
theorem dX11_go_108 : decode cX11_go 108 = .ok (.pop, 1) := dk_87 (dk_at dksX11_go_4 16 rfl rfl)
theorem dX11_go_109 : decode cX11_go 109 = .ok (.iinc 2 1, 3) := dk_132 2 1 (dk_at dksX11_go_4 17 rfl rfl)
theorem dX11_go_112 : decode cX11_go 112 = .ok (.goto (-28), 3) := dk_167 255 228 (dk_at dksX11_go_4 20 rfl rfl)
theorem dX11_go_115 : decode cX11_go 115 = .ok (.iload_n 2, 1) := dk_28 (dk_at dksX11_go_4 23 rfl rfl)
theorem dX11_go_116 : decode cX11_go 116 = .ok (.bipush 8, 2) := dk_16 8 (dk_at dksX11_go_5 0 rfl rfl)
theorem dX11_go_118 : decode cX11_go 118 = .ok (.if_icmp .le 4, 3) := dk_164 0 4 (dk_at dksX11_go_5 2 rfl rfl)
theorem dX11_go_121 : decode cX11_go 121 = .ok (.return_, 1) := dk_177 (dk_at dksX11_go_5 5 rfl rfl)
theorem dX11_go_122 : decode cX11_go 122 = .ok (.aload_n 0, 1) := dk_42 (dk_at dksX11_go_5 6 rfl rfl)
theorem dX11_go_123 : decode cX11_go 123 = .ok (.aload_n 3, 1) := dk_45 (dk_at dksX11_go_5 7 rfl rfl)
theorem dX11_go_124 : decode cX11_go 124 = .ok (.invokevirtual 62, 3) := dk_182 0 62 (dk_at dksX11_go_5 8 rfl rfl)
theorem dX11_go_127 : decode cX11_go 127 = .ok (.putfield 17, 3) := dk_181 0 17 (dk_at dksX11_go_5 11 rfl rfl)
theorem dX11_go_130 : decode cX11_go 130 = .ok (.aload_n 0, 1) := dk_42 (dk_at dksX11_go_5 14 rfl rfl)
theorem dX11_go_131 : decode cX11_go 131 = .ok (.iconst 1, 1) := dk_4 (dk_at dksX11_go_5 15 rfl rfl)
theorem dX11_go_132 : decode cX11_go 132 = .ok (.putfield 46, 3) := dk_181 0 46 (dk_at dksX11_go_5 16 rfl rfl)
theorem dX11_go_135 : decode cX11_go 135 = .ok (.goto 91, 3) := dk_167 0 91 (dk_at dksX11_go_5 19 rfl rfl)
theorem dX11_go_138 : decode cX11_go 138 = .ok (.aload_n 0, 1) := dk_42 (dk_at dksX11_go_5 22 rfl rfl)
theorem dX11_go_139 : decode cX11_go 139 = .ok (.iconst 0, 1) := dk_3 (dk_at dksX11_go_5 23 rfl rfl)
theorem dX11_go_140 : decode cX11_go 140 = .ok (.invokevirtual 66, 3) := dk_182 0 66 (dk_at dksX11_go_6 0 rfl rfl)
theorem dX11_go_143 : decode cX11_go 143 = .ok (.ifCond .eq 69, 3) := dk_153 0 69 (dk_at dksX11_go_6 3 rfl rfl)
theorem dX11_go_146 : decode cX11_go 146 = .ok (.aload_n 0, 1) := dk_42 (dk_at dksX11_go_6 6 rfl rfl)
theorem dX11_go_147 : decode cX11_go 147 = .ok (.iconst 0, 1) := dk_3 (dk_at dksX11_go_6 7 rfl rfl)
theorem dX11_go_148 : decode cX11_go 148 = .ok (.putfield 69, 3) := dk_181 0 69 (dk_at dksX11_go_6 8 rfl rfl)
theorem dX11_go_151 : decode cX11_go 151 = .ok (.aload_n 0, 1) := dk_42 (dk_at dksX11_go_6 11 rfl rfl)
theorem dX11_go_152 : decode cX11_go 152 = .ok (.iload_n 2, 1) := dk_28 (dk_at dksX11_go_6 12 rfl rfl)
theorem dX11_go_153 : decode cX11_go 153 = .ok (.invokevirtual 66, 3) := dk_182 0 66 (dk_at dksX11_go_6 13 rfl rfl)
theorem dX11_go_156 : decode cX11_go 156 = .ok (.ifCond .eq 34, 3) := dk_153 0 34 (dk_at dksX11_go_6 16 rfl rfl)
theorem dX11_go_159 : decode cX11_go 159 = .ok (.iload_n 2, 1) := dk_28 (dk_at dksX11_go_6 19 rfl rfl)
theorem dX11_go_160 : decode cX11_go 160 = .ok (.iconst 4, 1) := dk_7 (dk_at dksX11_go_6 20 rfl rfl)
theorem dX11_go_161 : decode cX11_go 161 = .ok (.if_icmp .ge 23, 3) := dk_162 0 23 (dk_at dksX11_go_6 21 rfl rfl)
theorem dX11_go_164 : decode cX11_go 164 = .ok (.aload_n 0, 1) := dk_42 (dk_at dksX11_go_7 0 rfl rfl)
theorem dX11_go_165 : decode cX11_go 165 = .ok (.bipush 10, 2) := dk_16 10 (dk_at dksX11_go_7 1 rfl rfl)
theorem dX11_go_167 : decode cX11_go 167 = .ok (.aload_n 0, 1) := dk_42 (dk_at dksX11_go_7 3 rfl rfl)
theorem dX11_go_168 : decode cX11_go 168 = .ok (.getfield 69, 3) := dk_180 0 69 (dk_at dksX11_go_7 4 rfl rfl)
theorem dX11_go_171 : decode cX11_go 171 = .ok (.imul, 1) := dk_104 (dk_at dksX11_go_7 7 rfl rfl)
theorem dX11_go_172 : decode cX11_go 172 = .ok (.aload_n 0, 1) := dk_42 (dk_at dksX11_go_7 8 rfl rfl)
theorem dX11_go_173 : decode cX11_go 173 = .ok (.iload_n 2, 1) := dk_28 (dk_at dksX11_go_7 9 rfl rfl)
theorem dX11_go_174 : decode cX11_go 174 = .ok (.invokevirtual 39, 3) := dk_182 0 39 (dk_at dksX11_go_7 10 rfl rfl)
theorem dX11_go_177 : decode cX11_go 177 = .ok (.iadd, 1) := dk_96 (dk_at dksX11_go_7 13 rfl rfl)
theorem dX11_go_178 : decode cX11_go 178 = .ok (.bipush 48, 2) := dk_16 48 (dk_at dksX11_go_7 14 rfl rfl)
theorem dX11_go_180 : decode cX11_go 180 = .ok (.isub, 1) := dk_100 (dk_at dksX11_go_7 16 rfl rfl)
theorem dX11_go_181 : decode cX11_go 181 = .ok (.putfield 69, 3) := dk_181 0 69 (dk_at dksX11_go_7 17 rfl rfl)
theorem dX11_go_184 : decode cX11_go 184 = .ok (.iinc 2 1, 3) := dk_132 2 1 (dk_at dksX11_go_7 20 rfl rfl)
theorem dX11_go_187 : decode cX11_go 187 = .ok (.goto (-36), 3) := dk_167 255 220 (dk_at dksX11_go_8 0 rfl rfl)
theorem dX11_go_190 : decode cX11_go 190 = .ok (.iload_n 2, 1) := dk_28 (dk_at dksX11_go_8 3 rfl rfl)
theorem dX11_go_191 : decode cX11_go 191 = .ok (.iconst 4, 1) := dk_7 (dk_at dksX11_go_8 4 rfl rfl)
theorem dX11_go_192 : decode cX11_go 192 = .ok (.if_icmp .gt 11, 3) := dk_163 0 11 (dk_at dksX11_go_8 5 rfl rfl)
theorem dX11_go_195 : decode cX11_go 195 = .ok (.aload_n 0, 1) := dk_42 (dk_at dksX11_go_8 8 rfl rfl)
theorem dX11_go_196 : decode cX11_go 196 = .ok (.iload_n 2, 1) := dk_28 (dk_at dksX11_go_8 9 rfl rfl)
theorem dX11_go_197 : decode cX11_go 197 = .ok (.invokevirtual 49, 3) := dk_182 0 49 (dk_at dksX11_go_8 10 rfl rfl)
theorem dX11_go_200 : decode cX11_go 200 = .ok (.ifCond .eq 4, 3) := dk_153 0 4 (dk_at dksX11_go_8 13 rfl rfl)
theorem dX11_go_203 : decode cX11_go 203 = .ok (.return_, 1) := dk_177 (dk_at dksX11_go_8 16 rfl rfl)
theorem dX11_go_204 : decode cX11_go 204 = .ok (.aload_n 0, 1) := dk_42 (dk_at dksX11_go_8 17 rfl rfl)
theorem dX11_go_205 : decode cX11_go 205 = .ok (.iconst 2, 1) := dk_5 (dk_at dksX11_go_8 18 rfl rfl)
theorem dX11_go_206 : decode cX11_go 206 = .ok (.putfield 46, 3) := dk_181 0 46 (dk_at dksX11_go_8 19 rfl rfl)
theorem dX11_go_209 : decode cX11_go 209 = .ok (.goto 17, 3) := dk_167 0 17 (dk_at dksX11_go_9 0 rfl rfl)
theorem dX11_go_212 : decode cX11_go 212 = .ok (.iload_n 1, 1) := dk_27 (dk_at dksX11_go_9 3 rfl rfl)
theorem dX11_go_213 : decode cX11_go 213 = .ok (.invokestatic 72, 3) := dk_184 0 72 (dk_at dksX11_go_9 4 rfl rfl)
theorem dX11_go_216 : decode cX11_go 216 = .ok (.ifCond .eq 10, 3) := dk_153 0 10 (dk_at dksX11_go_9 7 rfl rfl)
theorem dX11_go_219 : decode cX11_go 219 = .ok (.aload_n 0, 1) := dk_42 (dk_at dksX11_go_9 10 rfl rfl)
theorem dX11_go_220 : decode cX11_go 220 = .ok (.iload_n 1, 1) := dk_27 (dk_at dksX11_go_9 11 rfl rfl)
theorem dX11_go_221 : decode cX11_go 221 = .ok (.putfield 46, 3) := dk_181 0 46 (dk_at dksX11_go_9 12 rfl rfl)
theorem dX11_go_224 : decode cX11_go 224 = .ok (.iconst 1, 1) := dk_4 (dk_at dksX11_go_9 15 rfl rfl)
theorem dX11_go_225 : decode cX11_go 225 = .ok (.istore_n 2, 1) := dk_61 (dk_at dksX11_go_9 16 rfl rfl)
theorem dX11_go_226 : decode cX11_go 226 = .ok (.aload_n 0, 1) := dk_42 (dk_at dksX11_go_9 17 rfl rfl)
theorem dX11_go_227 : decode cX11_go 227 = .ok (.dup, 1) := dk_89 (dk_at dksX11_go_9 18 rfl rfl)
theorem dX11_go_228 : decode cX11_go 228 = .ok (.getfield 28, 3) := dk_180 0 28 (dk_at dksX11_go_9 19 rfl rfl)
theorem dX11_go_231 : decode cX11_go 231 = .ok (.iload_n 2, 1) := dk_28 (dk_at dksX11_go_9 22 rfl rfl)
theorem dX11_go_232 : decode cX11_go 232 = .ok (.iadd, 1) := dk_96 (dk_at dksX11_go_9 23 rfl rfl)
theorem dX11_go_233 : decode cX11_go 233 = .ok (.putfield 28, 3) := dk_181 0 28 (dk_at dksX11_go_10 0 rfl rfl)
theorem dX11_go_236 : decode cX11_go 236 = .ok (.return_, 1) := dk_177 (dk_at dksX11_go_10 3 rfl rfl)
abbrev cX11_here : ByteArray := prog_23_method_2_code
def yX11_here : MethodName := ⟨RX11, "here", "(I)I"⟩
def dkwX11_here_1 : List UInt8 := [180, 0, 28, 27, 96, 51, 17, 0, 255, 126, 167, 0, 4, 2, 172]
abbrev dktX11_here_1 : List UInt8 := dkwX11_here_1 ++ []
def dkwX11_here_0 : List UInt8 := [42, 180, 0, 28, 27, 96, 42, 180, 0, 3, 180, 0, 32, 162, 0, 24, 42, 180, 0, 3, 180, 0, 35, 42]
abbrev dktX11_here_0 : List UInt8 := dkwX11_here_0 ++ dktX11_here_1
theorem dksX11_here_0 : cX11_here.data.toList.drop 0 = dktX11_here_0 := by decide +kernel
theorem dksX11_here_1 : cX11_here.data.toList.drop 24 = dktX11_here_1 := dk_seg dksX11_here_0 24 rfl rfl
theorem dX11_here_0 : decode cX11_here 0 = .ok (.aload_n 0, 1) := dk_42 (dk_at dksX11_here_0 0 rfl rfl)
theorem dX11_here_1 : decode cX11_here 1 = .ok (.getfield 28, 3) := dk_180 0 28 (dk_at dksX11_here_0 1 rfl rfl)
theorem dX11_here_4 : decode cX11_here 4 = .ok (.iload_n 1, 1) := dk_27 (dk_at dksX11_here_0 4 rfl rfl)
theorem dX11_here_5 : decode cX11_here 5 = .ok (.iadd, 1) := dk_96 (dk_at dksX11_here_0 5 rfl rfl)
theorem dX11_here_6 : decode cX11_here 6 = .ok (.aload_n 0, 1) := dk_42 (dk_at dksX11_here_0 6 rfl rfl)
theorem dX11_here_7 : decode cX11_here 7 = .ok (.getfield 3, 3) := dk_180 0 3 (dk_at dksX11_here_0 7 rfl rfl)
theorem dX11_here_10 : decode cX11_here 10 = .ok (.getfield 32, 3) := dk_180 0 32 (dk_at dksX11_here_0 10 rfl rfl)
theorem dX11_here_13 : decode cX11_here 13 = .ok (.if_icmp .ge 24, 3) := dk_162 0 24 (dk_at dksX11_here_0 13 rfl rfl)
theorem dX11_here_16 : decode cX11_here 16 = .ok (.aload_n 0, 1) := dk_42 (dk_at dksX11_here_0 16 rfl rfl)
theorem dX11_here_17 : decode cX11_here 17 = .ok (.getfield 3, 3) := dk_180 0 3 (dk_at dksX11_here_0 17 rfl rfl)
theorem dX11_here_20 : decode cX11_here 20 = .ok (.getfield 35, 3) := dk_180 0 35 (dk_at dksX11_here_0 20 rfl rfl)
theorem dX11_here_23 : decode cX11_here 23 = .ok (.aload_n 0, 1) := dk_42 (dk_at dksX11_here_0 23 rfl rfl)
theorem dX11_here_24 : decode cX11_here 24 = .ok (.getfield 28, 3) := dk_180 0 28 (dk_at dksX11_here_1 0 rfl rfl)
theorem dX11_here_27 : decode cX11_here 27 = .ok (.iload_n 1, 1) := dk_27 (dk_at dksX11_here_1 3 rfl rfl)
theorem dX11_here_28 : decode cX11_here 28 = .ok (.iadd, 1) := dk_96 (dk_at dksX11_here_1 4 rfl rfl)
theorem dX11_here_29 : decode cX11_here 29 = .ok (.baload, 1) := dk_51 (dk_at dksX11_here_1 5 rfl rfl)
theorem dX11_here_30 : decode cX11_here 30 = .ok (.sipush 255, 3) := dk_17 0 255 (dk_at dksX11_here_1 6 rfl rfl)
theorem dX11_here_33 : decode cX11_here 33 = .ok (.iand, 1) := dk_126 (dk_at dksX11_here_1 9 rfl rfl)
theorem dX11_here_34 : decode cX11_here 34 = .ok (.goto 4, 3) := dk_167 0 4 (dk_at dksX11_here_1 10 rfl rfl)
theorem dX11_here_37 : decode cX11_here 37 = .ok (.iconst (-1), 1) := dk_2 (dk_at dksX11_here_1 13 rfl rfl)
theorem dX11_here_38 : decode cX11_here 38 = .ok (.ireturn, 1) := dk_172 (dk_at dksX11_here_1 14 rfl rfl)
abbrev cX11_isLetter : ByteArray := prog_23_method_3_code
def yX11_isLetter : MethodName := ⟨RX11, "isLetter", "(I)Z"⟩
def dkwX11_isLetter_1 : List UInt8 := [3, 172]
abbrev dktX11_isLetter_1 : List UInt8 := dkwX11_isLetter_1 ++ []
def dkwX11_isLetter_0 : List UInt8 := [42, 27, 182, 0, 39, 16, 97, 161, 0, 17, 42, 27, 182, 0, 39, 16, 122, 163, 0, 7, 4, 167, 0, 4]
abbrev dktX11_isLetter_0 : List UInt8 := dkwX11_isLetter_0 ++ dktX11_isLetter_1
theorem dksX11_isLetter_0 : cX11_isLetter.data.toList.drop 0 = dktX11_isLetter_0 := by decide +kernel
theorem dksX11_isLetter_1 : cX11_isLetter.data.toList.drop 24 = dktX11_isLetter_1 := dk_seg dksX11_isLetter_0 24 rfl rfl
theorem dX11_isLetter_0 : decode cX11_isLetter 0 = .ok (.aload_n 0, 1) := dk_42 (dk_at dksX11_isLetter_0 0 rfl rfl)
theorem dX11_isLetter_1 : decode cX11_isLetter 1 = .ok (.iload_n 1, 1) := dk_27 (dk_at dksX11_isLetter_0 1 rfl rfl)
theorem dX11_isLetter_2 : decode cX11_isLetter 2 = .ok (.invokevirtual 39, 3) := dk_182 0 39 (dk_at dksX11_isLetter_0 2 rfl rfl)
theorem dX11_isLetter_5 : decode cX11_isLetter 5 = .ok (.bipush 97, 2) := dk_16 97 (dk_at dksX11_isLetter_0 5 rfl rfl)
theorem dX11_isLetter_7 : decode cX11_isLetter 7 = .ok (.if_icmp .lt 17, 3) := dk_161 0 17 (dk_at dksX11_isLetter_0 7 rfl rfl)
theorem dX11_isLetter_10 : decode cX11_isLetter 10 = .ok (.aload_n 0, 1) := dk_42 (dk_at dksX11_isLetter_0 10 rfl rfl)
theorem dX11_isLetter_11 : decode cX11_isLetter 11 = .ok (.iload_n 1, 1) := dk_27 (dk_at dksX11_isLetter_0 11 rfl rfl)
theorem dX11_isLetter_12 : decode cX11_isLetter 12 = .ok (.invokevirtual 39, 3) := dk_182 0 39 (dk_at dksX11_isLetter_0 12 rfl rfl)
theorem dX11_isLetter_15 : decode cX11_isLetter 15 = .ok (.bipush 122, 2) := dk_16 122 (dk_at dksX11_isLetter_0 15 rfl rfl)
theorem dX11_isLetter_17 : decode cX11_isLetter 17 = .ok (.if_icmp .gt 7, 3) := dk_163 0 7 (dk_at dksX11_isLetter_0 17 rfl rfl)
theorem dX11_isLetter_20 : decode cX11_isLetter 20 = .ok (.iconst 1, 1) := dk_4 (dk_at dksX11_isLetter_0 20 rfl rfl)
theorem dX11_isLetter_21 : decode cX11_isLetter 21 = .ok (.goto 4, 3) := dk_167 0 4 (dk_at dksX11_isLetter_0 21 rfl rfl)
theorem dX11_isLetter_24 : decode cX11_isLetter 24 = .ok (.iconst 0, 1) := dk_3 (dk_at dksX11_isLetter_1 0 rfl rfl)
theorem dX11_isLetter_25 : decode cX11_isLetter 25 = .ok (.ireturn, 1) := dk_172 (dk_at dksX11_isLetter_1 1 rfl rfl)
abbrev cX11_isDigit : ByteArray := prog_23_method_4_code
def yX11_isDigit : MethodName := ⟨RX11, "isDigit", "(I)Z"⟩
def dkwX11_isDigit_1 : List UInt8 := [3, 172]
abbrev dktX11_isDigit_1 : List UInt8 := dkwX11_isDigit_1 ++ []
def dkwX11_isDigit_0 : List UInt8 := [42, 27, 182, 0, 39, 16, 48, 161, 0, 17, 42, 27, 182, 0, 39, 16, 57, 163, 0, 7, 4, 167, 0, 4]
abbrev dktX11_isDigit_0 : List UInt8 := dkwX11_isDigit_0 ++ dktX11_isDigit_1
theorem dksX11_isDigit_0 : cX11_isDigit.data.toList.drop 0 = dktX11_isDigit_0 := by decide +kernel
theorem dksX11_isDigit_1 : cX11_isDigit.data.toList.drop 24 = dktX11_isDigit_1 := dk_seg dksX11_isDigit_0 24 rfl rfl
theorem dX11_isDigit_0 : decode cX11_isDigit 0 = .ok (.aload_n 0, 1) := dk_42 (dk_at dksX11_isDigit_0 0 rfl rfl)
theorem dX11_isDigit_1 : decode cX11_isDigit 1 = .ok (.iload_n 1, 1) := dk_27 (dk_at dksX11_isDigit_0 1 rfl rfl)
theorem dX11_isDigit_2 : decode cX11_isDigit 2 = .ok (.invokevirtual 39, 3) := dk_182 0 39 (dk_at dksX11_isDigit_0 2 rfl rfl)
theorem dX11_isDigit_5 : decode cX11_isDigit 5 = .ok (.bipush 48, 2) := dk_16 48 (dk_at dksX11_isDigit_0 5 rfl rfl)
theorem dX11_isDigit_7 : decode cX11_isDigit 7 = .ok (.if_icmp .lt 17, 3) := dk_161 0 17 (dk_at dksX11_isDigit_0 7 rfl rfl)
theorem dX11_isDigit_10 : decode cX11_isDigit 10 = .ok (.aload_n 0, 1) := dk_42 (dk_at dksX11_isDigit_0 10 rfl rfl)
theorem dX11_isDigit_11 : decode cX11_isDigit 11 = .ok (.iload_n 1, 1) := dk_27 (dk_at dksX11_isDigit_0 11 rfl rfl)
theorem dX11_isDigit_12 : decode cX11_isDigit 12 = .ok (.invokevirtual 39, 3) := dk_182 0 39 (dk_at dksX11_isDigit_0 12 rfl rfl)
theorem dX11_isDigit_15 : decode cX11_isDigit 15 = .ok (.bipush 57, 2) := dk_16 57 (dk_at dksX11_isDigit_0 15 rfl rfl)
theorem dX11_isDigit_17 : decode cX11_isDigit 17 = .ok (.if_icmp .gt 7, 3) := dk_163 0 7 (dk_at dksX11_isDigit_0 17 rfl rfl)
theorem dX11_isDigit_20 : decode cX11_isDigit 20 = .ok (.iconst 1, 1) := dk_4 (dk_at dksX11_isDigit_0 20 rfl rfl)
theorem dX11_isDigit_21 : decode cX11_isDigit 21 = .ok (.goto 4, 3) := dk_167 0 4 (dk_at dksX11_isDigit_0 21 rfl rfl)
theorem dX11_isDigit_24 : decode cX11_isDigit 24 = .ok (.iconst 0, 1) := dk_3 (dk_at dksX11_isDigit_1 0 rfl rfl)
theorem dX11_isDigit_25 : decode cX11_isDigit 25 = .ok (.ireturn, 1) := dk_172 (dk_at dksX11_isDigit_1 1 rfl rfl)
abbrev cX11_isSign : ByteArray := prog_23_method_5_code
def yX11_isSign : MethodName := ⟨RX11, "isSign", "(I)Z"⟩
def dkwX11_isSign_2 : List UInt8 := [26, 16, 42, 160, 0, 7, 4, 167, 0, 4, 3, 172]
abbrev dktX11_isSign_2 : List UInt8 := dkwX11_isSign_2 ++ []
def dkwX11_isSign_1 : List UInt8 := [26, 16, 62, 159, 0, 27, 26, 16, 61, 159, 0, 21, 26, 16, 43, 159, 0, 15, 26, 16, 45, 159, 0, 9]
abbrev dktX11_isSign_1 : List UInt8 := dkwX11_isSign_1 ++ dktX11_isSign_2
def dkwX11_isSign_0 : List UInt8 := [26, 16, 59, 159, 0, 51, 26, 16, 40, 159, 0, 45, 26, 16, 41, 159, 0, 39, 26, 16, 60, 159, 0, 33]
abbrev dktX11_isSign_0 : List UInt8 := dkwX11_isSign_0 ++ dktX11_isSign_1
theorem dksX11_isSign_0 : cX11_isSign.data.toList.drop 0 = dktX11_isSign_0 := by decide +kernel
theorem dksX11_isSign_1 : cX11_isSign.data.toList.drop 24 = dktX11_isSign_1 := dk_seg dksX11_isSign_0 24 rfl rfl
theorem dksX11_isSign_2 : cX11_isSign.data.toList.drop 48 = dktX11_isSign_2 := dk_seg dksX11_isSign_1 24 rfl rfl
theorem dX11_isSign_0 : decode cX11_isSign 0 = .ok (.iload_n 0, 1) := dk_26 (dk_at dksX11_isSign_0 0 rfl rfl)
theorem dX11_isSign_1 : decode cX11_isSign 1 = .ok (.bipush 59, 2) := dk_16 59 (dk_at dksX11_isSign_0 1 rfl rfl)
theorem dX11_isSign_3 : decode cX11_isSign 3 = .ok (.if_icmp .eq 51, 3) := dk_159 0 51 (dk_at dksX11_isSign_0 3 rfl rfl)
theorem dX11_isSign_6 : decode cX11_isSign 6 = .ok (.iload_n 0, 1) := dk_26 (dk_at dksX11_isSign_0 6 rfl rfl)
theorem dX11_isSign_7 : decode cX11_isSign 7 = .ok (.bipush 40, 2) := dk_16 40 (dk_at dksX11_isSign_0 7 rfl rfl)
theorem dX11_isSign_9 : decode cX11_isSign 9 = .ok (.if_icmp .eq 45, 3) := dk_159 0 45 (dk_at dksX11_isSign_0 9 rfl rfl)
theorem dX11_isSign_12 : decode cX11_isSign 12 = .ok (.iload_n 0, 1) := dk_26 (dk_at dksX11_isSign_0 12 rfl rfl)
theorem dX11_isSign_13 : decode cX11_isSign 13 = .ok (.bipush 41, 2) := dk_16 41 (dk_at dksX11_isSign_0 13 rfl rfl)
theorem dX11_isSign_15 : decode cX11_isSign 15 = .ok (.if_icmp .eq 39, 3) := dk_159 0 39 (dk_at dksX11_isSign_0 15 rfl rfl)
theorem dX11_isSign_18 : decode cX11_isSign 18 = .ok (.iload_n 0, 1) := dk_26 (dk_at dksX11_isSign_0 18 rfl rfl)
theorem dX11_isSign_19 : decode cX11_isSign 19 = .ok (.bipush 60, 2) := dk_16 60 (dk_at dksX11_isSign_0 19 rfl rfl)
theorem dX11_isSign_21 : decode cX11_isSign 21 = .ok (.if_icmp .eq 33, 3) := dk_159 0 33 (dk_at dksX11_isSign_0 21 rfl rfl)
theorem dX11_isSign_24 : decode cX11_isSign 24 = .ok (.iload_n 0, 1) := dk_26 (dk_at dksX11_isSign_1 0 rfl rfl)
theorem dX11_isSign_25 : decode cX11_isSign 25 = .ok (.bipush 62, 2) := dk_16 62 (dk_at dksX11_isSign_1 1 rfl rfl)
theorem dX11_isSign_27 : decode cX11_isSign 27 = .ok (.if_icmp .eq 27, 3) := dk_159 0 27 (dk_at dksX11_isSign_1 3 rfl rfl)
theorem dX11_isSign_30 : decode cX11_isSign 30 = .ok (.iload_n 0, 1) := dk_26 (dk_at dksX11_isSign_1 6 rfl rfl)
theorem dX11_isSign_31 : decode cX11_isSign 31 = .ok (.bipush 61, 2) := dk_16 61 (dk_at dksX11_isSign_1 7 rfl rfl)
theorem dX11_isSign_33 : decode cX11_isSign 33 = .ok (.if_icmp .eq 21, 3) := dk_159 0 21 (dk_at dksX11_isSign_1 9 rfl rfl)
theorem dX11_isSign_36 : decode cX11_isSign 36 = .ok (.iload_n 0, 1) := dk_26 (dk_at dksX11_isSign_1 12 rfl rfl)
theorem dX11_isSign_37 : decode cX11_isSign 37 = .ok (.bipush 43, 2) := dk_16 43 (dk_at dksX11_isSign_1 13 rfl rfl)
theorem dX11_isSign_39 : decode cX11_isSign 39 = .ok (.if_icmp .eq 15, 3) := dk_159 0 15 (dk_at dksX11_isSign_1 15 rfl rfl)
theorem dX11_isSign_42 : decode cX11_isSign 42 = .ok (.iload_n 0, 1) := dk_26 (dk_at dksX11_isSign_1 18 rfl rfl)
theorem dX11_isSign_43 : decode cX11_isSign 43 = .ok (.bipush 45, 2) := dk_16 45 (dk_at dksX11_isSign_1 19 rfl rfl)
theorem dX11_isSign_45 : decode cX11_isSign 45 = .ok (.if_icmp .eq 9, 3) := dk_159 0 9 (dk_at dksX11_isSign_1 21 rfl rfl)
theorem dX11_isSign_48 : decode cX11_isSign 48 = .ok (.iload_n 0, 1) := dk_26 (dk_at dksX11_isSign_2 0 rfl rfl)
theorem dX11_isSign_49 : decode cX11_isSign 49 = .ok (.bipush 42, 2) := dk_16 42 (dk_at dksX11_isSign_2 1 rfl rfl)
theorem dX11_isSign_51 : decode cX11_isSign 51 = .ok (.if_icmp .ne 7, 3) := dk_160 0 7 (dk_at dksX11_isSign_2 3 rfl rfl)
theorem dX11_isSign_54 : decode cX11_isSign 54 = .ok (.iconst 1, 1) := dk_4 (dk_at dksX11_isSign_2 6 rfl rfl)
theorem dX11_isSign_55 : decode cX11_isSign 55 = .ok (.goto 4, 3) := dk_167 0 4 (dk_at dksX11_isSign_2 7 rfl rfl)
theorem dX11_isSign_58 : decode cX11_isSign 58 = .ok (.iconst 0, 1) := dk_3 (dk_at dksX11_isSign_2 10 rfl rfl)
theorem dX11_isSign_59 : decode cX11_isSign 59 = .ok (.ireturn, 1) := dk_172 (dk_at dksX11_isSign_2 11 rfl rfl)
abbrev cX11_line : ByteArray := prog_23_method_13_code
def yX11_line : MethodName := ⟨RX11, "line", "()V"⟩
def dkwX11_line_5 : List UInt8 := [167, 0, 7, 42, 182, 0, 207, 177]
abbrev dktX11_line_5 : List UInt8 := dkwX11_line_5 ++ []
def dkwX11_line_4 : List UInt8 := [42, 182, 0, 201, 181, 0, 193, 167, 0, 23, 42, 18, 105, 182, 0, 86, 153, 0, 10, 42, 182, 0, 205]
abbrev dktX11_line_4 : List UInt8 := dkwX11_line_4 ++ dktX11_line_5
def dkwX11_line_3 : List UInt8 := [182, 0, 86, 153, 0, 31, 42, 180, 0, 24, 180, 0, 193, 199, 0, 21, 42, 182, 0, 94, 42, 180, 0, 24]
abbrev dktX11_line_3 : List UInt8 := dkwX11_line_3 ++ dktX11_line_4
def dkwX11_line_2 : List UInt8 := [4, 181, 0, 186, 42, 180, 0, 24, 42, 4, 6, 182, 0, 196, 181, 0, 199, 167, 0, 60, 42, 18, 103]
abbrev dktX11_line_2 : List UInt8 := dkwX11_line_2 ++ dktX11_line_3
def dkwX11_line_1 : List UInt8 := [180, 0, 190, 154, 0, 41, 42, 180, 0, 24, 180, 0, 193, 199, 0, 31, 42, 182, 0, 94, 42, 180, 0, 24]
abbrev dktX11_line_1 : List UInt8 := dkwX11_line_1 ++ dktX11_line_2
def dkwX11_line_0 : List UInt8 := [42, 18, 101, 182, 0, 86, 153, 0, 61, 42, 180, 0, 24, 180, 0, 186, 154, 0, 51, 42, 180, 0, 24]
abbrev dktX11_line_0 : List UInt8 := dkwX11_line_0 ++ dktX11_line_1
theorem dksX11_line_0 : cX11_line.data.toList.drop 0 = dktX11_line_0 := by decide +kernel
theorem dksX11_line_1 : cX11_line.data.toList.drop 23 = dktX11_line_1 := dk_seg dksX11_line_0 23 rfl rfl
theorem dksX11_line_2 : cX11_line.data.toList.drop 47 = dktX11_line_2 := dk_seg dksX11_line_1 24 rfl rfl
theorem dksX11_line_3 : cX11_line.data.toList.drop 70 = dktX11_line_3 := dk_seg dksX11_line_2 23 rfl rfl
theorem dksX11_line_4 : cX11_line.data.toList.drop 94 = dktX11_line_4 := dk_seg dksX11_line_3 24 rfl rfl
theorem dksX11_line_5 : cX11_line.data.toList.drop 117 = dktX11_line_5 := dk_seg dksX11_line_4 23 rfl rfl
theorem dX11_line_0 : decode cX11_line 0 = .ok (.aload_n 0, 1) := dk_42 (dk_at dksX11_line_0 0 rfl rfl)
theorem dX11_line_1 : decode cX11_line 1 = .ok (.ldc 101, 2) := dk_18 101 (dk_at dksX11_line_0 1 rfl rfl)
theorem dX11_line_3 : decode cX11_line 3 = .ok (.invokevirtual 86, 3) := dk_182 0 86 (dk_at dksX11_line_0 3 rfl rfl)
theorem dX11_line_6 : decode cX11_line 6 = .ok (.ifCond .eq 61, 3) := dk_153 0 61 (dk_at dksX11_line_0 6 rfl rfl)
theorem dX11_line_9 : decode cX11_line 9 = .ok (.aload_n 0, 1) := dk_42 (dk_at dksX11_line_0 9 rfl rfl)
theorem dX11_line_10 : decode cX11_line 10 = .ok (.getfield 24, 3) := dk_180 0 24 (dk_at dksX11_line_0 10 rfl rfl)
theorem dX11_line_13 : decode cX11_line 13 = .ok (.getfield 186, 3) := dk_180 0 186 (dk_at dksX11_line_0 13 rfl rfl)
theorem dX11_line_16 : decode cX11_line 16 = .ok (.ifCond .ne 51, 3) := dk_154 0 51 (dk_at dksX11_line_0 16 rfl rfl)
theorem dX11_line_19 : decode cX11_line 19 = .ok (.aload_n 0, 1) := dk_42 (dk_at dksX11_line_0 19 rfl rfl)
theorem dX11_line_20 : decode cX11_line 20 = .ok (.getfield 24, 3) := dk_180 0 24 (dk_at dksX11_line_0 20 rfl rfl)
theorem dX11_line_23 : decode cX11_line 23 = .ok (.getfield 190, 3) := dk_180 0 190 (dk_at dksX11_line_1 0 rfl rfl)
theorem dX11_line_26 : decode cX11_line 26 = .ok (.ifCond .ne 41, 3) := dk_154 0 41 (dk_at dksX11_line_1 3 rfl rfl)
theorem dX11_line_29 : decode cX11_line 29 = .ok (.aload_n 0, 1) := dk_42 (dk_at dksX11_line_1 6 rfl rfl)
theorem dX11_line_30 : decode cX11_line 30 = .ok (.getfield 24, 3) := dk_180 0 24 (dk_at dksX11_line_1 7 rfl rfl)
theorem dX11_line_33 : decode cX11_line 33 = .ok (.getfield 193, 3) := dk_180 0 193 (dk_at dksX11_line_1 10 rfl rfl)
theorem dX11_line_36 : decode cX11_line 36 = .ok (.ifnonnull 31, 3) := dk_199 0 31 (dk_at dksX11_line_1 13 rfl rfl)
theorem dX11_line_39 : decode cX11_line 39 = .ok (.aload_n 0, 1) := dk_42 (dk_at dksX11_line_1 16 rfl rfl)
theorem dX11_line_40 : decode cX11_line 40 = .ok (.invokevirtual 94, 3) := dk_182 0 94 (dk_at dksX11_line_1 17 rfl rfl)
theorem dX11_line_43 : decode cX11_line 43 = .ok (.aload_n 0, 1) := dk_42 (dk_at dksX11_line_1 20 rfl rfl)
theorem dX11_line_44 : decode cX11_line 44 = .ok (.getfield 24, 3) := dk_180 0 24 (dk_at dksX11_line_1 21 rfl rfl)
theorem dX11_line_47 : decode cX11_line 47 = .ok (.iconst 1, 1) := dk_4 (dk_at dksX11_line_2 0 rfl rfl)
theorem dX11_line_48 : decode cX11_line 48 = .ok (.putfield 186, 3) := dk_181 0 186 (dk_at dksX11_line_2 1 rfl rfl)
theorem dX11_line_51 : decode cX11_line 51 = .ok (.aload_n 0, 1) := dk_42 (dk_at dksX11_line_2 4 rfl rfl)
theorem dX11_line_52 : decode cX11_line 52 = .ok (.getfield 24, 3) := dk_180 0 24 (dk_at dksX11_line_2 5 rfl rfl)
theorem dX11_line_55 : decode cX11_line 55 = .ok (.aload_n 0, 1) := dk_42 (dk_at dksX11_line_2 8 rfl rfl)
theorem dX11_line_56 : decode cX11_line 56 = .ok (.iconst 1, 1) := dk_4 (dk_at dksX11_line_2 9 rfl rfl)
theorem dX11_line_57 : decode cX11_line 57 = .ok (.iconst 3, 1) := dk_6 (dk_at dksX11_line_2 10 rfl rfl)
theorem dX11_line_58 : decode cX11_line 58 = .ok (.invokevirtual 196, 3) := dk_182 0 196 (dk_at dksX11_line_2 11 rfl rfl)
theorem dX11_line_61 : decode cX11_line 61 = .ok (.putfield 199, 3) := dk_181 0 199 (dk_at dksX11_line_2 14 rfl rfl)
theorem dX11_line_64 : decode cX11_line 64 = .ok (.goto 60, 3) := dk_167 0 60 (dk_at dksX11_line_2 17 rfl rfl)
theorem dX11_line_67 : decode cX11_line 67 = .ok (.aload_n 0, 1) := dk_42 (dk_at dksX11_line_2 20 rfl rfl)
theorem dX11_line_68 : decode cX11_line 68 = .ok (.ldc 103, 2) := dk_18 103 (dk_at dksX11_line_2 21 rfl rfl)
theorem dX11_line_70 : decode cX11_line 70 = .ok (.invokevirtual 86, 3) := dk_182 0 86 (dk_at dksX11_line_3 0 rfl rfl)
theorem dX11_line_73 : decode cX11_line 73 = .ok (.ifCond .eq 31, 3) := dk_153 0 31 (dk_at dksX11_line_3 3 rfl rfl)
theorem dX11_line_76 : decode cX11_line 76 = .ok (.aload_n 0, 1) := dk_42 (dk_at dksX11_line_3 6 rfl rfl)
theorem dX11_line_77 : decode cX11_line 77 = .ok (.getfield 24, 3) := dk_180 0 24 (dk_at dksX11_line_3 7 rfl rfl)
theorem dX11_line_80 : decode cX11_line 80 = .ok (.getfield 193, 3) := dk_180 0 193 (dk_at dksX11_line_3 10 rfl rfl)
theorem dX11_line_83 : decode cX11_line 83 = .ok (.ifnonnull 21, 3) := dk_199 0 21 (dk_at dksX11_line_3 13 rfl rfl)
theorem dX11_line_86 : decode cX11_line 86 = .ok (.aload_n 0, 1) := dk_42 (dk_at dksX11_line_3 16 rfl rfl)
theorem dX11_line_87 : decode cX11_line 87 = .ok (.invokevirtual 94, 3) := dk_182 0 94 (dk_at dksX11_line_3 17 rfl rfl)
theorem dX11_line_90 : decode cX11_line 90 = .ok (.aload_n 0, 1) := dk_42 (dk_at dksX11_line_3 20 rfl rfl)
theorem dX11_line_91 : decode cX11_line 91 = .ok (.getfield 24, 3) := dk_180 0 24 (dk_at dksX11_line_3 21 rfl rfl)
theorem dX11_line_94 : decode cX11_line 94 = .ok (.aload_n 0, 1) := dk_42 (dk_at dksX11_line_4 0 rfl rfl)
theorem dX11_line_95 : decode cX11_line 95 = .ok (.invokevirtual 201, 3) := dk_182 0 201 (dk_at dksX11_line_4 1 rfl rfl)
theorem dX11_line_98 : decode cX11_line 98 = .ok (.putfield 193, 3) := dk_181 0 193 (dk_at dksX11_line_4 4 rfl rfl)
theorem dX11_line_101 : decode cX11_line 101 = .ok (.goto 23, 3) := dk_167 0 23 (dk_at dksX11_line_4 7 rfl rfl)
theorem dX11_line_104 : decode cX11_line 104 = .ok (.aload_n 0, 1) := dk_42 (dk_at dksX11_line_4 10 rfl rfl)
theorem dX11_line_105 : decode cX11_line 105 = .ok (.ldc 105, 2) := dk_18 105 (dk_at dksX11_line_4 11 rfl rfl)
theorem dX11_line_107 : decode cX11_line 107 = .ok (.invokevirtual 86, 3) := dk_182 0 86 (dk_at dksX11_line_4 13 rfl rfl)
theorem dX11_line_110 : decode cX11_line 110 = .ok (.ifCond .eq 10, 3) := dk_153 0 10 (dk_at dksX11_line_4 16 rfl rfl)
theorem dX11_line_113 : decode cX11_line 113 = .ok (.aload_n 0, 1) := dk_42 (dk_at dksX11_line_4 19 rfl rfl)
theorem dX11_line_114 : decode cX11_line 114 = .ok (.invokevirtual 205, 3) := dk_182 0 205 (dk_at dksX11_line_4 20 rfl rfl)
theorem dX11_line_117 : decode cX11_line 117 = .ok (.goto 7, 3) := dk_167 0 7 (dk_at dksX11_line_5 0 rfl rfl)
theorem dX11_line_120 : decode cX11_line 120 = .ok (.aload_n 0, 1) := dk_42 (dk_at dksX11_line_5 3 rfl rfl)
theorem dX11_line_121 : decode cX11_line 121 = .ok (.invokevirtual 207, 3) := dk_182 0 207 (dk_at dksX11_line_5 4 rfl rfl)
theorem dX11_line_124 : decode cX11_line 124 = .ok (.return_, 1) := dk_177 (dk_at dksX11_line_5 7 rfl rfl)
abbrev cX11_is : ByteArray := prog_23_method_8_code
def yX11_is : MethodName := ⟨RX11, "is", "(Ljava/lang/String;)Z"⟩
def dkwX11_is_1 : List UInt8 := [172]
abbrev dktX11_is_1 : List UInt8 := dkwX11_is_1 ++ []
def dkwX11_is_0 : List UInt8 := [42, 180, 0, 46, 4, 160, 0, 18, 42, 180, 0, 17, 43, 182, 0, 80, 153, 0, 7, 4, 167, 0, 4, 3]
abbrev dktX11_is_0 : List UInt8 := dkwX11_is_0 ++ dktX11_is_1
theorem dksX11_is_0 : cX11_is.data.toList.drop 0 = dktX11_is_0 := by decide +kernel
theorem dksX11_is_1 : cX11_is.data.toList.drop 24 = dktX11_is_1 := dk_seg dksX11_is_0 24 rfl rfl
theorem dX11_is_0 : decode cX11_is 0 = .ok (.aload_n 0, 1) := dk_42 (dk_at dksX11_is_0 0 rfl rfl)
theorem dX11_is_1 : decode cX11_is 1 = .ok (.getfield 46, 3) := dk_180 0 46 (dk_at dksX11_is_0 1 rfl rfl)
theorem dX11_is_4 : decode cX11_is 4 = .ok (.iconst 1, 1) := dk_4 (dk_at dksX11_is_0 4 rfl rfl)
theorem dX11_is_5 : decode cX11_is 5 = .ok (.if_icmp .ne 18, 3) := dk_160 0 18 (dk_at dksX11_is_0 5 rfl rfl)
theorem dX11_is_8 : decode cX11_is 8 = .ok (.aload_n 0, 1) := dk_42 (dk_at dksX11_is_0 8 rfl rfl)
theorem dX11_is_9 : decode cX11_is 9 = .ok (.getfield 17, 3) := dk_180 0 17 (dk_at dksX11_is_0 9 rfl rfl)
theorem dX11_is_12 : decode cX11_is 12 = .ok (.aload_n 1, 1) := dk_43 (dk_at dksX11_is_0 12 rfl rfl)
theorem dX11_is_13 : decode cX11_is 13 = .ok (.invokevirtual 80, 3) := dk_182 0 80 (dk_at dksX11_is_0 13 rfl rfl)
theorem dX11_is_16 : decode cX11_is 16 = .ok (.ifCond .eq 7, 3) := dk_153 0 7 (dk_at dksX11_is_0 16 rfl rfl)
theorem dX11_is_19 : decode cX11_is 19 = .ok (.iconst 1, 1) := dk_4 (dk_at dksX11_is_0 19 rfl rfl)
theorem dX11_is_20 : decode cX11_is 20 = .ok (.goto 4, 3) := dk_167 0 4 (dk_at dksX11_is_0 20 rfl rfl)
theorem dX11_is_23 : decode cX11_is 23 = .ok (.iconst 0, 1) := dk_3 (dk_at dksX11_is_0 23 rfl rfl)
theorem dX11_is_24 : decode cX11_is 24 = .ok (.ireturn, 1) := dk_172 (dk_at dksX11_is_1 0 rfl rfl)
abbrev cX11_number : ByteArray := prog_23_method_10_code
def yX11_number : MethodName := ⟨RX11, "number", "(II)I"⟩
def dkwX11_number_2 : List UInt8 := [62, 42, 182, 0, 94, 29, 172]
abbrev dktX11_number_2 : List UInt8 := dkwX11_number_2 ++ []
def dkwX11_number_1 : List UInt8 := [180, 0, 69, 28, 164, 0, 16, 187, 0, 75, 89, 7, 42, 180, 0, 43, 183, 0, 77, 191, 42, 180, 0, 69]
abbrev dktX11_number_1 : List UInt8 := dkwX11_number_1 ++ dktX11_number_2
def dkwX11_number_0 : List UInt8 := [42, 180, 0, 46, 5, 159, 0, 8, 42, 182, 0, 90, 191, 42, 180, 0, 69, 27, 161, 0, 11, 42]
abbrev dktX11_number_0 : List UInt8 := dkwX11_number_0 ++ dktX11_number_1
theorem dksX11_number_0 : cX11_number.data.toList.drop 0 = dktX11_number_0 := by decide +kernel
theorem dksX11_number_1 : cX11_number.data.toList.drop 22 = dktX11_number_1 := dk_seg dksX11_number_0 22 rfl rfl
theorem dksX11_number_2 : cX11_number.data.toList.drop 46 = dktX11_number_2 := dk_seg dksX11_number_1 24 rfl rfl
theorem dX11_number_0 : decode cX11_number 0 = .ok (.aload_n 0, 1) := dk_42 (dk_at dksX11_number_0 0 rfl rfl)
theorem dX11_number_1 : decode cX11_number 1 = .ok (.getfield 46, 3) := dk_180 0 46 (dk_at dksX11_number_0 1 rfl rfl)
theorem dX11_number_4 : decode cX11_number 4 = .ok (.iconst 2, 1) := dk_5 (dk_at dksX11_number_0 4 rfl rfl)
theorem dX11_number_5 : decode cX11_number 5 = .ok (.if_icmp .eq 8, 3) := dk_159 0 8 (dk_at dksX11_number_0 5 rfl rfl)
theorem dX11_number_8 : decode cX11_number 8 = .ok (.aload_n 0, 1) := dk_42 (dk_at dksX11_number_0 8 rfl rfl)
theorem dX11_number_9 : decode cX11_number 9 = .ok (.invokevirtual 90, 3) := dk_182 0 90 (dk_at dksX11_number_0 9 rfl rfl)
theorem dX11_number_12 : decode cX11_number 12 = .ok (.athrow, 1) := dk_191 (dk_at dksX11_number_0 12 rfl rfl)
theorem dX11_number_13 : decode cX11_number 13 = .ok (.aload_n 0, 1) := dk_42 (dk_at dksX11_number_0 13 rfl rfl)
theorem dX11_number_14 : decode cX11_number 14 = .ok (.getfield 69, 3) := dk_180 0 69 (dk_at dksX11_number_0 14 rfl rfl)
theorem dX11_number_17 : decode cX11_number 17 = .ok (.iload_n 1, 1) := dk_27 (dk_at dksX11_number_0 17 rfl rfl)
theorem dX11_number_18 : decode cX11_number 18 = .ok (.if_icmp .lt 11, 3) := dk_161 0 11 (dk_at dksX11_number_0 18 rfl rfl)
theorem dX11_number_21 : decode cX11_number 21 = .ok (.aload_n 0, 1) := dk_42 (dk_at dksX11_number_0 21 rfl rfl)
theorem dX11_number_22 : decode cX11_number 22 = .ok (.getfield 69, 3) := dk_180 0 69 (dk_at dksX11_number_1 0 rfl rfl)
theorem dX11_number_25 : decode cX11_number 25 = .ok (.iload_n 2, 1) := dk_28 (dk_at dksX11_number_1 3 rfl rfl)
theorem dX11_number_26 : decode cX11_number 26 = .ok (.if_icmp .le 16, 3) := dk_164 0 16 (dk_at dksX11_number_1 4 rfl rfl)
theorem dX11_number_29 : decode cX11_number 29 = .ok (.new 75, 3) := dk_187 0 75 (dk_at dksX11_number_1 7 rfl rfl)
theorem dX11_number_32 : decode cX11_number 32 = .ok (.dup, 1) := dk_89 (dk_at dksX11_number_1 10 rfl rfl)
theorem dX11_number_33 : decode cX11_number 33 = .ok (.iconst 4, 1) := dk_7 (dk_at dksX11_number_1 11 rfl rfl)
theorem dX11_number_34 : decode cX11_number 34 = .ok (.aload_n 0, 1) := dk_42 (dk_at dksX11_number_1 12 rfl rfl)
theorem dX11_number_35 : decode cX11_number 35 = .ok (.getfield 43, 3) := dk_180 0 43 (dk_at dksX11_number_1 13 rfl rfl)
theorem dX11_number_38 : decode cX11_number 38 = .ok (.invokespecial 77, 3) := dk_183 0 77 (dk_at dksX11_number_1 16 rfl rfl)
theorem dX11_number_41 : decode cX11_number 41 = .ok (.athrow, 1) := dk_191 (dk_at dksX11_number_1 19 rfl rfl)
theorem dX11_number_42 : decode cX11_number 42 = .ok (.aload_n 0, 1) := dk_42 (dk_at dksX11_number_1 20 rfl rfl)
theorem dX11_number_43 : decode cX11_number 43 = .ok (.getfield 69, 3) := dk_180 0 69 (dk_at dksX11_number_1 21 rfl rfl)
theorem dX11_number_46 : decode cX11_number 46 = .ok (.istore_n 3, 1) := dk_62 (dk_at dksX11_number_2 0 rfl rfl)
theorem dX11_number_47 : decode cX11_number 47 = .ok (.aload_n 0, 1) := dk_42 (dk_at dksX11_number_2 1 rfl rfl)
theorem dX11_number_48 : decode cX11_number 48 = .ok (.invokevirtual 94, 3) := dk_182 0 94 (dk_at dksX11_number_2 2 rfl rfl)
theorem dX11_number_51 : decode cX11_number 51 = .ok (.iload_n 3, 1) := dk_29 (dk_at dksX11_number_2 5 rfl rfl)
theorem dX11_number_52 : decode cX11_number 52 = .ok (.ireturn, 1) := dk_172 (dk_at dksX11_number_2 6 rfl rfl)
abbrev cX11_wrong : ByteArray := prog_23_method_7_code
def yX11_wrong : MethodName := ⟨RX11, "wrong", "()LBlindCards$Wrong;"⟩
def dkwX11_wrong_1 : List UInt8 := [176]
abbrev dktX11_wrong_1 : List UInt8 := dkwX11_wrong_1 ++ []
def dkwX11_wrong_0 : List UInt8 := [187, 0, 75, 89, 42, 180, 0, 46, 6, 160, 0, 7, 4, 167, 0, 4, 5, 42, 180, 0, 43, 183, 0, 77]
abbrev dktX11_wrong_0 : List UInt8 := dkwX11_wrong_0 ++ dktX11_wrong_1
theorem dksX11_wrong_0 : cX11_wrong.data.toList.drop 0 = dktX11_wrong_0 := by decide +kernel
theorem dksX11_wrong_1 : cX11_wrong.data.toList.drop 24 = dktX11_wrong_1 := dk_seg dksX11_wrong_0 24 rfl rfl
theorem dX11_wrong_0 : decode cX11_wrong 0 = .ok (.new 75, 3) := dk_187 0 75 (dk_at dksX11_wrong_0 0 rfl rfl)
theorem dX11_wrong_3 : decode cX11_wrong 3 = .ok (.dup, 1) := dk_89 (dk_at dksX11_wrong_0 3 rfl rfl)
theorem dX11_wrong_4 : decode cX11_wrong 4 = .ok (.aload_n 0, 1) := dk_42 (dk_at dksX11_wrong_0 4 rfl rfl)
theorem dX11_wrong_5 : decode cX11_wrong 5 = .ok (.getfield 46, 3) := dk_180 0 46 (dk_at dksX11_wrong_0 5 rfl rfl)
theorem dX11_wrong_8 : decode cX11_wrong 8 = .ok (.iconst 3, 1) := dk_6 (dk_at dksX11_wrong_0 8 rfl rfl)
theorem dX11_wrong_9 : decode cX11_wrong 9 = .ok (.if_icmp .ne 7, 3) := dk_160 0 7 (dk_at dksX11_wrong_0 9 rfl rfl)
theorem dX11_wrong_12 : decode cX11_wrong 12 = .ok (.iconst 1, 1) := dk_4 (dk_at dksX11_wrong_0 12 rfl rfl)
theorem dX11_wrong_13 : decode cX11_wrong 13 = .ok (.goto 4, 3) := dk_167 0 4 (dk_at dksX11_wrong_0 13 rfl rfl)
theorem dX11_wrong_16 : decode cX11_wrong 16 = .ok (.iconst 2, 1) := dk_5 (dk_at dksX11_wrong_0 16 rfl rfl)
theorem dX11_wrong_17 : decode cX11_wrong 17 = .ok (.aload_n 0, 1) := dk_42 (dk_at dksX11_wrong_0 17 rfl rfl)
theorem dX11_wrong_18 : decode cX11_wrong 18 = .ok (.getfield 43, 3) := dk_180 0 43 (dk_at dksX11_wrong_0 18 rfl rfl)
theorem dX11_wrong_21 : decode cX11_wrong 21 = .ok (.invokespecial 77, 3) := dk_183 0 77 (dk_at dksX11_wrong_0 21 rfl rfl)
theorem dX11_wrong_24 : decode cX11_wrong 24 = .ok (.areturn, 1) := dk_176 (dk_at dksX11_wrong_1 0 rfl rfl)
abbrev cX11_both : ByteArray := prog_23_method_31_code
def yX11_both : MethodName := ⟨RX11, "both", "()LBlindCards$Node;"⟩
def dkwX11_both_1 : List UInt8 := [182, 1, 68, 16, 124, 183, 1, 72, 76, 167, 255, 228, 43, 176]
abbrev dktX11_both_1 : List UInt8 := dkwX11_both_1 ++ []
def dkwX11_both_0 : List UInt8 := [42, 182, 1, 68, 76, 42, 18, 152, 182, 0, 86, 153, 0, 25, 42, 182, 0, 94, 187, 1, 70, 89, 43, 42]
abbrev dktX11_both_0 : List UInt8 := dkwX11_both_0 ++ dktX11_both_1
theorem dksX11_both_0 : cX11_both.data.toList.drop 0 = dktX11_both_0 := by decide +kernel
theorem dksX11_both_1 : cX11_both.data.toList.drop 24 = dktX11_both_1 := dk_seg dksX11_both_0 24 rfl rfl
theorem dX11_both_0 : decode cX11_both 0 = .ok (.aload_n 0, 1) := dk_42 (dk_at dksX11_both_0 0 rfl rfl)
theorem dX11_both_1 : decode cX11_both 1 = .ok (.invokevirtual 324, 3) := dk_182 1 68 (dk_at dksX11_both_0 1 rfl rfl)
theorem dX11_both_4 : decode cX11_both 4 = .ok (.astore_n 1, 1) := dk_76 (dk_at dksX11_both_0 4 rfl rfl)
theorem dX11_both_5 : decode cX11_both 5 = .ok (.aload_n 0, 1) := dk_42 (dk_at dksX11_both_0 5 rfl rfl)
theorem dX11_both_6 : decode cX11_both 6 = .ok (.ldc 152, 2) := dk_18 152 (dk_at dksX11_both_0 6 rfl rfl)
theorem dX11_both_8 : decode cX11_both 8 = .ok (.invokevirtual 86, 3) := dk_182 0 86 (dk_at dksX11_both_0 8 rfl rfl)
theorem dX11_both_11 : decode cX11_both 11 = .ok (.ifCond .eq 25, 3) := dk_153 0 25 (dk_at dksX11_both_0 11 rfl rfl)
theorem dX11_both_14 : decode cX11_both 14 = .ok (.aload_n 0, 1) := dk_42 (dk_at dksX11_both_0 14 rfl rfl)
theorem dX11_both_15 : decode cX11_both 15 = .ok (.invokevirtual 94, 3) := dk_182 0 94 (dk_at dksX11_both_0 15 rfl rfl)
theorem dX11_both_18 : decode cX11_both 18 = .ok (.new 326, 3) := dk_187 1 70 (dk_at dksX11_both_0 18 rfl rfl)
theorem dX11_both_21 : decode cX11_both 21 = .ok (.dup, 1) := dk_89 (dk_at dksX11_both_0 21 rfl rfl)
theorem dX11_both_22 : decode cX11_both 22 = .ok (.aload_n 1, 1) := dk_43 (dk_at dksX11_both_0 22 rfl rfl)
theorem dX11_both_23 : decode cX11_both 23 = .ok (.aload_n 0, 1) := dk_42 (dk_at dksX11_both_0 23 rfl rfl)
theorem dX11_both_24 : decode cX11_both 24 = .ok (.invokevirtual 324, 3) := dk_182 1 68 (dk_at dksX11_both_1 0 rfl rfl)
theorem dX11_both_27 : decode cX11_both 27 = .ok (.bipush 124, 2) := dk_16 124 (dk_at dksX11_both_1 3 rfl rfl)
theorem dX11_both_29 : decode cX11_both 29 = .ok (.invokespecial 328, 3) := dk_183 1 72 (dk_at dksX11_both_1 5 rfl rfl)
theorem dX11_both_32 : decode cX11_both 32 = .ok (.astore_n 1, 1) := dk_76 (dk_at dksX11_both_1 8 rfl rfl)
theorem dX11_both_33 : decode cX11_both 33 = .ok (.goto (-28), 3) := dk_167 255 228 (dk_at dksX11_both_1 9 rfl rfl)
theorem dX11_both_36 : decode cX11_both 36 = .ok (.aload_n 1, 1) := dk_43 (dk_at dksX11_both_1 12 rfl rfl)
theorem dX11_both_37 : decode cX11_both 37 = .ok (.areturn, 1) := dk_176 (dk_at dksX11_both_1 13 rfl rfl)
abbrev cX11_all : ByteArray := prog_23_method_32_code
def yX11_all : MethodName := ⟨RX11, "all", "()LBlindCards$Node;"⟩
def dkwX11_all_1 : List UInt8 := [182, 1, 75, 16, 38, 183, 1, 72, 76, 167, 255, 228, 43, 176]
abbrev dktX11_all_1 : List UInt8 := dkwX11_all_1 ++ []
def dkwX11_all_0 : List UInt8 := [42, 182, 1, 75, 76, 42, 18, 150, 182, 0, 86, 153, 0, 25, 42, 182, 0, 94, 187, 1, 70, 89, 43, 42]
abbrev dktX11_all_0 : List UInt8 := dkwX11_all_0 ++ dktX11_all_1
theorem dksX11_all_0 : cX11_all.data.toList.drop 0 = dktX11_all_0 := by decide +kernel
theorem dksX11_all_1 : cX11_all.data.toList.drop 24 = dktX11_all_1 := dk_seg dksX11_all_0 24 rfl rfl
theorem dX11_all_0 : decode cX11_all 0 = .ok (.aload_n 0, 1) := dk_42 (dk_at dksX11_all_0 0 rfl rfl)
theorem dX11_all_1 : decode cX11_all 1 = .ok (.invokevirtual 331, 3) := dk_182 1 75 (dk_at dksX11_all_0 1 rfl rfl)
theorem dX11_all_4 : decode cX11_all 4 = .ok (.astore_n 1, 1) := dk_76 (dk_at dksX11_all_0 4 rfl rfl)
theorem dX11_all_5 : decode cX11_all 5 = .ok (.aload_n 0, 1) := dk_42 (dk_at dksX11_all_0 5 rfl rfl)
theorem dX11_all_6 : decode cX11_all 6 = .ok (.ldc 150, 2) := dk_18 150 (dk_at dksX11_all_0 6 rfl rfl)
theorem dX11_all_8 : decode cX11_all 8 = .ok (.invokevirtual 86, 3) := dk_182 0 86 (dk_at dksX11_all_0 8 rfl rfl)
theorem dX11_all_11 : decode cX11_all 11 = .ok (.ifCond .eq 25, 3) := dk_153 0 25 (dk_at dksX11_all_0 11 rfl rfl)
theorem dX11_all_14 : decode cX11_all 14 = .ok (.aload_n 0, 1) := dk_42 (dk_at dksX11_all_0 14 rfl rfl)
theorem dX11_all_15 : decode cX11_all 15 = .ok (.invokevirtual 94, 3) := dk_182 0 94 (dk_at dksX11_all_0 15 rfl rfl)
theorem dX11_all_18 : decode cX11_all 18 = .ok (.new 326, 3) := dk_187 1 70 (dk_at dksX11_all_0 18 rfl rfl)
theorem dX11_all_21 : decode cX11_all 21 = .ok (.dup, 1) := dk_89 (dk_at dksX11_all_0 21 rfl rfl)
theorem dX11_all_22 : decode cX11_all 22 = .ok (.aload_n 1, 1) := dk_43 (dk_at dksX11_all_0 22 rfl rfl)
theorem dX11_all_23 : decode cX11_all 23 = .ok (.aload_n 0, 1) := dk_42 (dk_at dksX11_all_0 23 rfl rfl)
theorem dX11_all_24 : decode cX11_all 24 = .ok (.invokevirtual 331, 3) := dk_182 1 75 (dk_at dksX11_all_1 0 rfl rfl)
theorem dX11_all_27 : decode cX11_all 27 = .ok (.bipush 38, 2) := dk_16 38 (dk_at dksX11_all_1 3 rfl rfl)
theorem dX11_all_29 : decode cX11_all 29 = .ok (.invokespecial 328, 3) := dk_183 1 72 (dk_at dksX11_all_1 5 rfl rfl)
theorem dX11_all_32 : decode cX11_all 32 = .ok (.astore_n 1, 1) := dk_76 (dk_at dksX11_all_1 8 rfl rfl)
theorem dX11_all_33 : decode cX11_all 33 = .ok (.goto (-28), 3) := dk_167 255 228 (dk_at dksX11_all_1 9 rfl rfl)
theorem dX11_all_36 : decode cX11_all 36 = .ok (.aload_n 1, 1) := dk_43 (dk_at dksX11_all_1 12 rfl rfl)
theorem dX11_all_37 : decode cX11_all 37 = .ok (.areturn, 1) := dk_176 (dk_at dksX11_all_1 13 rfl rfl)
abbrev cX11_one : ByteArray := prog_23_method_33_code
def yX11_one : MethodName := ⟨RX11, "one", "()LBlindCards$Node;"⟩
def dkwX11_one_4 : List UInt8 := [180, 0, 46, 146, 61, 42, 182, 0, 94, 187, 1, 70, 89, 43, 42, 182, 1, 86, 28, 183, 1, 72, 176]
abbrev dktX11_one_4 : List UInt8 := dkwX11_one_4 ++ []
def dkwX11_one_3 : List UInt8 := [159, 0, 23, 42, 180, 0, 46, 16, 62, 159, 0, 14, 42, 180, 0, 46, 16, 61, 159, 0, 5, 43, 176, 42]
abbrev dktX11_one_3 : List UInt8 := dkwX11_one_3 ++ dktX11_one_4
def dkwX11_one_2 : List UInt8 := [76, 42, 89, 180, 1, 78, 4, 100, 181, 1, 78, 43, 176, 42, 182, 1, 86, 76, 42, 180, 0, 46, 16, 60]
abbrev dktX11_one_2 : List UInt8 := dkwX11_one_2 ++ dktX11_one_3
def dkwX11_one_1 : List UInt8 := [89, 180, 1, 78, 4, 96, 181, 1, 78, 42, 182, 0, 94, 187, 1, 81, 89, 42, 182, 1, 75, 183, 1, 83]
abbrev dktX11_one_1 : List UInt8 := dkwX11_one_1 ++ dktX11_one_2
def dkwX11_one_0 : List UInt8 := [42, 18, 154, 182, 0, 86, 153, 0, 55, 42, 180, 1, 78, 16, 6, 164, 0, 8, 42, 182, 0, 90, 191, 42]
abbrev dktX11_one_0 : List UInt8 := dkwX11_one_0 ++ dktX11_one_1
theorem dksX11_one_0 : cX11_one.data.toList.drop 0 = dktX11_one_0 := by decide +kernel
theorem dksX11_one_1 : cX11_one.data.toList.drop 24 = dktX11_one_1 := dk_seg dksX11_one_0 24 rfl rfl
theorem dksX11_one_2 : cX11_one.data.toList.drop 48 = dktX11_one_2 := dk_seg dksX11_one_1 24 rfl rfl
theorem dksX11_one_3 : cX11_one.data.toList.drop 72 = dktX11_one_3 := dk_seg dksX11_one_2 24 rfl rfl
theorem dksX11_one_4 : cX11_one.data.toList.drop 96 = dktX11_one_4 := dk_seg dksX11_one_3 24 rfl rfl
theorem dX11_one_0 : decode cX11_one 0 = .ok (.aload_n 0, 1) := dk_42 (dk_at dksX11_one_0 0 rfl rfl)
theorem dX11_one_1 : decode cX11_one 1 = .ok (.ldc 154, 2) := dk_18 154 (dk_at dksX11_one_0 1 rfl rfl)
theorem dX11_one_3 : decode cX11_one 3 = .ok (.invokevirtual 86, 3) := dk_182 0 86 (dk_at dksX11_one_0 3 rfl rfl)
theorem dX11_one_6 : decode cX11_one 6 = .ok (.ifCond .eq 55, 3) := dk_153 0 55 (dk_at dksX11_one_0 6 rfl rfl)
theorem dX11_one_9 : decode cX11_one 9 = .ok (.aload_n 0, 1) := dk_42 (dk_at dksX11_one_0 9 rfl rfl)
theorem dX11_one_10 : decode cX11_one 10 = .ok (.getfield 334, 3) := dk_180 1 78 (dk_at dksX11_one_0 10 rfl rfl)
theorem dX11_one_13 : decode cX11_one 13 = .ok (.bipush 6, 2) := dk_16 6 (dk_at dksX11_one_0 13 rfl rfl)
theorem dX11_one_15 : decode cX11_one 15 = .ok (.if_icmp .le 8, 3) := dk_164 0 8 (dk_at dksX11_one_0 15 rfl rfl)
theorem dX11_one_18 : decode cX11_one 18 = .ok (.aload_n 0, 1) := dk_42 (dk_at dksX11_one_0 18 rfl rfl)
theorem dX11_one_19 : decode cX11_one 19 = .ok (.invokevirtual 90, 3) := dk_182 0 90 (dk_at dksX11_one_0 19 rfl rfl)
theorem dX11_one_22 : decode cX11_one 22 = .ok (.athrow, 1) := dk_191 (dk_at dksX11_one_0 22 rfl rfl)
theorem dX11_one_23 : decode cX11_one 23 = .ok (.aload_n 0, 1) := dk_42 (dk_at dksX11_one_0 23 rfl rfl)
theorem dX11_one_24 : decode cX11_one 24 = .ok (.dup, 1) := dk_89 (dk_at dksX11_one_1 0 rfl rfl)
theorem dX11_one_25 : decode cX11_one 25 = .ok (.getfield 334, 3) := dk_180 1 78 (dk_at dksX11_one_1 1 rfl rfl)
theorem dX11_one_28 : decode cX11_one 28 = .ok (.iconst 1, 1) := dk_4 (dk_at dksX11_one_1 4 rfl rfl)
theorem dX11_one_29 : decode cX11_one 29 = .ok (.iadd, 1) := dk_96 (dk_at dksX11_one_1 5 rfl rfl)
theorem dX11_one_30 : decode cX11_one 30 = .ok (.putfield 334, 3) := dk_181 1 78 (dk_at dksX11_one_1 6 rfl rfl)
theorem dX11_one_33 : decode cX11_one 33 = .ok (.aload_n 0, 1) := dk_42 (dk_at dksX11_one_1 9 rfl rfl)
theorem dX11_one_34 : decode cX11_one 34 = .ok (.invokevirtual 94, 3) := dk_182 0 94 (dk_at dksX11_one_1 10 rfl rfl)
theorem dX11_one_37 : decode cX11_one 37 = .ok (.new 337, 3) := dk_187 1 81 (dk_at dksX11_one_1 13 rfl rfl)
theorem dX11_one_40 : decode cX11_one 40 = .ok (.dup, 1) := dk_89 (dk_at dksX11_one_1 16 rfl rfl)
theorem dX11_one_41 : decode cX11_one 41 = .ok (.aload_n 0, 1) := dk_42 (dk_at dksX11_one_1 17 rfl rfl)
theorem dX11_one_42 : decode cX11_one 42 = .ok (.invokevirtual 331, 3) := dk_182 1 75 (dk_at dksX11_one_1 18 rfl rfl)
theorem dX11_one_45 : decode cX11_one 45 = .ok (.invokespecial 339, 3) := dk_183 1 83 (dk_at dksX11_one_1 21 rfl rfl)
theorem dX11_one_48 : decode cX11_one 48 = .ok (.astore_n 1, 1) := dk_76 (dk_at dksX11_one_2 0 rfl rfl)
theorem dX11_one_49 : decode cX11_one 49 = .ok (.aload_n 0, 1) := dk_42 (dk_at dksX11_one_2 1 rfl rfl)
theorem dX11_one_50 : decode cX11_one 50 = .ok (.dup, 1) := dk_89 (dk_at dksX11_one_2 2 rfl rfl)
theorem dX11_one_51 : decode cX11_one 51 = .ok (.getfield 334, 3) := dk_180 1 78 (dk_at dksX11_one_2 3 rfl rfl)
theorem dX11_one_54 : decode cX11_one 54 = .ok (.iconst 1, 1) := dk_4 (dk_at dksX11_one_2 6 rfl rfl)
theorem dX11_one_55 : decode cX11_one 55 = .ok (.isub, 1) := dk_100 (dk_at dksX11_one_2 7 rfl rfl)
theorem dX11_one_56 : decode cX11_one 56 = .ok (.putfield 334, 3) := dk_181 1 78 (dk_at dksX11_one_2 8 rfl rfl)
theorem dX11_one_59 : decode cX11_one 59 = .ok (.aload_n 1, 1) := dk_43 (dk_at dksX11_one_2 11 rfl rfl)
theorem dX11_one_60 : decode cX11_one 60 = .ok (.areturn, 1) := dk_176 (dk_at dksX11_one_2 12 rfl rfl)
theorem dX11_one_61 : decode cX11_one 61 = .ok (.aload_n 0, 1) := dk_42 (dk_at dksX11_one_2 13 rfl rfl)
theorem dX11_one_62 : decode cX11_one 62 = .ok (.invokevirtual 342, 3) := dk_182 1 86 (dk_at dksX11_one_2 14 rfl rfl)
theorem dX11_one_65 : decode cX11_one 65 = .ok (.astore_n 1, 1) := dk_76 (dk_at dksX11_one_2 17 rfl rfl)
theorem dX11_one_66 : decode cX11_one 66 = .ok (.aload_n 0, 1) := dk_42 (dk_at dksX11_one_2 18 rfl rfl)
theorem dX11_one_67 : decode cX11_one 67 = .ok (.getfield 46, 3) := dk_180 0 46 (dk_at dksX11_one_2 19 rfl rfl)
theorem dX11_one_70 : decode cX11_one 70 = .ok (.bipush 60, 2) := dk_16 60 (dk_at dksX11_one_2 22 rfl rfl)
theorem dX11_one_72 : decode cX11_one 72 = .ok (.if_icmp .eq 23, 3) := dk_159 0 23 (dk_at dksX11_one_3 0 rfl rfl)
theorem dX11_one_75 : decode cX11_one 75 = .ok (.aload_n 0, 1) := dk_42 (dk_at dksX11_one_3 3 rfl rfl)
theorem dX11_one_76 : decode cX11_one 76 = .ok (.getfield 46, 3) := dk_180 0 46 (dk_at dksX11_one_3 4 rfl rfl)
theorem dX11_one_79 : decode cX11_one 79 = .ok (.bipush 62, 2) := dk_16 62 (dk_at dksX11_one_3 7 rfl rfl)
theorem dX11_one_81 : decode cX11_one 81 = .ok (.if_icmp .eq 14, 3) := dk_159 0 14 (dk_at dksX11_one_3 9 rfl rfl)
theorem dX11_one_84 : decode cX11_one 84 = .ok (.aload_n 0, 1) := dk_42 (dk_at dksX11_one_3 12 rfl rfl)
theorem dX11_one_85 : decode cX11_one 85 = .ok (.getfield 46, 3) := dk_180 0 46 (dk_at dksX11_one_3 13 rfl rfl)
theorem dX11_one_88 : decode cX11_one 88 = .ok (.bipush 61, 2) := dk_16 61 (dk_at dksX11_one_3 16 rfl rfl)
theorem dX11_one_90 : decode cX11_one 90 = .ok (.if_icmp .eq 5, 3) := dk_159 0 5 (dk_at dksX11_one_3 18 rfl rfl)
theorem dX11_one_93 : decode cX11_one 93 = .ok (.aload_n 1, 1) := dk_43 (dk_at dksX11_one_3 21 rfl rfl)
theorem dX11_one_94 : decode cX11_one 94 = .ok (.areturn, 1) := dk_176 (dk_at dksX11_one_3 22 rfl rfl)
theorem dX11_one_95 : decode cX11_one 95 = .ok (.aload_n 0, 1) := dk_42 (dk_at dksX11_one_3 23 rfl rfl)
theorem dX11_one_96 : decode cX11_one 96 = .ok (.getfield 46, 3) := dk_180 0 46 (dk_at dksX11_one_4 0 rfl rfl)
theorem dX11_one_99 : decode cX11_one 99 = .ok (.i2c, 1) := dk_146 (dk_at dksX11_one_4 3 rfl rfl)
theorem dX11_one_100 : decode cX11_one 100 = .ok (.istore_n 2, 1) := dk_61 (dk_at dksX11_one_4 4 rfl rfl)
theorem dX11_one_101 : decode cX11_one 101 = .ok (.aload_n 0, 1) := dk_42 (dk_at dksX11_one_4 5 rfl rfl)
theorem dX11_one_102 : decode cX11_one 102 = .ok (.invokevirtual 94, 3) := dk_182 0 94 (dk_at dksX11_one_4 6 rfl rfl)
theorem dX11_one_105 : decode cX11_one 105 = .ok (.new 326, 3) := dk_187 1 70 (dk_at dksX11_one_4 9 rfl rfl)
theorem dX11_one_108 : decode cX11_one 108 = .ok (.dup, 1) := dk_89 (dk_at dksX11_one_4 12 rfl rfl)
theorem dX11_one_109 : decode cX11_one 109 = .ok (.aload_n 1, 1) := dk_43 (dk_at dksX11_one_4 13 rfl rfl)
theorem dX11_one_110 : decode cX11_one 110 = .ok (.aload_n 0, 1) := dk_42 (dk_at dksX11_one_4 14 rfl rfl)
theorem dX11_one_111 : decode cX11_one 111 = .ok (.invokevirtual 342, 3) := dk_182 1 86 (dk_at dksX11_one_4 15 rfl rfl)
theorem dX11_one_114 : decode cX11_one 114 = .ok (.iload_n 2, 1) := dk_28 (dk_at dksX11_one_4 18 rfl rfl)
theorem dX11_one_115 : decode cX11_one 115 = .ok (.invokespecial 328, 3) := dk_183 1 72 (dk_at dksX11_one_4 19 rfl rfl)
theorem dX11_one_118 : decode cX11_one 118 = .ok (.areturn, 1) := dk_176 (dk_at dksX11_one_4 22 rfl rfl)
abbrev cX11_sum : ByteArray := prog_23_method_34_code
def yX11_sum : MethodName := ⟨RX11, "sum", "()LBlindCards$Node;"⟩
def dkwX11_sum_2 : List UInt8 := [167, 255, 214, 43, 176]
abbrev dktX11_sum_2 : List UInt8 := dkwX11_sum_2 ++ []
def dkwX11_sum_1 : List UInt8 := [180, 0, 46, 146, 61, 42, 182, 0, 94, 187, 1, 70, 89, 43, 42, 182, 1, 89, 28, 183, 1, 72, 76]
abbrev dktX11_sum_1 : List UInt8 := dkwX11_sum_1 ++ dktX11_sum_2
def dkwX11_sum_0 : List UInt8 := [42, 182, 1, 89, 76, 42, 180, 0, 46, 16, 43, 159, 0, 12, 42, 180, 0, 46, 16, 45, 160, 0, 30, 42]
abbrev dktX11_sum_0 : List UInt8 := dkwX11_sum_0 ++ dktX11_sum_1
theorem dksX11_sum_0 : cX11_sum.data.toList.drop 0 = dktX11_sum_0 := by decide +kernel
theorem dksX11_sum_1 : cX11_sum.data.toList.drop 24 = dktX11_sum_1 := dk_seg dksX11_sum_0 24 rfl rfl
theorem dksX11_sum_2 : cX11_sum.data.toList.drop 47 = dktX11_sum_2 := dk_seg dksX11_sum_1 23 rfl rfl
theorem dX11_sum_0 : decode cX11_sum 0 = .ok (.aload_n 0, 1) := dk_42 (dk_at dksX11_sum_0 0 rfl rfl)
theorem dX11_sum_1 : decode cX11_sum 1 = .ok (.invokevirtual 345, 3) := dk_182 1 89 (dk_at dksX11_sum_0 1 rfl rfl)
theorem dX11_sum_4 : decode cX11_sum 4 = .ok (.astore_n 1, 1) := dk_76 (dk_at dksX11_sum_0 4 rfl rfl)
theorem dX11_sum_5 : decode cX11_sum 5 = .ok (.aload_n 0, 1) := dk_42 (dk_at dksX11_sum_0 5 rfl rfl)
theorem dX11_sum_6 : decode cX11_sum 6 = .ok (.getfield 46, 3) := dk_180 0 46 (dk_at dksX11_sum_0 6 rfl rfl)
theorem dX11_sum_9 : decode cX11_sum 9 = .ok (.bipush 43, 2) := dk_16 43 (dk_at dksX11_sum_0 9 rfl rfl)
theorem dX11_sum_11 : decode cX11_sum 11 = .ok (.if_icmp .eq 12, 3) := dk_159 0 12 (dk_at dksX11_sum_0 11 rfl rfl)
theorem dX11_sum_14 : decode cX11_sum 14 = .ok (.aload_n 0, 1) := dk_42 (dk_at dksX11_sum_0 14 rfl rfl)
theorem dX11_sum_15 : decode cX11_sum 15 = .ok (.getfield 46, 3) := dk_180 0 46 (dk_at dksX11_sum_0 15 rfl rfl)
theorem dX11_sum_18 : decode cX11_sum 18 = .ok (.bipush 45, 2) := dk_16 45 (dk_at dksX11_sum_0 18 rfl rfl)
theorem dX11_sum_20 : decode cX11_sum 20 = .ok (.if_icmp .ne 30, 3) := dk_160 0 30 (dk_at dksX11_sum_0 20 rfl rfl)
theorem dX11_sum_23 : decode cX11_sum 23 = .ok (.aload_n 0, 1) := dk_42 (dk_at dksX11_sum_0 23 rfl rfl)
theorem dX11_sum_24 : decode cX11_sum 24 = .ok (.getfield 46, 3) := dk_180 0 46 (dk_at dksX11_sum_1 0 rfl rfl)
theorem dX11_sum_27 : decode cX11_sum 27 = .ok (.i2c, 1) := dk_146 (dk_at dksX11_sum_1 3 rfl rfl)
theorem dX11_sum_28 : decode cX11_sum 28 = .ok (.istore_n 2, 1) := dk_61 (dk_at dksX11_sum_1 4 rfl rfl)
theorem dX11_sum_29 : decode cX11_sum 29 = .ok (.aload_n 0, 1) := dk_42 (dk_at dksX11_sum_1 5 rfl rfl)
theorem dX11_sum_30 : decode cX11_sum 30 = .ok (.invokevirtual 94, 3) := dk_182 0 94 (dk_at dksX11_sum_1 6 rfl rfl)
theorem dX11_sum_33 : decode cX11_sum 33 = .ok (.new 326, 3) := dk_187 1 70 (dk_at dksX11_sum_1 9 rfl rfl)
theorem dX11_sum_36 : decode cX11_sum 36 = .ok (.dup, 1) := dk_89 (dk_at dksX11_sum_1 12 rfl rfl)
theorem dX11_sum_37 : decode cX11_sum 37 = .ok (.aload_n 1, 1) := dk_43 (dk_at dksX11_sum_1 13 rfl rfl)
theorem dX11_sum_38 : decode cX11_sum 38 = .ok (.aload_n 0, 1) := dk_42 (dk_at dksX11_sum_1 14 rfl rfl)
theorem dX11_sum_39 : decode cX11_sum 39 = .ok (.invokevirtual 345, 3) := dk_182 1 89 (dk_at dksX11_sum_1 15 rfl rfl)
theorem dX11_sum_42 : decode cX11_sum 42 = .ok (.iload_n 2, 1) := dk_28 (dk_at dksX11_sum_1 18 rfl rfl)
theorem dX11_sum_43 : decode cX11_sum 43 = .ok (.invokespecial 328, 3) := dk_183 1 72 (dk_at dksX11_sum_1 19 rfl rfl)
theorem dX11_sum_46 : decode cX11_sum 46 = .ok (.astore_n 1, 1) := dk_76 (dk_at dksX11_sum_1 22 rfl rfl)
theorem dX11_sum_47 : decode cX11_sum 47 = .ok (.goto (-42), 3) := dk_167 255 214 (dk_at dksX11_sum_2 0 rfl rfl)
theorem dX11_sum_50 : decode cX11_sum 50 = .ok (.aload_n 1, 1) := dk_43 (dk_at dksX11_sum_2 3 rfl rfl)
theorem dX11_sum_51 : decode cX11_sum 51 = .ok (.areturn, 1) := dk_176 (dk_at dksX11_sum_2 4 rfl rfl)
abbrev cX11_term : ByteArray := prog_23_method_35_code
def yX11_term : MethodName := ⟨RX11, "term", "()LBlindCards$Node;"⟩
def dkwX11_term_1 : List UInt8 := [182, 1, 92, 16, 42, 183, 1, 72, 76, 167, 255, 228, 43, 176]
abbrev dktX11_term_1 : List UInt8 := dkwX11_term_1 ++ []
def dkwX11_term_0 : List UInt8 := [42, 182, 1, 92, 76, 42, 180, 0, 46, 16, 42, 160, 0, 25, 42, 182, 0, 94, 187, 1, 70, 89, 43, 42]
abbrev dktX11_term_0 : List UInt8 := dkwX11_term_0 ++ dktX11_term_1
theorem dksX11_term_0 : cX11_term.data.toList.drop 0 = dktX11_term_0 := by decide +kernel
theorem dksX11_term_1 : cX11_term.data.toList.drop 24 = dktX11_term_1 := dk_seg dksX11_term_0 24 rfl rfl
theorem dX11_term_0 : decode cX11_term 0 = .ok (.aload_n 0, 1) := dk_42 (dk_at dksX11_term_0 0 rfl rfl)
theorem dX11_term_1 : decode cX11_term 1 = .ok (.invokevirtual 348, 3) := dk_182 1 92 (dk_at dksX11_term_0 1 rfl rfl)
theorem dX11_term_4 : decode cX11_term 4 = .ok (.astore_n 1, 1) := dk_76 (dk_at dksX11_term_0 4 rfl rfl)
theorem dX11_term_5 : decode cX11_term 5 = .ok (.aload_n 0, 1) := dk_42 (dk_at dksX11_term_0 5 rfl rfl)
theorem dX11_term_6 : decode cX11_term 6 = .ok (.getfield 46, 3) := dk_180 0 46 (dk_at dksX11_term_0 6 rfl rfl)
theorem dX11_term_9 : decode cX11_term 9 = .ok (.bipush 42, 2) := dk_16 42 (dk_at dksX11_term_0 9 rfl rfl)
theorem dX11_term_11 : decode cX11_term 11 = .ok (.if_icmp .ne 25, 3) := dk_160 0 25 (dk_at dksX11_term_0 11 rfl rfl)
theorem dX11_term_14 : decode cX11_term 14 = .ok (.aload_n 0, 1) := dk_42 (dk_at dksX11_term_0 14 rfl rfl)
theorem dX11_term_15 : decode cX11_term 15 = .ok (.invokevirtual 94, 3) := dk_182 0 94 (dk_at dksX11_term_0 15 rfl rfl)
theorem dX11_term_18 : decode cX11_term 18 = .ok (.new 326, 3) := dk_187 1 70 (dk_at dksX11_term_0 18 rfl rfl)
theorem dX11_term_21 : decode cX11_term 21 = .ok (.dup, 1) := dk_89 (dk_at dksX11_term_0 21 rfl rfl)
theorem dX11_term_22 : decode cX11_term 22 = .ok (.aload_n 1, 1) := dk_43 (dk_at dksX11_term_0 22 rfl rfl)
theorem dX11_term_23 : decode cX11_term 23 = .ok (.aload_n 0, 1) := dk_42 (dk_at dksX11_term_0 23 rfl rfl)
theorem dX11_term_24 : decode cX11_term 24 = .ok (.invokevirtual 348, 3) := dk_182 1 92 (dk_at dksX11_term_1 0 rfl rfl)
theorem dX11_term_27 : decode cX11_term 27 = .ok (.bipush 42, 2) := dk_16 42 (dk_at dksX11_term_1 3 rfl rfl)
theorem dX11_term_29 : decode cX11_term 29 = .ok (.invokespecial 328, 3) := dk_183 1 72 (dk_at dksX11_term_1 5 rfl rfl)
theorem dX11_term_32 : decode cX11_term 32 = .ok (.astore_n 1, 1) := dk_76 (dk_at dksX11_term_1 8 rfl rfl)
theorem dX11_term_33 : decode cX11_term 33 = .ok (.goto (-28), 3) := dk_167 255 228 (dk_at dksX11_term_1 9 rfl rfl)
theorem dX11_term_36 : decode cX11_term 36 = .ok (.aload_n 1, 1) := dk_43 (dk_at dksX11_term_1 12 rfl rfl)
theorem dX11_term_37 : decode cX11_term 37 = .ok (.areturn, 1) := dk_176 (dk_at dksX11_term_1 13 rfl rfl)
abbrev cX11_unit : ByteArray := prog_23_method_37_code
def yX11_unit : MethodName := ⟨RX11, "unit", "()LBlindCards$Node;"⟩
def dkwX11_unit_8 : List UInt8 := [178, 1, 113, 167, 0, 14, 187, 1, 116, 89, 42, 180, 0, 69, 183, 1, 118, 76, 42, 182, 0, 94, 43, 176]
abbrev dktX11_unit_8 : List UInt8 := dkwX11_unit_8 ++ []
def dkwX11_unit_7 : List UInt8 := [160, 0, 9, 178, 1, 107, 167, 0, 6, 178, 1, 110, 176, 42, 18, 148, 182, 0, 86, 153, 0, 9]
abbrev dktX11_unit_7 : List UInt8 := dkwX11_unit_7 ++ dktX11_unit_8
def dkwX11_unit_6 : List UInt8 := [42, 182, 1, 95, 153, 0, 33, 42, 182, 0, 255, 60, 27, 154, 0, 9, 178, 1, 101, 167, 0, 17, 27, 4]
abbrev dktX11_unit_6 : List UInt8 := dkwX11_unit_6 ++ dktX11_unit_7
def dkwX11_unit_5 : List UInt8 := [159, 0, 8, 42, 182, 0, 90, 191, 42, 89, 180, 1, 78, 4, 100, 181, 1, 78, 42, 182, 0, 94, 43, 176]
abbrev dktX11_unit_5 : List UInt8 := dkwX11_unit_5 ++ dktX11_unit_6
def dkwX11_unit_4 : List UInt8 := [180, 1, 78, 4, 96, 181, 1, 78, 42, 182, 0, 94, 42, 182, 0, 201, 76, 42, 180, 0, 46, 16, 41]
abbrev dktX11_unit_4 : List UInt8 := dkwX11_unit_4 ++ dktX11_unit_5
def dkwX11_unit_3 : List UInt8 := [180, 0, 24, 89, 180, 1, 98, 4, 96, 181, 1, 98, 42, 180, 0, 46, 16, 40, 160, 0, 52, 42, 89]
abbrev dktX11_unit_3 : List UInt8 := dkwX11_unit_3 ++ dktX11_unit_4
def dkwX11_unit_2 : List UInt8 := [180, 0, 46, 16, 40, 160, 0, 17, 42, 180, 1, 78, 16, 6, 164, 0, 8, 42, 182, 0, 90, 191, 42]
abbrev dktX11_unit_2 : List UInt8 := dkwX11_unit_2 ++ dktX11_unit_3
def dkwX11_unit_1 : List UInt8 := [42, 18, 148, 182, 0, 86, 153, 0, 33, 42, 180, 0, 24, 180, 1, 98, 16, 40, 159, 0, 21, 42]
abbrev dktX11_unit_1 : List UInt8 := dkwX11_unit_1 ++ dktX11_unit_2
def dkwX11_unit_0 : List UInt8 := [42, 180, 0, 46, 5, 159, 0, 28, 42, 180, 0, 46, 16, 40, 159, 0, 19, 42, 182, 1, 95, 154, 0, 12]
abbrev dktX11_unit_0 : List UInt8 := dkwX11_unit_0 ++ dktX11_unit_1
theorem dksX11_unit_0 : cX11_unit.data.toList.drop 0 = dktX11_unit_0 := by decide +kernel
theorem dksX11_unit_1 : cX11_unit.data.toList.drop 24 = dktX11_unit_1 := dk_seg dksX11_unit_0 24 rfl rfl
theorem dksX11_unit_2 : cX11_unit.data.toList.drop 46 = dktX11_unit_2 := dk_seg dksX11_unit_1 22 rfl rfl
theorem dksX11_unit_3 : cX11_unit.data.toList.drop 69 = dktX11_unit_3 := dk_seg dksX11_unit_2 23 rfl rfl
theorem dksX11_unit_4 : cX11_unit.data.toList.drop 92 = dktX11_unit_4 := dk_seg dksX11_unit_3 23 rfl rfl
theorem dksX11_unit_5 : cX11_unit.data.toList.drop 115 = dktX11_unit_5 := dk_seg dksX11_unit_4 23 rfl rfl
theorem dksX11_unit_6 : cX11_unit.data.toList.drop 139 = dktX11_unit_6 := dk_seg dksX11_unit_5 24 rfl rfl
theorem dksX11_unit_7 : cX11_unit.data.toList.drop 163 = dktX11_unit_7 := dk_seg dksX11_unit_6 24 rfl rfl
theorem dksX11_unit_8 : cX11_unit.data.toList.drop 185 = dktX11_unit_8 := dk_seg dksX11_unit_7 22 rfl rfl
theorem dX11_unit_0 : decode cX11_unit 0 = .ok (.aload_n 0, 1) := dk_42 (dk_at dksX11_unit_0 0 rfl rfl)
theorem dX11_unit_1 : decode cX11_unit 1 = .ok (.getfield 46, 3) := dk_180 0 46 (dk_at dksX11_unit_0 1 rfl rfl)
theorem dX11_unit_4 : decode cX11_unit 4 = .ok (.iconst 2, 1) := dk_5 (dk_at dksX11_unit_0 4 rfl rfl)
theorem dX11_unit_5 : decode cX11_unit 5 = .ok (.if_icmp .eq 28, 3) := dk_159 0 28 (dk_at dksX11_unit_0 5 rfl rfl)
theorem dX11_unit_8 : decode cX11_unit 8 = .ok (.aload_n 0, 1) := dk_42 (dk_at dksX11_unit_0 8 rfl rfl)
theorem dX11_unit_9 : decode cX11_unit 9 = .ok (.getfield 46, 3) := dk_180 0 46 (dk_at dksX11_unit_0 9 rfl rfl)
theorem dX11_unit_12 : decode cX11_unit 12 = .ok (.bipush 40, 2) := dk_16 40 (dk_at dksX11_unit_0 12 rfl rfl)
theorem dX11_unit_14 : decode cX11_unit 14 = .ok (.if_icmp .eq 19, 3) := dk_159 0 19 (dk_at dksX11_unit_0 14 rfl rfl)
theorem dX11_unit_17 : decode cX11_unit 17 = .ok (.aload_n 0, 1) := dk_42 (dk_at dksX11_unit_0 17 rfl rfl)
theorem dX11_unit_18 : decode cX11_unit 18 = .ok (.invokevirtual 351, 3) := dk_182 1 95 (dk_at dksX11_unit_0 18 rfl rfl)
theorem dX11_unit_21 : decode cX11_unit 21 = .ok (.ifCond .ne 12, 3) := dk_154 0 12 (dk_at dksX11_unit_0 21 rfl rfl)
theorem dX11_unit_24 : decode cX11_unit 24 = .ok (.aload_n 0, 1) := dk_42 (dk_at dksX11_unit_1 0 rfl rfl)
theorem dX11_unit_25 : decode cX11_unit 25 = .ok (.ldc 148, 2) := dk_18 148 (dk_at dksX11_unit_1 1 rfl rfl)
theorem dX11_unit_27 : decode cX11_unit 27 = .ok (.invokevirtual 86, 3) := dk_182 0 86 (dk_at dksX11_unit_1 3 rfl rfl)
theorem dX11_unit_30 : decode cX11_unit 30 = .ok (.ifCond .eq 33, 3) := dk_153 0 33 (dk_at dksX11_unit_1 6 rfl rfl)
theorem dX11_unit_33 : decode cX11_unit 33 = .ok (.aload_n 0, 1) := dk_42 (dk_at dksX11_unit_1 9 rfl rfl)
theorem dX11_unit_34 : decode cX11_unit 34 = .ok (.getfield 24, 3) := dk_180 0 24 (dk_at dksX11_unit_1 10 rfl rfl)
theorem dX11_unit_37 : decode cX11_unit 37 = .ok (.getfield 354, 3) := dk_180 1 98 (dk_at dksX11_unit_1 13 rfl rfl)
theorem dX11_unit_40 : decode cX11_unit 40 = .ok (.bipush 40, 2) := dk_16 40 (dk_at dksX11_unit_1 16 rfl rfl)
theorem dX11_unit_42 : decode cX11_unit 42 = .ok (.if_icmp .eq 21, 3) := dk_159 0 21 (dk_at dksX11_unit_1 18 rfl rfl)
theorem dX11_unit_45 : decode cX11_unit 45 = .ok (.aload_n 0, 1) := dk_42 (dk_at dksX11_unit_1 21 rfl rfl)
theorem dX11_unit_46 : decode cX11_unit 46 = .ok (.getfield 46, 3) := dk_180 0 46 (dk_at dksX11_unit_2 0 rfl rfl)
theorem dX11_unit_49 : decode cX11_unit 49 = .ok (.bipush 40, 2) := dk_16 40 (dk_at dksX11_unit_2 3 rfl rfl)
theorem dX11_unit_51 : decode cX11_unit 51 = .ok (.if_icmp .ne 17, 3) := dk_160 0 17 (dk_at dksX11_unit_2 5 rfl rfl)
theorem dX11_unit_54 : decode cX11_unit 54 = .ok (.aload_n 0, 1) := dk_42 (dk_at dksX11_unit_2 8 rfl rfl)
theorem dX11_unit_55 : decode cX11_unit 55 = .ok (.getfield 334, 3) := dk_180 1 78 (dk_at dksX11_unit_2 9 rfl rfl)
theorem dX11_unit_58 : decode cX11_unit 58 = .ok (.bipush 6, 2) := dk_16 6 (dk_at dksX11_unit_2 12 rfl rfl)
theorem dX11_unit_60 : decode cX11_unit 60 = .ok (.if_icmp .le 8, 3) := dk_164 0 8 (dk_at dksX11_unit_2 14 rfl rfl)
theorem dX11_unit_63 : decode cX11_unit 63 = .ok (.aload_n 0, 1) := dk_42 (dk_at dksX11_unit_2 17 rfl rfl)
theorem dX11_unit_64 : decode cX11_unit 64 = .ok (.invokevirtual 90, 3) := dk_182 0 90 (dk_at dksX11_unit_2 18 rfl rfl)
theorem dX11_unit_67 : decode cX11_unit 67 = .ok (.athrow, 1) := dk_191 (dk_at dksX11_unit_2 21 rfl rfl)
theorem dX11_unit_68 : decode cX11_unit 68 = .ok (.aload_n 0, 1) := dk_42 (dk_at dksX11_unit_2 22 rfl rfl)
theorem dX11_unit_69 : decode cX11_unit 69 = .ok (.getfield 24, 3) := dk_180 0 24 (dk_at dksX11_unit_3 0 rfl rfl)
theorem dX11_unit_72 : decode cX11_unit 72 = .ok (.dup, 1) := dk_89 (dk_at dksX11_unit_3 3 rfl rfl)
theorem dX11_unit_73 : decode cX11_unit 73 = .ok (.getfield 354, 3) := dk_180 1 98 (dk_at dksX11_unit_3 4 rfl rfl)
theorem dX11_unit_76 : decode cX11_unit 76 = .ok (.iconst 1, 1) := dk_4 (dk_at dksX11_unit_3 7 rfl rfl)
theorem dX11_unit_77 : decode cX11_unit 77 = .ok (.iadd, 1) := dk_96 (dk_at dksX11_unit_3 8 rfl rfl)
theorem dX11_unit_78 : decode cX11_unit 78 = .ok (.putfield 354, 3) := dk_181 1 98 (dk_at dksX11_unit_3 9 rfl rfl)
theorem dX11_unit_81 : decode cX11_unit 81 = .ok (.aload_n 0, 1) := dk_42 (dk_at dksX11_unit_3 12 rfl rfl)
theorem dX11_unit_82 : decode cX11_unit 82 = .ok (.getfield 46, 3) := dk_180 0 46 (dk_at dksX11_unit_3 13 rfl rfl)
theorem dX11_unit_85 : decode cX11_unit 85 = .ok (.bipush 40, 2) := dk_16 40 (dk_at dksX11_unit_3 16 rfl rfl)
theorem dX11_unit_87 : decode cX11_unit 87 = .ok (.if_icmp .ne 52, 3) := dk_160 0 52 (dk_at dksX11_unit_3 18 rfl rfl)
theorem dX11_unit_90 : decode cX11_unit 90 = .ok (.aload_n 0, 1) := dk_42 (dk_at dksX11_unit_3 21 rfl rfl)
theorem dX11_unit_91 : decode cX11_unit 91 = .ok (.dup, 1) := dk_89 (dk_at dksX11_unit_3 22 rfl rfl)
theorem dX11_unit_92 : decode cX11_unit 92 = .ok (.getfield 334, 3) := dk_180 1 78 (dk_at dksX11_unit_4 0 rfl rfl)
theorem dX11_unit_95 : decode cX11_unit 95 = .ok (.iconst 1, 1) := dk_4 (dk_at dksX11_unit_4 3 rfl rfl)
theorem dX11_unit_96 : decode cX11_unit 96 = .ok (.iadd, 1) := dk_96 (dk_at dksX11_unit_4 4 rfl rfl)
theorem dX11_unit_97 : decode cX11_unit 97 = .ok (.putfield 334, 3) := dk_181 1 78 (dk_at dksX11_unit_4 5 rfl rfl)
theorem dX11_unit_100 : decode cX11_unit 100 = .ok (.aload_n 0, 1) := dk_42 (dk_at dksX11_unit_4 8 rfl rfl)
theorem dX11_unit_101 : decode cX11_unit 101 = .ok (.invokevirtual 94, 3) := dk_182 0 94 (dk_at dksX11_unit_4 9 rfl rfl)
theorem dX11_unit_104 : decode cX11_unit 104 = .ok (.aload_n 0, 1) := dk_42 (dk_at dksX11_unit_4 12 rfl rfl)
theorem dX11_unit_105 : decode cX11_unit 105 = .ok (.invokevirtual 201, 3) := dk_182 0 201 (dk_at dksX11_unit_4 13 rfl rfl)
theorem dX11_unit_108 : decode cX11_unit 108 = .ok (.astore_n 1, 1) := dk_76 (dk_at dksX11_unit_4 16 rfl rfl)
theorem dX11_unit_109 : decode cX11_unit 109 = .ok (.aload_n 0, 1) := dk_42 (dk_at dksX11_unit_4 17 rfl rfl)
theorem dX11_unit_110 : decode cX11_unit 110 = .ok (.getfield 46, 3) := dk_180 0 46 (dk_at dksX11_unit_4 18 rfl rfl)
theorem dX11_unit_113 : decode cX11_unit 113 = .ok (.bipush 41, 2) := dk_16 41 (dk_at dksX11_unit_4 21 rfl rfl)
theorem dX11_unit_115 : decode cX11_unit 115 = .ok (.if_icmp .eq 8, 3) := dk_159 0 8 (dk_at dksX11_unit_5 0 rfl rfl)
theorem dX11_unit_118 : decode cX11_unit 118 = .ok (.aload_n 0, 1) := dk_42 (dk_at dksX11_unit_5 3 rfl rfl)
theorem dX11_unit_119 : decode cX11_unit 119 = .ok (.invokevirtual 90, 3) := dk_182 0 90 (dk_at dksX11_unit_5 4 rfl rfl)
theorem dX11_unit_122 : decode cX11_unit 122 = .ok (.athrow, 1) := dk_191 (dk_at dksX11_unit_5 7 rfl rfl)
theorem dX11_unit_123 : decode cX11_unit 123 = .ok (.aload_n 0, 1) := dk_42 (dk_at dksX11_unit_5 8 rfl rfl)
theorem dX11_unit_124 : decode cX11_unit 124 = .ok (.dup, 1) := dk_89 (dk_at dksX11_unit_5 9 rfl rfl)
theorem dX11_unit_125 : decode cX11_unit 125 = .ok (.getfield 334, 3) := dk_180 1 78 (dk_at dksX11_unit_5 10 rfl rfl)
theorem dX11_unit_128 : decode cX11_unit 128 = .ok (.iconst 1, 1) := dk_4 (dk_at dksX11_unit_5 13 rfl rfl)
theorem dX11_unit_129 : decode cX11_unit 129 = .ok (.isub, 1) := dk_100 (dk_at dksX11_unit_5 14 rfl rfl)
theorem dX11_unit_130 : decode cX11_unit 130 = .ok (.putfield 334, 3) := dk_181 1 78 (dk_at dksX11_unit_5 15 rfl rfl)
theorem dX11_unit_133 : decode cX11_unit 133 = .ok (.aload_n 0, 1) := dk_42 (dk_at dksX11_unit_5 18 rfl rfl)
theorem dX11_unit_134 : decode cX11_unit 134 = .ok (.invokevirtual 94, 3) := dk_182 0 94 (dk_at dksX11_unit_5 19 rfl rfl)
theorem dX11_unit_137 : decode cX11_unit 137 = .ok (.aload_n 1, 1) := dk_43 (dk_at dksX11_unit_5 22 rfl rfl)
theorem dX11_unit_138 : decode cX11_unit 138 = .ok (.areturn, 1) := dk_176 (dk_at dksX11_unit_5 23 rfl rfl)
theorem dX11_unit_139 : decode cX11_unit 139 = .ok (.aload_n 0, 1) := dk_42 (dk_at dksX11_unit_6 0 rfl rfl)
theorem dX11_unit_140 : decode cX11_unit 140 = .ok (.invokevirtual 351, 3) := dk_182 1 95 (dk_at dksX11_unit_6 1 rfl rfl)
theorem dX11_unit_143 : decode cX11_unit 143 = .ok (.ifCond .eq 33, 3) := dk_153 0 33 (dk_at dksX11_unit_6 4 rfl rfl)
theorem dX11_unit_146 : decode cX11_unit 146 = .ok (.aload_n 0, 1) := dk_42 (dk_at dksX11_unit_6 7 rfl rfl)
theorem dX11_unit_147 : decode cX11_unit 147 = .ok (.invokevirtual 255, 3) := dk_182 0 255 (dk_at dksX11_unit_6 8 rfl rfl)
theorem dX11_unit_150 : decode cX11_unit 150 = .ok (.istore_n 1, 1) := dk_60 (dk_at dksX11_unit_6 11 rfl rfl)
theorem dX11_unit_151 : decode cX11_unit 151 = .ok (.iload_n 1, 1) := dk_27 (dk_at dksX11_unit_6 12 rfl rfl)
theorem dX11_unit_152 : decode cX11_unit 152 = .ok (.ifCond .ne 9, 3) := dk_154 0 9 (dk_at dksX11_unit_6 13 rfl rfl)
theorem dX11_unit_155 : decode cX11_unit 155 = .ok (.getstatic 357, 3) := dk_178 1 101 (dk_at dksX11_unit_6 16 rfl rfl)
theorem dX11_unit_158 : decode cX11_unit 158 = .ok (.goto 17, 3) := dk_167 0 17 (dk_at dksX11_unit_6 19 rfl rfl)
theorem dX11_unit_161 : decode cX11_unit 161 = .ok (.iload_n 1, 1) := dk_27 (dk_at dksX11_unit_6 22 rfl rfl)
theorem dX11_unit_162 : decode cX11_unit 162 = .ok (.iconst 1, 1) := dk_4 (dk_at dksX11_unit_6 23 rfl rfl)
theorem dX11_unit_163 : decode cX11_unit 163 = .ok (.if_icmp .ne 9, 3) := dk_160 0 9 (dk_at dksX11_unit_7 0 rfl rfl)
theorem dX11_unit_166 : decode cX11_unit 166 = .ok (.getstatic 363, 3) := dk_178 1 107 (dk_at dksX11_unit_7 3 rfl rfl)
theorem dX11_unit_169 : decode cX11_unit 169 = .ok (.goto 6, 3) := dk_167 0 6 (dk_at dksX11_unit_7 6 rfl rfl)
theorem dX11_unit_172 : decode cX11_unit 172 = .ok (.getstatic 366, 3) := dk_178 1 110 (dk_at dksX11_unit_7 9 rfl rfl)
theorem dX11_unit_175 : decode cX11_unit 175 = .ok (.areturn, 1) := dk_176 (dk_at dksX11_unit_7 12 rfl rfl)
theorem dX11_unit_176 : decode cX11_unit 176 = .ok (.aload_n 0, 1) := dk_42 (dk_at dksX11_unit_7 13 rfl rfl)
theorem dX11_unit_177 : decode cX11_unit 177 = .ok (.ldc 148, 2) := dk_18 148 (dk_at dksX11_unit_7 14 rfl rfl)
theorem dX11_unit_179 : decode cX11_unit 179 = .ok (.invokevirtual 86, 3) := dk_182 0 86 (dk_at dksX11_unit_7 16 rfl rfl)
theorem dX11_unit_182 : decode cX11_unit 182 = .ok (.ifCond .eq 9, 3) := dk_153 0 9 (dk_at dksX11_unit_7 19 rfl rfl)
theorem dX11_unit_185 : decode cX11_unit 185 = .ok (.getstatic 369, 3) := dk_178 1 113 (dk_at dksX11_unit_8 0 rfl rfl)
theorem dX11_unit_188 : decode cX11_unit 188 = .ok (.goto 14, 3) := dk_167 0 14 (dk_at dksX11_unit_8 3 rfl rfl)
theorem dX11_unit_191 : decode cX11_unit 191 = .ok (.new 372, 3) := dk_187 1 116 (dk_at dksX11_unit_8 6 rfl rfl)
theorem dX11_unit_194 : decode cX11_unit 194 = .ok (.dup, 1) := dk_89 (dk_at dksX11_unit_8 9 rfl rfl)
theorem dX11_unit_195 : decode cX11_unit 195 = .ok (.aload_n 0, 1) := dk_42 (dk_at dksX11_unit_8 10 rfl rfl)
theorem dX11_unit_196 : decode cX11_unit 196 = .ok (.getfield 69, 3) := dk_180 0 69 (dk_at dksX11_unit_8 11 rfl rfl)
theorem dX11_unit_199 : decode cX11_unit 199 = .ok (.invokespecial 374, 3) := dk_183 1 118 (dk_at dksX11_unit_8 14 rfl rfl)
theorem dX11_unit_202 : decode cX11_unit 202 = .ok (.astore_n 1, 1) := dk_76 (dk_at dksX11_unit_8 17 rfl rfl)
theorem dX11_unit_203 : decode cX11_unit 203 = .ok (.aload_n 0, 1) := dk_42 (dk_at dksX11_unit_8 18 rfl rfl)
theorem dX11_unit_204 : decode cX11_unit 204 = .ok (.invokevirtual 94, 3) := dk_182 0 94 (dk_at dksX11_unit_8 19 rfl rfl)
theorem dX11_unit_207 : decode cX11_unit 207 = .ok (.aload_n 1, 1) := dk_43 (dk_at dksX11_unit_8 22 rfl rfl)
theorem dX11_unit_208 : decode cX11_unit 208 = .ok (.areturn, 1) := dk_176 (dk_at dksX11_unit_8 23 rfl rfl)
abbrev cX11_isWho : ByteArray := prog_23_method_36_code
def yX11_isWho : MethodName := ⟨RX11, "isWho", "()Z"⟩
def dkwX11_isWho_1 : List UInt8 := [153, 0, 7, 4, 167, 0, 4, 3, 172]
abbrev dktX11_isWho_1 : List UInt8 := dkwX11_isWho_1 ++ []
def dkwX11_isWho_0 : List UInt8 := [42, 18, 122, 182, 0, 86, 154, 0, 21, 42, 18, 124, 182, 0, 86, 154, 0, 12, 42, 18, 126, 182, 0, 86]
abbrev dktX11_isWho_0 : List UInt8 := dkwX11_isWho_0 ++ dktX11_isWho_1
theorem dksX11_isWho_0 : cX11_isWho.data.toList.drop 0 = dktX11_isWho_0 := by decide +kernel
theorem dksX11_isWho_1 : cX11_isWho.data.toList.drop 24 = dktX11_isWho_1 := dk_seg dksX11_isWho_0 24 rfl rfl
theorem dX11_isWho_0 : decode cX11_isWho 0 = .ok (.aload_n 0, 1) := dk_42 (dk_at dksX11_isWho_0 0 rfl rfl)
theorem dX11_isWho_1 : decode cX11_isWho 1 = .ok (.ldc 122, 2) := dk_18 122 (dk_at dksX11_isWho_0 1 rfl rfl)
theorem dX11_isWho_3 : decode cX11_isWho 3 = .ok (.invokevirtual 86, 3) := dk_182 0 86 (dk_at dksX11_isWho_0 3 rfl rfl)
theorem dX11_isWho_6 : decode cX11_isWho 6 = .ok (.ifCond .ne 21, 3) := dk_154 0 21 (dk_at dksX11_isWho_0 6 rfl rfl)
theorem dX11_isWho_9 : decode cX11_isWho 9 = .ok (.aload_n 0, 1) := dk_42 (dk_at dksX11_isWho_0 9 rfl rfl)
theorem dX11_isWho_10 : decode cX11_isWho 10 = .ok (.ldc 124, 2) := dk_18 124 (dk_at dksX11_isWho_0 10 rfl rfl)
theorem dX11_isWho_12 : decode cX11_isWho 12 = .ok (.invokevirtual 86, 3) := dk_182 0 86 (dk_at dksX11_isWho_0 12 rfl rfl)
theorem dX11_isWho_15 : decode cX11_isWho 15 = .ok (.ifCond .ne 12, 3) := dk_154 0 12 (dk_at dksX11_isWho_0 15 rfl rfl)
theorem dX11_isWho_18 : decode cX11_isWho 18 = .ok (.aload_n 0, 1) := dk_42 (dk_at dksX11_isWho_0 18 rfl rfl)
theorem dX11_isWho_19 : decode cX11_isWho 19 = .ok (.ldc 126, 2) := dk_18 126 (dk_at dksX11_isWho_0 19 rfl rfl)
theorem dX11_isWho_21 : decode cX11_isWho 21 = .ok (.invokevirtual 86, 3) := dk_182 0 86 (dk_at dksX11_isWho_0 21 rfl rfl)
theorem dX11_isWho_24 : decode cX11_isWho 24 = .ok (.ifCond .eq 7, 3) := dk_153 0 7 (dk_at dksX11_isWho_1 0 rfl rfl)
theorem dX11_isWho_27 : decode cX11_isWho 27 = .ok (.iconst 1, 1) := dk_4 (dk_at dksX11_isWho_1 3 rfl rfl)
theorem dX11_isWho_28 : decode cX11_isWho 28 = .ok (.goto 4, 3) := dk_167 0 4 (dk_at dksX11_isWho_1 4 rfl rfl)
theorem dX11_isWho_31 : decode cX11_isWho 31 = .ok (.iconst 0, 1) := dk_3 (dk_at dksX11_isWho_1 7 rfl rfl)
theorem dX11_isWho_32 : decode cX11_isWho 32 = .ok (.ireturn, 1) := dk_172 (dk_at dksX11_isWho_1 8 rfl rfl)
abbrev cX11_who : ByteArray := prog_23_method_18_code
def yX11_who : MethodName := ⟨RX11, "who", "()I"⟩
def dkwX11_who_3 : List UInt8 := [183, 0, 77, 191, 42, 182, 0, 94, 27, 172]
abbrev dktX11_who_3 : List UInt8 := dkwX11_who_3 ++ []
def dkwX11_who_2 : List UInt8 := [182, 0, 90, 191, 27, 42, 180, 0, 24, 180, 0, 199, 161, 0, 16, 187, 0, 75, 89, 7, 42, 180, 0, 43]
abbrev dktX11_who_2 : List UInt8 := dkwX11_who_2 ++ dktX11_who_3
def dkwX11_who_1 : List UInt8 := [167, 0, 17, 42, 18, 126, 182, 0, 86, 153, 0, 7, 5, 167, 0, 4, 2, 60, 27, 156, 0, 8, 42]
abbrev dktX11_who_1 : List UInt8 := dkwX11_who_1 ++ dktX11_who_2
def dkwX11_who_0 : List UInt8 := [42, 18, 122, 182, 0, 86, 153, 0, 7, 3, 167, 0, 30, 42, 18, 124, 182, 0, 86, 153, 0, 7, 4]
abbrev dktX11_who_0 : List UInt8 := dkwX11_who_0 ++ dktX11_who_1
theorem dksX11_who_0 : cX11_who.data.toList.drop 0 = dktX11_who_0 := by decide +kernel
theorem dksX11_who_1 : cX11_who.data.toList.drop 23 = dktX11_who_1 := dk_seg dksX11_who_0 23 rfl rfl
theorem dksX11_who_2 : cX11_who.data.toList.drop 46 = dktX11_who_2 := dk_seg dksX11_who_1 23 rfl rfl
theorem dksX11_who_3 : cX11_who.data.toList.drop 70 = dktX11_who_3 := dk_seg dksX11_who_2 24 rfl rfl
theorem dX11_who_0 : decode cX11_who 0 = .ok (.aload_n 0, 1) := dk_42 (dk_at dksX11_who_0 0 rfl rfl)
theorem dX11_who_1 : decode cX11_who 1 = .ok (.ldc 122, 2) := dk_18 122 (dk_at dksX11_who_0 1 rfl rfl)
theorem dX11_who_3 : decode cX11_who 3 = .ok (.invokevirtual 86, 3) := dk_182 0 86 (dk_at dksX11_who_0 3 rfl rfl)
theorem dX11_who_6 : decode cX11_who 6 = .ok (.ifCond .eq 7, 3) := dk_153 0 7 (dk_at dksX11_who_0 6 rfl rfl)
theorem dX11_who_9 : decode cX11_who 9 = .ok (.iconst 0, 1) := dk_3 (dk_at dksX11_who_0 9 rfl rfl)
theorem dX11_who_10 : decode cX11_who 10 = .ok (.goto 30, 3) := dk_167 0 30 (dk_at dksX11_who_0 10 rfl rfl)
theorem dX11_who_13 : decode cX11_who 13 = .ok (.aload_n 0, 1) := dk_42 (dk_at dksX11_who_0 13 rfl rfl)
theorem dX11_who_14 : decode cX11_who 14 = .ok (.ldc 124, 2) := dk_18 124 (dk_at dksX11_who_0 14 rfl rfl)
theorem dX11_who_16 : decode cX11_who 16 = .ok (.invokevirtual 86, 3) := dk_182 0 86 (dk_at dksX11_who_0 16 rfl rfl)
theorem dX11_who_19 : decode cX11_who 19 = .ok (.ifCond .eq 7, 3) := dk_153 0 7 (dk_at dksX11_who_0 19 rfl rfl)
theorem dX11_who_22 : decode cX11_who 22 = .ok (.iconst 1, 1) := dk_4 (dk_at dksX11_who_0 22 rfl rfl)
theorem dX11_who_23 : decode cX11_who 23 = .ok (.goto 17, 3) := dk_167 0 17 (dk_at dksX11_who_1 0 rfl rfl)
theorem dX11_who_26 : decode cX11_who 26 = .ok (.aload_n 0, 1) := dk_42 (dk_at dksX11_who_1 3 rfl rfl)
theorem dX11_who_27 : decode cX11_who 27 = .ok (.ldc 126, 2) := dk_18 126 (dk_at dksX11_who_1 4 rfl rfl)
theorem dX11_who_29 : decode cX11_who 29 = .ok (.invokevirtual 86, 3) := dk_182 0 86 (dk_at dksX11_who_1 6 rfl rfl)
theorem dX11_who_32 : decode cX11_who 32 = .ok (.ifCond .eq 7, 3) := dk_153 0 7 (dk_at dksX11_who_1 9 rfl rfl)
theorem dX11_who_35 : decode cX11_who 35 = .ok (.iconst 2, 1) := dk_5 (dk_at dksX11_who_1 12 rfl rfl)
theorem dX11_who_36 : decode cX11_who 36 = .ok (.goto 4, 3) := dk_167 0 4 (dk_at dksX11_who_1 13 rfl rfl)
theorem dX11_who_39 : decode cX11_who 39 = .ok (.iconst (-1), 1) := dk_2 (dk_at dksX11_who_1 16 rfl rfl)
theorem dX11_who_40 : decode cX11_who 40 = .ok (.istore_n 1, 1) := dk_60 (dk_at dksX11_who_1 17 rfl rfl)
theorem dX11_who_41 : decode cX11_who 41 = .ok (.iload_n 1, 1) := dk_27 (dk_at dksX11_who_1 18 rfl rfl)
theorem dX11_who_42 : decode cX11_who 42 = .ok (.ifCond .ge 8, 3) := dk_156 0 8 (dk_at dksX11_who_1 19 rfl rfl)
theorem dX11_who_45 : decode cX11_who 45 = .ok (.aload_n 0, 1) := dk_42 (dk_at dksX11_who_1 22 rfl rfl)
theorem dX11_who_46 : decode cX11_who 46 = .ok (.invokevirtual 90, 3) := dk_182 0 90 (dk_at dksX11_who_2 0 rfl rfl)
theorem dX11_who_49 : decode cX11_who 49 = .ok (.athrow, 1) := dk_191 (dk_at dksX11_who_2 3 rfl rfl)
theorem dX11_who_50 : decode cX11_who 50 = .ok (.iload_n 1, 1) := dk_27 (dk_at dksX11_who_2 4 rfl rfl)
theorem dX11_who_51 : decode cX11_who 51 = .ok (.aload_n 0, 1) := dk_42 (dk_at dksX11_who_2 5 rfl rfl)
theorem dX11_who_52 : decode cX11_who 52 = .ok (.getfield 24, 3) := dk_180 0 24 (dk_at dksX11_who_2 6 rfl rfl)
theorem dX11_who_55 : decode cX11_who 55 = .ok (.getfield 199, 3) := dk_180 0 199 (dk_at dksX11_who_2 9 rfl rfl)
theorem dX11_who_58 : decode cX11_who 58 = .ok (.if_icmp .lt 16, 3) := dk_161 0 16 (dk_at dksX11_who_2 12 rfl rfl)
theorem dX11_who_61 : decode cX11_who 61 = .ok (.new 75, 3) := dk_187 0 75 (dk_at dksX11_who_2 15 rfl rfl)
theorem dX11_who_64 : decode cX11_who 64 = .ok (.dup, 1) := dk_89 (dk_at dksX11_who_2 18 rfl rfl)
theorem dX11_who_65 : decode cX11_who 65 = .ok (.iconst 4, 1) := dk_7 (dk_at dksX11_who_2 19 rfl rfl)
theorem dX11_who_66 : decode cX11_who 66 = .ok (.aload_n 0, 1) := dk_42 (dk_at dksX11_who_2 20 rfl rfl)
theorem dX11_who_67 : decode cX11_who 67 = .ok (.getfield 43, 3) := dk_180 0 43 (dk_at dksX11_who_2 21 rfl rfl)
theorem dX11_who_70 : decode cX11_who 70 = .ok (.invokespecial 77, 3) := dk_183 0 77 (dk_at dksX11_who_3 0 rfl rfl)
theorem dX11_who_73 : decode cX11_who 73 = .ok (.athrow, 1) := dk_191 (dk_at dksX11_who_3 3 rfl rfl)
theorem dX11_who_74 : decode cX11_who 74 = .ok (.aload_n 0, 1) := dk_42 (dk_at dksX11_who_3 4 rfl rfl)
theorem dX11_who_75 : decode cX11_who 75 = .ok (.invokevirtual 94, 3) := dk_182 0 94 (dk_at dksX11_who_3 5 rfl rfl)
theorem dX11_who_78 : decode cX11_who 78 = .ok (.iload_n 1, 1) := dk_27 (dk_at dksX11_who_3 8 rfl rfl)
theorem dX11_who_79 : decode cX11_who 79 = .ok (.ireturn, 1) := dk_172 (dk_at dksX11_who_3 9 rfl rfl)
abbrev cX11_may : ByteArray := prog_23_method_16_code
def yX11_may : MethodName := ⟨RX11, "may", "()V"⟩
def dkwX11_may_4 : List UInt8 := [180, 0, 24, 180, 0, 227, 42, 182, 0, 230, 182, 0, 224, 87, 167, 0, 8, 42, 182, 0, 90, 191, 177]
abbrev dktX11_may_4 : List UInt8 := dkwX11_may_4 ++ []
def dkwX11_may_3 : List UInt8 := [180, 0, 24, 180, 0, 227, 182, 0, 163, 7, 160, 0, 13, 187, 0, 75, 89, 5, 27, 183, 0, 77, 191, 42]
abbrev dktX11_may_3 : List UInt8 := dkwX11_may_3 ++ dktX11_may_4
def dkwX11_may_2 : List UInt8 := [180, 0, 217, 42, 182, 0, 220, 182, 0, 224, 87, 167, 0, 59, 42, 18, 111, 182, 0, 86, 153, 0, 45, 42]
abbrev dktX11_may_2 : List UInt8 := dkwX11_may_2 ++ dktX11_may_3
def dkwX11_may_1 : List UInt8 := [182, 0, 163, 16, 8, 160, 0, 13, 187, 0, 75, 89, 5, 27, 183, 0, 77, 191, 42, 180, 0, 24]
abbrev dktX11_may_1 : List UInt8 := dkwX11_may_1 ++ dktX11_may_2
def dkwX11_may_0 : List UInt8 := [42, 180, 0, 43, 60, 42, 182, 0, 94, 42, 182, 0, 214, 153, 0, 46, 42, 180, 0, 24, 180, 0, 217]
abbrev dktX11_may_0 : List UInt8 := dkwX11_may_0 ++ dktX11_may_1
theorem dksX11_may_0 : cX11_may.data.toList.drop 0 = dktX11_may_0 := by decide +kernel
theorem dksX11_may_1 : cX11_may.data.toList.drop 23 = dktX11_may_1 := dk_seg dksX11_may_0 23 rfl rfl
theorem dksX11_may_2 : cX11_may.data.toList.drop 45 = dktX11_may_2 := dk_seg dksX11_may_1 22 rfl rfl
theorem dksX11_may_3 : cX11_may.data.toList.drop 69 = dktX11_may_3 := dk_seg dksX11_may_2 24 rfl rfl
theorem dksX11_may_4 : cX11_may.data.toList.drop 93 = dktX11_may_4 := dk_seg dksX11_may_3 24 rfl rfl
theorem dX11_may_0 : decode cX11_may 0 = .ok (.aload_n 0, 1) := dk_42 (dk_at dksX11_may_0 0 rfl rfl)
theorem dX11_may_1 : decode cX11_may 1 = .ok (.getfield 43, 3) := dk_180 0 43 (dk_at dksX11_may_0 1 rfl rfl)
theorem dX11_may_4 : decode cX11_may 4 = .ok (.istore_n 1, 1) := dk_60 (dk_at dksX11_may_0 4 rfl rfl)
theorem dX11_may_5 : decode cX11_may 5 = .ok (.aload_n 0, 1) := dk_42 (dk_at dksX11_may_0 5 rfl rfl)
theorem dX11_may_6 : decode cX11_may 6 = .ok (.invokevirtual 94, 3) := dk_182 0 94 (dk_at dksX11_may_0 6 rfl rfl)
theorem dX11_may_9 : decode cX11_may 9 = .ok (.aload_n 0, 1) := dk_42 (dk_at dksX11_may_0 9 rfl rfl)
theorem dX11_may_10 : decode cX11_may 10 = .ok (.invokevirtual 214, 3) := dk_182 0 214 (dk_at dksX11_may_0 10 rfl rfl)
theorem dX11_may_13 : decode cX11_may 13 = .ok (.ifCond .eq 46, 3) := dk_153 0 46 (dk_at dksX11_may_0 13 rfl rfl)
theorem dX11_may_16 : decode cX11_may 16 = .ok (.aload_n 0, 1) := dk_42 (dk_at dksX11_may_0 16 rfl rfl)
theorem dX11_may_17 : decode cX11_may 17 = .ok (.getfield 24, 3) := dk_180 0 24 (dk_at dksX11_may_0 17 rfl rfl)
theorem dX11_may_20 : decode cX11_may 20 = .ok (.getfield 217, 3) := dk_180 0 217 (dk_at dksX11_may_0 20 rfl rfl)
theorem dX11_may_23 : decode cX11_may 23 = .ok (.invokevirtual 163, 3) := dk_182 0 163 (dk_at dksX11_may_1 0 rfl rfl)
theorem dX11_may_26 : decode cX11_may 26 = .ok (.bipush 8, 2) := dk_16 8 (dk_at dksX11_may_1 3 rfl rfl)
theorem dX11_may_28 : decode cX11_may 28 = .ok (.if_icmp .ne 13, 3) := dk_160 0 13 (dk_at dksX11_may_1 5 rfl rfl)
theorem dX11_may_31 : decode cX11_may 31 = .ok (.new 75, 3) := dk_187 0 75 (dk_at dksX11_may_1 8 rfl rfl)
theorem dX11_may_34 : decode cX11_may 34 = .ok (.dup, 1) := dk_89 (dk_at dksX11_may_1 11 rfl rfl)
theorem dX11_may_35 : decode cX11_may 35 = .ok (.iconst 2, 1) := dk_5 (dk_at dksX11_may_1 12 rfl rfl)
theorem dX11_may_36 : decode cX11_may 36 = .ok (.iload_n 1, 1) := dk_27 (dk_at dksX11_may_1 13 rfl rfl)
theorem dX11_may_37 : decode cX11_may 37 = .ok (.invokespecial 77, 3) := dk_183 0 77 (dk_at dksX11_may_1 14 rfl rfl)
theorem dX11_may_40 : decode cX11_may 40 = .ok (.athrow, 1) := dk_191 (dk_at dksX11_may_1 17 rfl rfl)
theorem dX11_may_41 : decode cX11_may 41 = .ok (.aload_n 0, 1) := dk_42 (dk_at dksX11_may_1 18 rfl rfl)
theorem dX11_may_42 : decode cX11_may 42 = .ok (.getfield 24, 3) := dk_180 0 24 (dk_at dksX11_may_1 19 rfl rfl)
theorem dX11_may_45 : decode cX11_may 45 = .ok (.getfield 217, 3) := dk_180 0 217 (dk_at dksX11_may_2 0 rfl rfl)
theorem dX11_may_48 : decode cX11_may 48 = .ok (.aload_n 0, 1) := dk_42 (dk_at dksX11_may_2 3 rfl rfl)
theorem dX11_may_49 : decode cX11_may 49 = .ok (.invokevirtual 220, 3) := dk_182 0 220 (dk_at dksX11_may_2 4 rfl rfl)
theorem dX11_may_52 : decode cX11_may 52 = .ok (.invokevirtual 224, 3) := dk_182 0 224 (dk_at dksX11_may_2 7 rfl rfl)
theorem dX11_may_55 : decode cX11_may 55 = .ok (.pop, 1) := dk_87 (dk_at dksX11_may_2 10 rfl rfl)
theorem dX11_may_56 : decode cX11_may 56 = .ok (.goto 59, 3) := dk_167 0 59 (dk_at dksX11_may_2 11 rfl rfl)
theorem dX11_may_59 : decode cX11_may 59 = .ok (.aload_n 0, 1) := dk_42 (dk_at dksX11_may_2 14 rfl rfl)
theorem dX11_may_60 : decode cX11_may 60 = .ok (.ldc 111, 2) := dk_18 111 (dk_at dksX11_may_2 15 rfl rfl)
theorem dX11_may_62 : decode cX11_may 62 = .ok (.invokevirtual 86, 3) := dk_182 0 86 (dk_at dksX11_may_2 17 rfl rfl)
theorem dX11_may_65 : decode cX11_may 65 = .ok (.ifCond .eq 45, 3) := dk_153 0 45 (dk_at dksX11_may_2 20 rfl rfl)
theorem dX11_may_68 : decode cX11_may 68 = .ok (.aload_n 0, 1) := dk_42 (dk_at dksX11_may_2 23 rfl rfl)
theorem dX11_may_69 : decode cX11_may 69 = .ok (.getfield 24, 3) := dk_180 0 24 (dk_at dksX11_may_3 0 rfl rfl)
theorem dX11_may_72 : decode cX11_may 72 = .ok (.getfield 227, 3) := dk_180 0 227 (dk_at dksX11_may_3 3 rfl rfl)
theorem dX11_may_75 : decode cX11_may 75 = .ok (.invokevirtual 163, 3) := dk_182 0 163 (dk_at dksX11_may_3 6 rfl rfl)
theorem dX11_may_78 : decode cX11_may 78 = .ok (.iconst 4, 1) := dk_7 (dk_at dksX11_may_3 9 rfl rfl)
theorem dX11_may_79 : decode cX11_may 79 = .ok (.if_icmp .ne 13, 3) := dk_160 0 13 (dk_at dksX11_may_3 10 rfl rfl)
theorem dX11_may_82 : decode cX11_may 82 = .ok (.new 75, 3) := dk_187 0 75 (dk_at dksX11_may_3 13 rfl rfl)
theorem dX11_may_85 : decode cX11_may 85 = .ok (.dup, 1) := dk_89 (dk_at dksX11_may_3 16 rfl rfl)
theorem dX11_may_86 : decode cX11_may 86 = .ok (.iconst 2, 1) := dk_5 (dk_at dksX11_may_3 17 rfl rfl)
theorem dX11_may_87 : decode cX11_may 87 = .ok (.iload_n 1, 1) := dk_27 (dk_at dksX11_may_3 18 rfl rfl)
theorem dX11_may_88 : decode cX11_may 88 = .ok (.invokespecial 77, 3) := dk_183 0 77 (dk_at dksX11_may_3 19 rfl rfl)
theorem dX11_may_91 : decode cX11_may 91 = .ok (.athrow, 1) := dk_191 (dk_at dksX11_may_3 22 rfl rfl)
theorem dX11_may_92 : decode cX11_may 92 = .ok (.aload_n 0, 1) := dk_42 (dk_at dksX11_may_3 23 rfl rfl)
theorem dX11_may_93 : decode cX11_may 93 = .ok (.getfield 24, 3) := dk_180 0 24 (dk_at dksX11_may_4 0 rfl rfl)
theorem dX11_may_96 : decode cX11_may 96 = .ok (.getfield 227, 3) := dk_180 0 227 (dk_at dksX11_may_4 3 rfl rfl)
theorem dX11_may_99 : decode cX11_may 99 = .ok (.aload_n 0, 1) := dk_42 (dk_at dksX11_may_4 6 rfl rfl)
theorem dX11_may_100 : decode cX11_may 100 = .ok (.invokevirtual 230, 3) := dk_182 0 230 (dk_at dksX11_may_4 7 rfl rfl)
theorem dX11_may_103 : decode cX11_may 103 = .ok (.invokevirtual 224, 3) := dk_182 0 224 (dk_at dksX11_may_4 10 rfl rfl)
theorem dX11_may_106 : decode cX11_may 106 = .ok (.pop, 1) := dk_87 (dk_at dksX11_may_4 13 rfl rfl)
theorem dX11_may_107 : decode cX11_may 107 = .ok (.goto 8, 3) := dk_167 0 8 (dk_at dksX11_may_4 14 rfl rfl)
theorem dX11_may_110 : decode cX11_may 110 = .ok (.aload_n 0, 1) := dk_42 (dk_at dksX11_may_4 17 rfl rfl)
theorem dX11_may_111 : decode cX11_may 111 = .ok (.invokevirtual 90, 3) := dk_182 0 90 (dk_at dksX11_may_4 18 rfl rfl)
theorem dX11_may_114 : decode cX11_may 114 = .ok (.athrow, 1) := dk_191 (dk_at dksX11_may_4 21 rfl rfl)
theorem dX11_may_115 : decode cX11_may 115 = .ok (.return_, 1) := dk_177 (dk_at dksX11_may_4 22 rfl rfl)
abbrev cX11_isMove : ByteArray := prog_23_method_15_code
def yX11_isMove : MethodName := ⟨RX11, "isMove", "()Z"⟩
def dkwX11_isMove_1 : List UInt8 := [153, 0, 7, 4, 167, 0, 4, 3, 172]
abbrev dktX11_isMove_1 : List UInt8 := dkwX11_isMove_1 ++ []
def dkwX11_isMove_0 : List UInt8 := [42, 18, 132, 182, 0, 86, 154, 0, 19, 42, 18, 134, 182, 0, 86, 154, 0, 10, 42, 182, 0, 210]
abbrev dktX11_isMove_0 : List UInt8 := dkwX11_isMove_0 ++ dktX11_isMove_1
theorem dksX11_isMove_0 : cX11_isMove.data.toList.drop 0 = dktX11_isMove_0 := by decide +kernel
theorem dksX11_isMove_1 : cX11_isMove.data.toList.drop 22 = dktX11_isMove_1 := dk_seg dksX11_isMove_0 22 rfl rfl
theorem dX11_isMove_0 : decode cX11_isMove 0 = .ok (.aload_n 0, 1) := dk_42 (dk_at dksX11_isMove_0 0 rfl rfl)
theorem dX11_isMove_1 : decode cX11_isMove 1 = .ok (.ldc 132, 2) := dk_18 132 (dk_at dksX11_isMove_0 1 rfl rfl)
theorem dX11_isMove_3 : decode cX11_isMove 3 = .ok (.invokevirtual 86, 3) := dk_182 0 86 (dk_at dksX11_isMove_0 3 rfl rfl)
theorem dX11_isMove_6 : decode cX11_isMove 6 = .ok (.ifCond .ne 19, 3) := dk_154 0 19 (dk_at dksX11_isMove_0 6 rfl rfl)
theorem dX11_isMove_9 : decode cX11_isMove 9 = .ok (.aload_n 0, 1) := dk_42 (dk_at dksX11_isMove_0 9 rfl rfl)
theorem dX11_isMove_10 : decode cX11_isMove 10 = .ok (.ldc 134, 2) := dk_18 134 (dk_at dksX11_isMove_0 10 rfl rfl)
theorem dX11_isMove_12 : decode cX11_isMove 12 = .ok (.invokevirtual 86, 3) := dk_182 0 86 (dk_at dksX11_isMove_0 12 rfl rfl)
theorem dX11_isMove_15 : decode cX11_isMove 15 = .ok (.ifCond .ne 10, 3) := dk_154 0 10 (dk_at dksX11_isMove_0 15 rfl rfl)
theorem dX11_isMove_18 : decode cX11_isMove 18 = .ok (.aload_n 0, 1) := dk_42 (dk_at dksX11_isMove_0 18 rfl rfl)
theorem dX11_isMove_19 : decode cX11_isMove 19 = .ok (.invokevirtual 210, 3) := dk_182 0 210 (dk_at dksX11_isMove_0 19 rfl rfl)
theorem dX11_isMove_22 : decode cX11_isMove 22 = .ok (.ifCond .eq 7, 3) := dk_153 0 7 (dk_at dksX11_isMove_1 0 rfl rfl)
theorem dX11_isMove_25 : decode cX11_isMove 25 = .ok (.iconst 1, 1) := dk_4 (dk_at dksX11_isMove_1 3 rfl rfl)
theorem dX11_isMove_26 : decode cX11_isMove 26 = .ok (.goto 4, 3) := dk_167 0 4 (dk_at dksX11_isMove_1 4 rfl rfl)
theorem dX11_isMove_29 : decode cX11_isMove 29 = .ok (.iconst 0, 1) := dk_3 (dk_at dksX11_isMove_1 7 rfl rfl)
theorem dX11_isMove_30 : decode cX11_isMove 30 = .ok (.ireturn, 1) := dk_172 (dk_at dksX11_isMove_1 8 rfl rfl)
abbrev cX11_isShuffle : ByteArray := prog_23_method_14_code
def yX11_isShuffle : MethodName := ⟨RX11, "isShuffle", "()Z"⟩
def dkwX11_isShuffle_1 : List UInt8 := [154, 0, 12, 42, 18, 146, 182, 0, 86, 153, 0, 7, 4, 167, 0, 4, 3, 172]
abbrev dktX11_isShuffle_1 : List UInt8 := dkwX11_isShuffle_1 ++ []
def dkwX11_isShuffle_0 : List UInt8 := [42, 18, 136, 182, 0, 86, 154, 0, 30, 42, 18, 140, 182, 0, 86, 154, 0, 21, 42, 18, 142, 182, 0, 86]
abbrev dktX11_isShuffle_0 : List UInt8 := dkwX11_isShuffle_0 ++ dktX11_isShuffle_1
theorem dksX11_isShuffle_0 : cX11_isShuffle.data.toList.drop 0 = dktX11_isShuffle_0 := by decide +kernel
theorem dksX11_isShuffle_1 : cX11_isShuffle.data.toList.drop 24 = dktX11_isShuffle_1 := dk_seg dksX11_isShuffle_0 24 rfl rfl
theorem dX11_isShuffle_0 : decode cX11_isShuffle 0 = .ok (.aload_n 0, 1) := dk_42 (dk_at dksX11_isShuffle_0 0 rfl rfl)
theorem dX11_isShuffle_1 : decode cX11_isShuffle 1 = .ok (.ldc 136, 2) := dk_18 136 (dk_at dksX11_isShuffle_0 1 rfl rfl)
theorem dX11_isShuffle_3 : decode cX11_isShuffle 3 = .ok (.invokevirtual 86, 3) := dk_182 0 86 (dk_at dksX11_isShuffle_0 3 rfl rfl)
theorem dX11_isShuffle_6 : decode cX11_isShuffle 6 = .ok (.ifCond .ne 30, 3) := dk_154 0 30 (dk_at dksX11_isShuffle_0 6 rfl rfl)
theorem dX11_isShuffle_9 : decode cX11_isShuffle 9 = .ok (.aload_n 0, 1) := dk_42 (dk_at dksX11_isShuffle_0 9 rfl rfl)
theorem dX11_isShuffle_10 : decode cX11_isShuffle 10 = .ok (.ldc 140, 2) := dk_18 140 (dk_at dksX11_isShuffle_0 10 rfl rfl)
theorem dX11_isShuffle_12 : decode cX11_isShuffle 12 = .ok (.invokevirtual 86, 3) := dk_182 0 86 (dk_at dksX11_isShuffle_0 12 rfl rfl)
theorem dX11_isShuffle_15 : decode cX11_isShuffle 15 = .ok (.ifCond .ne 21, 3) := dk_154 0 21 (dk_at dksX11_isShuffle_0 15 rfl rfl)
theorem dX11_isShuffle_18 : decode cX11_isShuffle 18 = .ok (.aload_n 0, 1) := dk_42 (dk_at dksX11_isShuffle_0 18 rfl rfl)
theorem dX11_isShuffle_19 : decode cX11_isShuffle 19 = .ok (.ldc 142, 2) := dk_18 142 (dk_at dksX11_isShuffle_0 19 rfl rfl)
theorem dX11_isShuffle_21 : decode cX11_isShuffle 21 = .ok (.invokevirtual 86, 3) := dk_182 0 86 (dk_at dksX11_isShuffle_0 21 rfl rfl)
theorem dX11_isShuffle_24 : decode cX11_isShuffle 24 = .ok (.ifCond .ne 12, 3) := dk_154 0 12 (dk_at dksX11_isShuffle_1 0 rfl rfl)
theorem dX11_isShuffle_27 : decode cX11_isShuffle 27 = .ok (.aload_n 0, 1) := dk_42 (dk_at dksX11_isShuffle_1 3 rfl rfl)
theorem dX11_isShuffle_28 : decode cX11_isShuffle 28 = .ok (.ldc 146, 2) := dk_18 146 (dk_at dksX11_isShuffle_1 4 rfl rfl)
theorem dX11_isShuffle_30 : decode cX11_isShuffle 30 = .ok (.invokevirtual 86, 3) := dk_182 0 86 (dk_at dksX11_isShuffle_1 6 rfl rfl)
theorem dX11_isShuffle_33 : decode cX11_isShuffle 33 = .ok (.ifCond .eq 7, 3) := dk_153 0 7 (dk_at dksX11_isShuffle_1 9 rfl rfl)
theorem dX11_isShuffle_36 : decode cX11_isShuffle 36 = .ok (.iconst 1, 1) := dk_4 (dk_at dksX11_isShuffle_1 12 rfl rfl)
theorem dX11_isShuffle_37 : decode cX11_isShuffle 37 = .ok (.goto 4, 3) := dk_167 0 4 (dk_at dksX11_isShuffle_1 13 rfl rfl)
theorem dX11_isShuffle_40 : decode cX11_isShuffle 40 = .ok (.iconst 0, 1) := dk_3 (dk_at dksX11_isShuffle_1 16 rfl rfl)
theorem dX11_isShuffle_41 : decode cX11_isShuffle 41 = .ok (.ireturn, 1) := dk_172 (dk_at dksX11_isShuffle_1 17 rfl rfl)
abbrev cX11_move : ByteArray := prog_23_method_23_code
def yX11_move : MethodName := ⟨RX11, "move", "()LBlindCards$Move;"⟩
def dkwX11_move_9 : List UInt8 := [21, 5, 21, 7, 21, 4, 183, 1, 22, 167, 0, 14, 187, 1, 25, 89, 21, 5, 21, 7, 183, 1, 27, 176]
abbrev dktX11_move_9 : List UInt8 := dkwX11_move_9 ++ []
def dkwX11_move_8 : List UInt8 := [89, 21, 5, 21, 7, 183, 1, 19, 167, 0, 38, 27, 154, 0, 7, 29, 153, 0, 19, 187, 1, 20, 89]
abbrev dktX11_move_8 : List UInt8 := dkwX11_move_8 ++ dktX11_move_9
def dkwX11_move_7 : List UInt8 := [21, 8, 7, 164, 0, 14, 187, 0, 75, 89, 7, 21, 6, 183, 0, 77, 191, 28, 153, 0, 17, 187, 1, 17]
abbrev dktX11_move_7 : List UInt8 := dkwX11_move_7 ++ dktX11_move_8
def dkwX11_move_6 : List UInt8 := [157, 0, 30, 21, 8, 5, 21, 4, 104, 161, 0, 21, 27, 154, 0, 28, 28, 154, 0, 24, 29, 154, 0, 20]
abbrev dktX11_move_6 : List UInt8 := dkwX11_move_6 ++ dktX11_move_7
def dkwX11_move_5 : List UInt8 := [161, 0, 53, 28, 153, 0, 10, 21, 8, 5, 112, 157, 0, 42, 29, 153, 0, 20, 21, 8, 21, 4, 112]
abbrev dktX11_move_5 : List UInt8 := dkwX11_move_5 ++ dktX11_move_6
def dkwX11_move_4 : List UInt8 := [180, 0, 43, 54, 6, 42, 182, 1, 15, 54, 7, 21, 7, 21, 5, 100, 4, 96, 54, 8, 21, 8, 5]
abbrev dktX11_move_4 : List UInt8 := dkwX11_move_4 ++ dktX11_move_5
def dkwX11_move_3 : List UInt8 := [153, 0, 9, 42, 18, 144, 182, 1, 11, 42, 182, 1, 15, 54, 5, 42, 18, 138, 182, 1, 11, 42]
abbrev dktX11_move_3 : List UInt8 := dkwX11_move_3 ++ dktX11_move_4
def dkwX11_move_2 : List UInt8 := [62, 42, 182, 0, 94, 29, 153, 0, 12, 42, 4, 7, 182, 0, 196, 167, 0, 4, 4, 54, 4, 29]
abbrev dktX11_move_2 : List UInt8 := dkwX11_move_2 ++ dktX11_move_3
def dkwX11_move_1 : List UInt8 := [182, 1, 9, 176, 42, 18, 136, 182, 0, 86, 60, 42, 18, 140, 182, 0, 86, 61, 42, 18, 142, 182, 0, 86]
abbrev dktX11_move_1 : List UInt8 := dkwX11_move_1 ++ dktX11_move_2
def dkwX11_move_0 : List UInt8 := [42, 18, 132, 182, 0, 86, 153, 0, 8, 42, 182, 1, 7, 176, 42, 18, 134, 182, 0, 86, 153, 0, 8, 42]
abbrev dktX11_move_0 : List UInt8 := dkwX11_move_0 ++ dktX11_move_1
theorem dksX11_move_0 : cX11_move.data.toList.drop 0 = dktX11_move_0 := by decide +kernel
theorem dksX11_move_1 : cX11_move.data.toList.drop 24 = dktX11_move_1 := dk_seg dksX11_move_0 24 rfl rfl
theorem dksX11_move_2 : cX11_move.data.toList.drop 48 = dktX11_move_2 := dk_seg dksX11_move_1 24 rfl rfl
theorem dksX11_move_3 : cX11_move.data.toList.drop 70 = dktX11_move_3 := dk_seg dksX11_move_2 22 rfl rfl
theorem dksX11_move_4 : cX11_move.data.toList.drop 92 = dktX11_move_4 := dk_seg dksX11_move_3 22 rfl rfl
theorem dksX11_move_5 : cX11_move.data.toList.drop 115 = dktX11_move_5 := dk_seg dksX11_move_4 23 rfl rfl
theorem dksX11_move_6 : cX11_move.data.toList.drop 138 = dktX11_move_6 := dk_seg dksX11_move_5 23 rfl rfl
theorem dksX11_move_7 : cX11_move.data.toList.drop 162 = dktX11_move_7 := dk_seg dksX11_move_6 24 rfl rfl
theorem dksX11_move_8 : cX11_move.data.toList.drop 186 = dktX11_move_8 := dk_seg dksX11_move_7 24 rfl rfl
theorem dksX11_move_9 : cX11_move.data.toList.drop 209 = dktX11_move_9 := dk_seg dksX11_move_8 23 rfl rfl
theorem dX11_move_0 : decode cX11_move 0 = .ok (.aload_n 0, 1) := dk_42 (dk_at dksX11_move_0 0 rfl rfl)
theorem dX11_move_1 : decode cX11_move 1 = .ok (.ldc 132, 2) := dk_18 132 (dk_at dksX11_move_0 1 rfl rfl)
theorem dX11_move_3 : decode cX11_move 3 = .ok (.invokevirtual 86, 3) := dk_182 0 86 (dk_at dksX11_move_0 3 rfl rfl)
theorem dX11_move_6 : decode cX11_move 6 = .ok (.ifCond .eq 8, 3) := dk_153 0 8 (dk_at dksX11_move_0 6 rfl rfl)
theorem dX11_move_9 : decode cX11_move 9 = .ok (.aload_n 0, 1) := dk_42 (dk_at dksX11_move_0 9 rfl rfl)
theorem dX11_move_10 : decode cX11_move 10 = .ok (.invokevirtual 263, 3) := dk_182 1 7 (dk_at dksX11_move_0 10 rfl rfl)
theorem dX11_move_13 : decode cX11_move 13 = .ok (.areturn, 1) := dk_176 (dk_at dksX11_move_0 13 rfl rfl)
theorem dX11_move_14 : decode cX11_move 14 = .ok (.aload_n 0, 1) := dk_42 (dk_at dksX11_move_0 14 rfl rfl)
theorem dX11_move_15 : decode cX11_move 15 = .ok (.ldc 134, 2) := dk_18 134 (dk_at dksX11_move_0 15 rfl rfl)
theorem dX11_move_17 : decode cX11_move 17 = .ok (.invokevirtual 86, 3) := dk_182 0 86 (dk_at dksX11_move_0 17 rfl rfl)
theorem dX11_move_20 : decode cX11_move 20 = .ok (.ifCond .eq 8, 3) := dk_153 0 8 (dk_at dksX11_move_0 20 rfl rfl)
theorem dX11_move_23 : decode cX11_move 23 = .ok (.aload_n 0, 1) := dk_42 (dk_at dksX11_move_0 23 rfl rfl)
theorem dX11_move_24 : decode cX11_move 24 = .ok (.invokevirtual 265, 3) := dk_182 1 9 (dk_at dksX11_move_1 0 rfl rfl)
theorem dX11_move_27 : decode cX11_move 27 = .ok (.areturn, 1) := dk_176 (dk_at dksX11_move_1 3 rfl rfl)
theorem dX11_move_28 : decode cX11_move 28 = .ok (.aload_n 0, 1) := dk_42 (dk_at dksX11_move_1 4 rfl rfl)
theorem dX11_move_29 : decode cX11_move 29 = .ok (.ldc 136, 2) := dk_18 136 (dk_at dksX11_move_1 5 rfl rfl)
theorem dX11_move_31 : decode cX11_move 31 = .ok (.invokevirtual 86, 3) := dk_182 0 86 (dk_at dksX11_move_1 7 rfl rfl)
theorem dX11_move_34 : decode cX11_move 34 = .ok (.istore_n 1, 1) := dk_60 (dk_at dksX11_move_1 10 rfl rfl)
theorem dX11_move_35 : decode cX11_move 35 = .ok (.aload_n 0, 1) := dk_42 (dk_at dksX11_move_1 11 rfl rfl)
theorem dX11_move_36 : decode cX11_move 36 = .ok (.ldc 140, 2) := dk_18 140 (dk_at dksX11_move_1 12 rfl rfl)
theorem dX11_move_38 : decode cX11_move 38 = .ok (.invokevirtual 86, 3) := dk_182 0 86 (dk_at dksX11_move_1 14 rfl rfl)
theorem dX11_move_41 : decode cX11_move 41 = .ok (.istore_n 2, 1) := dk_61 (dk_at dksX11_move_1 17 rfl rfl)
theorem dX11_move_42 : decode cX11_move 42 = .ok (.aload_n 0, 1) := dk_42 (dk_at dksX11_move_1 18 rfl rfl)
theorem dX11_move_43 : decode cX11_move 43 = .ok (.ldc 142, 2) := dk_18 142 (dk_at dksX11_move_1 19 rfl rfl)
theorem dX11_move_45 : decode cX11_move 45 = .ok (.invokevirtual 86, 3) := dk_182 0 86 (dk_at dksX11_move_1 21 rfl rfl)
theorem dX11_move_48 : decode cX11_move 48 = .ok (.istore_n 3, 1) := dk_62 (dk_at dksX11_move_2 0 rfl rfl)
theorem dX11_move_49 : decode cX11_move 49 = .ok (.aload_n 0, 1) := dk_42 (dk_at dksX11_move_2 1 rfl rfl)
theorem dX11_move_50 : decode cX11_move 50 = .ok (.invokevirtual 94, 3) := dk_182 0 94 (dk_at dksX11_move_2 2 rfl rfl)
theorem dX11_move_53 : decode cX11_move 53 = .ok (.iload_n 3, 1) := dk_29 (dk_at dksX11_move_2 5 rfl rfl)
theorem dX11_move_54 : decode cX11_move 54 = .ok (.ifCond .eq 12, 3) := dk_153 0 12 (dk_at dksX11_move_2 6 rfl rfl)
theorem dX11_move_57 : decode cX11_move 57 = .ok (.aload_n 0, 1) := dk_42 (dk_at dksX11_move_2 9 rfl rfl)
theorem dX11_move_58 : decode cX11_move 58 = .ok (.iconst 1, 1) := dk_4 (dk_at dksX11_move_2 10 rfl rfl)
theorem dX11_move_59 : decode cX11_move 59 = .ok (.iconst 4, 1) := dk_7 (dk_at dksX11_move_2 11 rfl rfl)
theorem dX11_move_60 : decode cX11_move 60 = .ok (.invokevirtual 196, 3) := dk_182 0 196 (dk_at dksX11_move_2 12 rfl rfl)
theorem dX11_move_63 : decode cX11_move 63 = .ok (.goto 4, 3) := dk_167 0 4 (dk_at dksX11_move_2 15 rfl rfl)
theorem dX11_move_66 : decode cX11_move 66 = .ok (.iconst 1, 1) := dk_4 (dk_at dksX11_move_2 18 rfl rfl)
theorem dX11_move_67 : decode cX11_move 67 = .ok (.istore 4, 2) := dk_54 4 (dk_at dksX11_move_2 19 rfl rfl)
theorem dX11_move_69 : decode cX11_move 69 = .ok (.iload_n 3, 1) := dk_29 (dk_at dksX11_move_2 21 rfl rfl)
theorem dX11_move_70 : decode cX11_move 70 = .ok (.ifCond .eq 9, 3) := dk_153 0 9 (dk_at dksX11_move_3 0 rfl rfl)
theorem dX11_move_73 : decode cX11_move 73 = .ok (.aload_n 0, 1) := dk_42 (dk_at dksX11_move_3 3 rfl rfl)
theorem dX11_move_74 : decode cX11_move 74 = .ok (.ldc 144, 2) := dk_18 144 (dk_at dksX11_move_3 4 rfl rfl)
theorem dX11_move_76 : decode cX11_move 76 = .ok (.invokevirtual 267, 3) := dk_182 1 11 (dk_at dksX11_move_3 6 rfl rfl)
theorem dX11_move_79 : decode cX11_move 79 = .ok (.aload_n 0, 1) := dk_42 (dk_at dksX11_move_3 9 rfl rfl)
theorem dX11_move_80 : decode cX11_move 80 = .ok (.invokevirtual 271, 3) := dk_182 1 15 (dk_at dksX11_move_3 10 rfl rfl)
theorem dX11_move_83 : decode cX11_move 83 = .ok (.istore 5, 2) := dk_54 5 (dk_at dksX11_move_3 13 rfl rfl)
theorem dX11_move_85 : decode cX11_move 85 = .ok (.aload_n 0, 1) := dk_42 (dk_at dksX11_move_3 15 rfl rfl)
theorem dX11_move_86 : decode cX11_move 86 = .ok (.ldc 138, 2) := dk_18 138 (dk_at dksX11_move_3 16 rfl rfl)
theorem dX11_move_88 : decode cX11_move 88 = .ok (.invokevirtual 267, 3) := dk_182 1 11 (dk_at dksX11_move_3 18 rfl rfl)
theorem dX11_move_91 : decode cX11_move 91 = .ok (.aload_n 0, 1) := dk_42 (dk_at dksX11_move_3 21 rfl rfl)
theorem dX11_move_92 : decode cX11_move 92 = .ok (.getfield 43, 3) := dk_180 0 43 (dk_at dksX11_move_4 0 rfl rfl)
theorem dX11_move_95 : decode cX11_move 95 = .ok (.istore 6, 2) := dk_54 6 (dk_at dksX11_move_4 3 rfl rfl)
theorem dX11_move_97 : decode cX11_move 97 = .ok (.aload_n 0, 1) := dk_42 (dk_at dksX11_move_4 5 rfl rfl)
theorem dX11_move_98 : decode cX11_move 98 = .ok (.invokevirtual 271, 3) := dk_182 1 15 (dk_at dksX11_move_4 6 rfl rfl)
theorem dX11_move_101 : decode cX11_move 101 = .ok (.istore 7, 2) := dk_54 7 (dk_at dksX11_move_4 9 rfl rfl)
theorem dX11_move_103 : decode cX11_move 103 = .ok (.iload 7, 2) := dk_21 7 (dk_at dksX11_move_4 11 rfl rfl)
theorem dX11_move_105 : decode cX11_move 105 = .ok (.iload 5, 2) := dk_21 5 (dk_at dksX11_move_4 13 rfl rfl)
theorem dX11_move_107 : decode cX11_move 107 = .ok (.isub, 1) := dk_100 (dk_at dksX11_move_4 15 rfl rfl)
theorem dX11_move_108 : decode cX11_move 108 = .ok (.iconst 1, 1) := dk_4 (dk_at dksX11_move_4 16 rfl rfl)
theorem dX11_move_109 : decode cX11_move 109 = .ok (.iadd, 1) := dk_96 (dk_at dksX11_move_4 17 rfl rfl)
theorem dX11_move_110 : decode cX11_move 110 = .ok (.istore 8, 2) := dk_54 8 (dk_at dksX11_move_4 18 rfl rfl)
theorem dX11_move_112 : decode cX11_move 112 = .ok (.iload 8, 2) := dk_21 8 (dk_at dksX11_move_4 20 rfl rfl)
theorem dX11_move_114 : decode cX11_move 114 = .ok (.iconst 2, 1) := dk_5 (dk_at dksX11_move_4 22 rfl rfl)
theorem dX11_move_115 : decode cX11_move 115 = .ok (.if_icmp .lt 53, 3) := dk_161 0 53 (dk_at dksX11_move_5 0 rfl rfl)
theorem dX11_move_118 : decode cX11_move 118 = .ok (.iload_n 2, 1) := dk_28 (dk_at dksX11_move_5 3 rfl rfl)
theorem dX11_move_119 : decode cX11_move 119 = .ok (.ifCond .eq 10, 3) := dk_153 0 10 (dk_at dksX11_move_5 4 rfl rfl)
theorem dX11_move_122 : decode cX11_move 122 = .ok (.iload 8, 2) := dk_21 8 (dk_at dksX11_move_5 7 rfl rfl)
theorem dX11_move_124 : decode cX11_move 124 = .ok (.iconst 2, 1) := dk_5 (dk_at dksX11_move_5 9 rfl rfl)
theorem dX11_move_125 : decode cX11_move 125 = .ok (.irem, 1) := dk_112 (dk_at dksX11_move_5 10 rfl rfl)
theorem dX11_move_126 : decode cX11_move 126 = .ok (.ifCond .gt 42, 3) := dk_157 0 42 (dk_at dksX11_move_5 11 rfl rfl)
theorem dX11_move_129 : decode cX11_move 129 = .ok (.iload_n 3, 1) := dk_29 (dk_at dksX11_move_5 14 rfl rfl)
theorem dX11_move_130 : decode cX11_move 130 = .ok (.ifCond .eq 20, 3) := dk_153 0 20 (dk_at dksX11_move_5 15 rfl rfl)
theorem dX11_move_133 : decode cX11_move 133 = .ok (.iload 8, 2) := dk_21 8 (dk_at dksX11_move_5 18 rfl rfl)
theorem dX11_move_135 : decode cX11_move 135 = .ok (.iload 4, 2) := dk_21 4 (dk_at dksX11_move_5 20 rfl rfl)
theorem dX11_move_137 : decode cX11_move 137 = .ok (.irem, 1) := dk_112 (dk_at dksX11_move_5 22 rfl rfl)
theorem dX11_move_138 : decode cX11_move 138 = .ok (.ifCond .gt 30, 3) := dk_157 0 30 (dk_at dksX11_move_6 0 rfl rfl)
theorem dX11_move_141 : decode cX11_move 141 = .ok (.iload 8, 2) := dk_21 8 (dk_at dksX11_move_6 3 rfl rfl)
theorem dX11_move_143 : decode cX11_move 143 = .ok (.iconst 2, 1) := dk_5 (dk_at dksX11_move_6 5 rfl rfl)
theorem dX11_move_144 : decode cX11_move 144 = .ok (.iload 4, 2) := dk_21 4 (dk_at dksX11_move_6 6 rfl rfl)
theorem dX11_move_146 : decode cX11_move 146 = .ok (.imul, 1) := dk_104 (dk_at dksX11_move_6 8 rfl rfl)
theorem dX11_move_147 : decode cX11_move 147 = .ok (.if_icmp .lt 21, 3) := dk_161 0 21 (dk_at dksX11_move_6 9 rfl rfl)
theorem dX11_move_150 : decode cX11_move 150 = .ok (.iload_n 1, 1) := dk_27 (dk_at dksX11_move_6 12 rfl rfl)
theorem dX11_move_151 : decode cX11_move 151 = .ok (.ifCond .ne 28, 3) := dk_154 0 28 (dk_at dksX11_move_6 13 rfl rfl)
theorem dX11_move_154 : decode cX11_move 154 = .ok (.iload_n 2, 1) := dk_28 (dk_at dksX11_move_6 16 rfl rfl)
theorem dX11_move_155 : decode cX11_move 155 = .ok (.ifCond .ne 24, 3) := dk_154 0 24 (dk_at dksX11_move_6 17 rfl rfl)
theorem dX11_move_158 : decode cX11_move 158 = .ok (.iload_n 3, 1) := dk_29 (dk_at dksX11_move_6 20 rfl rfl)
theorem dX11_move_159 : decode cX11_move 159 = .ok (.ifCond .ne 20, 3) := dk_154 0 20 (dk_at dksX11_move_6 21 rfl rfl)
theorem dX11_move_162 : decode cX11_move 162 = .ok (.iload 8, 2) := dk_21 8 (dk_at dksX11_move_7 0 rfl rfl)
theorem dX11_move_164 : decode cX11_move 164 = .ok (.iconst 4, 1) := dk_7 (dk_at dksX11_move_7 2 rfl rfl)
theorem dX11_move_165 : decode cX11_move 165 = .ok (.if_icmp .le 14, 3) := dk_164 0 14 (dk_at dksX11_move_7 3 rfl rfl)
theorem dX11_move_168 : decode cX11_move 168 = .ok (.new 75, 3) := dk_187 0 75 (dk_at dksX11_move_7 6 rfl rfl)
theorem dX11_move_171 : decode cX11_move 171 = .ok (.dup, 1) := dk_89 (dk_at dksX11_move_7 9 rfl rfl)
theorem dX11_move_172 : decode cX11_move 172 = .ok (.iconst 4, 1) := dk_7 (dk_at dksX11_move_7 10 rfl rfl)
theorem dX11_move_173 : decode cX11_move 173 = .ok (.iload 6, 2) := dk_21 6 (dk_at dksX11_move_7 11 rfl rfl)
theorem dX11_move_175 : decode cX11_move 175 = .ok (.invokespecial 77, 3) := dk_183 0 77 (dk_at dksX11_move_7 13 rfl rfl)
theorem dX11_move_178 : decode cX11_move 178 = .ok (.athrow, 1) := dk_191 (dk_at dksX11_move_7 16 rfl rfl)
theorem dX11_move_179 : decode cX11_move 179 = .ok (.iload_n 2, 1) := dk_28 (dk_at dksX11_move_7 17 rfl rfl)
theorem dX11_move_180 : decode cX11_move 180 = .ok (.ifCond .eq 17, 3) := dk_153 0 17 (dk_at dksX11_move_7 18 rfl rfl)
theorem dX11_move_183 : decode cX11_move 183 = .ok (.new 273, 3) := dk_187 1 17 (dk_at dksX11_move_7 21 rfl rfl)
theorem dX11_move_186 : decode cX11_move 186 = .ok (.dup, 1) := dk_89 (dk_at dksX11_move_8 0 rfl rfl)
theorem dX11_move_187 : decode cX11_move 187 = .ok (.iload 5, 2) := dk_21 5 (dk_at dksX11_move_8 1 rfl rfl)
theorem dX11_move_189 : decode cX11_move 189 = .ok (.iload 7, 2) := dk_21 7 (dk_at dksX11_move_8 3 rfl rfl)
theorem dX11_move_191 : decode cX11_move 191 = .ok (.invokespecial 275, 3) := dk_183 1 19 (dk_at dksX11_move_8 5 rfl rfl)
theorem dX11_move_194 : decode cX11_move 194 = .ok (.goto 38, 3) := dk_167 0 38 (dk_at dksX11_move_8 8 rfl rfl)
theorem dX11_move_197 : decode cX11_move 197 = .ok (.iload_n 1, 1) := dk_27 (dk_at dksX11_move_8 11 rfl rfl)
theorem dX11_move_198 : decode cX11_move 198 = .ok (.ifCond .ne 7, 3) := dk_154 0 7 (dk_at dksX11_move_8 12 rfl rfl)
theorem dX11_move_201 : decode cX11_move 201 = .ok (.iload_n 3, 1) := dk_29 (dk_at dksX11_move_8 15 rfl rfl)
theorem dX11_move_202 : decode cX11_move 202 = .ok (.ifCond .eq 19, 3) := dk_153 0 19 (dk_at dksX11_move_8 16 rfl rfl)
theorem dX11_move_205 : decode cX11_move 205 = .ok (.new 276, 3) := dk_187 1 20 (dk_at dksX11_move_8 19 rfl rfl)
theorem dX11_move_208 : decode cX11_move 208 = .ok (.dup, 1) := dk_89 (dk_at dksX11_move_8 22 rfl rfl)
theorem dX11_move_209 : decode cX11_move 209 = .ok (.iload 5, 2) := dk_21 5 (dk_at dksX11_move_9 0 rfl rfl)
theorem dX11_move_211 : decode cX11_move 211 = .ok (.iload 7, 2) := dk_21 7 (dk_at dksX11_move_9 2 rfl rfl)
theorem dX11_move_213 : decode cX11_move 213 = .ok (.iload 4, 2) := dk_21 4 (dk_at dksX11_move_9 4 rfl rfl)
theorem dX11_move_215 : decode cX11_move 215 = .ok (.invokespecial 278, 3) := dk_183 1 22 (dk_at dksX11_move_9 6 rfl rfl)
theorem dX11_move_218 : decode cX11_move 218 = .ok (.goto 14, 3) := dk_167 0 14 (dk_at dksX11_move_9 9 rfl rfl)
theorem dX11_move_221 : decode cX11_move 221 = .ok (.new 281, 3) := dk_187 1 25 (dk_at dksX11_move_9 12 rfl rfl)
theorem dX11_move_224 : decode cX11_move 224 = .ok (.dup, 1) := dk_89 (dk_at dksX11_move_9 15 rfl rfl)
theorem dX11_move_225 : decode cX11_move 225 = .ok (.iload 5, 2) := dk_21 5 (dk_at dksX11_move_9 16 rfl rfl)
theorem dX11_move_227 : decode cX11_move 227 = .ok (.iload 7, 2) := dk_21 7 (dk_at dksX11_move_9 18 rfl rfl)
theorem dX11_move_229 : decode cX11_move 229 = .ok (.invokespecial 283, 3) := dk_183 1 27 (dk_at dksX11_move_9 20 rfl rfl)
theorem dX11_move_232 : decode cX11_move 232 = .ok (.areturn, 1) := dk_176 (dk_at dksX11_move_9 23 rfl rfl)
abbrev cX11_swap : ByteArray := prog_23_method_24_code
def yX11_swap : MethodName := ⟨RX11, "swap", "()LBlindCards$Move;"⟩
def dkwX11_swap_2 : List UInt8 := [58, 4, 25, 4, 180, 1, 36, 27, 29, 79, 25, 4, 180, 1, 36, 29, 27, 79, 25, 4, 176]
abbrev dktX11_swap_2 : List UInt8 := dkwX11_swap_2 ++ []
def dkwX11_swap_1 : List UInt8 := [187, 0, 75, 89, 7, 28, 183, 0, 77, 191, 187, 1, 28, 89, 27, 29, 184, 1, 30, 4, 96, 183, 1, 35]
abbrev dktX11_swap_1 : List UInt8 := dkwX11_swap_1 ++ dktX11_swap_2
def dkwX11_swap_0 : List UInt8 := [42, 182, 0, 94, 42, 182, 1, 15, 60, 42, 180, 0, 43, 61, 42, 182, 1, 15, 62, 27, 29, 160, 0, 13]
abbrev dktX11_swap_0 : List UInt8 := dkwX11_swap_0 ++ dktX11_swap_1
theorem dksX11_swap_0 : cX11_swap.data.toList.drop 0 = dktX11_swap_0 := by decide +kernel
theorem dksX11_swap_1 : cX11_swap.data.toList.drop 24 = dktX11_swap_1 := dk_seg dksX11_swap_0 24 rfl rfl
theorem dksX11_swap_2 : cX11_swap.data.toList.drop 48 = dktX11_swap_2 := dk_seg dksX11_swap_1 24 rfl rfl
theorem dX11_swap_0 : decode cX11_swap 0 = .ok (.aload_n 0, 1) := dk_42 (dk_at dksX11_swap_0 0 rfl rfl)
theorem dX11_swap_1 : decode cX11_swap 1 = .ok (.invokevirtual 94, 3) := dk_182 0 94 (dk_at dksX11_swap_0 1 rfl rfl)
theorem dX11_swap_4 : decode cX11_swap 4 = .ok (.aload_n 0, 1) := dk_42 (dk_at dksX11_swap_0 4 rfl rfl)
theorem dX11_swap_5 : decode cX11_swap 5 = .ok (.invokevirtual 271, 3) := dk_182 1 15 (dk_at dksX11_swap_0 5 rfl rfl)
theorem dX11_swap_8 : decode cX11_swap 8 = .ok (.istore_n 1, 1) := dk_60 (dk_at dksX11_swap_0 8 rfl rfl)
theorem dX11_swap_9 : decode cX11_swap 9 = .ok (.aload_n 0, 1) := dk_42 (dk_at dksX11_swap_0 9 rfl rfl)
theorem dX11_swap_10 : decode cX11_swap 10 = .ok (.getfield 43, 3) := dk_180 0 43 (dk_at dksX11_swap_0 10 rfl rfl)
theorem dX11_swap_13 : decode cX11_swap 13 = .ok (.istore_n 2, 1) := dk_61 (dk_at dksX11_swap_0 13 rfl rfl)
theorem dX11_swap_14 : decode cX11_swap 14 = .ok (.aload_n 0, 1) := dk_42 (dk_at dksX11_swap_0 14 rfl rfl)
theorem dX11_swap_15 : decode cX11_swap 15 = .ok (.invokevirtual 271, 3) := dk_182 1 15 (dk_at dksX11_swap_0 15 rfl rfl)
theorem dX11_swap_18 : decode cX11_swap 18 = .ok (.istore_n 3, 1) := dk_62 (dk_at dksX11_swap_0 18 rfl rfl)
theorem dX11_swap_19 : decode cX11_swap 19 = .ok (.iload_n 1, 1) := dk_27 (dk_at dksX11_swap_0 19 rfl rfl)
theorem dX11_swap_20 : decode cX11_swap 20 = .ok (.iload_n 3, 1) := dk_29 (dk_at dksX11_swap_0 20 rfl rfl)
theorem dX11_swap_21 : decode cX11_swap 21 = .ok (.if_icmp .ne 13, 3) := dk_160 0 13 (dk_at dksX11_swap_0 21 rfl rfl)
theorem dX11_swap_24 : decode cX11_swap 24 = .ok (.new 75, 3) := dk_187 0 75 (dk_at dksX11_swap_1 0 rfl rfl)
theorem dX11_swap_27 : decode cX11_swap 27 = .ok (.dup, 1) := dk_89 (dk_at dksX11_swap_1 3 rfl rfl)
theorem dX11_swap_28 : decode cX11_swap 28 = .ok (.iconst 4, 1) := dk_7 (dk_at dksX11_swap_1 4 rfl rfl)
theorem dX11_swap_29 : decode cX11_swap 29 = .ok (.iload_n 2, 1) := dk_28 (dk_at dksX11_swap_1 5 rfl rfl)
theorem dX11_swap_30 : decode cX11_swap 30 = .ok (.invokespecial 77, 3) := dk_183 0 77 (dk_at dksX11_swap_1 6 rfl rfl)
theorem dX11_swap_33 : decode cX11_swap 33 = .ok (.athrow, 1) := dk_191 (dk_at dksX11_swap_1 9 rfl rfl)
theorem dX11_swap_34 : decode cX11_swap 34 = .ok (.new 284, 3) := dk_187 1 28 (dk_at dksX11_swap_1 10 rfl rfl)
theorem dX11_swap_37 : decode cX11_swap 37 = .ok (.dup, 1) := dk_89 (dk_at dksX11_swap_1 13 rfl rfl)
theorem dX11_swap_38 : decode cX11_swap 38 = .ok (.iload_n 1, 1) := dk_27 (dk_at dksX11_swap_1 14 rfl rfl)
theorem dX11_swap_39 : decode cX11_swap 39 = .ok (.iload_n 3, 1) := dk_29 (dk_at dksX11_swap_1 15 rfl rfl)
theorem dX11_swap_40 : decode cX11_swap 40 = .ok (.invokestatic 286, 3) := dk_184 1 30 (dk_at dksX11_swap_1 16 rfl rfl)
theorem dX11_swap_43 : decode cX11_swap 43 = .ok (.iconst 1, 1) := dk_4 (dk_at dksX11_swap_1 19 rfl rfl)
theorem dX11_swap_44 : decode cX11_swap 44 = .ok (.iadd, 1) := dk_96 (dk_at dksX11_swap_1 20 rfl rfl)
theorem dX11_swap_45 : decode cX11_swap 45 = .ok (.invokespecial 291, 3) := dk_183 1 35 (dk_at dksX11_swap_1 21 rfl rfl)
theorem dX11_swap_48 : decode cX11_swap 48 = .ok (.astore 4, 2) := dk_58 4 (dk_at dksX11_swap_2 0 rfl rfl)
theorem dX11_swap_50 : decode cX11_swap 50 = .ok (.aload 4, 2) := dk_25 4 (dk_at dksX11_swap_2 2 rfl rfl)
theorem dX11_swap_52 : decode cX11_swap 52 = .ok (.getfield 292, 3) := dk_180 1 36 (dk_at dksX11_swap_2 4 rfl rfl)
theorem dX11_swap_55 : decode cX11_swap 55 = .ok (.iload_n 1, 1) := dk_27 (dk_at dksX11_swap_2 7 rfl rfl)
theorem dX11_swap_56 : decode cX11_swap 56 = .ok (.iload_n 3, 1) := dk_29 (dk_at dksX11_swap_2 8 rfl rfl)
theorem dX11_swap_57 : decode cX11_swap 57 = .ok (.iastore, 1) := dk_79 (dk_at dksX11_swap_2 9 rfl rfl)
theorem dX11_swap_58 : decode cX11_swap 58 = .ok (.aload 4, 2) := dk_25 4 (dk_at dksX11_swap_2 10 rfl rfl)
theorem dX11_swap_60 : decode cX11_swap 60 = .ok (.getfield 292, 3) := dk_180 1 36 (dk_at dksX11_swap_2 12 rfl rfl)
theorem dX11_swap_63 : decode cX11_swap 63 = .ok (.iload_n 3, 1) := dk_29 (dk_at dksX11_swap_2 15 rfl rfl)
theorem dX11_swap_64 : decode cX11_swap 64 = .ok (.iload_n 1, 1) := dk_27 (dk_at dksX11_swap_2 16 rfl rfl)
theorem dX11_swap_65 : decode cX11_swap 65 = .ok (.iastore, 1) := dk_79 (dk_at dksX11_swap_2 17 rfl rfl)
theorem dX11_swap_66 : decode cX11_swap 66 = .ok (.aload 4, 2) := dk_25 4 (dk_at dksX11_swap_2 18 rfl rfl)
theorem dX11_swap_68 : decode cX11_swap 68 = .ok (.areturn, 1) := dk_176 (dk_at dksX11_swap_2 20 rfl rfl)
abbrev cX11_place : ByteArray := prog_23_method_22_code
def yX11_place : MethodName := ⟨RX11, "place", "()I"⟩
def dkwX11_place_0 : List UInt8 := [42, 3, 16, 7, 182, 0, 196, 172]
abbrev dktX11_place_0 : List UInt8 := dkwX11_place_0 ++ []
theorem dksX11_place_0 : cX11_place.data.toList.drop 0 = dktX11_place_0 := by decide +kernel
theorem dX11_place_0 : decode cX11_place 0 = .ok (.aload_n 0, 1) := dk_42 (dk_at dksX11_place_0 0 rfl rfl)
theorem dX11_place_1 : decode cX11_place 1 = .ok (.iconst 0, 1) := dk_3 (dk_at dksX11_place_0 1 rfl rfl)
theorem dX11_place_2 : decode cX11_place 2 = .ok (.bipush 7, 2) := dk_16 7 (dk_at dksX11_place_0 2 rfl rfl)
theorem dX11_place_4 : decode cX11_place 4 = .ok (.invokevirtual 196, 3) := dk_182 0 196 (dk_at dksX11_place_0 4 rfl rfl)
theorem dX11_place_7 : decode cX11_place 7 = .ok (.ireturn, 1) := dk_172 (dk_at dksX11_place_0 7 rfl rfl)
abbrev cX11_row : ByteArray := prog_23_method_25_code
def yX11_row : MethodName := ⟨RX11, "row", "()LBlindCards$Move;"⟩
def dkwX11_row_6 : List UInt8 := [25, 5, 176]
abbrev dktX11_row_6 : List UInt8 := dkwX11_row_6 ++ []
def dkwX11_row_5 : List UInt8 := [21, 6, 28, 162, 0, 21, 25, 5, 180, 1, 36, 43, 21, 6, 46, 21, 6, 79, 132, 6, 1, 167, 255, 235]
abbrev dktX11_row_5 : List UInt8 := dkwX11_row_5 ++ dktX11_row_6
def dkwX11_row_4 : List UInt8 := [187, 0, 75, 89, 7, 21, 4, 183, 0, 77, 191, 187, 1, 28, 89, 28, 183, 1, 35, 58, 5, 3, 54, 6]
abbrev dktX11_row_4 : List UInt8 := dkwX11_row_4 ++ dktX11_row_5
def dkwX11_row_3 : List UInt8 := [120, 128, 62, 132, 2, 1, 42, 180, 0, 46, 5, 159, 255, 194, 29, 4, 28, 120, 4, 100, 159, 0, 14]
abbrev dktX11_row_3 : List UInt8 := dkwX11_row_3 ++ dktX11_row_4
def dkwX11_row_2 : List UInt8 := [46, 122, 4, 126, 4, 160, 0, 14, 187, 0, 75, 89, 7, 21, 4, 183, 0, 77, 191, 29, 4, 43, 28, 46]
abbrev dktX11_row_2 : List UInt8 := dkwX11_row_2 ++ dktX11_row_3
def dkwX11_row_1 : List UInt8 := [160, 0, 8, 42, 182, 0, 90, 191, 42, 180, 0, 43, 54, 4, 43, 28, 42, 182, 1, 15, 79, 29, 43, 28]
abbrev dktX11_row_1 : List UInt8 := dkwX11_row_1 ++ dktX11_row_2
def dkwX11_row_0 : List UInt8 := [42, 182, 0, 94, 16, 8, 188, 10, 76, 3, 61, 3, 62, 42, 180, 0, 43, 54, 4, 28, 16, 8]
abbrev dktX11_row_0 : List UInt8 := dkwX11_row_0 ++ dktX11_row_1
theorem dksX11_row_0 : cX11_row.data.toList.drop 0 = dktX11_row_0 := by decide +kernel
theorem dksX11_row_1 : cX11_row.data.toList.drop 22 = dktX11_row_1 := dk_seg dksX11_row_0 22 rfl rfl
theorem dksX11_row_2 : cX11_row.data.toList.drop 46 = dktX11_row_2 := dk_seg dksX11_row_1 24 rfl rfl
theorem dksX11_row_3 : cX11_row.data.toList.drop 70 = dktX11_row_3 := dk_seg dksX11_row_2 24 rfl rfl
theorem dksX11_row_4 : cX11_row.data.toList.drop 93 = dktX11_row_4 := dk_seg dksX11_row_3 23 rfl rfl
theorem dksX11_row_5 : cX11_row.data.toList.drop 117 = dktX11_row_5 := dk_seg dksX11_row_4 24 rfl rfl
theorem dksX11_row_6 : cX11_row.data.toList.drop 141 = dktX11_row_6 := dk_seg dksX11_row_5 24 rfl rfl
theorem dX11_row_0 : decode cX11_row 0 = .ok (.aload_n 0, 1) := dk_42 (dk_at dksX11_row_0 0 rfl rfl)
theorem dX11_row_1 : decode cX11_row 1 = .ok (.invokevirtual 94, 3) := dk_182 0 94 (dk_at dksX11_row_0 1 rfl rfl)
theorem dX11_row_4 : decode cX11_row 4 = .ok (.bipush 8, 2) := dk_16 8 (dk_at dksX11_row_0 4 rfl rfl)
theorem dX11_row_6 : decode cX11_row 6 = .ok (.newarray .int, 2) := dk_188_10 (dk_at dksX11_row_0 6 rfl rfl)
theorem dX11_row_8 : decode cX11_row 8 = .ok (.astore_n 1, 1) := dk_76 (dk_at dksX11_row_0 8 rfl rfl)
theorem dX11_row_9 : decode cX11_row 9 = .ok (.iconst 0, 1) := dk_3 (dk_at dksX11_row_0 9 rfl rfl)
theorem dX11_row_10 : decode cX11_row 10 = .ok (.istore_n 2, 1) := dk_61 (dk_at dksX11_row_0 10 rfl rfl)
theorem dX11_row_11 : decode cX11_row 11 = .ok (.iconst 0, 1) := dk_3 (dk_at dksX11_row_0 11 rfl rfl)
theorem dX11_row_12 : decode cX11_row 12 = .ok (.istore_n 3, 1) := dk_62 (dk_at dksX11_row_0 12 rfl rfl)
theorem dX11_row_13 : decode cX11_row 13 = .ok (.aload_n 0, 1) := dk_42 (dk_at dksX11_row_0 13 rfl rfl)
theorem dX11_row_14 : decode cX11_row 14 = .ok (.getfield 43, 3) := dk_180 0 43 (dk_at dksX11_row_0 14 rfl rfl)
theorem dX11_row_17 : decode cX11_row 17 = .ok (.istore 4, 2) := dk_54 4 (dk_at dksX11_row_0 17 rfl rfl)
theorem dX11_row_19 : decode cX11_row 19 = .ok (.iload_n 2, 1) := dk_28 (dk_at dksX11_row_0 19 rfl rfl)
theorem dX11_row_20 : decode cX11_row 20 = .ok (.bipush 8, 2) := dk_16 8 (dk_at dksX11_row_0 20 rfl rfl)
theorem dX11_row_22 : decode cX11_row 22 = .ok (.if_icmp .ne 8, 3) := dk_160 0 8 (dk_at dksX11_row_1 0 rfl rfl)
theorem dX11_row_25 : decode cX11_row 25 = .ok (.aload_n 0, 1) := dk_42 (dk_at dksX11_row_1 3 rfl rfl)
theorem dX11_row_26 : decode cX11_row 26 = .ok (.invokevirtual 90, 3) := dk_182 0 90 (dk_at dksX11_row_1 4 rfl rfl)
theorem dX11_row_29 : decode cX11_row 29 = .ok (.athrow, 1) := dk_191 (dk_at dksX11_row_1 7 rfl rfl)
theorem dX11_row_30 : decode cX11_row 30 = .ok (.aload_n 0, 1) := dk_42 (dk_at dksX11_row_1 8 rfl rfl)
theorem dX11_row_31 : decode cX11_row 31 = .ok (.getfield 43, 3) := dk_180 0 43 (dk_at dksX11_row_1 9 rfl rfl)
theorem dX11_row_34 : decode cX11_row 34 = .ok (.istore 4, 2) := dk_54 4 (dk_at dksX11_row_1 12 rfl rfl)
theorem dX11_row_36 : decode cX11_row 36 = .ok (.aload_n 1, 1) := dk_43 (dk_at dksX11_row_1 14 rfl rfl)
theorem dX11_row_37 : decode cX11_row 37 = .ok (.iload_n 2, 1) := dk_28 (dk_at dksX11_row_1 15 rfl rfl)
theorem dX11_row_38 : decode cX11_row 38 = .ok (.aload_n 0, 1) := dk_42 (dk_at dksX11_row_1 16 rfl rfl)
theorem dX11_row_39 : decode cX11_row 39 = .ok (.invokevirtual 271, 3) := dk_182 1 15 (dk_at dksX11_row_1 17 rfl rfl)
theorem dX11_row_42 : decode cX11_row 42 = .ok (.iastore, 1) := dk_79 (dk_at dksX11_row_1 20 rfl rfl)
theorem dX11_row_43 : decode cX11_row 43 = .ok (.iload_n 3, 1) := dk_29 (dk_at dksX11_row_1 21 rfl rfl)
theorem dX11_row_44 : decode cX11_row 44 = .ok (.aload_n 1, 1) := dk_43 (dk_at dksX11_row_1 22 rfl rfl)
theorem dX11_row_45 : decode cX11_row 45 = .ok (.iload_n 2, 1) := dk_28 (dk_at dksX11_row_1 23 rfl rfl)
theorem dX11_row_46 : decode cX11_row 46 = .ok (.iaload, 1) := dk_46 (dk_at dksX11_row_2 0 rfl rfl)
theorem dX11_row_47 : decode cX11_row 47 = .ok (.ishr, 1) := dk_122 (dk_at dksX11_row_2 1 rfl rfl)
theorem dX11_row_48 : decode cX11_row 48 = .ok (.iconst 1, 1) := dk_4 (dk_at dksX11_row_2 2 rfl rfl)
theorem dX11_row_49 : decode cX11_row 49 = .ok (.iand, 1) := dk_126 (dk_at dksX11_row_2 3 rfl rfl)
theorem dX11_row_50 : decode cX11_row 50 = .ok (.iconst 1, 1) := dk_4 (dk_at dksX11_row_2 4 rfl rfl)
theorem dX11_row_51 : decode cX11_row 51 = .ok (.if_icmp .ne 14, 3) := dk_160 0 14 (dk_at dksX11_row_2 5 rfl rfl)
theorem dX11_row_54 : decode cX11_row 54 = .ok (.new 75, 3) := dk_187 0 75 (dk_at dksX11_row_2 8 rfl rfl)
theorem dX11_row_57 : decode cX11_row 57 = .ok (.dup, 1) := dk_89 (dk_at dksX11_row_2 11 rfl rfl)
theorem dX11_row_58 : decode cX11_row 58 = .ok (.iconst 4, 1) := dk_7 (dk_at dksX11_row_2 12 rfl rfl)
theorem dX11_row_59 : decode cX11_row 59 = .ok (.iload 4, 2) := dk_21 4 (dk_at dksX11_row_2 13 rfl rfl)
theorem dX11_row_61 : decode cX11_row 61 = .ok (.invokespecial 77, 3) := dk_183 0 77 (dk_at dksX11_row_2 15 rfl rfl)
theorem dX11_row_64 : decode cX11_row 64 = .ok (.athrow, 1) := dk_191 (dk_at dksX11_row_2 18 rfl rfl)
theorem dX11_row_65 : decode cX11_row 65 = .ok (.iload_n 3, 1) := dk_29 (dk_at dksX11_row_2 19 rfl rfl)
theorem dX11_row_66 : decode cX11_row 66 = .ok (.iconst 1, 1) := dk_4 (dk_at dksX11_row_2 20 rfl rfl)
theorem dX11_row_67 : decode cX11_row 67 = .ok (.aload_n 1, 1) := dk_43 (dk_at dksX11_row_2 21 rfl rfl)
theorem dX11_row_68 : decode cX11_row 68 = .ok (.iload_n 2, 1) := dk_28 (dk_at dksX11_row_2 22 rfl rfl)
theorem dX11_row_69 : decode cX11_row 69 = .ok (.iaload, 1) := dk_46 (dk_at dksX11_row_2 23 rfl rfl)
theorem dX11_row_70 : decode cX11_row 70 = .ok (.ishl, 1) := dk_120 (dk_at dksX11_row_3 0 rfl rfl)
theorem dX11_row_71 : decode cX11_row 71 = .ok (.ior, 1) := dk_128 (dk_at dksX11_row_3 1 rfl rfl)
theorem dX11_row_72 : decode cX11_row 72 = .ok (.istore_n 3, 1) := dk_62 (dk_at dksX11_row_3 2 rfl rfl)
theorem dX11_row_73 : decode cX11_row 73 = .ok (.iinc 2 1, 3) := dk_132 2 1 (dk_at dksX11_row_3 3 rfl rfl)
theorem dX11_row_76 : decode cX11_row 76 = .ok (.aload_n 0, 1) := dk_42 (dk_at dksX11_row_3 6 rfl rfl)
theorem dX11_row_77 : decode cX11_row 77 = .ok (.getfield 46, 3) := dk_180 0 46 (dk_at dksX11_row_3 7 rfl rfl)
theorem dX11_row_80 : decode cX11_row 80 = .ok (.iconst 2, 1) := dk_5 (dk_at dksX11_row_3 10 rfl rfl)
theorem dX11_row_81 : decode cX11_row 81 = .ok (.if_icmp .eq (-62), 3) := dk_159 255 194 (dk_at dksX11_row_3 11 rfl rfl)
theorem dX11_row_84 : decode cX11_row 84 = .ok (.iload_n 3, 1) := dk_29 (dk_at dksX11_row_3 14 rfl rfl)
theorem dX11_row_85 : decode cX11_row 85 = .ok (.iconst 1, 1) := dk_4 (dk_at dksX11_row_3 15 rfl rfl)
theorem dX11_row_86 : decode cX11_row 86 = .ok (.iload_n 2, 1) := dk_28 (dk_at dksX11_row_3 16 rfl rfl)
theorem dX11_row_87 : decode cX11_row 87 = .ok (.ishl, 1) := dk_120 (dk_at dksX11_row_3 17 rfl rfl)
theorem dX11_row_88 : decode cX11_row 88 = .ok (.iconst 1, 1) := dk_4 (dk_at dksX11_row_3 18 rfl rfl)
theorem dX11_row_89 : decode cX11_row 89 = .ok (.isub, 1) := dk_100 (dk_at dksX11_row_3 19 rfl rfl)
theorem dX11_row_90 : decode cX11_row 90 = .ok (.if_icmp .eq 14, 3) := dk_159 0 14 (dk_at dksX11_row_3 20 rfl rfl)
theorem dX11_row_93 : decode cX11_row 93 = .ok (.new 75, 3) := dk_187 0 75 (dk_at dksX11_row_4 0 rfl rfl)
theorem dX11_row_96 : decode cX11_row 96 = .ok (.dup, 1) := dk_89 (dk_at dksX11_row_4 3 rfl rfl)
theorem dX11_row_97 : decode cX11_row 97 = .ok (.iconst 4, 1) := dk_7 (dk_at dksX11_row_4 4 rfl rfl)
theorem dX11_row_98 : decode cX11_row 98 = .ok (.iload 4, 2) := dk_21 4 (dk_at dksX11_row_4 5 rfl rfl)
theorem dX11_row_100 : decode cX11_row 100 = .ok (.invokespecial 77, 3) := dk_183 0 77 (dk_at dksX11_row_4 7 rfl rfl)
theorem dX11_row_103 : decode cX11_row 103 = .ok (.athrow, 1) := dk_191 (dk_at dksX11_row_4 10 rfl rfl)
theorem dX11_row_104 : decode cX11_row 104 = .ok (.new 284, 3) := dk_187 1 28 (dk_at dksX11_row_4 11 rfl rfl)
theorem dX11_row_107 : decode cX11_row 107 = .ok (.dup, 1) := dk_89 (dk_at dksX11_row_4 14 rfl rfl)
theorem dX11_row_108 : decode cX11_row 108 = .ok (.iload_n 2, 1) := dk_28 (dk_at dksX11_row_4 15 rfl rfl)
theorem dX11_row_109 : decode cX11_row 109 = .ok (.invokespecial 291, 3) := dk_183 1 35 (dk_at dksX11_row_4 16 rfl rfl)
theorem dX11_row_112 : decode cX11_row 112 = .ok (.astore 5, 2) := dk_58 5 (dk_at dksX11_row_4 19 rfl rfl)
theorem dX11_row_114 : decode cX11_row 114 = .ok (.iconst 0, 1) := dk_3 (dk_at dksX11_row_4 21 rfl rfl)
theorem dX11_row_115 : decode cX11_row 115 = .ok (.istore 6, 2) := dk_54 6 (dk_at dksX11_row_4 22 rfl rfl)
theorem dX11_row_117 : decode cX11_row 117 = .ok (.iload 6, 2) := dk_21 6 (dk_at dksX11_row_5 0 rfl rfl)
theorem dX11_row_119 : decode cX11_row 119 = .ok (.iload_n 2, 1) := dk_28 (dk_at dksX11_row_5 2 rfl rfl)
theorem dX11_row_120 : decode cX11_row 120 = .ok (.if_icmp .ge 21, 3) := dk_162 0 21 (dk_at dksX11_row_5 3 rfl rfl)
theorem dX11_row_123 : decode cX11_row 123 = .ok (.aload 5, 2) := dk_25 5 (dk_at dksX11_row_5 6 rfl rfl)
theorem dX11_row_125 : decode cX11_row 125 = .ok (.getfield 292, 3) := dk_180 1 36 (dk_at dksX11_row_5 8 rfl rfl)
theorem dX11_row_128 : decode cX11_row 128 = .ok (.aload_n 1, 1) := dk_43 (dk_at dksX11_row_5 11 rfl rfl)
theorem dX11_row_129 : decode cX11_row 129 = .ok (.iload 6, 2) := dk_21 6 (dk_at dksX11_row_5 12 rfl rfl)
theorem dX11_row_131 : decode cX11_row 131 = .ok (.iaload, 1) := dk_46 (dk_at dksX11_row_5 14 rfl rfl)
theorem dX11_row_132 : decode cX11_row 132 = .ok (.iload 6, 2) := dk_21 6 (dk_at dksX11_row_5 15 rfl rfl)
theorem dX11_row_134 : decode cX11_row 134 = .ok (.iastore, 1) := dk_79 (dk_at dksX11_row_5 17 rfl rfl)
theorem dX11_row_135 : decode cX11_row 135 = .ok (.iinc 6 1, 3) := dk_132 6 1 (dk_at dksX11_row_5 18 rfl rfl)
theorem dX11_row_138 : decode cX11_row 138 = .ok (.goto (-21), 3) := dk_167 255 235 (dk_at dksX11_row_5 21 rfl rfl)
theorem dX11_row_141 : decode cX11_row 141 = .ok (.aload 5, 2) := dk_25 5 (dk_at dksX11_row_6 0 rfl rfl)
theorem dX11_row_143 : decode cX11_row 143 = .ok (.areturn, 1) := dk_176 (dk_at dksX11_row_6 2 rfl rfl)
abbrev cX11_key : ByteArray := prog_23_method_9_code
def yX11_key : MethodName := ⟨RX11, "key", "(Ljava/lang/String;)V"⟩
def dkwX11_key_0 : List UInt8 := [42, 43, 182, 0, 86, 154, 0, 8, 42, 182, 0, 90, 191, 42, 182, 0, 94, 177]
abbrev dktX11_key_0 : List UInt8 := dkwX11_key_0 ++ []
theorem dksX11_key_0 : cX11_key.data.toList.drop 0 = dktX11_key_0 := by decide +kernel
theorem dX11_key_0 : decode cX11_key 0 = .ok (.aload_n 0, 1) := dk_42 (dk_at dksX11_key_0 0 rfl rfl)
theorem dX11_key_1 : decode cX11_key 1 = .ok (.aload_n 1, 1) := dk_43 (dk_at dksX11_key_0 1 rfl rfl)
theorem dX11_key_2 : decode cX11_key 2 = .ok (.invokevirtual 86, 3) := dk_182 0 86 (dk_at dksX11_key_0 2 rfl rfl)
theorem dX11_key_5 : decode cX11_key 5 = .ok (.ifCond .ne 8, 3) := dk_154 0 8 (dk_at dksX11_key_0 5 rfl rfl)
theorem dX11_key_8 : decode cX11_key 8 = .ok (.aload_n 0, 1) := dk_42 (dk_at dksX11_key_0 8 rfl rfl)
theorem dX11_key_9 : decode cX11_key 9 = .ok (.invokevirtual 90, 3) := dk_182 0 90 (dk_at dksX11_key_0 9 rfl rfl)
theorem dX11_key_12 : decode cX11_key 12 = .ok (.athrow, 1) := dk_191 (dk_at dksX11_key_0 12 rfl rfl)
theorem dX11_key_13 : decode cX11_key 13 = .ok (.aload_n 0, 1) := dk_42 (dk_at dksX11_key_0 13 rfl rfl)
theorem dX11_key_14 : decode cX11_key 14 = .ok (.invokevirtual 94, 3) := dk_182 0 94 (dk_at dksX11_key_0 14 rfl rfl)
theorem dX11_key_17 : decode cX11_key 17 = .ok (.return_, 1) := dk_177 (dk_at dksX11_key_0 17 rfl rfl)
abbrev cX11_open : ByteArray := prog_23_method_26_code
def yX11_open : MethodName := ⟨RX11, "open", "()LBlindCards$Open;"⟩
def dkwX11_open_4 : List UInt8 := [180, 1, 43, 4, 96, 181, 1, 43, 42, 180, 0, 46, 5, 159, 255, 165, 43, 176]
abbrev dktX11_open_4 : List UInt8 := dkwX11_open_4 ++ []
def dkwX11_open_3 : List UInt8 := [43, 180, 1, 43, 21, 4, 79, 43, 43, 180, 1, 49, 21, 4, 184, 1, 30, 181, 1, 49, 43, 89]
abbrev dktX11_open_3 : List UInt8 := dkwX11_open_3 ++ dktX11_open_4
def dkwX11_open_2 : List UInt8 := [160, 0, 13, 187, 0, 75, 89, 7, 29, 183, 0, 77, 191, 28, 4, 21, 4, 120, 128, 61, 43, 180, 1, 46]
abbrev dktX11_open_2 : List UInt8 := dkwX11_open_2 ++ dktX11_open_3
def dkwX11_open_1 : List UInt8 := [182, 0, 90, 191, 42, 180, 0, 43, 62, 42, 182, 1, 15, 54, 4, 28, 21, 4, 122, 4, 126, 4]
abbrev dktX11_open_1 : List UInt8 := dkwX11_open_1 ++ dktX11_open_2
def dkwX11_open_0 : List UInt8 := [42, 182, 0, 94, 187, 1, 40, 89, 183, 1, 42, 76, 3, 61, 43, 180, 1, 43, 16, 8, 160, 0, 8, 42]
abbrev dktX11_open_0 : List UInt8 := dkwX11_open_0 ++ dktX11_open_1
theorem dksX11_open_0 : cX11_open.data.toList.drop 0 = dktX11_open_0 := by decide +kernel
theorem dksX11_open_1 : cX11_open.data.toList.drop 24 = dktX11_open_1 := dk_seg dksX11_open_0 24 rfl rfl
theorem dksX11_open_2 : cX11_open.data.toList.drop 46 = dktX11_open_2 := dk_seg dksX11_open_1 22 rfl rfl
theorem dksX11_open_3 : cX11_open.data.toList.drop 70 = dktX11_open_3 := dk_seg dksX11_open_2 24 rfl rfl
theorem dksX11_open_4 : cX11_open.data.toList.drop 92 = dktX11_open_4 := dk_seg dksX11_open_3 22 rfl rfl
theorem dX11_open_0 : decode cX11_open 0 = .ok (.aload_n 0, 1) := dk_42 (dk_at dksX11_open_0 0 rfl rfl)
theorem dX11_open_1 : decode cX11_open 1 = .ok (.invokevirtual 94, 3) := dk_182 0 94 (dk_at dksX11_open_0 1 rfl rfl)
theorem dX11_open_4 : decode cX11_open 4 = .ok (.new 296, 3) := dk_187 1 40 (dk_at dksX11_open_0 4 rfl rfl)
theorem dX11_open_7 : decode cX11_open 7 = .ok (.dup, 1) := dk_89 (dk_at dksX11_open_0 7 rfl rfl)
theorem dX11_open_8 : decode cX11_open 8 = .ok (.invokespecial 298, 3) := dk_183 1 42 (dk_at dksX11_open_0 8 rfl rfl)
theorem dX11_open_11 : decode cX11_open 11 = .ok (.astore_n 1, 1) := dk_76 (dk_at dksX11_open_0 11 rfl rfl)
theorem dX11_open_12 : decode cX11_open 12 = .ok (.iconst 0, 1) := dk_3 (dk_at dksX11_open_0 12 rfl rfl)
theorem dX11_open_13 : decode cX11_open 13 = .ok (.istore_n 2, 1) := dk_61 (dk_at dksX11_open_0 13 rfl rfl)
theorem dX11_open_14 : decode cX11_open 14 = .ok (.aload_n 1, 1) := dk_43 (dk_at dksX11_open_0 14 rfl rfl)
theorem dX11_open_15 : decode cX11_open 15 = .ok (.getfield 299, 3) := dk_180 1 43 (dk_at dksX11_open_0 15 rfl rfl)
theorem dX11_open_18 : decode cX11_open 18 = .ok (.bipush 8, 2) := dk_16 8 (dk_at dksX11_open_0 18 rfl rfl)
theorem dX11_open_20 : decode cX11_open 20 = .ok (.if_icmp .ne 8, 3) := dk_160 0 8 (dk_at dksX11_open_0 20 rfl rfl)
theorem dX11_open_23 : decode cX11_open 23 = .ok (.aload_n 0, 1) := dk_42 (dk_at dksX11_open_0 23 rfl rfl)
theorem dX11_open_24 : decode cX11_open 24 = .ok (.invokevirtual 90, 3) := dk_182 0 90 (dk_at dksX11_open_1 0 rfl rfl)
theorem dX11_open_27 : decode cX11_open 27 = .ok (.athrow, 1) := dk_191 (dk_at dksX11_open_1 3 rfl rfl)
theorem dX11_open_28 : decode cX11_open 28 = .ok (.aload_n 0, 1) := dk_42 (dk_at dksX11_open_1 4 rfl rfl)
theorem dX11_open_29 : decode cX11_open 29 = .ok (.getfield 43, 3) := dk_180 0 43 (dk_at dksX11_open_1 5 rfl rfl)
theorem dX11_open_32 : decode cX11_open 32 = .ok (.istore_n 3, 1) := dk_62 (dk_at dksX11_open_1 8 rfl rfl)
theorem dX11_open_33 : decode cX11_open 33 = .ok (.aload_n 0, 1) := dk_42 (dk_at dksX11_open_1 9 rfl rfl)
theorem dX11_open_34 : decode cX11_open 34 = .ok (.invokevirtual 271, 3) := dk_182 1 15 (dk_at dksX11_open_1 10 rfl rfl)
theorem dX11_open_37 : decode cX11_open 37 = .ok (.istore 4, 2) := dk_54 4 (dk_at dksX11_open_1 13 rfl rfl)
theorem dX11_open_39 : decode cX11_open 39 = .ok (.iload_n 2, 1) := dk_28 (dk_at dksX11_open_1 15 rfl rfl)
theorem dX11_open_40 : decode cX11_open 40 = .ok (.iload 4, 2) := dk_21 4 (dk_at dksX11_open_1 16 rfl rfl)
theorem dX11_open_42 : decode cX11_open 42 = .ok (.ishr, 1) := dk_122 (dk_at dksX11_open_1 18 rfl rfl)
theorem dX11_open_43 : decode cX11_open 43 = .ok (.iconst 1, 1) := dk_4 (dk_at dksX11_open_1 19 rfl rfl)
theorem dX11_open_44 : decode cX11_open 44 = .ok (.iand, 1) := dk_126 (dk_at dksX11_open_1 20 rfl rfl)
theorem dX11_open_45 : decode cX11_open 45 = .ok (.iconst 1, 1) := dk_4 (dk_at dksX11_open_1 21 rfl rfl)
theorem dX11_open_46 : decode cX11_open 46 = .ok (.if_icmp .ne 13, 3) := dk_160 0 13 (dk_at dksX11_open_2 0 rfl rfl)
theorem dX11_open_49 : decode cX11_open 49 = .ok (.new 75, 3) := dk_187 0 75 (dk_at dksX11_open_2 3 rfl rfl)
theorem dX11_open_52 : decode cX11_open 52 = .ok (.dup, 1) := dk_89 (dk_at dksX11_open_2 6 rfl rfl)
theorem dX11_open_53 : decode cX11_open 53 = .ok (.iconst 4, 1) := dk_7 (dk_at dksX11_open_2 7 rfl rfl)
theorem dX11_open_54 : decode cX11_open 54 = .ok (.iload_n 3, 1) := dk_29 (dk_at dksX11_open_2 8 rfl rfl)
theorem dX11_open_55 : decode cX11_open 55 = .ok (.invokespecial 77, 3) := dk_183 0 77 (dk_at dksX11_open_2 9 rfl rfl)
theorem dX11_open_58 : decode cX11_open 58 = .ok (.athrow, 1) := dk_191 (dk_at dksX11_open_2 12 rfl rfl)
theorem dX11_open_59 : decode cX11_open 59 = .ok (.iload_n 2, 1) := dk_28 (dk_at dksX11_open_2 13 rfl rfl)
theorem dX11_open_60 : decode cX11_open 60 = .ok (.iconst 1, 1) := dk_4 (dk_at dksX11_open_2 14 rfl rfl)
theorem dX11_open_61 : decode cX11_open 61 = .ok (.iload 4, 2) := dk_21 4 (dk_at dksX11_open_2 15 rfl rfl)
theorem dX11_open_63 : decode cX11_open 63 = .ok (.ishl, 1) := dk_120 (dk_at dksX11_open_2 17 rfl rfl)
theorem dX11_open_64 : decode cX11_open 64 = .ok (.ior, 1) := dk_128 (dk_at dksX11_open_2 18 rfl rfl)
theorem dX11_open_65 : decode cX11_open 65 = .ok (.istore_n 2, 1) := dk_61 (dk_at dksX11_open_2 19 rfl rfl)
theorem dX11_open_66 : decode cX11_open 66 = .ok (.aload_n 1, 1) := dk_43 (dk_at dksX11_open_2 20 rfl rfl)
theorem dX11_open_67 : decode cX11_open 67 = .ok (.getfield 302, 3) := dk_180 1 46 (dk_at dksX11_open_2 21 rfl rfl)
theorem dX11_open_70 : decode cX11_open 70 = .ok (.aload_n 1, 1) := dk_43 (dk_at dksX11_open_3 0 rfl rfl)
theorem dX11_open_71 : decode cX11_open 71 = .ok (.getfield 299, 3) := dk_180 1 43 (dk_at dksX11_open_3 1 rfl rfl)
theorem dX11_open_74 : decode cX11_open 74 = .ok (.iload 4, 2) := dk_21 4 (dk_at dksX11_open_3 4 rfl rfl)
theorem dX11_open_76 : decode cX11_open 76 = .ok (.iastore, 1) := dk_79 (dk_at dksX11_open_3 6 rfl rfl)
theorem dX11_open_77 : decode cX11_open 77 = .ok (.aload_n 1, 1) := dk_43 (dk_at dksX11_open_3 7 rfl rfl)
theorem dX11_open_78 : decode cX11_open 78 = .ok (.aload_n 1, 1) := dk_43 (dk_at dksX11_open_3 8 rfl rfl)
theorem dX11_open_79 : decode cX11_open 79 = .ok (.getfield 305, 3) := dk_180 1 49 (dk_at dksX11_open_3 9 rfl rfl)
theorem dX11_open_82 : decode cX11_open 82 = .ok (.iload 4, 2) := dk_21 4 (dk_at dksX11_open_3 12 rfl rfl)
theorem dX11_open_84 : decode cX11_open 84 = .ok (.invokestatic 286, 3) := dk_184 1 30 (dk_at dksX11_open_3 14 rfl rfl)
theorem dX11_open_87 : decode cX11_open 87 = .ok (.putfield 305, 3) := dk_181 1 49 (dk_at dksX11_open_3 17 rfl rfl)
theorem dX11_open_90 : decode cX11_open 90 = .ok (.aload_n 1, 1) := dk_43 (dk_at dksX11_open_3 20 rfl rfl)
theorem dX11_open_91 : decode cX11_open 91 = .ok (.dup, 1) := dk_89 (dk_at dksX11_open_3 21 rfl rfl)
theorem dX11_open_92 : decode cX11_open 92 = .ok (.getfield 299, 3) := dk_180 1 43 (dk_at dksX11_open_4 0 rfl rfl)
theorem dX11_open_95 : decode cX11_open 95 = .ok (.iconst 1, 1) := dk_4 (dk_at dksX11_open_4 3 rfl rfl)
theorem dX11_open_96 : decode cX11_open 96 = .ok (.iadd, 1) := dk_96 (dk_at dksX11_open_4 4 rfl rfl)
theorem dX11_open_97 : decode cX11_open 97 = .ok (.putfield 299, 3) := dk_181 1 43 (dk_at dksX11_open_4 5 rfl rfl)
theorem dX11_open_100 : decode cX11_open 100 = .ok (.aload_n 0, 1) := dk_42 (dk_at dksX11_open_4 8 rfl rfl)
theorem dX11_open_101 : decode cX11_open 101 = .ok (.getfield 46, 3) := dk_180 0 46 (dk_at dksX11_open_4 9 rfl rfl)
theorem dX11_open_104 : decode cX11_open 104 = .ok (.iconst 2, 1) := dk_5 (dk_at dksX11_open_4 12 rfl rfl)
theorem dX11_open_105 : decode cX11_open 105 = .ok (.if_icmp .eq (-91), 3) := dk_159 255 165 (dk_at dksX11_open_4 13 rfl rfl)
theorem dX11_open_108 : decode cX11_open 108 = .ok (.aload_n 1, 1) := dk_43 (dk_at dksX11_open_4 16 rfl rfl)
theorem dX11_open_109 : decode cX11_open 109 = .ok (.areturn, 1) := dk_176 (dk_at dksX11_open_4 17 rfl rfl)
abbrev cX11_step : ByteArray := prog_23_method_17_code
def yX11_step : MethodName := ⟨RX11, "step", "()V"⟩
def dkwX11_step_13 : List UInt8 := [182, 0, 249, 167, 0, 7, 42, 182, 0, 251, 182, 0, 224, 87, 177]
abbrev dktX11_step_13 : List UInt8 := dkwX11_step_13 ++ []
def dkwX11_step_12 : List UInt8 := [182, 0, 86, 153, 0, 10, 42, 182, 0, 247, 167, 0, 23, 42, 18, 118, 182, 0, 86, 153, 0, 10, 42]
abbrev dktX11_step_12 : List UInt8 := dkwX11_step_12 ++ dktX11_step_13
def dkwX11_step_11 : List UInt8 := [167, 0, 55, 42, 18, 113, 182, 0, 86, 153, 0, 10, 42, 182, 0, 244, 167, 0, 39, 42, 18, 116]
abbrev dktX11_step_11 : List UInt8 := dkwX11_step_11 ++ dktX11_step_12
def dkwX11_step_10 : List UInt8 := [153, 0, 10, 42, 182, 0, 242, 167, 0, 71, 42, 18, 111, 182, 0, 86, 153, 0, 10, 42, 182, 0, 230]
abbrev dktX11_step_10 : List UInt8 := dkwX11_step_10 ++ dktX11_step_11
def dkwX11_step_9 : List UInt8 := [42, 18, 107, 182, 0, 86, 153, 0, 10, 42, 182, 0, 239, 167, 0, 87, 42, 18, 109, 182, 0, 86]
abbrev dktX11_step_9 : List UInt8 := dkwX11_step_9 ++ dktX11_step_10
def dkwX11_step_8 : List UInt8 := [181, 0, 236, 42, 180, 0, 24, 180, 0, 159, 42, 182, 0, 214, 153, 0, 10, 42, 182, 0, 220, 167, 0, 103]
abbrev dktX11_step_8 : List UInt8 := dkwX11_step_8 ++ dktX11_step_9
def dkwX11_step_7 : List UInt8 := [181, 0, 233, 42, 180, 0, 24, 89, 180, 0, 236, 42, 182, 0, 210, 153, 0, 7, 4, 167, 0, 4, 3, 96]
abbrev dktX11_step_7 : List UInt8 := dkwX11_step_7 ++ dktX11_step_8
def dkwX11_step_6 : List UInt8 := [42, 180, 0, 24, 89, 180, 0, 233, 42, 18, 111, 182, 0, 86, 153, 0, 7, 4, 167, 0, 4, 3, 96]
abbrev dktX11_step_6 : List UInt8 := dkwX11_step_6 ++ dktX11_step_7
def dkwX11_step_5 : List UInt8 := [42, 182, 0, 210, 153, 0, 20, 42, 180, 0, 24, 180, 0, 236, 16, 8, 160, 0, 8, 42, 182, 0, 90, 191]
abbrev dktX11_step_5 : List UInt8 := dkwX11_step_5 ++ dktX11_step_6
def dkwX11_step_4 : List UInt8 := [159, 0, 43, 42, 18, 111, 182, 0, 86, 153, 0, 15, 42, 180, 0, 24, 180, 0, 233, 16, 6, 159, 0, 22]
abbrev dktX11_step_4 : List UInt8 := dkwX11_step_4 ++ dktX11_step_5
def dkwX11_step_3 : List UInt8 := [4, 167, 0, 4, 3, 60, 27, 153, 0, 58, 42, 180, 0, 24, 180, 0, 159, 182, 0, 163, 16, 40]
abbrev dktX11_step_3 : List UInt8 := dkwX11_step_3 ++ dktX11_step_4
def dkwX11_step_2 : List UInt8 := [182, 0, 86, 154, 0, 21, 42, 18, 118, 182, 0, 86, 154, 0, 12, 42, 18, 120, 182, 0, 86, 153, 0, 7]
abbrev dktX11_step_2 : List UInt8 := dkwX11_step_2 ++ dktX11_step_3
def dkwX11_step_1 : List UInt8 := [154, 0, 48, 42, 18, 111, 182, 0, 86, 154, 0, 39, 42, 18, 113, 182, 0, 86, 154, 0, 30, 42, 18, 116]
abbrev dktX11_step_1 : List UInt8 := dkwX11_step_1 ++ dktX11_step_2
def dkwX11_step_0 : List UInt8 := [42, 182, 0, 214, 154, 0, 66, 42, 18, 107, 182, 0, 86, 154, 0, 57, 42, 18, 109, 182, 0, 86]
abbrev dktX11_step_0 : List UInt8 := dkwX11_step_0 ++ dktX11_step_1
theorem dksX11_step_0 : cX11_step.data.toList.drop 0 = dktX11_step_0 := by decide +kernel
theorem dksX11_step_1 : cX11_step.data.toList.drop 22 = dktX11_step_1 := dk_seg dksX11_step_0 22 rfl rfl
theorem dksX11_step_2 : cX11_step.data.toList.drop 46 = dktX11_step_2 := dk_seg dksX11_step_1 24 rfl rfl
theorem dksX11_step_3 : cX11_step.data.toList.drop 70 = dktX11_step_3 := dk_seg dksX11_step_2 24 rfl rfl
theorem dksX11_step_4 : cX11_step.data.toList.drop 92 = dktX11_step_4 := dk_seg dksX11_step_3 22 rfl rfl
theorem dksX11_step_5 : cX11_step.data.toList.drop 116 = dktX11_step_5 := dk_seg dksX11_step_4 24 rfl rfl
theorem dksX11_step_6 : cX11_step.data.toList.drop 140 = dktX11_step_6 := dk_seg dksX11_step_5 24 rfl rfl
theorem dksX11_step_7 : cX11_step.data.toList.drop 163 = dktX11_step_7 := dk_seg dksX11_step_6 23 rfl rfl
theorem dksX11_step_8 : cX11_step.data.toList.drop 187 = dktX11_step_8 := dk_seg dksX11_step_7 24 rfl rfl
theorem dksX11_step_9 : cX11_step.data.toList.drop 211 = dktX11_step_9 := dk_seg dksX11_step_8 24 rfl rfl
theorem dksX11_step_10 : cX11_step.data.toList.drop 233 = dktX11_step_10 := dk_seg dksX11_step_9 22 rfl rfl
theorem dksX11_step_11 : cX11_step.data.toList.drop 256 = dktX11_step_11 := dk_seg dksX11_step_10 23 rfl rfl
theorem dksX11_step_12 : cX11_step.data.toList.drop 278 = dktX11_step_12 := dk_seg dksX11_step_11 22 rfl rfl
theorem dksX11_step_13 : cX11_step.data.toList.drop 301 = dktX11_step_13 := dk_seg dksX11_step_12 23 rfl rfl
theorem dX11_step_0 : decode cX11_step 0 = .ok (.aload_n 0, 1) := dk_42 (dk_at dksX11_step_0 0 rfl rfl)
theorem dX11_step_1 : decode cX11_step 1 = .ok (.invokevirtual 214, 3) := dk_182 0 214 (dk_at dksX11_step_0 1 rfl rfl)
theorem dX11_step_4 : decode cX11_step 4 = .ok (.ifCond .ne 66, 3) := dk_154 0 66 (dk_at dksX11_step_0 4 rfl rfl)
theorem dX11_step_7 : decode cX11_step 7 = .ok (.aload_n 0, 1) := dk_42 (dk_at dksX11_step_0 7 rfl rfl)
theorem dX11_step_8 : decode cX11_step 8 = .ok (.ldc 107, 2) := dk_18 107 (dk_at dksX11_step_0 8 rfl rfl)
theorem dX11_step_10 : decode cX11_step 10 = .ok (.invokevirtual 86, 3) := dk_182 0 86 (dk_at dksX11_step_0 10 rfl rfl)
theorem dX11_step_13 : decode cX11_step 13 = .ok (.ifCond .ne 57, 3) := dk_154 0 57 (dk_at dksX11_step_0 13 rfl rfl)
theorem dX11_step_16 : decode cX11_step 16 = .ok (.aload_n 0, 1) := dk_42 (dk_at dksX11_step_0 16 rfl rfl)
theorem dX11_step_17 : decode cX11_step 17 = .ok (.ldc 109, 2) := dk_18 109 (dk_at dksX11_step_0 17 rfl rfl)
theorem dX11_step_19 : decode cX11_step 19 = .ok (.invokevirtual 86, 3) := dk_182 0 86 (dk_at dksX11_step_0 19 rfl rfl)
theorem dX11_step_22 : decode cX11_step 22 = .ok (.ifCond .ne 48, 3) := dk_154 0 48 (dk_at dksX11_step_1 0 rfl rfl)
theorem dX11_step_25 : decode cX11_step 25 = .ok (.aload_n 0, 1) := dk_42 (dk_at dksX11_step_1 3 rfl rfl)
theorem dX11_step_26 : decode cX11_step 26 = .ok (.ldc 111, 2) := dk_18 111 (dk_at dksX11_step_1 4 rfl rfl)
theorem dX11_step_28 : decode cX11_step 28 = .ok (.invokevirtual 86, 3) := dk_182 0 86 (dk_at dksX11_step_1 6 rfl rfl)
theorem dX11_step_31 : decode cX11_step 31 = .ok (.ifCond .ne 39, 3) := dk_154 0 39 (dk_at dksX11_step_1 9 rfl rfl)
theorem dX11_step_34 : decode cX11_step 34 = .ok (.aload_n 0, 1) := dk_42 (dk_at dksX11_step_1 12 rfl rfl)
theorem dX11_step_35 : decode cX11_step 35 = .ok (.ldc 113, 2) := dk_18 113 (dk_at dksX11_step_1 13 rfl rfl)
theorem dX11_step_37 : decode cX11_step 37 = .ok (.invokevirtual 86, 3) := dk_182 0 86 (dk_at dksX11_step_1 15 rfl rfl)
theorem dX11_step_40 : decode cX11_step 40 = .ok (.ifCond .ne 30, 3) := dk_154 0 30 (dk_at dksX11_step_1 18 rfl rfl)
theorem dX11_step_43 : decode cX11_step 43 = .ok (.aload_n 0, 1) := dk_42 (dk_at dksX11_step_1 21 rfl rfl)
theorem dX11_step_44 : decode cX11_step 44 = .ok (.ldc 116, 2) := dk_18 116 (dk_at dksX11_step_1 22 rfl rfl)
theorem dX11_step_46 : decode cX11_step 46 = .ok (.invokevirtual 86, 3) := dk_182 0 86 (dk_at dksX11_step_2 0 rfl rfl)
theorem dX11_step_49 : decode cX11_step 49 = .ok (.ifCond .ne 21, 3) := dk_154 0 21 (dk_at dksX11_step_2 3 rfl rfl)
theorem dX11_step_52 : decode cX11_step 52 = .ok (.aload_n 0, 1) := dk_42 (dk_at dksX11_step_2 6 rfl rfl)
theorem dX11_step_53 : decode cX11_step 53 = .ok (.ldc 118, 2) := dk_18 118 (dk_at dksX11_step_2 7 rfl rfl)
theorem dX11_step_55 : decode cX11_step 55 = .ok (.invokevirtual 86, 3) := dk_182 0 86 (dk_at dksX11_step_2 9 rfl rfl)
theorem dX11_step_58 : decode cX11_step 58 = .ok (.ifCond .ne 12, 3) := dk_154 0 12 (dk_at dksX11_step_2 12 rfl rfl)
theorem dX11_step_61 : decode cX11_step 61 = .ok (.aload_n 0, 1) := dk_42 (dk_at dksX11_step_2 15 rfl rfl)
theorem dX11_step_62 : decode cX11_step 62 = .ok (.ldc 120, 2) := dk_18 120 (dk_at dksX11_step_2 16 rfl rfl)
theorem dX11_step_64 : decode cX11_step 64 = .ok (.invokevirtual 86, 3) := dk_182 0 86 (dk_at dksX11_step_2 18 rfl rfl)
theorem dX11_step_67 : decode cX11_step 67 = .ok (.ifCond .eq 7, 3) := dk_153 0 7 (dk_at dksX11_step_2 21 rfl rfl)
theorem dX11_step_70 : decode cX11_step 70 = .ok (.iconst 1, 1) := dk_4 (dk_at dksX11_step_3 0 rfl rfl)
theorem dX11_step_71 : decode cX11_step 71 = .ok (.goto 4, 3) := dk_167 0 4 (dk_at dksX11_step_3 1 rfl rfl)
theorem dX11_step_74 : decode cX11_step 74 = .ok (.iconst 0, 1) := dk_3 (dk_at dksX11_step_3 4 rfl rfl)
theorem dX11_step_75 : decode cX11_step 75 = .ok (.istore_n 1, 1) := dk_60 (dk_at dksX11_step_3 5 rfl rfl)
theorem dX11_step_76 : decode cX11_step 76 = .ok (.iload_n 1, 1) := dk_27 (dk_at dksX11_step_3 6 rfl rfl)
theorem dX11_step_77 : decode cX11_step 77 = .ok (.ifCond .eq 58, 3) := dk_153 0 58 (dk_at dksX11_step_3 7 rfl rfl)
theorem dX11_step_80 : decode cX11_step 80 = .ok (.aload_n 0, 1) := dk_42 (dk_at dksX11_step_3 10 rfl rfl)
theorem dX11_step_81 : decode cX11_step 81 = .ok (.getfield 24, 3) := dk_180 0 24 (dk_at dksX11_step_3 11 rfl rfl)
theorem dX11_step_84 : decode cX11_step 84 = .ok (.getfield 159, 3) := dk_180 0 159 (dk_at dksX11_step_3 14 rfl rfl)
theorem dX11_step_87 : decode cX11_step 87 = .ok (.invokevirtual 163, 3) := dk_182 0 163 (dk_at dksX11_step_3 17 rfl rfl)
theorem dX11_step_90 : decode cX11_step 90 = .ok (.bipush 40, 2) := dk_16 40 (dk_at dksX11_step_3 20 rfl rfl)
theorem dX11_step_92 : decode cX11_step 92 = .ok (.if_icmp .eq 43, 3) := dk_159 0 43 (dk_at dksX11_step_4 0 rfl rfl)
theorem dX11_step_95 : decode cX11_step 95 = .ok (.aload_n 0, 1) := dk_42 (dk_at dksX11_step_4 3 rfl rfl)
theorem dX11_step_96 : decode cX11_step 96 = .ok (.ldc 111, 2) := dk_18 111 (dk_at dksX11_step_4 4 rfl rfl)
theorem dX11_step_98 : decode cX11_step 98 = .ok (.invokevirtual 86, 3) := dk_182 0 86 (dk_at dksX11_step_4 6 rfl rfl)
theorem dX11_step_101 : decode cX11_step 101 = .ok (.ifCond .eq 15, 3) := dk_153 0 15 (dk_at dksX11_step_4 9 rfl rfl)
theorem dX11_step_104 : decode cX11_step 104 = .ok (.aload_n 0, 1) := dk_42 (dk_at dksX11_step_4 12 rfl rfl)
theorem dX11_step_105 : decode cX11_step 105 = .ok (.getfield 24, 3) := dk_180 0 24 (dk_at dksX11_step_4 13 rfl rfl)
theorem dX11_step_108 : decode cX11_step 108 = .ok (.getfield 233, 3) := dk_180 0 233 (dk_at dksX11_step_4 16 rfl rfl)
theorem dX11_step_111 : decode cX11_step 111 = .ok (.bipush 6, 2) := dk_16 6 (dk_at dksX11_step_4 19 rfl rfl)
theorem dX11_step_113 : decode cX11_step 113 = .ok (.if_icmp .eq 22, 3) := dk_159 0 22 (dk_at dksX11_step_4 21 rfl rfl)
theorem dX11_step_116 : decode cX11_step 116 = .ok (.aload_n 0, 1) := dk_42 (dk_at dksX11_step_5 0 rfl rfl)
theorem dX11_step_117 : decode cX11_step 117 = .ok (.invokevirtual 210, 3) := dk_182 0 210 (dk_at dksX11_step_5 1 rfl rfl)
theorem dX11_step_120 : decode cX11_step 120 = .ok (.ifCond .eq 20, 3) := dk_153 0 20 (dk_at dksX11_step_5 4 rfl rfl)
theorem dX11_step_123 : decode cX11_step 123 = .ok (.aload_n 0, 1) := dk_42 (dk_at dksX11_step_5 7 rfl rfl)
theorem dX11_step_124 : decode cX11_step 124 = .ok (.getfield 24, 3) := dk_180 0 24 (dk_at dksX11_step_5 8 rfl rfl)
theorem dX11_step_127 : decode cX11_step 127 = .ok (.getfield 236, 3) := dk_180 0 236 (dk_at dksX11_step_5 11 rfl rfl)
theorem dX11_step_130 : decode cX11_step 130 = .ok (.bipush 8, 2) := dk_16 8 (dk_at dksX11_step_5 14 rfl rfl)
theorem dX11_step_132 : decode cX11_step 132 = .ok (.if_icmp .ne 8, 3) := dk_160 0 8 (dk_at dksX11_step_5 16 rfl rfl)
theorem dX11_step_135 : decode cX11_step 135 = .ok (.aload_n 0, 1) := dk_42 (dk_at dksX11_step_5 19 rfl rfl)
theorem dX11_step_136 : decode cX11_step 136 = .ok (.invokevirtual 90, 3) := dk_182 0 90 (dk_at dksX11_step_5 20 rfl rfl)
theorem dX11_step_139 : decode cX11_step 139 = .ok (.athrow, 1) := dk_191 (dk_at dksX11_step_5 23 rfl rfl)
theorem dX11_step_140 : decode cX11_step 140 = .ok (.aload_n 0, 1) := dk_42 (dk_at dksX11_step_6 0 rfl rfl)
theorem dX11_step_141 : decode cX11_step 141 = .ok (.getfield 24, 3) := dk_180 0 24 (dk_at dksX11_step_6 1 rfl rfl)
theorem dX11_step_144 : decode cX11_step 144 = .ok (.dup, 1) := dk_89 (dk_at dksX11_step_6 4 rfl rfl)
theorem dX11_step_145 : decode cX11_step 145 = .ok (.getfield 233, 3) := dk_180 0 233 (dk_at dksX11_step_6 5 rfl rfl)
theorem dX11_step_148 : decode cX11_step 148 = .ok (.aload_n 0, 1) := dk_42 (dk_at dksX11_step_6 8 rfl rfl)
theorem dX11_step_149 : decode cX11_step 149 = .ok (.ldc 111, 2) := dk_18 111 (dk_at dksX11_step_6 9 rfl rfl)
theorem dX11_step_151 : decode cX11_step 151 = .ok (.invokevirtual 86, 3) := dk_182 0 86 (dk_at dksX11_step_6 11 rfl rfl)
theorem dX11_step_154 : decode cX11_step 154 = .ok (.ifCond .eq 7, 3) := dk_153 0 7 (dk_at dksX11_step_6 14 rfl rfl)
theorem dX11_step_157 : decode cX11_step 157 = .ok (.iconst 1, 1) := dk_4 (dk_at dksX11_step_6 17 rfl rfl)
theorem dX11_step_158 : decode cX11_step 158 = .ok (.goto 4, 3) := dk_167 0 4 (dk_at dksX11_step_6 18 rfl rfl)
theorem dX11_step_161 : decode cX11_step 161 = .ok (.iconst 0, 1) := dk_3 (dk_at dksX11_step_6 21 rfl rfl)
theorem dX11_step_162 : decode cX11_step 162 = .ok (.iadd, 1) := dk_96 (dk_at dksX11_step_6 22 rfl rfl)
theorem dX11_step_163 : decode cX11_step 163 = .ok (.putfield 233, 3) := dk_181 0 233 (dk_at dksX11_step_7 0 rfl rfl)
theorem dX11_step_166 : decode cX11_step 166 = .ok (.aload_n 0, 1) := dk_42 (dk_at dksX11_step_7 3 rfl rfl)
theorem dX11_step_167 : decode cX11_step 167 = .ok (.getfield 24, 3) := dk_180 0 24 (dk_at dksX11_step_7 4 rfl rfl)
theorem dX11_step_170 : decode cX11_step 170 = .ok (.dup, 1) := dk_89 (dk_at dksX11_step_7 7 rfl rfl)
theorem dX11_step_171 : decode cX11_step 171 = .ok (.getfield 236, 3) := dk_180 0 236 (dk_at dksX11_step_7 8 rfl rfl)
theorem dX11_step_174 : decode cX11_step 174 = .ok (.aload_n 0, 1) := dk_42 (dk_at dksX11_step_7 11 rfl rfl)
theorem dX11_step_175 : decode cX11_step 175 = .ok (.invokevirtual 210, 3) := dk_182 0 210 (dk_at dksX11_step_7 12 rfl rfl)
theorem dX11_step_178 : decode cX11_step 178 = .ok (.ifCond .eq 7, 3) := dk_153 0 7 (dk_at dksX11_step_7 15 rfl rfl)
theorem dX11_step_181 : decode cX11_step 181 = .ok (.iconst 1, 1) := dk_4 (dk_at dksX11_step_7 18 rfl rfl)
theorem dX11_step_182 : decode cX11_step 182 = .ok (.goto 4, 3) := dk_167 0 4 (dk_at dksX11_step_7 19 rfl rfl)
theorem dX11_step_185 : decode cX11_step 185 = .ok (.iconst 0, 1) := dk_3 (dk_at dksX11_step_7 22 rfl rfl)
theorem dX11_step_186 : decode cX11_step 186 = .ok (.iadd, 1) := dk_96 (dk_at dksX11_step_7 23 rfl rfl)
theorem dX11_step_187 : decode cX11_step 187 = .ok (.putfield 236, 3) := dk_181 0 236 (dk_at dksX11_step_8 0 rfl rfl)
theorem dX11_step_190 : decode cX11_step 190 = .ok (.aload_n 0, 1) := dk_42 (dk_at dksX11_step_8 3 rfl rfl)
theorem dX11_step_191 : decode cX11_step 191 = .ok (.getfield 24, 3) := dk_180 0 24 (dk_at dksX11_step_8 4 rfl rfl)
theorem dX11_step_194 : decode cX11_step 194 = .ok (.getfield 159, 3) := dk_180 0 159 (dk_at dksX11_step_8 7 rfl rfl)
theorem dX11_step_197 : decode cX11_step 197 = .ok (.aload_n 0, 1) := dk_42 (dk_at dksX11_step_8 10 rfl rfl)
theorem dX11_step_198 : decode cX11_step 198 = .ok (.invokevirtual 214, 3) := dk_182 0 214 (dk_at dksX11_step_8 11 rfl rfl)
theorem dX11_step_201 : decode cX11_step 201 = .ok (.ifCond .eq 10, 3) := dk_153 0 10 (dk_at dksX11_step_8 14 rfl rfl)
theorem dX11_step_204 : decode cX11_step 204 = .ok (.aload_n 0, 1) := dk_42 (dk_at dksX11_step_8 17 rfl rfl)
theorem dX11_step_205 : decode cX11_step 205 = .ok (.invokevirtual 220, 3) := dk_182 0 220 (dk_at dksX11_step_8 18 rfl rfl)
theorem dX11_step_208 : decode cX11_step 208 = .ok (.goto 103, 3) := dk_167 0 103 (dk_at dksX11_step_8 21 rfl rfl)
theorem dX11_step_211 : decode cX11_step 211 = .ok (.aload_n 0, 1) := dk_42 (dk_at dksX11_step_9 0 rfl rfl)
theorem dX11_step_212 : decode cX11_step 212 = .ok (.ldc 107, 2) := dk_18 107 (dk_at dksX11_step_9 1 rfl rfl)
theorem dX11_step_214 : decode cX11_step 214 = .ok (.invokevirtual 86, 3) := dk_182 0 86 (dk_at dksX11_step_9 3 rfl rfl)
theorem dX11_step_217 : decode cX11_step 217 = .ok (.ifCond .eq 10, 3) := dk_153 0 10 (dk_at dksX11_step_9 6 rfl rfl)
theorem dX11_step_220 : decode cX11_step 220 = .ok (.aload_n 0, 1) := dk_42 (dk_at dksX11_step_9 9 rfl rfl)
theorem dX11_step_221 : decode cX11_step 221 = .ok (.invokevirtual 239, 3) := dk_182 0 239 (dk_at dksX11_step_9 10 rfl rfl)
theorem dX11_step_224 : decode cX11_step 224 = .ok (.goto 87, 3) := dk_167 0 87 (dk_at dksX11_step_9 13 rfl rfl)
theorem dX11_step_227 : decode cX11_step 227 = .ok (.aload_n 0, 1) := dk_42 (dk_at dksX11_step_9 16 rfl rfl)
theorem dX11_step_228 : decode cX11_step 228 = .ok (.ldc 109, 2) := dk_18 109 (dk_at dksX11_step_9 17 rfl rfl)
theorem dX11_step_230 : decode cX11_step 230 = .ok (.invokevirtual 86, 3) := dk_182 0 86 (dk_at dksX11_step_9 19 rfl rfl)
theorem dX11_step_233 : decode cX11_step 233 = .ok (.ifCond .eq 10, 3) := dk_153 0 10 (dk_at dksX11_step_10 0 rfl rfl)
theorem dX11_step_236 : decode cX11_step 236 = .ok (.aload_n 0, 1) := dk_42 (dk_at dksX11_step_10 3 rfl rfl)
theorem dX11_step_237 : decode cX11_step 237 = .ok (.invokevirtual 242, 3) := dk_182 0 242 (dk_at dksX11_step_10 4 rfl rfl)
theorem dX11_step_240 : decode cX11_step 240 = .ok (.goto 71, 3) := dk_167 0 71 (dk_at dksX11_step_10 7 rfl rfl)
theorem dX11_step_243 : decode cX11_step 243 = .ok (.aload_n 0, 1) := dk_42 (dk_at dksX11_step_10 10 rfl rfl)
theorem dX11_step_244 : decode cX11_step 244 = .ok (.ldc 111, 2) := dk_18 111 (dk_at dksX11_step_10 11 rfl rfl)
theorem dX11_step_246 : decode cX11_step 246 = .ok (.invokevirtual 86, 3) := dk_182 0 86 (dk_at dksX11_step_10 13 rfl rfl)
theorem dX11_step_249 : decode cX11_step 249 = .ok (.ifCond .eq 10, 3) := dk_153 0 10 (dk_at dksX11_step_10 16 rfl rfl)
theorem dX11_step_252 : decode cX11_step 252 = .ok (.aload_n 0, 1) := dk_42 (dk_at dksX11_step_10 19 rfl rfl)
theorem dX11_step_253 : decode cX11_step 253 = .ok (.invokevirtual 230, 3) := dk_182 0 230 (dk_at dksX11_step_10 20 rfl rfl)
theorem dX11_step_256 : decode cX11_step 256 = .ok (.goto 55, 3) := dk_167 0 55 (dk_at dksX11_step_11 0 rfl rfl)
theorem dX11_step_259 : decode cX11_step 259 = .ok (.aload_n 0, 1) := dk_42 (dk_at dksX11_step_11 3 rfl rfl)
theorem dX11_step_260 : decode cX11_step 260 = .ok (.ldc 113, 2) := dk_18 113 (dk_at dksX11_step_11 4 rfl rfl)
theorem dX11_step_262 : decode cX11_step 262 = .ok (.invokevirtual 86, 3) := dk_182 0 86 (dk_at dksX11_step_11 6 rfl rfl)
theorem dX11_step_265 : decode cX11_step 265 = .ok (.ifCond .eq 10, 3) := dk_153 0 10 (dk_at dksX11_step_11 9 rfl rfl)
theorem dX11_step_268 : decode cX11_step 268 = .ok (.aload_n 0, 1) := dk_42 (dk_at dksX11_step_11 12 rfl rfl)
theorem dX11_step_269 : decode cX11_step 269 = .ok (.invokevirtual 244, 3) := dk_182 0 244 (dk_at dksX11_step_11 13 rfl rfl)
theorem dX11_step_272 : decode cX11_step 272 = .ok (.goto 39, 3) := dk_167 0 39 (dk_at dksX11_step_11 16 rfl rfl)
theorem dX11_step_275 : decode cX11_step 275 = .ok (.aload_n 0, 1) := dk_42 (dk_at dksX11_step_11 19 rfl rfl)
theorem dX11_step_276 : decode cX11_step 276 = .ok (.ldc 116, 2) := dk_18 116 (dk_at dksX11_step_11 20 rfl rfl)
theorem dX11_step_278 : decode cX11_step 278 = .ok (.invokevirtual 86, 3) := dk_182 0 86 (dk_at dksX11_step_12 0 rfl rfl)
theorem dX11_step_281 : decode cX11_step 281 = .ok (.ifCond .eq 10, 3) := dk_153 0 10 (dk_at dksX11_step_12 3 rfl rfl)
theorem dX11_step_284 : decode cX11_step 284 = .ok (.aload_n 0, 1) := dk_42 (dk_at dksX11_step_12 6 rfl rfl)
theorem dX11_step_285 : decode cX11_step 285 = .ok (.invokevirtual 247, 3) := dk_182 0 247 (dk_at dksX11_step_12 7 rfl rfl)
theorem dX11_step_288 : decode cX11_step 288 = .ok (.goto 23, 3) := dk_167 0 23 (dk_at dksX11_step_12 10 rfl rfl)
theorem dX11_step_291 : decode cX11_step 291 = .ok (.aload_n 0, 1) := dk_42 (dk_at dksX11_step_12 13 rfl rfl)
theorem dX11_step_292 : decode cX11_step 292 = .ok (.ldc 118, 2) := dk_18 118 (dk_at dksX11_step_12 14 rfl rfl)
theorem dX11_step_294 : decode cX11_step 294 = .ok (.invokevirtual 86, 3) := dk_182 0 86 (dk_at dksX11_step_12 16 rfl rfl)
theorem dX11_step_297 : decode cX11_step 297 = .ok (.ifCond .eq 10, 3) := dk_153 0 10 (dk_at dksX11_step_12 19 rfl rfl)
theorem dX11_step_300 : decode cX11_step 300 = .ok (.aload_n 0, 1) := dk_42 (dk_at dksX11_step_12 22 rfl rfl)
theorem dX11_step_301 : decode cX11_step 301 = .ok (.invokevirtual 249, 3) := dk_182 0 249 (dk_at dksX11_step_13 0 rfl rfl)
theorem dX11_step_304 : decode cX11_step 304 = .ok (.goto 7, 3) := dk_167 0 7 (dk_at dksX11_step_13 3 rfl rfl)
theorem dX11_step_307 : decode cX11_step 307 = .ok (.aload_n 0, 1) := dk_42 (dk_at dksX11_step_13 6 rfl rfl)
theorem dX11_step_308 : decode cX11_step 308 = .ok (.invokevirtual 251, 3) := dk_182 0 251 (dk_at dksX11_step_13 7 rfl rfl)
theorem dX11_step_311 : decode cX11_step 311 = .ok (.invokevirtual 224, 3) := dk_182 0 224 (dk_at dksX11_step_13 10 rfl rfl)
theorem dX11_step_314 : decode cX11_step 314 = .ok (.pop, 1) := dk_87 (dk_at dksX11_step_13 13 rfl rfl)
theorem dX11_step_315 : decode cX11_step 315 = .ok (.return_, 1) := dk_177 (dk_at dksX11_step_13 14 rfl rfl)
abbrev cX11_lay : ByteArray := prog_23_method_20_code
def yX11_lay : MethodName := ⟨RX11, "lay", "()LBlindCards$Step;"⟩
def dkwX11_lay_1 : List UInt8 := [176]
abbrev dktX11_lay_1 : List UInt8 := dkwX11_lay_1 ++ []
def dkwX11_lay_0 : List UInt8 := [42, 182, 0, 94, 42, 180, 0, 24, 4, 181, 0, 190, 187, 0, 253, 89, 42, 182, 0, 255, 3, 183, 1, 2]
abbrev dktX11_lay_0 : List UInt8 := dkwX11_lay_0 ++ dktX11_lay_1
theorem dksX11_lay_0 : cX11_lay.data.toList.drop 0 = dktX11_lay_0 := by decide +kernel
theorem dksX11_lay_1 : cX11_lay.data.toList.drop 24 = dktX11_lay_1 := dk_seg dksX11_lay_0 24 rfl rfl
theorem dX11_lay_0 : decode cX11_lay 0 = .ok (.aload_n 0, 1) := dk_42 (dk_at dksX11_lay_0 0 rfl rfl)
theorem dX11_lay_1 : decode cX11_lay 1 = .ok (.invokevirtual 94, 3) := dk_182 0 94 (dk_at dksX11_lay_0 1 rfl rfl)
theorem dX11_lay_4 : decode cX11_lay 4 = .ok (.aload_n 0, 1) := dk_42 (dk_at dksX11_lay_0 4 rfl rfl)
theorem dX11_lay_5 : decode cX11_lay 5 = .ok (.getfield 24, 3) := dk_180 0 24 (dk_at dksX11_lay_0 5 rfl rfl)
theorem dX11_lay_8 : decode cX11_lay 8 = .ok (.iconst 1, 1) := dk_4 (dk_at dksX11_lay_0 8 rfl rfl)
theorem dX11_lay_9 : decode cX11_lay 9 = .ok (.putfield 190, 3) := dk_181 0 190 (dk_at dksX11_lay_0 9 rfl rfl)
theorem dX11_lay_12 : decode cX11_lay 12 = .ok (.new 253, 3) := dk_187 0 253 (dk_at dksX11_lay_0 12 rfl rfl)
theorem dX11_lay_15 : decode cX11_lay 15 = .ok (.dup, 1) := dk_89 (dk_at dksX11_lay_0 15 rfl rfl)
theorem dX11_lay_16 : decode cX11_lay 16 = .ok (.aload_n 0, 1) := dk_42 (dk_at dksX11_lay_0 16 rfl rfl)
theorem dX11_lay_17 : decode cX11_lay 17 = .ok (.invokevirtual 255, 3) := dk_182 0 255 (dk_at dksX11_lay_0 17 rfl rfl)
theorem dX11_lay_20 : decode cX11_lay 20 = .ok (.iconst 0, 1) := dk_3 (dk_at dksX11_lay_0 20 rfl rfl)
theorem dX11_lay_21 : decode cX11_lay 21 = .ok (.invokespecial 258, 3) := dk_183 1 2 (dk_at dksX11_lay_0 21 rfl rfl)
theorem dX11_lay_24 : decode cX11_lay 24 = .ok (.areturn, 1) := dk_176 (dk_at dksX11_lay_1 0 rfl rfl)
abbrev cX11_put : ByteArray := prog_23_method_21_code
def yX11_put : MethodName := ⟨RX11, "put", "()LBlindCards$Step;"⟩
def dkwX11_put_0 : List UInt8 := [42, 182, 0, 94, 187, 0, 253, 89, 2, 42, 182, 1, 5, 183, 1, 2, 176]
abbrev dktX11_put_0 : List UInt8 := dkwX11_put_0 ++ []
theorem dksX11_put_0 : cX11_put.data.toList.drop 0 = dktX11_put_0 := by decide +kernel
theorem dX11_put_0 : decode cX11_put 0 = .ok (.aload_n 0, 1) := dk_42 (dk_at dksX11_put_0 0 rfl rfl)
theorem dX11_put_1 : decode cX11_put 1 = .ok (.invokevirtual 94, 3) := dk_182 0 94 (dk_at dksX11_put_0 1 rfl rfl)
theorem dX11_put_4 : decode cX11_put 4 = .ok (.new 253, 3) := dk_187 0 253 (dk_at dksX11_put_0 4 rfl rfl)
theorem dX11_put_7 : decode cX11_put 7 = .ok (.dup, 1) := dk_89 (dk_at dksX11_put_0 7 rfl rfl)
theorem dX11_put_8 : decode cX11_put 8 = .ok (.iconst (-1), 1) := dk_2 (dk_at dksX11_put_0 8 rfl rfl)
theorem dX11_put_9 : decode cX11_put 9 = .ok (.aload_n 0, 1) := dk_42 (dk_at dksX11_put_0 9 rfl rfl)
theorem dX11_put_10 : decode cX11_put 10 = .ok (.invokevirtual 261, 3) := dk_182 1 5 (dk_at dksX11_put_0 10 rfl rfl)
theorem dX11_put_13 : decode cX11_put 13 = .ok (.invokespecial 258, 3) := dk_183 1 2 (dk_at dksX11_put_0 13 rfl rfl)
theorem dX11_put_16 : decode cX11_put 16 = .ok (.areturn, 1) := dk_176 (dk_at dksX11_put_0 16 rfl rfl)
abbrev cX11_red : ByteArray := prog_23_method_19_code
def yX11_red : MethodName := ⟨RX11, "red", "()Z"⟩
def dkwX11_red_1 : List UInt8 := [18, 128, 182, 0, 86, 60, 42, 182, 0, 94, 27, 172]
abbrev dktX11_red_1 : List UInt8 := dkwX11_red_1 ++ []
def dkwX11_red_0 : List UInt8 := [42, 18, 128, 182, 0, 86, 154, 0, 17, 42, 18, 130, 182, 0, 86, 154, 0, 8, 42, 182, 0, 90, 191, 42]
abbrev dktX11_red_0 : List UInt8 := dkwX11_red_0 ++ dktX11_red_1
theorem dksX11_red_0 : cX11_red.data.toList.drop 0 = dktX11_red_0 := by decide +kernel
theorem dksX11_red_1 : cX11_red.data.toList.drop 24 = dktX11_red_1 := dk_seg dksX11_red_0 24 rfl rfl
theorem dX11_red_0 : decode cX11_red 0 = .ok (.aload_n 0, 1) := dk_42 (dk_at dksX11_red_0 0 rfl rfl)
theorem dX11_red_1 : decode cX11_red 1 = .ok (.ldc 128, 2) := dk_18 128 (dk_at dksX11_red_0 1 rfl rfl)
theorem dX11_red_3 : decode cX11_red 3 = .ok (.invokevirtual 86, 3) := dk_182 0 86 (dk_at dksX11_red_0 3 rfl rfl)
theorem dX11_red_6 : decode cX11_red 6 = .ok (.ifCond .ne 17, 3) := dk_154 0 17 (dk_at dksX11_red_0 6 rfl rfl)
theorem dX11_red_9 : decode cX11_red 9 = .ok (.aload_n 0, 1) := dk_42 (dk_at dksX11_red_0 9 rfl rfl)
theorem dX11_red_10 : decode cX11_red 10 = .ok (.ldc 130, 2) := dk_18 130 (dk_at dksX11_red_0 10 rfl rfl)
theorem dX11_red_12 : decode cX11_red 12 = .ok (.invokevirtual 86, 3) := dk_182 0 86 (dk_at dksX11_red_0 12 rfl rfl)
theorem dX11_red_15 : decode cX11_red 15 = .ok (.ifCond .ne 8, 3) := dk_154 0 8 (dk_at dksX11_red_0 15 rfl rfl)
theorem dX11_red_18 : decode cX11_red 18 = .ok (.aload_n 0, 1) := dk_42 (dk_at dksX11_red_0 18 rfl rfl)
theorem dX11_red_19 : decode cX11_red 19 = .ok (.invokevirtual 90, 3) := dk_182 0 90 (dk_at dksX11_red_0 19 rfl rfl)
theorem dX11_red_22 : decode cX11_red 22 = .ok (.athrow, 1) := dk_191 (dk_at dksX11_red_0 22 rfl rfl)
theorem dX11_red_23 : decode cX11_red 23 = .ok (.aload_n 0, 1) := dk_42 (dk_at dksX11_red_0 23 rfl rfl)
theorem dX11_red_24 : decode cX11_red 24 = .ok (.ldc 128, 2) := dk_18 128 (dk_at dksX11_red_1 0 rfl rfl)
theorem dX11_red_26 : decode cX11_red 26 = .ok (.invokevirtual 86, 3) := dk_182 0 86 (dk_at dksX11_red_1 2 rfl rfl)
theorem dX11_red_29 : decode cX11_red 29 = .ok (.istore_n 1, 1) := dk_60 (dk_at dksX11_red_1 5 rfl rfl)
theorem dX11_red_30 : decode cX11_red 30 = .ok (.aload_n 0, 1) := dk_42 (dk_at dksX11_red_1 6 rfl rfl)
theorem dX11_red_31 : decode cX11_red 31 = .ok (.invokevirtual 94, 3) := dk_182 0 94 (dk_at dksX11_red_1 7 rfl rfl)
theorem dX11_red_34 : decode cX11_red 34 = .ok (.iload_n 1, 1) := dk_27 (dk_at dksX11_red_1 10 rfl rfl)
theorem dX11_red_35 : decode cX11_red 35 = .ok (.ireturn, 1) := dk_172 (dk_at dksX11_red_1 11 rfl rfl)
abbrev cX11_branch : ByteArray := prog_23_method_27_code
def yX11_branch : MethodName := ⟨RX11, "branch", "()LBlindCards$Step;"⟩
def dkwX11_branch_3 : List UInt8 := [42, 180, 0, 43, 183, 1, 55, 78, 42, 182, 0, 94, 45, 176]
abbrev dktX11_branch_3 : List UInt8 := dkwX11_branch_3 ++ []
def dkwX11_branch_2 : List UInt8 := [187, 0, 75, 89, 16, 6, 42, 180, 0, 43, 183, 0, 77, 191, 187, 0, 172, 89, 27, 28, 42, 180, 0, 17]
abbrev dktX11_branch_2 : List UInt8 := dkwX11_branch_2 ++ dktX11_branch_3
def dkwX11_branch_1 : List UInt8 := [154, 0, 8, 42, 182, 0, 90, 191, 42, 180, 0, 24, 42, 180, 0, 17, 182, 0, 177, 155, 0, 17]
abbrev dktX11_branch_1 : List UInt8 := dkwX11_branch_1 ++ dktX11_branch_2
def dkwX11_branch_0 : List UInt8 := [42, 182, 0, 94, 42, 182, 1, 15, 60, 42, 182, 1, 5, 61, 42, 18, 115, 182, 1, 11, 42, 182, 1, 52]
abbrev dktX11_branch_0 : List UInt8 := dkwX11_branch_0 ++ dktX11_branch_1
theorem dksX11_branch_0 : cX11_branch.data.toList.drop 0 = dktX11_branch_0 := by decide +kernel
theorem dksX11_branch_1 : cX11_branch.data.toList.drop 24 = dktX11_branch_1 := dk_seg dksX11_branch_0 24 rfl rfl
theorem dksX11_branch_2 : cX11_branch.data.toList.drop 46 = dktX11_branch_2 := dk_seg dksX11_branch_1 22 rfl rfl
theorem dksX11_branch_3 : cX11_branch.data.toList.drop 70 = dktX11_branch_3 := dk_seg dksX11_branch_2 24 rfl rfl
theorem dX11_branch_0 : decode cX11_branch 0 = .ok (.aload_n 0, 1) := dk_42 (dk_at dksX11_branch_0 0 rfl rfl)
theorem dX11_branch_1 : decode cX11_branch 1 = .ok (.invokevirtual 94, 3) := dk_182 0 94 (dk_at dksX11_branch_0 1 rfl rfl)
theorem dX11_branch_4 : decode cX11_branch 4 = .ok (.aload_n 0, 1) := dk_42 (dk_at dksX11_branch_0 4 rfl rfl)
theorem dX11_branch_5 : decode cX11_branch 5 = .ok (.invokevirtual 271, 3) := dk_182 1 15 (dk_at dksX11_branch_0 5 rfl rfl)
theorem dX11_branch_8 : decode cX11_branch 8 = .ok (.istore_n 1, 1) := dk_60 (dk_at dksX11_branch_0 8 rfl rfl)
theorem dX11_branch_9 : decode cX11_branch 9 = .ok (.aload_n 0, 1) := dk_42 (dk_at dksX11_branch_0 9 rfl rfl)
theorem dX11_branch_10 : decode cX11_branch 10 = .ok (.invokevirtual 261, 3) := dk_182 1 5 (dk_at dksX11_branch_0 10 rfl rfl)
theorem dX11_branch_13 : decode cX11_branch 13 = .ok (.istore_n 2, 1) := dk_61 (dk_at dksX11_branch_0 13 rfl rfl)
theorem dX11_branch_14 : decode cX11_branch 14 = .ok (.aload_n 0, 1) := dk_42 (dk_at dksX11_branch_0 14 rfl rfl)
theorem dX11_branch_15 : decode cX11_branch 15 = .ok (.ldc 115, 2) := dk_18 115 (dk_at dksX11_branch_0 15 rfl rfl)
theorem dX11_branch_17 : decode cX11_branch 17 = .ok (.invokevirtual 267, 3) := dk_182 1 11 (dk_at dksX11_branch_0 17 rfl rfl)
theorem dX11_branch_20 : decode cX11_branch 20 = .ok (.aload_n 0, 1) := dk_42 (dk_at dksX11_branch_0 20 rfl rfl)
theorem dX11_branch_21 : decode cX11_branch 21 = .ok (.invokevirtual 308, 3) := dk_182 1 52 (dk_at dksX11_branch_0 21 rfl rfl)
theorem dX11_branch_24 : decode cX11_branch 24 = .ok (.ifCond .ne 8, 3) := dk_154 0 8 (dk_at dksX11_branch_1 0 rfl rfl)
theorem dX11_branch_27 : decode cX11_branch 27 = .ok (.aload_n 0, 1) := dk_42 (dk_at dksX11_branch_1 3 rfl rfl)
theorem dX11_branch_28 : decode cX11_branch 28 = .ok (.invokevirtual 90, 3) := dk_182 0 90 (dk_at dksX11_branch_1 4 rfl rfl)
theorem dX11_branch_31 : decode cX11_branch 31 = .ok (.athrow, 1) := dk_191 (dk_at dksX11_branch_1 7 rfl rfl)
theorem dX11_branch_32 : decode cX11_branch 32 = .ok (.aload_n 0, 1) := dk_42 (dk_at dksX11_branch_1 8 rfl rfl)
theorem dX11_branch_33 : decode cX11_branch 33 = .ok (.getfield 24, 3) := dk_180 0 24 (dk_at dksX11_branch_1 9 rfl rfl)
theorem dX11_branch_36 : decode cX11_branch 36 = .ok (.aload_n 0, 1) := dk_42 (dk_at dksX11_branch_1 12 rfl rfl)
theorem dX11_branch_37 : decode cX11_branch 37 = .ok (.getfield 17, 3) := dk_180 0 17 (dk_at dksX11_branch_1 13 rfl rfl)
theorem dX11_branch_40 : decode cX11_branch 40 = .ok (.invokevirtual 177, 3) := dk_182 0 177 (dk_at dksX11_branch_1 16 rfl rfl)
theorem dX11_branch_43 : decode cX11_branch 43 = .ok (.ifCond .lt 17, 3) := dk_155 0 17 (dk_at dksX11_branch_1 19 rfl rfl)
theorem dX11_branch_46 : decode cX11_branch 46 = .ok (.new 75, 3) := dk_187 0 75 (dk_at dksX11_branch_2 0 rfl rfl)
theorem dX11_branch_49 : decode cX11_branch 49 = .ok (.dup, 1) := dk_89 (dk_at dksX11_branch_2 3 rfl rfl)
theorem dX11_branch_50 : decode cX11_branch 50 = .ok (.bipush 6, 2) := dk_16 6 (dk_at dksX11_branch_2 4 rfl rfl)
theorem dX11_branch_52 : decode cX11_branch 52 = .ok (.aload_n 0, 1) := dk_42 (dk_at dksX11_branch_2 6 rfl rfl)
theorem dX11_branch_53 : decode cX11_branch 53 = .ok (.getfield 43, 3) := dk_180 0 43 (dk_at dksX11_branch_2 7 rfl rfl)
theorem dX11_branch_56 : decode cX11_branch 56 = .ok (.invokespecial 77, 3) := dk_183 0 77 (dk_at dksX11_branch_2 10 rfl rfl)
theorem dX11_branch_59 : decode cX11_branch 59 = .ok (.athrow, 1) := dk_191 (dk_at dksX11_branch_2 13 rfl rfl)
theorem dX11_branch_60 : decode cX11_branch 60 = .ok (.new 172, 3) := dk_187 0 172 (dk_at dksX11_branch_2 14 rfl rfl)
theorem dX11_branch_63 : decode cX11_branch 63 = .ok (.dup, 1) := dk_89 (dk_at dksX11_branch_2 17 rfl rfl)
theorem dX11_branch_64 : decode cX11_branch 64 = .ok (.iload_n 1, 1) := dk_27 (dk_at dksX11_branch_2 18 rfl rfl)
theorem dX11_branch_65 : decode cX11_branch 65 = .ok (.iload_n 2, 1) := dk_28 (dk_at dksX11_branch_2 19 rfl rfl)
theorem dX11_branch_66 : decode cX11_branch 66 = .ok (.aload_n 0, 1) := dk_42 (dk_at dksX11_branch_2 20 rfl rfl)
theorem dX11_branch_67 : decode cX11_branch 67 = .ok (.getfield 17, 3) := dk_180 0 17 (dk_at dksX11_branch_2 21 rfl rfl)
theorem dX11_branch_70 : decode cX11_branch 70 = .ok (.aload_n 0, 1) := dk_42 (dk_at dksX11_branch_3 0 rfl rfl)
theorem dX11_branch_71 : decode cX11_branch 71 = .ok (.getfield 43, 3) := dk_180 0 43 (dk_at dksX11_branch_3 1 rfl rfl)
theorem dX11_branch_74 : decode cX11_branch 74 = .ok (.invokespecial 311, 3) := dk_183 1 55 (dk_at dksX11_branch_3 4 rfl rfl)
theorem dX11_branch_77 : decode cX11_branch 77 = .ok (.astore_n 3, 1) := dk_78 (dk_at dksX11_branch_3 7 rfl rfl)
theorem dX11_branch_78 : decode cX11_branch 78 = .ok (.aload_n 0, 1) := dk_42 (dk_at dksX11_branch_3 8 rfl rfl)
theorem dX11_branch_79 : decode cX11_branch 79 = .ok (.invokevirtual 94, 3) := dk_182 0 94 (dk_at dksX11_branch_3 9 rfl rfl)
theorem dX11_branch_82 : decode cX11_branch 82 = .ok (.aload_n 3, 1) := dk_45 (dk_at dksX11_branch_3 12 rfl rfl)
theorem dX11_branch_83 : decode cX11_branch 83 = .ok (.areturn, 1) := dk_176 (dk_at dksX11_branch_3 13 rfl rfl)
abbrev cX11_isName : ByteArray := prog_23_method_11_code
def yX11_isName : MethodName := ⟨RX11, "isName", "()Z"⟩
def dkwX11_isName_21 : List UInt8 := [3, 172, 4, 172]
abbrev dktX11_isName_21 : List UInt8 := dkwX11_isName_21 ++ []
def dkwX11_isName_20 : List UInt8 := [170, 0, 0, 0, 0, 0, 0, 130, 0, 0, 0, 0, 0, 0, 0, 27, 0, 0, 0, 128, 0, 0, 0, 128, 0, 0, 0, 128, 0, 0, 0, 128, 0, 0, 0, 128, 0, 0, 0, 128, 0, 0, 0, 128, 0, 0, 0, 128, 0, 0, 0, 128, 0, 0, 0, 128, 0, 0, 0, 128, 0, 0, 0, 128, 0, 0, 0, 128, 0, 0, 0, 128, 0, 0, 0, 128, 0, 0, 0, 128, 0, 0, 0, 128, 0, 0, 0, 128, 0, 0, 0, 128, 0, 0, 0, 128, 0, 0, 0, 128, 0, 0, 0, 128, 0, 0, 0, 128, 0, 0, 0, 128, 0, 0, 0, 128, 0, 0, 0, 128, 0, 0, 0, 128, 0, 0, 0, 128]
abbrev dktX11_isName_20 : List UInt8 := dkwX11_isName_20 ++ dktX11_isName_21
def dkwX11_isName_19 : List UInt8 := [153, 0, 6, 16, 27, 61, 28]
abbrev dktX11_isName_19 : List UInt8 := dkwX11_isName_19 ++ dktX11_isName_20
def dkwX11_isName_18 : List UInt8 := [167, 0, 30, 43, 18, 152, 182, 0, 80, 153, 0, 21, 16, 26, 61, 167, 0, 15, 43, 18, 154, 182, 0, 80]
abbrev dktX11_isName_18 : List UInt8 := dkwX11_isName_18 ++ dktX11_isName_19
def dkwX11_isName_17 : List UInt8 := [182, 0, 80, 153, 0, 51, 16, 24, 61, 167, 0, 45, 43, 18, 150, 182, 0, 80, 153, 0, 36, 16, 25, 61]
abbrev dktX11_isName_17 : List UInt8 := dkwX11_isName_17 ++ dktX11_isName_18
def dkwX11_isName_16 : List UInt8 := [16, 22, 61, 167, 0, 75, 43, 18, 146, 182, 0, 80, 153, 0, 66, 16, 23, 61, 167, 0, 60, 43, 18, 148]
abbrev dktX11_isName_16 : List UInt8 := dkwX11_isName_16 ++ dktX11_isName_17
def dkwX11_isName_15 : List UInt8 := [43, 18, 142, 182, 0, 80, 153, 0, 96, 16, 21, 61, 167, 0, 90, 43, 18, 144, 182, 0, 80, 153, 0, 81]
abbrev dktX11_isName_15 : List UInt8 := dkwX11_isName_15 ++ dktX11_isName_16
def dkwX11_isName_14 : List UInt8 := [153, 0, 126, 16, 19, 61, 167, 0, 120, 43, 18, 140, 182, 0, 80, 153, 0, 111, 16, 20, 61, 167, 0, 105]
abbrev dktX11_isName_14 : List UInt8 := dkwX11_isName_14 ++ dktX11_isName_15
def dkwX11_isName_13 : List UInt8 := [167, 0, 150, 43, 18, 136, 182, 0, 80, 153, 0, 141, 16, 18, 61, 167, 0, 135, 43, 18, 138, 182, 0, 80]
abbrev dktX11_isName_13 : List UInt8 := dkwX11_isName_13 ++ dktX11_isName_14
def dkwX11_isName_12 : List UInt8 := [182, 0, 80, 153, 0, 171, 16, 16, 61, 167, 0, 165, 43, 18, 134, 182, 0, 80, 153, 0, 156, 16, 17, 61]
abbrev dktX11_isName_12 : List UInt8 := dkwX11_isName_12 ++ dktX11_isName_13
def dkwX11_isName_11 : List UInt8 := [16, 14, 61, 167, 0, 195, 43, 18, 130, 182, 0, 80, 153, 0, 186, 16, 15, 61, 167, 0, 180, 43, 18, 132]
abbrev dktX11_isName_11 : List UInt8 := dkwX11_isName_11 ++ dktX11_isName_12
def dkwX11_isName_10 : List UInt8 := [43, 18, 126, 182, 0, 80, 153, 0, 216, 16, 13, 61, 167, 0, 210, 43, 18, 128, 182, 0, 80, 153, 0, 201]
abbrev dktX11_isName_10 : List UInt8 := dkwX11_isName_10 ++ dktX11_isName_11
def dkwX11_isName_9 : List UInt8 := [153, 0, 246, 16, 11, 61, 167, 0, 240, 43, 18, 124, 182, 0, 80, 153, 0, 231, 16, 12, 61, 167, 0, 225]
abbrev dktX11_isName_9 : List UInt8 := dkwX11_isName_9 ++ dktX11_isName_10
def dkwX11_isName_8 : List UInt8 := [167, 1, 14, 43, 18, 120, 182, 0, 80, 153, 1, 5, 16, 10, 61, 167, 0, 255, 43, 18, 122, 182, 0, 80]
abbrev dktX11_isName_8 : List UInt8 := dkwX11_isName_8 ++ dktX11_isName_9
def dkwX11_isName_7 : List UInt8 := [182, 0, 80, 153, 1, 35, 16, 8, 61, 167, 1, 29, 43, 18, 118, 182, 0, 80, 153, 1, 20, 16, 9, 61]
abbrev dktX11_isName_7 : List UInt8 := dkwX11_isName_7 ++ dktX11_isName_8
def dkwX11_isName_6 : List UInt8 := [61, 167, 1, 59, 43, 18, 115, 182, 0, 80, 153, 1, 50, 16, 7, 61, 167, 1, 44, 43, 18, 116]
abbrev dktX11_isName_6 : List UInt8 := dkwX11_isName_6 ++ dktX11_isName_7
def dkwX11_isName_5 : List UInt8 := [18, 111, 182, 0, 80, 153, 1, 79, 8, 61, 167, 1, 74, 43, 18, 113, 182, 0, 80, 153, 1, 65, 16, 6]
abbrev dktX11_isName_5 : List UInt8 := dkwX11_isName_5 ++ dktX11_isName_6
def dkwX11_isName_4 : List UInt8 := [153, 1, 107, 6, 61, 167, 1, 102, 43, 18, 109, 182, 0, 80, 153, 1, 93, 7, 61, 167, 1, 88, 43]
abbrev dktX11_isName_4 : List UInt8 := dkwX11_isName_4 ++ dktX11_isName_5
def dkwX11_isName_3 : List UInt8 := [61, 167, 1, 130, 43, 18, 105, 182, 0, 80, 153, 1, 121, 5, 61, 167, 1, 116, 43, 18, 107, 182, 0, 80]
abbrev dktX11_isName_3 : List UInt8 := dkwX11_isName_3 ++ dktX11_isName_4
def dkwX11_isName_2 : List UInt8 := [43, 18, 101, 182, 0, 80, 153, 1, 149, 3, 61, 167, 1, 144, 43, 18, 103, 182, 0, 80, 153, 1, 135, 4]
abbrev dktX11_isName_2 : List UInt8 := dkwX11_isName_2 ++ dktX11_isName_3
def dkwX11_isName_1 : List UInt8 := [171, 0, 0, 0, 0, 2, 134, 0, 0, 0, 28, 183, 1, 200, 49, 0, 0, 2, 17, 196, 226, 50, 143, 0, 0, 0, 235, 0, 0, 12, 232, 0, 0, 1, 78, 0, 0, 13, 29, 0, 0, 1, 63, 0, 0, 13, 215, 0, 0, 2, 47, 0, 0, 13, 227, 0, 0, 2, 107, 0, 0, 14, 123, 0, 0, 2, 2, 0, 1, 121, 161, 0, 0, 2, 77, 0, 1, 121, 215, 0, 0, 2, 92, 0, 1, 121, 225, 0, 0, 1, 138, 0, 1, 125, 181, 0, 0, 1, 153, 0, 1, 130, 66, 0, 0, 1, 243, 0, 1, 130, 174, 0, 0, 1, 168, 0, 1, 136, 219, 0, 0, 1, 108, 0, 1, 161, 164, 0, 0, 1, 21, 0, 1, 165, 101, 0, 0, 1, 7, 0, 1, 166, 92, 0, 0, 2, 62, 0, 1, 170, 211, 0, 0, 2, 122, 0, 1, 179, 15, 0, 0, 1, 35, 0, 1, 184, 145, 0, 0, 1, 183, 0, 1, 185, 218, 0, 0, 1, 228, 0, 45, 213, 26, 0, 0, 0, 249, 0, 51, 6, 205, 0, 0, 1, 93, 0, 52, 38, 74, 0, 0, 1, 49, 0, 53, 193, 232, 0, 0, 1, 123, 0, 54, 17, 147, 0, 0, 1, 213, 5, 151, 143, 255, 0, 0, 1, 198, 6, 91, 165, 129, 0, 0, 2, 32]
abbrev dktX11_isName_1 : List UInt8 := dkwX11_isName_1 ++ dktX11_isName_2
def dkwX11_isName_0 : List UInt8 := [42, 180, 0, 46, 4, 159, 0, 5, 3, 172, 42, 180, 0, 17, 76, 2, 61, 43, 182, 0, 97]
abbrev dktX11_isName_0 : List UInt8 := dkwX11_isName_0 ++ dktX11_isName_1
theorem dksX11_isName_0 : cX11_isName.data.toList.drop 0 = dktX11_isName_0 := by decide +kernel
theorem dksX11_isName_1 : cX11_isName.data.toList.drop 21 = dktX11_isName_1 := dk_seg dksX11_isName_0 21 rfl rfl
theorem dksX11_isName_2 : cX11_isName.data.toList.drop 256 = dktX11_isName_2 := dk_seg dksX11_isName_1 235 rfl rfl
theorem dksX11_isName_3 : cX11_isName.data.toList.drop 280 = dktX11_isName_3 := dk_seg dksX11_isName_2 24 rfl rfl
theorem dksX11_isName_4 : cX11_isName.data.toList.drop 304 = dktX11_isName_4 := dk_seg dksX11_isName_3 24 rfl rfl
theorem dksX11_isName_5 : cX11_isName.data.toList.drop 327 = dktX11_isName_5 := dk_seg dksX11_isName_4 23 rfl rfl
theorem dksX11_isName_6 : cX11_isName.data.toList.drop 351 = dktX11_isName_6 := dk_seg dksX11_isName_5 24 rfl rfl
theorem dksX11_isName_7 : cX11_isName.data.toList.drop 373 = dktX11_isName_7 := dk_seg dksX11_isName_6 22 rfl rfl
theorem dksX11_isName_8 : cX11_isName.data.toList.drop 397 = dktX11_isName_8 := dk_seg dksX11_isName_7 24 rfl rfl
theorem dksX11_isName_9 : cX11_isName.data.toList.drop 421 = dktX11_isName_9 := dk_seg dksX11_isName_8 24 rfl rfl
theorem dksX11_isName_10 : cX11_isName.data.toList.drop 445 = dktX11_isName_10 := dk_seg dksX11_isName_9 24 rfl rfl
theorem dksX11_isName_11 : cX11_isName.data.toList.drop 469 = dktX11_isName_11 := dk_seg dksX11_isName_10 24 rfl rfl
theorem dksX11_isName_12 : cX11_isName.data.toList.drop 493 = dktX11_isName_12 := dk_seg dksX11_isName_11 24 rfl rfl
theorem dksX11_isName_13 : cX11_isName.data.toList.drop 517 = dktX11_isName_13 := dk_seg dksX11_isName_12 24 rfl rfl
theorem dksX11_isName_14 : cX11_isName.data.toList.drop 541 = dktX11_isName_14 := dk_seg dksX11_isName_13 24 rfl rfl
theorem dksX11_isName_15 : cX11_isName.data.toList.drop 565 = dktX11_isName_15 := dk_seg dksX11_isName_14 24 rfl rfl
theorem dksX11_isName_16 : cX11_isName.data.toList.drop 589 = dktX11_isName_16 := dk_seg dksX11_isName_15 24 rfl rfl
theorem dksX11_isName_17 : cX11_isName.data.toList.drop 613 = dktX11_isName_17 := dk_seg dksX11_isName_16 24 rfl rfl
theorem dksX11_isName_18 : cX11_isName.data.toList.drop 637 = dktX11_isName_18 := dk_seg dksX11_isName_17 24 rfl rfl
theorem dksX11_isName_19 : cX11_isName.data.toList.drop 661 = dktX11_isName_19 := dk_seg dksX11_isName_18 24 rfl rfl
theorem dksX11_isName_20 : cX11_isName.data.toList.drop 668 = dktX11_isName_20 := dk_seg dksX11_isName_19 7 rfl rfl
theorem dksX11_isName_21 : cX11_isName.data.toList.drop 796 = dktX11_isName_21 := dk_seg dksX11_isName_20 128 rfl rfl
theorem dX11_isName_0 : decode cX11_isName 0 = .ok (.aload_n 0, 1) := dk_42 (dk_at dksX11_isName_0 0 rfl rfl)
theorem dX11_isName_1 : decode cX11_isName 1 = .ok (.getfield 46, 3) := dk_180 0 46 (dk_at dksX11_isName_0 1 rfl rfl)
theorem dX11_isName_4 : decode cX11_isName 4 = .ok (.iconst 1, 1) := dk_4 (dk_at dksX11_isName_0 4 rfl rfl)
theorem dX11_isName_5 : decode cX11_isName 5 = .ok (.if_icmp .eq 5, 3) := dk_159 0 5 (dk_at dksX11_isName_0 5 rfl rfl)
theorem dX11_isName_8 : decode cX11_isName 8 = .ok (.iconst 0, 1) := dk_3 (dk_at dksX11_isName_0 8 rfl rfl)
theorem dX11_isName_9 : decode cX11_isName 9 = .ok (.ireturn, 1) := dk_172 (dk_at dksX11_isName_0 9 rfl rfl)
theorem dX11_isName_10 : decode cX11_isName 10 = .ok (.aload_n 0, 1) := dk_42 (dk_at dksX11_isName_0 10 rfl rfl)
theorem dX11_isName_11 : decode cX11_isName 11 = .ok (.getfield 17, 3) := dk_180 0 17 (dk_at dksX11_isName_0 11 rfl rfl)
theorem dX11_isName_14 : decode cX11_isName 14 = .ok (.astore_n 1, 1) := dk_76 (dk_at dksX11_isName_0 14 rfl rfl)
theorem dX11_isName_15 : decode cX11_isName 15 = .ok (.iconst (-1), 1) := dk_2 (dk_at dksX11_isName_0 15 rfl rfl)
theorem dX11_isName_16 : decode cX11_isName 16 = .ok (.istore_n 2, 1) := dk_61 (dk_at dksX11_isName_0 16 rfl rfl)
theorem dX11_isName_17 : decode cX11_isName 17 = .ok (.aload_n 1, 1) := dk_43 (dk_at dksX11_isName_0 17 rfl rfl)
theorem dX11_isName_18 : decode cX11_isName 18 = .ok (.invokevirtual 97, 3) := dk_182 0 97 (dk_at dksX11_isName_0 18 rfl rfl)
theorem dX11_isName_21 : decode cX11_isName 21 = .ok (.lookupswitch 646 #[(-1224619983, 529), (-991808881, 235), (3304, 334), (3357, 319), (3543, 559), (3555, 619), (3707, 514), (96673, 589), (96727, 604), (96737, 394), (97717, 409), (98882, 499), (98990, 424), (100571, 364), (106916, 277), (107877, 263), (108124, 574), (109267, 634), (111375, 291), (112785, 439), (113114, 484), (3003674, 249), (3344077, 349), (3417674, 305), (3523048, 379), (3543443, 469), (93818879, 454), (106669441, 544)], 235) := by decide +kernel
theorem dX11_isName_256 : decode cX11_isName 256 = .ok (.aload_n 1, 1) := dk_43 (dk_at dksX11_isName_2 0 rfl rfl)
theorem dX11_isName_257 : decode cX11_isName 257 = .ok (.ldc 101, 2) := dk_18 101 (dk_at dksX11_isName_2 1 rfl rfl)
theorem dX11_isName_259 : decode cX11_isName 259 = .ok (.invokevirtual 80, 3) := dk_182 0 80 (dk_at dksX11_isName_2 3 rfl rfl)
theorem dX11_isName_262 : decode cX11_isName 262 = .ok (.ifCond .eq 405, 3) := dk_153 1 149 (dk_at dksX11_isName_2 6 rfl rfl)
theorem dX11_isName_265 : decode cX11_isName 265 = .ok (.iconst 0, 1) := dk_3 (dk_at dksX11_isName_2 9 rfl rfl)
theorem dX11_isName_266 : decode cX11_isName 266 = .ok (.istore_n 2, 1) := dk_61 (dk_at dksX11_isName_2 10 rfl rfl)
theorem dX11_isName_267 : decode cX11_isName 267 = .ok (.goto 400, 3) := dk_167 1 144 (dk_at dksX11_isName_2 11 rfl rfl)
theorem dX11_isName_270 : decode cX11_isName 270 = .ok (.aload_n 1, 1) := dk_43 (dk_at dksX11_isName_2 14 rfl rfl)
theorem dX11_isName_271 : decode cX11_isName 271 = .ok (.ldc 103, 2) := dk_18 103 (dk_at dksX11_isName_2 15 rfl rfl)
theorem dX11_isName_273 : decode cX11_isName 273 = .ok (.invokevirtual 80, 3) := dk_182 0 80 (dk_at dksX11_isName_2 17 rfl rfl)
theorem dX11_isName_276 : decode cX11_isName 276 = .ok (.ifCond .eq 391, 3) := dk_153 1 135 (dk_at dksX11_isName_2 20 rfl rfl)
theorem dX11_isName_279 : decode cX11_isName 279 = .ok (.iconst 1, 1) := dk_4 (dk_at dksX11_isName_2 23 rfl rfl)
theorem dX11_isName_280 : decode cX11_isName 280 = .ok (.istore_n 2, 1) := dk_61 (dk_at dksX11_isName_3 0 rfl rfl)
theorem dX11_isName_281 : decode cX11_isName 281 = .ok (.goto 386, 3) := dk_167 1 130 (dk_at dksX11_isName_3 1 rfl rfl)
theorem dX11_isName_284 : decode cX11_isName 284 = .ok (.aload_n 1, 1) := dk_43 (dk_at dksX11_isName_3 4 rfl rfl)
theorem dX11_isName_285 : decode cX11_isName 285 = .ok (.ldc 105, 2) := dk_18 105 (dk_at dksX11_isName_3 5 rfl rfl)
theorem dX11_isName_287 : decode cX11_isName 287 = .ok (.invokevirtual 80, 3) := dk_182 0 80 (dk_at dksX11_isName_3 7 rfl rfl)
theorem dX11_isName_290 : decode cX11_isName 290 = .ok (.ifCond .eq 377, 3) := dk_153 1 121 (dk_at dksX11_isName_3 10 rfl rfl)
theorem dX11_isName_293 : decode cX11_isName 293 = .ok (.iconst 2, 1) := dk_5 (dk_at dksX11_isName_3 13 rfl rfl)
theorem dX11_isName_294 : decode cX11_isName 294 = .ok (.istore_n 2, 1) := dk_61 (dk_at dksX11_isName_3 14 rfl rfl)
theorem dX11_isName_295 : decode cX11_isName 295 = .ok (.goto 372, 3) := dk_167 1 116 (dk_at dksX11_isName_3 15 rfl rfl)
theorem dX11_isName_298 : decode cX11_isName 298 = .ok (.aload_n 1, 1) := dk_43 (dk_at dksX11_isName_3 18 rfl rfl)
theorem dX11_isName_299 : decode cX11_isName 299 = .ok (.ldc 107, 2) := dk_18 107 (dk_at dksX11_isName_3 19 rfl rfl)
theorem dX11_isName_301 : decode cX11_isName 301 = .ok (.invokevirtual 80, 3) := dk_182 0 80 (dk_at dksX11_isName_3 21 rfl rfl)
theorem dX11_isName_304 : decode cX11_isName 304 = .ok (.ifCond .eq 363, 3) := dk_153 1 107 (dk_at dksX11_isName_4 0 rfl rfl)
theorem dX11_isName_307 : decode cX11_isName 307 = .ok (.iconst 3, 1) := dk_6 (dk_at dksX11_isName_4 3 rfl rfl)
theorem dX11_isName_308 : decode cX11_isName 308 = .ok (.istore_n 2, 1) := dk_61 (dk_at dksX11_isName_4 4 rfl rfl)
theorem dX11_isName_309 : decode cX11_isName 309 = .ok (.goto 358, 3) := dk_167 1 102 (dk_at dksX11_isName_4 5 rfl rfl)
theorem dX11_isName_312 : decode cX11_isName 312 = .ok (.aload_n 1, 1) := dk_43 (dk_at dksX11_isName_4 8 rfl rfl)
theorem dX11_isName_313 : decode cX11_isName 313 = .ok (.ldc 109, 2) := dk_18 109 (dk_at dksX11_isName_4 9 rfl rfl)
theorem dX11_isName_315 : decode cX11_isName 315 = .ok (.invokevirtual 80, 3) := dk_182 0 80 (dk_at dksX11_isName_4 11 rfl rfl)
theorem dX11_isName_318 : decode cX11_isName 318 = .ok (.ifCond .eq 349, 3) := dk_153 1 93 (dk_at dksX11_isName_4 14 rfl rfl)
theorem dX11_isName_321 : decode cX11_isName 321 = .ok (.iconst 4, 1) := dk_7 (dk_at dksX11_isName_4 17 rfl rfl)
theorem dX11_isName_322 : decode cX11_isName 322 = .ok (.istore_n 2, 1) := dk_61 (dk_at dksX11_isName_4 18 rfl rfl)
theorem dX11_isName_323 : decode cX11_isName 323 = .ok (.goto 344, 3) := dk_167 1 88 (dk_at dksX11_isName_4 19 rfl rfl)
theorem dX11_isName_326 : decode cX11_isName 326 = .ok (.aload_n 1, 1) := dk_43 (dk_at dksX11_isName_4 22 rfl rfl)
theorem dX11_isName_327 : decode cX11_isName 327 = .ok (.ldc 111, 2) := dk_18 111 (dk_at dksX11_isName_5 0 rfl rfl)
theorem dX11_isName_329 : decode cX11_isName 329 = .ok (.invokevirtual 80, 3) := dk_182 0 80 (dk_at dksX11_isName_5 2 rfl rfl)
theorem dX11_isName_332 : decode cX11_isName 332 = .ok (.ifCond .eq 335, 3) := dk_153 1 79 (dk_at dksX11_isName_5 5 rfl rfl)
theorem dX11_isName_335 : decode cX11_isName 335 = .ok (.iconst 5, 1) := dk_8 (dk_at dksX11_isName_5 8 rfl rfl)
theorem dX11_isName_336 : decode cX11_isName 336 = .ok (.istore_n 2, 1) := dk_61 (dk_at dksX11_isName_5 9 rfl rfl)
theorem dX11_isName_337 : decode cX11_isName 337 = .ok (.goto 330, 3) := dk_167 1 74 (dk_at dksX11_isName_5 10 rfl rfl)
theorem dX11_isName_340 : decode cX11_isName 340 = .ok (.aload_n 1, 1) := dk_43 (dk_at dksX11_isName_5 13 rfl rfl)
theorem dX11_isName_341 : decode cX11_isName 341 = .ok (.ldc 113, 2) := dk_18 113 (dk_at dksX11_isName_5 14 rfl rfl)
theorem dX11_isName_343 : decode cX11_isName 343 = .ok (.invokevirtual 80, 3) := dk_182 0 80 (dk_at dksX11_isName_5 16 rfl rfl)
theorem dX11_isName_346 : decode cX11_isName 346 = .ok (.ifCond .eq 321, 3) := dk_153 1 65 (dk_at dksX11_isName_5 19 rfl rfl)
theorem dX11_isName_349 : decode cX11_isName 349 = .ok (.bipush 6, 2) := dk_16 6 (dk_at dksX11_isName_5 22 rfl rfl)
theorem dX11_isName_351 : decode cX11_isName 351 = .ok (.istore_n 2, 1) := dk_61 (dk_at dksX11_isName_6 0 rfl rfl)
theorem dX11_isName_352 : decode cX11_isName 352 = .ok (.goto 315, 3) := dk_167 1 59 (dk_at dksX11_isName_6 1 rfl rfl)
theorem dX11_isName_355 : decode cX11_isName 355 = .ok (.aload_n 1, 1) := dk_43 (dk_at dksX11_isName_6 4 rfl rfl)
theorem dX11_isName_356 : decode cX11_isName 356 = .ok (.ldc 115, 2) := dk_18 115 (dk_at dksX11_isName_6 5 rfl rfl)
theorem dX11_isName_358 : decode cX11_isName 358 = .ok (.invokevirtual 80, 3) := dk_182 0 80 (dk_at dksX11_isName_6 7 rfl rfl)
theorem dX11_isName_361 : decode cX11_isName 361 = .ok (.ifCond .eq 306, 3) := dk_153 1 50 (dk_at dksX11_isName_6 10 rfl rfl)
theorem dX11_isName_364 : decode cX11_isName 364 = .ok (.bipush 7, 2) := dk_16 7 (dk_at dksX11_isName_6 13 rfl rfl)
theorem dX11_isName_366 : decode cX11_isName 366 = .ok (.istore_n 2, 1) := dk_61 (dk_at dksX11_isName_6 15 rfl rfl)
theorem dX11_isName_367 : decode cX11_isName 367 = .ok (.goto 300, 3) := dk_167 1 44 (dk_at dksX11_isName_6 16 rfl rfl)
theorem dX11_isName_370 : decode cX11_isName 370 = .ok (.aload_n 1, 1) := dk_43 (dk_at dksX11_isName_6 19 rfl rfl)
theorem dX11_isName_371 : decode cX11_isName 371 = .ok (.ldc 116, 2) := dk_18 116 (dk_at dksX11_isName_6 20 rfl rfl)
theorem dX11_isName_373 : decode cX11_isName 373 = .ok (.invokevirtual 80, 3) := dk_182 0 80 (dk_at dksX11_isName_7 0 rfl rfl)
theorem dX11_isName_376 : decode cX11_isName 376 = .ok (.ifCond .eq 291, 3) := dk_153 1 35 (dk_at dksX11_isName_7 3 rfl rfl)
theorem dX11_isName_379 : decode cX11_isName 379 = .ok (.bipush 8, 2) := dk_16 8 (dk_at dksX11_isName_7 6 rfl rfl)
theorem dX11_isName_381 : decode cX11_isName 381 = .ok (.istore_n 2, 1) := dk_61 (dk_at dksX11_isName_7 8 rfl rfl)
theorem dX11_isName_382 : decode cX11_isName 382 = .ok (.goto 285, 3) := dk_167 1 29 (dk_at dksX11_isName_7 9 rfl rfl)
theorem dX11_isName_385 : decode cX11_isName 385 = .ok (.aload_n 1, 1) := dk_43 (dk_at dksX11_isName_7 12 rfl rfl)
theorem dX11_isName_386 : decode cX11_isName 386 = .ok (.ldc 118, 2) := dk_18 118 (dk_at dksX11_isName_7 13 rfl rfl)
theorem dX11_isName_388 : decode cX11_isName 388 = .ok (.invokevirtual 80, 3) := dk_182 0 80 (dk_at dksX11_isName_7 15 rfl rfl)
theorem dX11_isName_391 : decode cX11_isName 391 = .ok (.ifCond .eq 276, 3) := dk_153 1 20 (dk_at dksX11_isName_7 18 rfl rfl)
theorem dX11_isName_394 : decode cX11_isName 394 = .ok (.bipush 9, 2) := dk_16 9 (dk_at dksX11_isName_7 21 rfl rfl)
theorem dX11_isName_396 : decode cX11_isName 396 = .ok (.istore_n 2, 1) := dk_61 (dk_at dksX11_isName_7 23 rfl rfl)
theorem dX11_isName_397 : decode cX11_isName 397 = .ok (.goto 270, 3) := dk_167 1 14 (dk_at dksX11_isName_8 0 rfl rfl)
theorem dX11_isName_400 : decode cX11_isName 400 = .ok (.aload_n 1, 1) := dk_43 (dk_at dksX11_isName_8 3 rfl rfl)
theorem dX11_isName_401 : decode cX11_isName 401 = .ok (.ldc 120, 2) := dk_18 120 (dk_at dksX11_isName_8 4 rfl rfl)
theorem dX11_isName_403 : decode cX11_isName 403 = .ok (.invokevirtual 80, 3) := dk_182 0 80 (dk_at dksX11_isName_8 6 rfl rfl)
theorem dX11_isName_406 : decode cX11_isName 406 = .ok (.ifCond .eq 261, 3) := dk_153 1 5 (dk_at dksX11_isName_8 9 rfl rfl)
theorem dX11_isName_409 : decode cX11_isName 409 = .ok (.bipush 10, 2) := dk_16 10 (dk_at dksX11_isName_8 12 rfl rfl)
theorem dX11_isName_411 : decode cX11_isName 411 = .ok (.istore_n 2, 1) := dk_61 (dk_at dksX11_isName_8 14 rfl rfl)
theorem dX11_isName_412 : decode cX11_isName 412 = .ok (.goto 255, 3) := dk_167 0 255 (dk_at dksX11_isName_8 15 rfl rfl)
theorem dX11_isName_415 : decode cX11_isName 415 = .ok (.aload_n 1, 1) := dk_43 (dk_at dksX11_isName_8 18 rfl rfl)
theorem dX11_isName_416 : decode cX11_isName 416 = .ok (.ldc 122, 2) := dk_18 122 (dk_at dksX11_isName_8 19 rfl rfl)
theorem dX11_isName_418 : decode cX11_isName 418 = .ok (.invokevirtual 80, 3) := dk_182 0 80 (dk_at dksX11_isName_8 21 rfl rfl)
theorem dX11_isName_421 : decode cX11_isName 421 = .ok (.ifCond .eq 246, 3) := dk_153 0 246 (dk_at dksX11_isName_9 0 rfl rfl)
theorem dX11_isName_424 : decode cX11_isName 424 = .ok (.bipush 11, 2) := dk_16 11 (dk_at dksX11_isName_9 3 rfl rfl)
theorem dX11_isName_426 : decode cX11_isName 426 = .ok (.istore_n 2, 1) := dk_61 (dk_at dksX11_isName_9 5 rfl rfl)
theorem dX11_isName_427 : decode cX11_isName 427 = .ok (.goto 240, 3) := dk_167 0 240 (dk_at dksX11_isName_9 6 rfl rfl)
theorem dX11_isName_430 : decode cX11_isName 430 = .ok (.aload_n 1, 1) := dk_43 (dk_at dksX11_isName_9 9 rfl rfl)
theorem dX11_isName_431 : decode cX11_isName 431 = .ok (.ldc 124, 2) := dk_18 124 (dk_at dksX11_isName_9 10 rfl rfl)
theorem dX11_isName_433 : decode cX11_isName 433 = .ok (.invokevirtual 80, 3) := dk_182 0 80 (dk_at dksX11_isName_9 12 rfl rfl)
theorem dX11_isName_436 : decode cX11_isName 436 = .ok (.ifCond .eq 231, 3) := dk_153 0 231 (dk_at dksX11_isName_9 15 rfl rfl)
theorem dX11_isName_439 : decode cX11_isName 439 = .ok (.bipush 12, 2) := dk_16 12 (dk_at dksX11_isName_9 18 rfl rfl)
theorem dX11_isName_441 : decode cX11_isName 441 = .ok (.istore_n 2, 1) := dk_61 (dk_at dksX11_isName_9 20 rfl rfl)
theorem dX11_isName_442 : decode cX11_isName 442 = .ok (.goto 225, 3) := dk_167 0 225 (dk_at dksX11_isName_9 21 rfl rfl)
theorem dX11_isName_445 : decode cX11_isName 445 = .ok (.aload_n 1, 1) := dk_43 (dk_at dksX11_isName_10 0 rfl rfl)
theorem dX11_isName_446 : decode cX11_isName 446 = .ok (.ldc 126, 2) := dk_18 126 (dk_at dksX11_isName_10 1 rfl rfl)
theorem dX11_isName_448 : decode cX11_isName 448 = .ok (.invokevirtual 80, 3) := dk_182 0 80 (dk_at dksX11_isName_10 3 rfl rfl)
theorem dX11_isName_451 : decode cX11_isName 451 = .ok (.ifCond .eq 216, 3) := dk_153 0 216 (dk_at dksX11_isName_10 6 rfl rfl)
theorem dX11_isName_454 : decode cX11_isName 454 = .ok (.bipush 13, 2) := dk_16 13 (dk_at dksX11_isName_10 9 rfl rfl)
theorem dX11_isName_456 : decode cX11_isName 456 = .ok (.istore_n 2, 1) := dk_61 (dk_at dksX11_isName_10 11 rfl rfl)
theorem dX11_isName_457 : decode cX11_isName 457 = .ok (.goto 210, 3) := dk_167 0 210 (dk_at dksX11_isName_10 12 rfl rfl)
theorem dX11_isName_460 : decode cX11_isName 460 = .ok (.aload_n 1, 1) := dk_43 (dk_at dksX11_isName_10 15 rfl rfl)
theorem dX11_isName_461 : decode cX11_isName 461 = .ok (.ldc 128, 2) := dk_18 128 (dk_at dksX11_isName_10 16 rfl rfl)
theorem dX11_isName_463 : decode cX11_isName 463 = .ok (.invokevirtual 80, 3) := dk_182 0 80 (dk_at dksX11_isName_10 18 rfl rfl)
theorem dX11_isName_466 : decode cX11_isName 466 = .ok (.ifCond .eq 201, 3) := dk_153 0 201 (dk_at dksX11_isName_10 21 rfl rfl)
theorem dX11_isName_469 : decode cX11_isName 469 = .ok (.bipush 14, 2) := dk_16 14 (dk_at dksX11_isName_11 0 rfl rfl)
theorem dX11_isName_471 : decode cX11_isName 471 = .ok (.istore_n 2, 1) := dk_61 (dk_at dksX11_isName_11 2 rfl rfl)
theorem dX11_isName_472 : decode cX11_isName 472 = .ok (.goto 195, 3) := dk_167 0 195 (dk_at dksX11_isName_11 3 rfl rfl)
theorem dX11_isName_475 : decode cX11_isName 475 = .ok (.aload_n 1, 1) := dk_43 (dk_at dksX11_isName_11 6 rfl rfl)
theorem dX11_isName_476 : decode cX11_isName 476 = .ok (.ldc 130, 2) := dk_18 130 (dk_at dksX11_isName_11 7 rfl rfl)
theorem dX11_isName_478 : decode cX11_isName 478 = .ok (.invokevirtual 80, 3) := dk_182 0 80 (dk_at dksX11_isName_11 9 rfl rfl)
theorem dX11_isName_481 : decode cX11_isName 481 = .ok (.ifCond .eq 186, 3) := dk_153 0 186 (dk_at dksX11_isName_11 12 rfl rfl)
theorem dX11_isName_484 : decode cX11_isName 484 = .ok (.bipush 15, 2) := dk_16 15 (dk_at dksX11_isName_11 15 rfl rfl)
theorem dX11_isName_486 : decode cX11_isName 486 = .ok (.istore_n 2, 1) := dk_61 (dk_at dksX11_isName_11 17 rfl rfl)
theorem dX11_isName_487 : decode cX11_isName 487 = .ok (.goto 180, 3) := dk_167 0 180 (dk_at dksX11_isName_11 18 rfl rfl)
theorem dX11_isName_490 : decode cX11_isName 490 = .ok (.aload_n 1, 1) := dk_43 (dk_at dksX11_isName_11 21 rfl rfl)
theorem dX11_isName_491 : decode cX11_isName 491 = .ok (.ldc 132, 2) := dk_18 132 (dk_at dksX11_isName_11 22 rfl rfl)
theorem dX11_isName_493 : decode cX11_isName 493 = .ok (.invokevirtual 80, 3) := dk_182 0 80 (dk_at dksX11_isName_12 0 rfl rfl)
theorem dX11_isName_496 : decode cX11_isName 496 = .ok (.ifCond .eq 171, 3) := dk_153 0 171 (dk_at dksX11_isName_12 3 rfl rfl)
theorem dX11_isName_499 : decode cX11_isName 499 = .ok (.bipush 16, 2) := dk_16 16 (dk_at dksX11_isName_12 6 rfl rfl)
theorem dX11_isName_501 : decode cX11_isName 501 = .ok (.istore_n 2, 1) := dk_61 (dk_at dksX11_isName_12 8 rfl rfl)
theorem dX11_isName_502 : decode cX11_isName 502 = .ok (.goto 165, 3) := dk_167 0 165 (dk_at dksX11_isName_12 9 rfl rfl)
theorem dX11_isName_505 : decode cX11_isName 505 = .ok (.aload_n 1, 1) := dk_43 (dk_at dksX11_isName_12 12 rfl rfl)
theorem dX11_isName_506 : decode cX11_isName 506 = .ok (.ldc 134, 2) := dk_18 134 (dk_at dksX11_isName_12 13 rfl rfl)
theorem dX11_isName_508 : decode cX11_isName 508 = .ok (.invokevirtual 80, 3) := dk_182 0 80 (dk_at dksX11_isName_12 15 rfl rfl)
theorem dX11_isName_511 : decode cX11_isName 511 = .ok (.ifCond .eq 156, 3) := dk_153 0 156 (dk_at dksX11_isName_12 18 rfl rfl)
theorem dX11_isName_514 : decode cX11_isName 514 = .ok (.bipush 17, 2) := dk_16 17 (dk_at dksX11_isName_12 21 rfl rfl)
theorem dX11_isName_516 : decode cX11_isName 516 = .ok (.istore_n 2, 1) := dk_61 (dk_at dksX11_isName_12 23 rfl rfl)
theorem dX11_isName_517 : decode cX11_isName 517 = .ok (.goto 150, 3) := dk_167 0 150 (dk_at dksX11_isName_13 0 rfl rfl)
theorem dX11_isName_520 : decode cX11_isName 520 = .ok (.aload_n 1, 1) := dk_43 (dk_at dksX11_isName_13 3 rfl rfl)
theorem dX11_isName_521 : decode cX11_isName 521 = .ok (.ldc 136, 2) := dk_18 136 (dk_at dksX11_isName_13 4 rfl rfl)
theorem dX11_isName_523 : decode cX11_isName 523 = .ok (.invokevirtual 80, 3) := dk_182 0 80 (dk_at dksX11_isName_13 6 rfl rfl)
theorem dX11_isName_526 : decode cX11_isName 526 = .ok (.ifCond .eq 141, 3) := dk_153 0 141 (dk_at dksX11_isName_13 9 rfl rfl)
theorem dX11_isName_529 : decode cX11_isName 529 = .ok (.bipush 18, 2) := dk_16 18 (dk_at dksX11_isName_13 12 rfl rfl)
theorem dX11_isName_531 : decode cX11_isName 531 = .ok (.istore_n 2, 1) := dk_61 (dk_at dksX11_isName_13 14 rfl rfl)
theorem dX11_isName_532 : decode cX11_isName 532 = .ok (.goto 135, 3) := dk_167 0 135 (dk_at dksX11_isName_13 15 rfl rfl)
theorem dX11_isName_535 : decode cX11_isName 535 = .ok (.aload_n 1, 1) := dk_43 (dk_at dksX11_isName_13 18 rfl rfl)
theorem dX11_isName_536 : decode cX11_isName 536 = .ok (.ldc 138, 2) := dk_18 138 (dk_at dksX11_isName_13 19 rfl rfl)
theorem dX11_isName_538 : decode cX11_isName 538 = .ok (.invokevirtual 80, 3) := dk_182 0 80 (dk_at dksX11_isName_13 21 rfl rfl)
theorem dX11_isName_541 : decode cX11_isName 541 = .ok (.ifCond .eq 126, 3) := dk_153 0 126 (dk_at dksX11_isName_14 0 rfl rfl)
theorem dX11_isName_544 : decode cX11_isName 544 = .ok (.bipush 19, 2) := dk_16 19 (dk_at dksX11_isName_14 3 rfl rfl)
theorem dX11_isName_546 : decode cX11_isName 546 = .ok (.istore_n 2, 1) := dk_61 (dk_at dksX11_isName_14 5 rfl rfl)
theorem dX11_isName_547 : decode cX11_isName 547 = .ok (.goto 120, 3) := dk_167 0 120 (dk_at dksX11_isName_14 6 rfl rfl)
theorem dX11_isName_550 : decode cX11_isName 550 = .ok (.aload_n 1, 1) := dk_43 (dk_at dksX11_isName_14 9 rfl rfl)
theorem dX11_isName_551 : decode cX11_isName 551 = .ok (.ldc 140, 2) := dk_18 140 (dk_at dksX11_isName_14 10 rfl rfl)
theorem dX11_isName_553 : decode cX11_isName 553 = .ok (.invokevirtual 80, 3) := dk_182 0 80 (dk_at dksX11_isName_14 12 rfl rfl)
theorem dX11_isName_556 : decode cX11_isName 556 = .ok (.ifCond .eq 111, 3) := dk_153 0 111 (dk_at dksX11_isName_14 15 rfl rfl)
theorem dX11_isName_559 : decode cX11_isName 559 = .ok (.bipush 20, 2) := dk_16 20 (dk_at dksX11_isName_14 18 rfl rfl)
theorem dX11_isName_561 : decode cX11_isName 561 = .ok (.istore_n 2, 1) := dk_61 (dk_at dksX11_isName_14 20 rfl rfl)
theorem dX11_isName_562 : decode cX11_isName 562 = .ok (.goto 105, 3) := dk_167 0 105 (dk_at dksX11_isName_14 21 rfl rfl)
theorem dX11_isName_565 : decode cX11_isName 565 = .ok (.aload_n 1, 1) := dk_43 (dk_at dksX11_isName_15 0 rfl rfl)
theorem dX11_isName_566 : decode cX11_isName 566 = .ok (.ldc 142, 2) := dk_18 142 (dk_at dksX11_isName_15 1 rfl rfl)
theorem dX11_isName_568 : decode cX11_isName 568 = .ok (.invokevirtual 80, 3) := dk_182 0 80 (dk_at dksX11_isName_15 3 rfl rfl)
theorem dX11_isName_571 : decode cX11_isName 571 = .ok (.ifCond .eq 96, 3) := dk_153 0 96 (dk_at dksX11_isName_15 6 rfl rfl)
theorem dX11_isName_574 : decode cX11_isName 574 = .ok (.bipush 21, 2) := dk_16 21 (dk_at dksX11_isName_15 9 rfl rfl)
theorem dX11_isName_576 : decode cX11_isName 576 = .ok (.istore_n 2, 1) := dk_61 (dk_at dksX11_isName_15 11 rfl rfl)
theorem dX11_isName_577 : decode cX11_isName 577 = .ok (.goto 90, 3) := dk_167 0 90 (dk_at dksX11_isName_15 12 rfl rfl)
theorem dX11_isName_580 : decode cX11_isName 580 = .ok (.aload_n 1, 1) := dk_43 (dk_at dksX11_isName_15 15 rfl rfl)
theorem dX11_isName_581 : decode cX11_isName 581 = .ok (.ldc 144, 2) := dk_18 144 (dk_at dksX11_isName_15 16 rfl rfl)
theorem dX11_isName_583 : decode cX11_isName 583 = .ok (.invokevirtual 80, 3) := dk_182 0 80 (dk_at dksX11_isName_15 18 rfl rfl)
theorem dX11_isName_586 : decode cX11_isName 586 = .ok (.ifCond .eq 81, 3) := dk_153 0 81 (dk_at dksX11_isName_15 21 rfl rfl)
theorem dX11_isName_589 : decode cX11_isName 589 = .ok (.bipush 22, 2) := dk_16 22 (dk_at dksX11_isName_16 0 rfl rfl)
theorem dX11_isName_591 : decode cX11_isName 591 = .ok (.istore_n 2, 1) := dk_61 (dk_at dksX11_isName_16 2 rfl rfl)
theorem dX11_isName_592 : decode cX11_isName 592 = .ok (.goto 75, 3) := dk_167 0 75 (dk_at dksX11_isName_16 3 rfl rfl)
theorem dX11_isName_595 : decode cX11_isName 595 = .ok (.aload_n 1, 1) := dk_43 (dk_at dksX11_isName_16 6 rfl rfl)
theorem dX11_isName_596 : decode cX11_isName 596 = .ok (.ldc 146, 2) := dk_18 146 (dk_at dksX11_isName_16 7 rfl rfl)
theorem dX11_isName_598 : decode cX11_isName 598 = .ok (.invokevirtual 80, 3) := dk_182 0 80 (dk_at dksX11_isName_16 9 rfl rfl)
theorem dX11_isName_601 : decode cX11_isName 601 = .ok (.ifCond .eq 66, 3) := dk_153 0 66 (dk_at dksX11_isName_16 12 rfl rfl)
theorem dX11_isName_604 : decode cX11_isName 604 = .ok (.bipush 23, 2) := dk_16 23 (dk_at dksX11_isName_16 15 rfl rfl)
theorem dX11_isName_606 : decode cX11_isName 606 = .ok (.istore_n 2, 1) := dk_61 (dk_at dksX11_isName_16 17 rfl rfl)
theorem dX11_isName_607 : decode cX11_isName 607 = .ok (.goto 60, 3) := dk_167 0 60 (dk_at dksX11_isName_16 18 rfl rfl)
theorem dX11_isName_610 : decode cX11_isName 610 = .ok (.aload_n 1, 1) := dk_43 (dk_at dksX11_isName_16 21 rfl rfl)
theorem dX11_isName_611 : decode cX11_isName 611 = .ok (.ldc 148, 2) := dk_18 148 (dk_at dksX11_isName_16 22 rfl rfl)
theorem dX11_isName_613 : decode cX11_isName 613 = .ok (.invokevirtual 80, 3) := dk_182 0 80 (dk_at dksX11_isName_17 0 rfl rfl)
theorem dX11_isName_616 : decode cX11_isName 616 = .ok (.ifCond .eq 51, 3) := dk_153 0 51 (dk_at dksX11_isName_17 3 rfl rfl)
theorem dX11_isName_619 : decode cX11_isName 619 = .ok (.bipush 24, 2) := dk_16 24 (dk_at dksX11_isName_17 6 rfl rfl)
theorem dX11_isName_621 : decode cX11_isName 621 = .ok (.istore_n 2, 1) := dk_61 (dk_at dksX11_isName_17 8 rfl rfl)
theorem dX11_isName_622 : decode cX11_isName 622 = .ok (.goto 45, 3) := dk_167 0 45 (dk_at dksX11_isName_17 9 rfl rfl)
theorem dX11_isName_625 : decode cX11_isName 625 = .ok (.aload_n 1, 1) := dk_43 (dk_at dksX11_isName_17 12 rfl rfl)
theorem dX11_isName_626 : decode cX11_isName 626 = .ok (.ldc 150, 2) := dk_18 150 (dk_at dksX11_isName_17 13 rfl rfl)
theorem dX11_isName_628 : decode cX11_isName 628 = .ok (.invokevirtual 80, 3) := dk_182 0 80 (dk_at dksX11_isName_17 15 rfl rfl)
theorem dX11_isName_631 : decode cX11_isName 631 = .ok (.ifCond .eq 36, 3) := dk_153 0 36 (dk_at dksX11_isName_17 18 rfl rfl)
theorem dX11_isName_634 : decode cX11_isName 634 = .ok (.bipush 25, 2) := dk_16 25 (dk_at dksX11_isName_17 21 rfl rfl)
theorem dX11_isName_636 : decode cX11_isName 636 = .ok (.istore_n 2, 1) := dk_61 (dk_at dksX11_isName_17 23 rfl rfl)
theorem dX11_isName_637 : decode cX11_isName 637 = .ok (.goto 30, 3) := dk_167 0 30 (dk_at dksX11_isName_18 0 rfl rfl)
theorem dX11_isName_640 : decode cX11_isName 640 = .ok (.aload_n 1, 1) := dk_43 (dk_at dksX11_isName_18 3 rfl rfl)
theorem dX11_isName_641 : decode cX11_isName 641 = .ok (.ldc 152, 2) := dk_18 152 (dk_at dksX11_isName_18 4 rfl rfl)
theorem dX11_isName_643 : decode cX11_isName 643 = .ok (.invokevirtual 80, 3) := dk_182 0 80 (dk_at dksX11_isName_18 6 rfl rfl)
theorem dX11_isName_646 : decode cX11_isName 646 = .ok (.ifCond .eq 21, 3) := dk_153 0 21 (dk_at dksX11_isName_18 9 rfl rfl)
theorem dX11_isName_649 : decode cX11_isName 649 = .ok (.bipush 26, 2) := dk_16 26 (dk_at dksX11_isName_18 12 rfl rfl)
theorem dX11_isName_651 : decode cX11_isName 651 = .ok (.istore_n 2, 1) := dk_61 (dk_at dksX11_isName_18 14 rfl rfl)
theorem dX11_isName_652 : decode cX11_isName 652 = .ok (.goto 15, 3) := dk_167 0 15 (dk_at dksX11_isName_18 15 rfl rfl)
theorem dX11_isName_655 : decode cX11_isName 655 = .ok (.aload_n 1, 1) := dk_43 (dk_at dksX11_isName_18 18 rfl rfl)
theorem dX11_isName_656 : decode cX11_isName 656 = .ok (.ldc 154, 2) := dk_18 154 (dk_at dksX11_isName_18 19 rfl rfl)
theorem dX11_isName_658 : decode cX11_isName 658 = .ok (.invokevirtual 80, 3) := dk_182 0 80 (dk_at dksX11_isName_18 21 rfl rfl)
theorem dX11_isName_661 : decode cX11_isName 661 = .ok (.ifCond .eq 6, 3) := dk_153 0 6 (dk_at dksX11_isName_19 0 rfl rfl)
theorem dX11_isName_664 : decode cX11_isName 664 = .ok (.bipush 27, 2) := dk_16 27 (dk_at dksX11_isName_19 3 rfl rfl)
theorem dX11_isName_666 : decode cX11_isName 666 = .ok (.istore_n 2, 1) := dk_61 (dk_at dksX11_isName_19 5 rfl rfl)
theorem dX11_isName_667 : decode cX11_isName 667 = .ok (.iload_n 2, 1) := dk_28 (dk_at dksX11_isName_19 6 rfl rfl)
theorem dX11_isName_668 : decode cX11_isName 668 = .ok (.tableswitch 130 0 27 #[128, 128, 128, 128, 128, 128, 128, 128, 128, 128, 128, 128, 128, 128, 128, 128, 128, 128, 128, 128, 128, 128, 128, 128, 128, 128, 128, 128], 128) := by decide +kernel
theorem dX11_isName_796 : decode cX11_isName 796 = .ok (.iconst 0, 1) := dk_3 (dk_at dksX11_isName_21 0 rfl rfl)
theorem dX11_isName_797 : decode cX11_isName 797 = .ok (.ireturn, 1) := dk_172 (dk_at dksX11_isName_21 1 rfl rfl)
theorem dX11_isName_798 : decode cX11_isName 798 = .ok (.iconst 1, 1) := dk_4 (dk_at dksX11_isName_21 2 rfl rfl)
theorem dX11_isName_799 : decode cX11_isName 799 = .ok (.ireturn, 1) := dk_172 (dk_at dksX11_isName_21 3 rfl rfl)
abbrev cX11_mark : ByteArray := prog_23_method_28_code
def yX11_mark : MethodName := ⟨RX11, "mark", "()LBlindCards$Step;"⟩
def dkwX11_mark_2 : List UInt8 := [180, 0, 17, 183, 1, 60, 76, 42, 182, 0, 94, 43, 176]
abbrev dktX11_mark_2 : List UInt8 := dkwX11_mark_2 ++ []
def dkwX11_mark_1 : List UInt8 := [182, 0, 177, 155, 0, 16, 187, 0, 75, 89, 6, 42, 180, 0, 43, 183, 0, 77, 191, 187, 1, 58, 89, 42]
abbrev dktX11_mark_1 : List UInt8 := dkwX11_mark_1 ++ dktX11_mark_2
def dkwX11_mark_0 : List UInt8 := [42, 182, 0, 94, 42, 182, 1, 52, 154, 0, 8, 42, 182, 0, 90, 191, 42, 180, 0, 24, 42, 180, 0, 17]
abbrev dktX11_mark_0 : List UInt8 := dkwX11_mark_0 ++ dktX11_mark_1
theorem dksX11_mark_0 : cX11_mark.data.toList.drop 0 = dktX11_mark_0 := by decide +kernel
theorem dksX11_mark_1 : cX11_mark.data.toList.drop 24 = dktX11_mark_1 := dk_seg dksX11_mark_0 24 rfl rfl
theorem dksX11_mark_2 : cX11_mark.data.toList.drop 48 = dktX11_mark_2 := dk_seg dksX11_mark_1 24 rfl rfl
theorem dX11_mark_0 : decode cX11_mark 0 = .ok (.aload_n 0, 1) := dk_42 (dk_at dksX11_mark_0 0 rfl rfl)
theorem dX11_mark_1 : decode cX11_mark 1 = .ok (.invokevirtual 94, 3) := dk_182 0 94 (dk_at dksX11_mark_0 1 rfl rfl)
theorem dX11_mark_4 : decode cX11_mark 4 = .ok (.aload_n 0, 1) := dk_42 (dk_at dksX11_mark_0 4 rfl rfl)
theorem dX11_mark_5 : decode cX11_mark 5 = .ok (.invokevirtual 308, 3) := dk_182 1 52 (dk_at dksX11_mark_0 5 rfl rfl)
theorem dX11_mark_8 : decode cX11_mark 8 = .ok (.ifCond .ne 8, 3) := dk_154 0 8 (dk_at dksX11_mark_0 8 rfl rfl)
theorem dX11_mark_11 : decode cX11_mark 11 = .ok (.aload_n 0, 1) := dk_42 (dk_at dksX11_mark_0 11 rfl rfl)
theorem dX11_mark_12 : decode cX11_mark 12 = .ok (.invokevirtual 90, 3) := dk_182 0 90 (dk_at dksX11_mark_0 12 rfl rfl)
theorem dX11_mark_15 : decode cX11_mark 15 = .ok (.athrow, 1) := dk_191 (dk_at dksX11_mark_0 15 rfl rfl)
theorem dX11_mark_16 : decode cX11_mark 16 = .ok (.aload_n 0, 1) := dk_42 (dk_at dksX11_mark_0 16 rfl rfl)
theorem dX11_mark_17 : decode cX11_mark 17 = .ok (.getfield 24, 3) := dk_180 0 24 (dk_at dksX11_mark_0 17 rfl rfl)
theorem dX11_mark_20 : decode cX11_mark 20 = .ok (.aload_n 0, 1) := dk_42 (dk_at dksX11_mark_0 20 rfl rfl)
theorem dX11_mark_21 : decode cX11_mark 21 = .ok (.getfield 17, 3) := dk_180 0 17 (dk_at dksX11_mark_0 21 rfl rfl)
theorem dX11_mark_24 : decode cX11_mark 24 = .ok (.invokevirtual 177, 3) := dk_182 0 177 (dk_at dksX11_mark_1 0 rfl rfl)
theorem dX11_mark_27 : decode cX11_mark 27 = .ok (.ifCond .lt 16, 3) := dk_155 0 16 (dk_at dksX11_mark_1 3 rfl rfl)
theorem dX11_mark_30 : decode cX11_mark 30 = .ok (.new 75, 3) := dk_187 0 75 (dk_at dksX11_mark_1 6 rfl rfl)
theorem dX11_mark_33 : decode cX11_mark 33 = .ok (.dup, 1) := dk_89 (dk_at dksX11_mark_1 9 rfl rfl)
theorem dX11_mark_34 : decode cX11_mark 34 = .ok (.iconst 3, 1) := dk_6 (dk_at dksX11_mark_1 10 rfl rfl)
theorem dX11_mark_35 : decode cX11_mark 35 = .ok (.aload_n 0, 1) := dk_42 (dk_at dksX11_mark_1 11 rfl rfl)
theorem dX11_mark_36 : decode cX11_mark 36 = .ok (.getfield 43, 3) := dk_180 0 43 (dk_at dksX11_mark_1 12 rfl rfl)
theorem dX11_mark_39 : decode cX11_mark 39 = .ok (.invokespecial 77, 3) := dk_183 0 77 (dk_at dksX11_mark_1 15 rfl rfl)
theorem dX11_mark_42 : decode cX11_mark 42 = .ok (.athrow, 1) := dk_191 (dk_at dksX11_mark_1 18 rfl rfl)
theorem dX11_mark_43 : decode cX11_mark 43 = .ok (.new 314, 3) := dk_187 1 58 (dk_at dksX11_mark_1 19 rfl rfl)
theorem dX11_mark_46 : decode cX11_mark 46 = .ok (.dup, 1) := dk_89 (dk_at dksX11_mark_1 22 rfl rfl)
theorem dX11_mark_47 : decode cX11_mark 47 = .ok (.aload_n 0, 1) := dk_42 (dk_at dksX11_mark_1 23 rfl rfl)
theorem dX11_mark_48 : decode cX11_mark 48 = .ok (.getfield 17, 3) := dk_180 0 17 (dk_at dksX11_mark_2 0 rfl rfl)
theorem dX11_mark_51 : decode cX11_mark 51 = .ok (.invokespecial 316, 3) := dk_183 1 60 (dk_at dksX11_mark_2 3 rfl rfl)
theorem dX11_mark_54 : decode cX11_mark 54 = .ok (.astore_n 1, 1) := dk_76 (dk_at dksX11_mark_2 6 rfl rfl)
theorem dX11_mark_55 : decode cX11_mark 55 = .ok (.aload_n 0, 1) := dk_42 (dk_at dksX11_mark_2 7 rfl rfl)
theorem dX11_mark_56 : decode cX11_mark 56 = .ok (.invokevirtual 94, 3) := dk_182 0 94 (dk_at dksX11_mark_2 8 rfl rfl)
theorem dX11_mark_59 : decode cX11_mark 59 = .ok (.aload_n 1, 1) := dk_43 (dk_at dksX11_mark_2 11 rfl rfl)
theorem dX11_mark_60 : decode cX11_mark 60 = .ok (.areturn, 1) := dk_176 (dk_at dksX11_mark_2 12 rfl rfl)
abbrev cX11_end : ByteArray := prog_23_method_29_code
def yX11_end : MethodName := ⟨RX11, "end", "()LBlindCards$Step;"⟩
def dkwX11_end_1 : List UInt8 := [187, 0, 75, 89, 7, 28, 183, 0, 77, 191, 187, 1, 62, 89, 27, 29, 183, 1, 64, 176]
abbrev dktX11_end_1 : List UInt8 := dkwX11_end_1 ++ []
def dkwX11_end_0 : List UInt8 := [42, 182, 0, 94, 42, 182, 1, 15, 60, 42, 180, 0, 43, 61, 42, 182, 1, 15, 62, 27, 29, 160, 0, 13]
abbrev dktX11_end_0 : List UInt8 := dkwX11_end_0 ++ dktX11_end_1
theorem dksX11_end_0 : cX11_end.data.toList.drop 0 = dktX11_end_0 := by decide +kernel
theorem dksX11_end_1 : cX11_end.data.toList.drop 24 = dktX11_end_1 := dk_seg dksX11_end_0 24 rfl rfl
theorem dX11_end_0 : decode cX11_end 0 = .ok (.aload_n 0, 1) := dk_42 (dk_at dksX11_end_0 0 rfl rfl)
theorem dX11_end_1 : decode cX11_end 1 = .ok (.invokevirtual 94, 3) := dk_182 0 94 (dk_at dksX11_end_0 1 rfl rfl)
theorem dX11_end_4 : decode cX11_end 4 = .ok (.aload_n 0, 1) := dk_42 (dk_at dksX11_end_0 4 rfl rfl)
theorem dX11_end_5 : decode cX11_end 5 = .ok (.invokevirtual 271, 3) := dk_182 1 15 (dk_at dksX11_end_0 5 rfl rfl)
theorem dX11_end_8 : decode cX11_end 8 = .ok (.istore_n 1, 1) := dk_60 (dk_at dksX11_end_0 8 rfl rfl)
theorem dX11_end_9 : decode cX11_end 9 = .ok (.aload_n 0, 1) := dk_42 (dk_at dksX11_end_0 9 rfl rfl)
theorem dX11_end_10 : decode cX11_end 10 = .ok (.getfield 43, 3) := dk_180 0 43 (dk_at dksX11_end_0 10 rfl rfl)
theorem dX11_end_13 : decode cX11_end 13 = .ok (.istore_n 2, 1) := dk_61 (dk_at dksX11_end_0 13 rfl rfl)
theorem dX11_end_14 : decode cX11_end 14 = .ok (.aload_n 0, 1) := dk_42 (dk_at dksX11_end_0 14 rfl rfl)
theorem dX11_end_15 : decode cX11_end 15 = .ok (.invokevirtual 271, 3) := dk_182 1 15 (dk_at dksX11_end_0 15 rfl rfl)
theorem dX11_end_18 : decode cX11_end 18 = .ok (.istore_n 3, 1) := dk_62 (dk_at dksX11_end_0 18 rfl rfl)
theorem dX11_end_19 : decode cX11_end 19 = .ok (.iload_n 1, 1) := dk_27 (dk_at dksX11_end_0 19 rfl rfl)
theorem dX11_end_20 : decode cX11_end 20 = .ok (.iload_n 3, 1) := dk_29 (dk_at dksX11_end_0 20 rfl rfl)
theorem dX11_end_21 : decode cX11_end 21 = .ok (.if_icmp .ne 13, 3) := dk_160 0 13 (dk_at dksX11_end_0 21 rfl rfl)
theorem dX11_end_24 : decode cX11_end 24 = .ok (.new 75, 3) := dk_187 0 75 (dk_at dksX11_end_1 0 rfl rfl)
theorem dX11_end_27 : decode cX11_end 27 = .ok (.dup, 1) := dk_89 (dk_at dksX11_end_1 3 rfl rfl)
theorem dX11_end_28 : decode cX11_end 28 = .ok (.iconst 4, 1) := dk_7 (dk_at dksX11_end_1 4 rfl rfl)
theorem dX11_end_29 : decode cX11_end 29 = .ok (.iload_n 2, 1) := dk_28 (dk_at dksX11_end_1 5 rfl rfl)
theorem dX11_end_30 : decode cX11_end 30 = .ok (.invokespecial 77, 3) := dk_183 0 77 (dk_at dksX11_end_1 6 rfl rfl)
theorem dX11_end_33 : decode cX11_end 33 = .ok (.athrow, 1) := dk_191 (dk_at dksX11_end_1 9 rfl rfl)
theorem dX11_end_34 : decode cX11_end 34 = .ok (.new 318, 3) := dk_187 1 62 (dk_at dksX11_end_1 10 rfl rfl)
theorem dX11_end_37 : decode cX11_end 37 = .ok (.dup, 1) := dk_89 (dk_at dksX11_end_1 13 rfl rfl)
theorem dX11_end_38 : decode cX11_end 38 = .ok (.iload_n 1, 1) := dk_27 (dk_at dksX11_end_1 14 rfl rfl)
theorem dX11_end_39 : decode cX11_end 39 = .ok (.iload_n 3, 1) := dk_29 (dk_at dksX11_end_1 15 rfl rfl)
theorem dX11_end_40 : decode cX11_end 40 = .ok (.invokespecial 320, 3) := dk_183 1 64 (dk_at dksX11_end_1 16 rfl rfl)
theorem dX11_end_43 : decode cX11_end 43 = .ok (.areturn, 1) := dk_176 (dk_at dksX11_end_1 19 rfl rfl)
abbrev cX11_says : ByteArray := prog_23_method_30_code
def yX11_says : MethodName := ⟨RX11, "says", "()LBlindCards$Step;"⟩
def dkwX11_says_0 : List UInt8 := [42, 182, 0, 94, 187, 1, 65, 89, 42, 3, 17, 39, 15, 182, 0, 196, 183, 1, 67, 176]
abbrev dktX11_says_0 : List UInt8 := dkwX11_says_0 ++ []
theorem dksX11_says_0 : cX11_says.data.toList.drop 0 = dktX11_says_0 := by decide +kernel
theorem dX11_says_0 : decode cX11_says 0 = .ok (.aload_n 0, 1) := dk_42 (dk_at dksX11_says_0 0 rfl rfl)
theorem dX11_says_1 : decode cX11_says 1 = .ok (.invokevirtual 94, 3) := dk_182 0 94 (dk_at dksX11_says_0 1 rfl rfl)
theorem dX11_says_4 : decode cX11_says 4 = .ok (.new 321, 3) := dk_187 1 65 (dk_at dksX11_says_0 4 rfl rfl)
theorem dX11_says_7 : decode cX11_says 7 = .ok (.dup, 1) := dk_89 (dk_at dksX11_says_0 7 rfl rfl)
theorem dX11_says_8 : decode cX11_says 8 = .ok (.aload_n 0, 1) := dk_42 (dk_at dksX11_says_0 8 rfl rfl)
theorem dX11_says_9 : decode cX11_says 9 = .ok (.iconst 0, 1) := dk_3 (dk_at dksX11_says_0 9 rfl rfl)
theorem dX11_says_10 : decode cX11_says 10 = .ok (.sipush 9999, 3) := dk_17 39 15 (dk_at dksX11_says_0 10 rfl rfl)
theorem dX11_says_13 : decode cX11_says 13 = .ok (.invokevirtual 196, 3) := dk_182 0 196 (dk_at dksX11_says_0 13 rfl rfl)
theorem dX11_says_16 : decode cX11_says 16 = .ok (.invokespecial 323, 3) := dk_183 1 67 (dk_at dksX11_says_0 16 rfl rfl)
theorem dX11_says_19 : decode cX11_says 19 = .ok (.areturn, 1) := dk_176 (dk_at dksX11_says_0 19 rfl rfl)
theorem q146 : (Jvm.Cond.initialized "BlindCards$Reader") ∈ lw_all := lw_g (lw_at lw_m1 22 rfl) rfl
theorem q221 : (Jvm.Cond.fieldLink "BlindCards$Reader" (159 : Nat) "BlindCards$Recipe" "steps" "Ljava/util/ArrayList;") ∈ lw_all := lw_g (lw_at lw_m1 97 rfl) rfl
theorem q223 : (Jvm.Cond.fieldLink "BlindCards$Reader" (217 : Nat) "BlindCards$Recipe" "mays" "Ljava/util/ArrayList;") ∈ lw_all := lw_g (lw_at lw_m1 99 rfl) rfl
theorem q226 : (Jvm.Cond.fieldLink "BlindCards$Reader" (227 : Nat) "BlindCards$Recipe" "mayOpens" "Ljava/util/ArrayList;") ∈ lw_all := lw_g (lw_at lw_m1 102 rfl) rfl
theorem q229 : (Jvm.Cond.fieldLink "BlindCards$Reader" (199 : Nat) "BlindCards$Recipe" "people" "I") ∈ lw_all := lw_g (lw_at lw_m1 105 rfl) rfl
theorem q231 : (Jvm.Cond.fieldLink "BlindCards$Reader" (354 : Nat) "BlindCards$Recipe" "units" "I") ∈ lw_all := lw_g (lw_at lw_m1 107 rfl) rfl
theorem q233 : (Jvm.Cond.fieldLink "BlindCards$Reader" (233 : Nat) "BlindCards$Recipe" "opens" "I") ∈ lw_all := lw_g (lw_at lw_m1 109 rfl) rfl
theorem q234 : (Jvm.Cond.fieldLink "BlindCards$Reader" (236 : Nat) "BlindCards$Recipe" "shuffles" "I") ∈ lw_all := lw_g (lw_at lw_m1 110 rfl) rfl
theorem q235 : (Jvm.Cond.fieldLink "BlindCards$Reader" (186 : Nat) "BlindCards$Recipe" "hasPeople" "Z") ∈ lw_all := lw_g (lw_at lw_m1 111 rfl) rfl
theorem q236 : (Jvm.Cond.fieldLink "BlindCards$Reader" (190 : Nat) "BlindCards$Recipe" "hasLay" "Z") ∈ lw_all := lw_g (lw_at lw_m1 112 rfl) rfl
theorem q238 : (Jvm.Cond.fieldLink "BlindCards$Reader" (193 : Nat) "BlindCards$Recipe" "asks" "LBlindCards$Node;") ∈ lw_all := lw_g (lw_at lw_m1 114 rfl) rfl
theorem q445 : (Jvm.Cond.selects "BlindCards$Reader" ({ cls := "java/lang/Object", name := "getClass", desc := "()Ljava/lang/Class;" } : Jvm.MethodName) ({ cls := "java/lang/Object", name := "getClass", desc := "()Ljava/lang/Class;" } : Jvm.MethodName)) ∈ lw_all := lw_g (lw_at lw_m2 81 rfl) rfl
theorem q747 : (Jvm.Cond.fieldLinkNest "BlindCards$Reader" (35 : Nat) "BlindCards" "tape" "[B" "BlindCards") ∈ lw_tbl := lw_at lw_m3 143 rfl
theorem q749 : (Jvm.Cond.fieldLinkNest "BlindCards$Reader" (32 : Nat) "BlindCards" "taped" "I" "BlindCards") ∈ lw_tbl := lw_at lw_m3 145 rfl
theorem q856 : (Jvm.Cond.instantiable "BlindCards$Reader" (8 : Nat)) ∈ lw_all := lw_g (lw_at lw_m4 12 rfl) rfl
theorem q858 : (Jvm.Cond.instanceMethod ({ cls := "BlindCards$Reader", name := "<init>", desc := "(LBlindCards;)V" } : Jvm.MethodName)) ∈ lw_all := lw_g (lw_at lw_m4 14 rfl) rfl
theorem q859 : (Jvm.Cond.code ({ cls := "BlindCards$Reader", name := "<init>", desc := "(LBlindCards;)V" } : Jvm.MethodName) prog_23_method_1_code (2 : Nat) (Option.none : Option Jvm.ClassFile.FieldType)) ∈ lw_all := lw_g (lw_at lw_m4 15 rfl) rfl
theorem q860 : (Jvm.Cond.methodLink "BlindCards$Reader" (9 : Nat) ({ cls := "java/lang/Object", name := "<init>", desc := "()V" } : Jvm.MethodName)) ∈ lw_all := lw_g (lw_at lw_m4 16 rfl) rfl
theorem q861 : (Jvm.Cond.stringRef "BlindCards$Reader" (15 : Nat) "") ∈ lw_tbl := lw_at lw_m4 17 rfl
theorem q862 : (Jvm.Cond.classLink "BlindCards$Reader" (21 : Nat) "BlindCards$Recipe") ∈ lw_all := lw_g (lw_at lw_m4 18 rfl) rfl
theorem q863 : (Jvm.Cond.methodLinkNest "BlindCards$Reader" (23 : Nat) ({ cls := "BlindCards$Recipe", name := "<init>", desc := "()V" } : Jvm.MethodName) "BlindCards") ∈ lw_tbl := lw_at lw_m4 19 rfl
theorem q864 : (Jvm.Cond.fieldLink "BlindCards$Reader" (28 : Nat) "BlindCards$Reader" "at" "I") ∈ lw_all := lw_g (lw_at lw_m4 20 rfl) rfl
theorem q865 : (Jvm.Cond.fieldLink "BlindCards$Reader" (46 : Nat) "BlindCards$Reader" "sort" "I") ∈ lw_all := lw_g (lw_at lw_m4 21 rfl) rfl
theorem q866 : (Jvm.Cond.fieldLink "BlindCards$Reader" (43 : Nat) "BlindCards$Reader" "place" "I") ∈ lw_all := lw_g (lw_at lw_m4 22 rfl) rfl
theorem q867 : (Jvm.Cond.fieldLink "BlindCards$Reader" (69 : Nat) "BlindCards$Reader" "number" "I") ∈ lw_all := lw_g (lw_at lw_m4 23 rfl) rfl
theorem q868 : (Jvm.Cond.fieldLink "BlindCards$Reader" (334 : Nat) "BlindCards$Reader" "deep" "I") ∈ lw_all := lw_g (lw_at lw_m4 24 rfl) rfl
theorem q869 : (Jvm.Cond.fieldLink "BlindCards$Reader" (17 : Nat) "BlindCards$Reader" "word" "Ljava/lang/String;") ∈ lw_all := lw_g (lw_at lw_m4 25 rfl) rfl
theorem q870 : (Jvm.Cond.fieldLink "BlindCards$Reader" (24 : Nat) "BlindCards$Reader" "made" "LBlindCards$Recipe;") ∈ lw_all := lw_g (lw_at lw_m4 26 rfl) rfl
theorem q871 : (Jvm.Cond.fieldLink "BlindCards$Reader" (3 : Nat) "BlindCards$Reader" "this$0" "LBlindCards;") ∈ lw_all := lw_g (lw_at lw_m4 27 rfl) rfl
theorem q872 : (Jvm.Cond.lays "BlindCards$Reader" "BlindCards$Reader" "at" "I") ∈ lw_all := lw_g (lw_at lw_m4 28 rfl) rfl
theorem q873 : (Jvm.Cond.soleField "BlindCards$Reader" "at") ∈ lw_all := lw_g (lw_at lw_m4 29 rfl) rfl
theorem q874 : (Jvm.Cond.lays "BlindCards$Reader" "BlindCards$Reader" "sort" "I") ∈ lw_all := lw_g (lw_at lw_m4 30 rfl) rfl
theorem q875 : (Jvm.Cond.soleField "BlindCards$Reader" "sort") ∈ lw_all := lw_g (lw_at lw_m4 31 rfl) rfl
theorem q876 : (Jvm.Cond.lays "BlindCards$Reader" "BlindCards$Reader" "place" "I") ∈ lw_all := lw_g (lw_at lw_m4 32 rfl) rfl
theorem q877 : (Jvm.Cond.soleField "BlindCards$Reader" "place") ∈ lw_all := lw_g (lw_at lw_m4 33 rfl) rfl
theorem q878 : (Jvm.Cond.lays "BlindCards$Reader" "BlindCards$Reader" "number" "I") ∈ lw_all := lw_g (lw_at lw_m4 34 rfl) rfl
theorem q879 : (Jvm.Cond.soleField "BlindCards$Reader" "number") ∈ lw_all := lw_g (lw_at lw_m4 35 rfl) rfl
theorem q880 : (Jvm.Cond.lays "BlindCards$Reader" "BlindCards$Reader" "deep" "I") ∈ lw_all := lw_g (lw_at lw_m4 36 rfl) rfl
theorem q881 : (Jvm.Cond.soleField "BlindCards$Reader" "deep") ∈ lw_all := lw_g (lw_at lw_m4 37 rfl) rfl
theorem q882 : (Jvm.Cond.lays "BlindCards$Reader" "BlindCards$Reader" "word" "Ljava/lang/String;") ∈ lw_all := lw_g (lw_at lw_m4 38 rfl) rfl
theorem q883 : (Jvm.Cond.soleField "BlindCards$Reader" "word") ∈ lw_all := lw_g (lw_at lw_m4 39 rfl) rfl
theorem q884 : (Jvm.Cond.laysFinal "BlindCards$Reader" "BlindCards$Reader" "made" "LBlindCards$Recipe;") ∈ lw_all := lw_g (lw_at lw_m4 40 rfl) rfl
theorem q885 : (Jvm.Cond.soleField "BlindCards$Reader" "made") ∈ lw_all := lw_g (lw_at lw_m4 41 rfl) rfl
theorem q886 : (Jvm.Cond.laysFinal "BlindCards$Reader" "BlindCards$Reader" "this$0" "LBlindCards;") ∈ lw_all := lw_g (lw_at lw_m4 42 rfl) rfl
theorem q887 : (Jvm.Cond.soleField "BlindCards$Reader" "this$0") ∈ lw_all := lw_g (lw_at lw_m4 43 rfl) rfl
theorem q888 : (Jvm.Cond.superclass "BlindCards$Reader" "java/lang/Object") ∈ lw_all := lw_g (lw_at lw_m4 44 rfl) rfl
theorem q890 : (Jvm.Cond.instanceMethod ({ cls := "BlindCards$Reader", name := "text", desc := "()LBlindCards$Recipe;" } : Jvm.MethodName)) ∈ lw_all := lw_g (lw_at lw_m4 46 rfl) rfl
theorem q891 : (Jvm.Cond.selects "BlindCards$Reader" ({ cls := "BlindCards$Reader", name := "text", desc := "()LBlindCards$Recipe;" } : Jvm.MethodName) ({ cls := "BlindCards$Reader", name := "text", desc := "()LBlindCards$Recipe;" } : Jvm.MethodName)) ∈ lw_all := lw_g (lw_at lw_m4 47 rfl) rfl
theorem q892 : (Jvm.Cond.code ({ cls := "BlindCards$Reader", name := "text", desc := "()LBlindCards$Recipe;" } : Jvm.MethodName) prog_23_method_12_code (3 : Nat) (Option.some (Jvm.ClassFile.FieldType.object "BlindCards$Recipe"))) ∈ lw_all := lw_g (lw_at lw_m4 48 rfl) rfl
theorem q893 : (Jvm.Cond.methodLink "BlindCards$Reader" (94 : Nat) ({ cls := "BlindCards$Reader", name := "go", desc := "()V" } : Jvm.MethodName)) ∈ lw_all := lw_g (lw_at lw_m4 49 rfl) rfl
theorem q894 : (Jvm.Cond.privateMethod ({ cls := "BlindCards$Reader", name := "go", desc := "()V" } : Jvm.MethodName)) ∈ lw_tbl := lw_at lw_m4 50 rfl
theorem q895 : (Jvm.Cond.instanceMethod ({ cls := "BlindCards$Reader", name := "go", desc := "()V" } : Jvm.MethodName)) ∈ lw_all := lw_g (lw_at lw_m4 51 rfl) rfl
theorem q896 : (Jvm.Cond.code ({ cls := "BlindCards$Reader", name := "go", desc := "()V" } : Jvm.MethodName) prog_23_method_6_code (4 : Nat) (Option.none : Option Jvm.ClassFile.FieldType)) ∈ lw_all := lw_g (lw_at lw_m4 52 rfl) rfl
theorem q897 : (Jvm.Cond.methodLink "BlindCards$Reader" (39 : Nat) ({ cls := "BlindCards$Reader", name := "here", desc := "(I)I" } : Jvm.MethodName)) ∈ lw_all := lw_g (lw_at lw_m4 53 rfl) rfl
theorem q898 : (Jvm.Cond.privateMethod ({ cls := "BlindCards$Reader", name := "here", desc := "(I)I" } : Jvm.MethodName)) ∈ lw_tbl := lw_at lw_m4 54 rfl
theorem q899 : (Jvm.Cond.instanceMethod ({ cls := "BlindCards$Reader", name := "here", desc := "(I)I" } : Jvm.MethodName)) ∈ lw_all := lw_g (lw_at lw_m4 55 rfl) rfl
theorem q900 : (Jvm.Cond.code ({ cls := "BlindCards$Reader", name := "here", desc := "(I)I" } : Jvm.MethodName) prog_23_method_2_code (2 : Nat) (Option.some Jvm.ClassFile.FieldType.int)) ∈ lw_all := lw_g (lw_at lw_m4 56 rfl) rfl
theorem q901 : (Jvm.Cond.methodLink "BlindCards$Reader" (49 : Nat) ({ cls := "BlindCards$Reader", name := "isLetter", desc := "(I)Z" } : Jvm.MethodName)) ∈ lw_all := lw_g (lw_at lw_m4 57 rfl) rfl
theorem q902 : (Jvm.Cond.privateMethod ({ cls := "BlindCards$Reader", name := "isLetter", desc := "(I)Z" } : Jvm.MethodName)) ∈ lw_tbl := lw_at lw_m4 58 rfl
theorem q903 : (Jvm.Cond.instanceMethod ({ cls := "BlindCards$Reader", name := "isLetter", desc := "(I)Z" } : Jvm.MethodName)) ∈ lw_all := lw_g (lw_at lw_m4 59 rfl) rfl
theorem q904 : (Jvm.Cond.code ({ cls := "BlindCards$Reader", name := "isLetter", desc := "(I)Z" } : Jvm.MethodName) prog_23_method_3_code (2 : Nat) (Option.some Jvm.ClassFile.FieldType.boolean)) ∈ lw_all := lw_g (lw_at lw_m4 60 rfl) rfl
theorem q905 : (Jvm.Cond.classLink "BlindCards$Reader" (53 : Nat) "java/lang/StringBuilder") ∈ lw_all := lw_g (lw_at lw_m4 61 rfl) rfl
theorem q907 : (Jvm.Cond.methodLink "BlindCards$Reader" (55 : Nat) ({ cls := "java/lang/StringBuilder", name := "<init>", desc := "(I)V" } : Jvm.MethodName)) ∈ lw_all := lw_g (lw_at lw_m4 63 rfl) rfl
theorem q936 : (Jvm.Cond.methodLink "BlindCards$Reader" (58 : Nat) ({ cls := "java/lang/StringBuilder", name := "append", desc := "(C)Ljava/lang/StringBuilder;" } : Jvm.MethodName)) ∈ lw_all := lw_g (lw_at lw_m4 92 rfl) rfl
theorem q1014 : (Jvm.Cond.methodLink "BlindCards$Reader" (62 : Nat) ({ cls := "java/lang/StringBuilder", name := "toString", desc := "()Ljava/lang/String;" } : Jvm.MethodName)) ∈ lw_all := lw_g (lw_at lw_m4 170 rfl) rfl
theorem q1077 : (Jvm.Cond.methodLink "BlindCards$Reader" (66 : Nat) ({ cls := "BlindCards$Reader", name := "isDigit", desc := "(I)Z" } : Jvm.MethodName)) ∈ lw_all := lw_g (lw_at lw_m4 233 rfl) rfl
theorem q1078 : (Jvm.Cond.privateMethod ({ cls := "BlindCards$Reader", name := "isDigit", desc := "(I)Z" } : Jvm.MethodName)) ∈ lw_tbl := lw_at lw_m4 234 rfl
theorem q1079 : (Jvm.Cond.instanceMethod ({ cls := "BlindCards$Reader", name := "isDigit", desc := "(I)Z" } : Jvm.MethodName)) ∈ lw_all := lw_g (lw_at lw_m4 235 rfl) rfl
theorem q1080 : (Jvm.Cond.code ({ cls := "BlindCards$Reader", name := "isDigit", desc := "(I)Z" } : Jvm.MethodName) prog_23_method_4_code (2 : Nat) (Option.some Jvm.ClassFile.FieldType.boolean)) ∈ lw_all := lw_g (lw_at lw_m4 236 rfl) rfl
theorem q1081 : (Jvm.Cond.methodLink "BlindCards$Reader" (72 : Nat) ({ cls := "BlindCards$Reader", name := "isSign", desc := "(I)Z" } : Jvm.MethodName)) ∈ lw_all := lw_g (lw_at lw_m4 237 rfl) rfl
theorem q1082 : (Jvm.Cond.static ({ cls := "BlindCards$Reader", name := "isSign", desc := "(I)Z" } : Jvm.MethodName)) ∈ lw_all := lw_g (lw_at lw_m4 238 rfl) rfl
theorem q1083 : (Jvm.Cond.code ({ cls := "BlindCards$Reader", name := "isSign", desc := "(I)Z" } : Jvm.MethodName) prog_23_method_5_code (1 : Nat) (Option.some Jvm.ClassFile.FieldType.boolean)) ∈ lw_all := lw_g (lw_at lw_m4 239 rfl) rfl
theorem q1084 : (Jvm.Cond.methodLink "BlindCards$Reader" (156 : Nat) ({ cls := "BlindCards$Reader", name := "line", desc := "()V" } : Jvm.MethodName)) ∈ lw_all := lw_g (lw_at lw_m5 0 rfl) rfl
theorem q1085 : (Jvm.Cond.privateMethod ({ cls := "BlindCards$Reader", name := "line", desc := "()V" } : Jvm.MethodName)) ∈ lw_tbl := lw_at lw_m5 1 rfl
theorem q1086 : (Jvm.Cond.instanceMethod ({ cls := "BlindCards$Reader", name := "line", desc := "()V" } : Jvm.MethodName)) ∈ lw_all := lw_g (lw_at lw_m5 2 rfl) rfl
theorem q1087 : (Jvm.Cond.code ({ cls := "BlindCards$Reader", name := "line", desc := "()V" } : Jvm.MethodName) prog_23_method_13_code (1 : Nat) (Option.none : Option Jvm.ClassFile.FieldType)) ∈ lw_all := lw_g (lw_at lw_m5 3 rfl) rfl
theorem q1088 : (Jvm.Cond.stringRef "BlindCards$Reader" (101 : Nat) "people") ∈ lw_tbl := lw_at lw_m5 4 rfl
theorem q1089 : (Jvm.Cond.methodLink "BlindCards$Reader" (86 : Nat) ({ cls := "BlindCards$Reader", name := "is", desc := "(Ljava/lang/String;)Z" } : Jvm.MethodName)) ∈ lw_all := lw_g (lw_at lw_m5 5 rfl) rfl
theorem q1090 : (Jvm.Cond.privateMethod ({ cls := "BlindCards$Reader", name := "is", desc := "(Ljava/lang/String;)Z" } : Jvm.MethodName)) ∈ lw_tbl := lw_at lw_m5 6 rfl
theorem q1091 : (Jvm.Cond.instanceMethod ({ cls := "BlindCards$Reader", name := "is", desc := "(Ljava/lang/String;)Z" } : Jvm.MethodName)) ∈ lw_all := lw_g (lw_at lw_m5 7 rfl) rfl
theorem q1092 : (Jvm.Cond.code ({ cls := "BlindCards$Reader", name := "is", desc := "(Ljava/lang/String;)Z" } : Jvm.MethodName) prog_23_method_8_code (2 : Nat) (Option.some Jvm.ClassFile.FieldType.boolean)) ∈ lw_all := lw_g (lw_at lw_m5 8 rfl) rfl
theorem q1093 : (Jvm.Cond.methodLink "BlindCards$Reader" (80 : Nat) ({ cls := "java/lang/String", name := "equals", desc := "(Ljava/lang/Object;)Z" } : Jvm.MethodName)) ∈ lw_all := lw_g (lw_at lw_m5 9 rfl) rfl
theorem q1101 : (Jvm.Cond.methodLink "BlindCards$Reader" (196 : Nat) ({ cls := "BlindCards$Reader", name := "number", desc := "(II)I" } : Jvm.MethodName)) ∈ lw_all := lw_g (lw_at lw_m5 17 rfl) rfl
theorem q1102 : (Jvm.Cond.privateMethod ({ cls := "BlindCards$Reader", name := "number", desc := "(II)I" } : Jvm.MethodName)) ∈ lw_tbl := lw_at lw_m5 18 rfl
theorem q1103 : (Jvm.Cond.instanceMethod ({ cls := "BlindCards$Reader", name := "number", desc := "(II)I" } : Jvm.MethodName)) ∈ lw_all := lw_g (lw_at lw_m5 19 rfl) rfl
theorem q1104 : (Jvm.Cond.code ({ cls := "BlindCards$Reader", name := "number", desc := "(II)I" } : Jvm.MethodName) prog_23_method_10_code (4 : Nat) (Option.some Jvm.ClassFile.FieldType.int)) ∈ lw_all := lw_g (lw_at lw_m5 20 rfl) rfl
theorem q1105 : (Jvm.Cond.methodLink "BlindCards$Reader" (90 : Nat) ({ cls := "BlindCards$Reader", name := "wrong", desc := "()LBlindCards$Wrong;" } : Jvm.MethodName)) ∈ lw_all := lw_g (lw_at lw_m5 21 rfl) rfl
theorem q1106 : (Jvm.Cond.privateMethod ({ cls := "BlindCards$Reader", name := "wrong", desc := "()LBlindCards$Wrong;" } : Jvm.MethodName)) ∈ lw_tbl := lw_at lw_m5 22 rfl
theorem q1107 : (Jvm.Cond.instanceMethod ({ cls := "BlindCards$Reader", name := "wrong", desc := "()LBlindCards$Wrong;" } : Jvm.MethodName)) ∈ lw_all := lw_g (lw_at lw_m5 23 rfl) rfl
theorem q1108 : (Jvm.Cond.code ({ cls := "BlindCards$Reader", name := "wrong", desc := "()LBlindCards$Wrong;" } : Jvm.MethodName) prog_23_method_7_code (1 : Nat) (Option.some (Jvm.ClassFile.FieldType.object "BlindCards$Wrong"))) ∈ lw_all := lw_g (lw_at lw_m5 24 rfl) rfl
theorem q1109 : (Jvm.Cond.classLink "BlindCards$Reader" (75 : Nat) "BlindCards$Wrong") ∈ lw_all := lw_g (lw_at lw_m5 25 rfl) rfl
theorem q1146 : (Jvm.Cond.methodLink "BlindCards$Reader" (77 : Nat) ({ cls := "BlindCards$Wrong", name := "<init>", desc := "(II)V" } : Jvm.MethodName)) ∈ lw_all := lw_g (lw_at lw_m5 62 rfl) rfl
theorem q1176 : (Jvm.Cond.stringRef "BlindCards$Reader" (103 : Nat) "asks") ∈ lw_tbl := lw_at lw_m5 92 rfl
theorem q1177 : (Jvm.Cond.methodLink "BlindCards$Reader" (201 : Nat) ({ cls := "BlindCards$Reader", name := "both", desc := "()LBlindCards$Node;" } : Jvm.MethodName)) ∈ lw_all := lw_g (lw_at lw_m5 93 rfl) rfl
theorem q1178 : (Jvm.Cond.privateMethod ({ cls := "BlindCards$Reader", name := "both", desc := "()LBlindCards$Node;" } : Jvm.MethodName)) ∈ lw_tbl := lw_at lw_m5 94 rfl
theorem q1179 : (Jvm.Cond.instanceMethod ({ cls := "BlindCards$Reader", name := "both", desc := "()LBlindCards$Node;" } : Jvm.MethodName)) ∈ lw_all := lw_g (lw_at lw_m5 95 rfl) rfl
theorem q1180 : (Jvm.Cond.code ({ cls := "BlindCards$Reader", name := "both", desc := "()LBlindCards$Node;" } : Jvm.MethodName) prog_23_method_31_code (2 : Nat) (Option.some (Jvm.ClassFile.FieldType.object "BlindCards$Node"))) ∈ lw_all := lw_g (lw_at lw_m5 96 rfl) rfl
theorem q1181 : (Jvm.Cond.methodLink "BlindCards$Reader" (324 : Nat) ({ cls := "BlindCards$Reader", name := "all", desc := "()LBlindCards$Node;" } : Jvm.MethodName)) ∈ lw_all := lw_g (lw_at lw_m5 97 rfl) rfl
theorem q1182 : (Jvm.Cond.privateMethod ({ cls := "BlindCards$Reader", name := "all", desc := "()LBlindCards$Node;" } : Jvm.MethodName)) ∈ lw_tbl := lw_at lw_m5 98 rfl
theorem q1183 : (Jvm.Cond.instanceMethod ({ cls := "BlindCards$Reader", name := "all", desc := "()LBlindCards$Node;" } : Jvm.MethodName)) ∈ lw_all := lw_g (lw_at lw_m5 99 rfl) rfl
theorem q1184 : (Jvm.Cond.code ({ cls := "BlindCards$Reader", name := "all", desc := "()LBlindCards$Node;" } : Jvm.MethodName) prog_23_method_32_code (2 : Nat) (Option.some (Jvm.ClassFile.FieldType.object "BlindCards$Node"))) ∈ lw_all := lw_g (lw_at lw_m5 100 rfl) rfl
theorem q1185 : (Jvm.Cond.methodLink "BlindCards$Reader" (331 : Nat) ({ cls := "BlindCards$Reader", name := "one", desc := "()LBlindCards$Node;" } : Jvm.MethodName)) ∈ lw_all := lw_g (lw_at lw_m5 101 rfl) rfl
theorem q1186 : (Jvm.Cond.privateMethod ({ cls := "BlindCards$Reader", name := "one", desc := "()LBlindCards$Node;" } : Jvm.MethodName)) ∈ lw_tbl := lw_at lw_m5 102 rfl
theorem q1187 : (Jvm.Cond.instanceMethod ({ cls := "BlindCards$Reader", name := "one", desc := "()LBlindCards$Node;" } : Jvm.MethodName)) ∈ lw_all := lw_g (lw_at lw_m5 103 rfl) rfl
theorem q1188 : (Jvm.Cond.code ({ cls := "BlindCards$Reader", name := "one", desc := "()LBlindCards$Node;" } : Jvm.MethodName) prog_23_method_33_code (3 : Nat) (Option.some (Jvm.ClassFile.FieldType.object "BlindCards$Node"))) ∈ lw_all := lw_g (lw_at lw_m5 104 rfl) rfl
theorem q1189 : (Jvm.Cond.stringRef "BlindCards$Reader" (154 : Nat) "not") ∈ lw_tbl := lw_at lw_m5 105 rfl
theorem q1190 : (Jvm.Cond.classLink "BlindCards$Reader" (337 : Nat) "BlindCards$Not") ∈ lw_all := lw_g (lw_at lw_m5 106 rfl) rfl
theorem q1192 : (Jvm.Cond.methodLink "BlindCards$Reader" (339 : Nat) ({ cls := "BlindCards$Not", name := "<init>", desc := "(LBlindCards$Node;)V" } : Jvm.MethodName)) ∈ lw_all := lw_g (lw_at lw_m5 108 rfl) rfl
theorem q1200 : (Jvm.Cond.methodLink "BlindCards$Reader" (342 : Nat) ({ cls := "BlindCards$Reader", name := "sum", desc := "()LBlindCards$Node;" } : Jvm.MethodName)) ∈ lw_all := lw_g (lw_at lw_m5 116 rfl) rfl
theorem q1201 : (Jvm.Cond.privateMethod ({ cls := "BlindCards$Reader", name := "sum", desc := "()LBlindCards$Node;" } : Jvm.MethodName)) ∈ lw_tbl := lw_at lw_m5 117 rfl
theorem q1202 : (Jvm.Cond.instanceMethod ({ cls := "BlindCards$Reader", name := "sum", desc := "()LBlindCards$Node;" } : Jvm.MethodName)) ∈ lw_all := lw_g (lw_at lw_m5 118 rfl) rfl
theorem q1203 : (Jvm.Cond.code ({ cls := "BlindCards$Reader", name := "sum", desc := "()LBlindCards$Node;" } : Jvm.MethodName) prog_23_method_34_code (3 : Nat) (Option.some (Jvm.ClassFile.FieldType.object "BlindCards$Node"))) ∈ lw_all := lw_g (lw_at lw_m5 119 rfl) rfl
theorem q1204 : (Jvm.Cond.methodLink "BlindCards$Reader" (345 : Nat) ({ cls := "BlindCards$Reader", name := "term", desc := "()LBlindCards$Node;" } : Jvm.MethodName)) ∈ lw_all := lw_g (lw_at lw_m5 120 rfl) rfl
theorem q1205 : (Jvm.Cond.privateMethod ({ cls := "BlindCards$Reader", name := "term", desc := "()LBlindCards$Node;" } : Jvm.MethodName)) ∈ lw_tbl := lw_at lw_m5 121 rfl
theorem q1206 : (Jvm.Cond.instanceMethod ({ cls := "BlindCards$Reader", name := "term", desc := "()LBlindCards$Node;" } : Jvm.MethodName)) ∈ lw_all := lw_g (lw_at lw_m5 122 rfl) rfl
theorem q1207 : (Jvm.Cond.code ({ cls := "BlindCards$Reader", name := "term", desc := "()LBlindCards$Node;" } : Jvm.MethodName) prog_23_method_35_code (2 : Nat) (Option.some (Jvm.ClassFile.FieldType.object "BlindCards$Node"))) ∈ lw_all := lw_g (lw_at lw_m5 123 rfl) rfl
theorem q1208 : (Jvm.Cond.methodLink "BlindCards$Reader" (348 : Nat) ({ cls := "BlindCards$Reader", name := "unit", desc := "()LBlindCards$Node;" } : Jvm.MethodName)) ∈ lw_all := lw_g (lw_at lw_m5 124 rfl) rfl
theorem q1209 : (Jvm.Cond.privateMethod ({ cls := "BlindCards$Reader", name := "unit", desc := "()LBlindCards$Node;" } : Jvm.MethodName)) ∈ lw_tbl := lw_at lw_m5 125 rfl
theorem q1210 : (Jvm.Cond.instanceMethod ({ cls := "BlindCards$Reader", name := "unit", desc := "()LBlindCards$Node;" } : Jvm.MethodName)) ∈ lw_all := lw_g (lw_at lw_m5 126 rfl) rfl
theorem q1211 : (Jvm.Cond.code ({ cls := "BlindCards$Reader", name := "unit", desc := "()LBlindCards$Node;" } : Jvm.MethodName) prog_23_method_37_code (2 : Nat) (Option.some (Jvm.ClassFile.FieldType.object "BlindCards$Node"))) ∈ lw_all := lw_g (lw_at lw_m5 127 rfl) rfl
theorem q1212 : (Jvm.Cond.methodLink "BlindCards$Reader" (351 : Nat) ({ cls := "BlindCards$Reader", name := "isWho", desc := "()Z" } : Jvm.MethodName)) ∈ lw_all := lw_g (lw_at lw_m5 128 rfl) rfl
theorem q1213 : (Jvm.Cond.privateMethod ({ cls := "BlindCards$Reader", name := "isWho", desc := "()Z" } : Jvm.MethodName)) ∈ lw_tbl := lw_at lw_m5 129 rfl
theorem q1214 : (Jvm.Cond.instanceMethod ({ cls := "BlindCards$Reader", name := "isWho", desc := "()Z" } : Jvm.MethodName)) ∈ lw_all := lw_g (lw_at lw_m5 130 rfl) rfl
theorem q1215 : (Jvm.Cond.code ({ cls := "BlindCards$Reader", name := "isWho", desc := "()Z" } : Jvm.MethodName) prog_23_method_36_code (1 : Nat) (Option.some Jvm.ClassFile.FieldType.boolean)) ∈ lw_all := lw_g (lw_at lw_m5 131 rfl) rfl
theorem q1216 : (Jvm.Cond.stringRef "BlindCards$Reader" (122 : Nat) "ann") ∈ lw_tbl := lw_at lw_m5 132 rfl
theorem q1217 : (Jvm.Cond.stringRef "BlindCards$Reader" (124 : Nat) "bob") ∈ lw_tbl := lw_at lw_m5 133 rfl
theorem q1218 : (Jvm.Cond.stringRef "BlindCards$Reader" (126 : Nat) "cyd") ∈ lw_tbl := lw_at lw_m5 134 rfl
theorem q1219 : (Jvm.Cond.stringRef "BlindCards$Reader" (148 : Nat) "all") ∈ lw_tbl := lw_at lw_m5 135 rfl
theorem q1220 : (Jvm.Cond.methodLink "BlindCards$Reader" (255 : Nat) ({ cls := "BlindCards$Reader", name := "who", desc := "()I" } : Jvm.MethodName)) ∈ lw_all := lw_g (lw_at lw_m5 136 rfl) rfl
theorem q1221 : (Jvm.Cond.privateMethod ({ cls := "BlindCards$Reader", name := "who", desc := "()I" } : Jvm.MethodName)) ∈ lw_tbl := lw_at lw_m5 137 rfl
theorem q1222 : (Jvm.Cond.instanceMethod ({ cls := "BlindCards$Reader", name := "who", desc := "()I" } : Jvm.MethodName)) ∈ lw_all := lw_g (lw_at lw_m5 138 rfl) rfl
theorem q1223 : (Jvm.Cond.code ({ cls := "BlindCards$Reader", name := "who", desc := "()I" } : Jvm.MethodName) prog_23_method_18_code (2 : Nat) (Option.some Jvm.ClassFile.FieldType.int)) ∈ lw_all := lw_g (lw_at lw_m5 139 rfl) rfl
theorem q1224 : (Jvm.Cond.fieldLink "BlindCards$Reader" (357 : Nat) "BlindCards$Asked" "ANN" "LBlindCards$Asked;") ∈ lw_all := lw_g (lw_at lw_m5 140 rfl) rfl
theorem q1226 : (Jvm.Cond.fieldLink "BlindCards$Reader" (363 : Nat) "BlindCards$Asked" "BOB" "LBlindCards$Asked;") ∈ lw_all := lw_g (lw_at lw_m5 142 rfl) rfl
theorem q1228 : (Jvm.Cond.fieldLink "BlindCards$Reader" (366 : Nat) "BlindCards$Asked" "CYD" "LBlindCards$Asked;") ∈ lw_all := lw_g (lw_at lw_m5 144 rfl) rfl
theorem q1230 : (Jvm.Cond.fieldLink "BlindCards$Reader" (369 : Nat) "BlindCards$Asked" "ALL" "LBlindCards$Asked;") ∈ lw_all := lw_g (lw_at lw_m5 146 rfl) rfl
theorem q1232 : (Jvm.Cond.classLink "BlindCards$Reader" (372 : Nat) "BlindCards$Value") ∈ lw_all := lw_g (lw_at lw_m5 148 rfl) rfl
theorem q1234 : (Jvm.Cond.methodLink "BlindCards$Reader" (374 : Nat) ({ cls := "BlindCards$Value", name := "<init>", desc := "(I)V" } : Jvm.MethodName)) ∈ lw_all := lw_g (lw_at lw_m5 150 rfl) rfl
theorem q1242 : (Jvm.Cond.classLink "BlindCards$Reader" (326 : Nat) "BlindCards$Pair") ∈ lw_all := lw_g (lw_at lw_m5 158 rfl) rfl
theorem q1244 : (Jvm.Cond.methodLink "BlindCards$Reader" (328 : Nat) ({ cls := "BlindCards$Pair", name := "<init>", desc := "(LBlindCards$Node;LBlindCards$Node;C)V" } : Jvm.MethodName)) ∈ lw_all := lw_g (lw_at lw_m5 160 rfl) rfl
theorem q1258 : (Jvm.Cond.stringRef "BlindCards$Reader" (150 : Nat) "and") ∈ lw_tbl := lw_at lw_m5 174 rfl
theorem q1259 : (Jvm.Cond.stringRef "BlindCards$Reader" (152 : Nat) "or") ∈ lw_tbl := lw_at lw_m5 175 rfl
theorem q1260 : (Jvm.Cond.stringRef "BlindCards$Reader" (105 : Nat) "may") ∈ lw_tbl := lw_at lw_m5 176 rfl
theorem q1261 : (Jvm.Cond.methodLink "BlindCards$Reader" (205 : Nat) ({ cls := "BlindCards$Reader", name := "may", desc := "()V" } : Jvm.MethodName)) ∈ lw_all := lw_g (lw_at lw_m5 177 rfl) rfl
theorem q1262 : (Jvm.Cond.privateMethod ({ cls := "BlindCards$Reader", name := "may", desc := "()V" } : Jvm.MethodName)) ∈ lw_tbl := lw_at lw_m5 178 rfl
theorem q1263 : (Jvm.Cond.instanceMethod ({ cls := "BlindCards$Reader", name := "may", desc := "()V" } : Jvm.MethodName)) ∈ lw_all := lw_g (lw_at lw_m5 179 rfl) rfl
theorem q1264 : (Jvm.Cond.code ({ cls := "BlindCards$Reader", name := "may", desc := "()V" } : Jvm.MethodName) prog_23_method_16_code (2 : Nat) (Option.none : Option Jvm.ClassFile.FieldType)) ∈ lw_all := lw_g (lw_at lw_m5 180 rfl) rfl
theorem q1265 : (Jvm.Cond.methodLink "BlindCards$Reader" (214 : Nat) ({ cls := "BlindCards$Reader", name := "isMove", desc := "()Z" } : Jvm.MethodName)) ∈ lw_all := lw_g (lw_at lw_m5 181 rfl) rfl
theorem q1266 : (Jvm.Cond.privateMethod ({ cls := "BlindCards$Reader", name := "isMove", desc := "()Z" } : Jvm.MethodName)) ∈ lw_tbl := lw_at lw_m5 182 rfl
theorem q1267 : (Jvm.Cond.instanceMethod ({ cls := "BlindCards$Reader", name := "isMove", desc := "()Z" } : Jvm.MethodName)) ∈ lw_all := lw_g (lw_at lw_m5 183 rfl) rfl
theorem q1268 : (Jvm.Cond.code ({ cls := "BlindCards$Reader", name := "isMove", desc := "()Z" } : Jvm.MethodName) prog_23_method_15_code (1 : Nat) (Option.some Jvm.ClassFile.FieldType.boolean)) ∈ lw_all := lw_g (lw_at lw_m5 184 rfl) rfl
theorem q1269 : (Jvm.Cond.stringRef "BlindCards$Reader" (132 : Nat) "swap") ∈ lw_tbl := lw_at lw_m5 185 rfl
theorem q1270 : (Jvm.Cond.stringRef "BlindCards$Reader" (134 : Nat) "row") ∈ lw_tbl := lw_at lw_m5 186 rfl
theorem q1271 : (Jvm.Cond.methodLink "BlindCards$Reader" (210 : Nat) ({ cls := "BlindCards$Reader", name := "isShuffle", desc := "()Z" } : Jvm.MethodName)) ∈ lw_all := lw_g (lw_at lw_m5 187 rfl) rfl
theorem q1272 : (Jvm.Cond.privateMethod ({ cls := "BlindCards$Reader", name := "isShuffle", desc := "()Z" } : Jvm.MethodName)) ∈ lw_tbl := lw_at lw_m5 188 rfl
theorem q1273 : (Jvm.Cond.instanceMethod ({ cls := "BlindCards$Reader", name := "isShuffle", desc := "()Z" } : Jvm.MethodName)) ∈ lw_all := lw_g (lw_at lw_m5 189 rfl) rfl
theorem q1274 : (Jvm.Cond.code ({ cls := "BlindCards$Reader", name := "isShuffle", desc := "()Z" } : Jvm.MethodName) prog_23_method_14_code (1 : Nat) (Option.some Jvm.ClassFile.FieldType.boolean)) ∈ lw_all := lw_g (lw_at lw_m5 190 rfl) rfl
theorem q1275 : (Jvm.Cond.stringRef "BlindCards$Reader" (136 : Nat) "cut") ∈ lw_tbl := lw_at lw_m5 191 rfl
theorem q1276 : (Jvm.Cond.stringRef "BlindCards$Reader" (140 : Nat) "halves") ∈ lw_tbl := lw_at lw_m5 192 rfl
theorem q1277 : (Jvm.Cond.stringRef "BlindCards$Reader" (142 : Nat) "piles") ∈ lw_tbl := lw_at lw_m5 193 rfl
theorem q1278 : (Jvm.Cond.stringRef "BlindCards$Reader" (146 : Nat) "mix") ∈ lw_tbl := lw_at lw_m5 194 rfl
theorem q1279 : (Jvm.Cond.methodLink "BlindCards$Reader" (163 : Nat) ({ cls := "java/util/ArrayList", name := "size", desc := "()I" } : Jvm.MethodName)) ∈ lw_all := lw_g (lw_at lw_m5 195 rfl) rfl
theorem q1280 : (Jvm.Cond.methodLink "BlindCards$Reader" (220 : Nat) ({ cls := "BlindCards$Reader", name := "move", desc := "()LBlindCards$Move;" } : Jvm.MethodName)) ∈ lw_all := lw_g (lw_at lw_m5 196 rfl) rfl
theorem q1281 : (Jvm.Cond.privateMethod ({ cls := "BlindCards$Reader", name := "move", desc := "()LBlindCards$Move;" } : Jvm.MethodName)) ∈ lw_tbl := lw_at lw_m5 197 rfl
theorem q1282 : (Jvm.Cond.instanceMethod ({ cls := "BlindCards$Reader", name := "move", desc := "()LBlindCards$Move;" } : Jvm.MethodName)) ∈ lw_all := lw_g (lw_at lw_m5 198 rfl) rfl
theorem q1283 : (Jvm.Cond.code ({ cls := "BlindCards$Reader", name := "move", desc := "()LBlindCards$Move;" } : Jvm.MethodName) prog_23_method_23_code (9 : Nat) (Option.some (Jvm.ClassFile.FieldType.object "BlindCards$Move"))) ∈ lw_all := lw_g (lw_at lw_m5 199 rfl) rfl
theorem q1284 : (Jvm.Cond.methodLink "BlindCards$Reader" (263 : Nat) ({ cls := "BlindCards$Reader", name := "swap", desc := "()LBlindCards$Move;" } : Jvm.MethodName)) ∈ lw_all := lw_g (lw_at lw_m5 200 rfl) rfl
theorem q1285 : (Jvm.Cond.privateMethod ({ cls := "BlindCards$Reader", name := "swap", desc := "()LBlindCards$Move;" } : Jvm.MethodName)) ∈ lw_tbl := lw_at lw_m5 201 rfl
theorem q1286 : (Jvm.Cond.instanceMethod ({ cls := "BlindCards$Reader", name := "swap", desc := "()LBlindCards$Move;" } : Jvm.MethodName)) ∈ lw_all := lw_g (lw_at lw_m5 202 rfl) rfl
theorem q1287 : (Jvm.Cond.code ({ cls := "BlindCards$Reader", name := "swap", desc := "()LBlindCards$Move;" } : Jvm.MethodName) prog_23_method_24_code (5 : Nat) (Option.some (Jvm.ClassFile.FieldType.object "BlindCards$Move"))) ∈ lw_all := lw_g (lw_at lw_m5 203 rfl) rfl
theorem q1288 : (Jvm.Cond.methodLink "BlindCards$Reader" (271 : Nat) ({ cls := "BlindCards$Reader", name := "place", desc := "()I" } : Jvm.MethodName)) ∈ lw_all := lw_g (lw_at lw_m5 204 rfl) rfl
theorem q1289 : (Jvm.Cond.privateMethod ({ cls := "BlindCards$Reader", name := "place", desc := "()I" } : Jvm.MethodName)) ∈ lw_tbl := lw_at lw_m5 205 rfl
theorem q1290 : (Jvm.Cond.instanceMethod ({ cls := "BlindCards$Reader", name := "place", desc := "()I" } : Jvm.MethodName)) ∈ lw_all := lw_g (lw_at lw_m5 206 rfl) rfl
theorem q1291 : (Jvm.Cond.code ({ cls := "BlindCards$Reader", name := "place", desc := "()I" } : Jvm.MethodName) prog_23_method_22_code (1 : Nat) (Option.some Jvm.ClassFile.FieldType.int)) ∈ lw_all := lw_g (lw_at lw_m5 207 rfl) rfl
theorem q1292 : (Jvm.Cond.classLink "BlindCards$Reader" (284 : Nat) "BlindCards$Told") ∈ lw_all := lw_g (lw_at lw_m5 208 rfl) rfl
theorem q1294 : (Jvm.Cond.methodLink "BlindCards$Reader" (286 : Nat) ({ cls := "java/lang/Math", name := "max", desc := "(II)I" } : Jvm.MethodName)) ∈ lw_all := lw_g (lw_at lw_m5 210 rfl) rfl
theorem q1295 : (Jvm.Cond.methodLink "BlindCards$Reader" (291 : Nat) ({ cls := "BlindCards$Told", name := "<init>", desc := "(I)V" } : Jvm.MethodName)) ∈ lw_all := lw_g (lw_at lw_m5 211 rfl) rfl
theorem q1306 : (Jvm.Cond.fieldLinkNest "BlindCards$Reader" (292 : Nat) "BlindCards$Told" "where" "[I" "BlindCards") ∈ lw_tbl := lw_at lw_m5 222 rfl
theorem q1313 : (Jvm.Cond.methodLink "BlindCards$Reader" (265 : Nat) ({ cls := "BlindCards$Reader", name := "row", desc := "()LBlindCards$Move;" } : Jvm.MethodName)) ∈ lw_all := lw_g (lw_at lw_m5 229 rfl) rfl
theorem q1314 : (Jvm.Cond.privateMethod ({ cls := "BlindCards$Reader", name := "row", desc := "()LBlindCards$Move;" } : Jvm.MethodName)) ∈ lw_tbl := lw_at lw_m5 230 rfl
theorem q1315 : (Jvm.Cond.instanceMethod ({ cls := "BlindCards$Reader", name := "row", desc := "()LBlindCards$Move;" } : Jvm.MethodName)) ∈ lw_all := lw_g (lw_at lw_m5 231 rfl) rfl
theorem q1316 : (Jvm.Cond.code ({ cls := "BlindCards$Reader", name := "row", desc := "()LBlindCards$Move;" } : Jvm.MethodName) prog_23_method_25_code (7 : Nat) (Option.some (Jvm.ClassFile.FieldType.object "BlindCards$Move"))) ∈ lw_all := lw_g (lw_at lw_m5 232 rfl) rfl
theorem q1317 : (Jvm.Cond.stringRef "BlindCards$Reader" (144 : Nat) "of") ∈ lw_tbl := lw_at lw_m5 233 rfl
theorem q1318 : (Jvm.Cond.methodLink "BlindCards$Reader" (267 : Nat) ({ cls := "BlindCards$Reader", name := "key", desc := "(Ljava/lang/String;)V" } : Jvm.MethodName)) ∈ lw_all := lw_g (lw_at lw_m5 234 rfl) rfl
theorem q1319 : (Jvm.Cond.privateMethod ({ cls := "BlindCards$Reader", name := "key", desc := "(Ljava/lang/String;)V" } : Jvm.MethodName)) ∈ lw_tbl := lw_at lw_m5 235 rfl
theorem q1320 : (Jvm.Cond.instanceMethod ({ cls := "BlindCards$Reader", name := "key", desc := "(Ljava/lang/String;)V" } : Jvm.MethodName)) ∈ lw_all := lw_g (lw_at lw_m5 236 rfl) rfl
theorem q1321 : (Jvm.Cond.code ({ cls := "BlindCards$Reader", name := "key", desc := "(Ljava/lang/String;)V" } : Jvm.MethodName) prog_23_method_9_code (2 : Nat) (Option.none : Option Jvm.ClassFile.FieldType)) ∈ lw_all := lw_g (lw_at lw_m5 237 rfl) rfl
theorem q1322 : (Jvm.Cond.stringRef "BlindCards$Reader" (138 : Nat) "to") ∈ lw_tbl := lw_at lw_m5 238 rfl
theorem q1323 : (Jvm.Cond.classLink "BlindCards$Reader" (273 : Nat) "BlindCards$Halves") ∈ lw_all := lw_g (lw_at lw_m5 239 rfl) rfl
theorem q1325 : (Jvm.Cond.methodLink "BlindCards$Reader" (275 : Nat) ({ cls := "BlindCards$Halves", name := "<init>", desc := "(II)V" } : Jvm.MethodName)) ∈ lw_all := lw_g (lw_at lw_m6 1 rfl) rfl
theorem q1346 : (Jvm.Cond.classLink "BlindCards$Reader" (276 : Nat) "BlindCards$Cut") ∈ lw_all := lw_g (lw_at lw_m6 22 rfl) rfl
theorem q1348 : (Jvm.Cond.methodLink "BlindCards$Reader" (278 : Nat) ({ cls := "BlindCards$Cut", name := "<init>", desc := "(III)V" } : Jvm.MethodName)) ∈ lw_all := lw_g (lw_at lw_m6 24 rfl) rfl
theorem q1353 : (Jvm.Cond.classLink "BlindCards$Reader" (281 : Nat) "BlindCards$Mix") ∈ lw_all := lw_g (lw_at lw_m6 29 rfl) rfl
theorem q1355 : (Jvm.Cond.methodLink "BlindCards$Reader" (283 : Nat) ({ cls := "BlindCards$Mix", name := "<init>", desc := "(II)V" } : Jvm.MethodName)) ∈ lw_all := lw_g (lw_at lw_m6 31 rfl) rfl
theorem q1363 : (Jvm.Cond.methodLink "BlindCards$Reader" (224 : Nat) ({ cls := "java/util/ArrayList", name := "add", desc := "(Ljava/lang/Object;)Z" } : Jvm.MethodName)) ∈ lw_all := lw_g (lw_at lw_m6 39 rfl) rfl
theorem q1364 : (Jvm.Cond.stringRef "BlindCards$Reader" (111 : Nat) "open") ∈ lw_tbl := lw_at lw_m6 40 rfl
theorem q1365 : (Jvm.Cond.methodLink "BlindCards$Reader" (230 : Nat) ({ cls := "BlindCards$Reader", name := "open", desc := "()LBlindCards$Open;" } : Jvm.MethodName)) ∈ lw_all := lw_g (lw_at lw_m6 41 rfl) rfl
theorem q1366 : (Jvm.Cond.privateMethod ({ cls := "BlindCards$Reader", name := "open", desc := "()LBlindCards$Open;" } : Jvm.MethodName)) ∈ lw_tbl := lw_at lw_m6 42 rfl
theorem q1367 : (Jvm.Cond.instanceMethod ({ cls := "BlindCards$Reader", name := "open", desc := "()LBlindCards$Open;" } : Jvm.MethodName)) ∈ lw_all := lw_g (lw_at lw_m6 43 rfl) rfl
theorem q1368 : (Jvm.Cond.code ({ cls := "BlindCards$Reader", name := "open", desc := "()LBlindCards$Open;" } : Jvm.MethodName) prog_23_method_26_code (5 : Nat) (Option.some (Jvm.ClassFile.FieldType.object "BlindCards$Open"))) ∈ lw_all := lw_g (lw_at lw_m6 44 rfl) rfl
theorem q1369 : (Jvm.Cond.classLink "BlindCards$Reader" (296 : Nat) "BlindCards$Open") ∈ lw_all := lw_g (lw_at lw_m6 45 rfl) rfl
theorem q1371 : (Jvm.Cond.methodLinkNest "BlindCards$Reader" (298 : Nat) ({ cls := "BlindCards$Open", name := "<init>", desc := "()V" } : Jvm.MethodName) "BlindCards") ∈ lw_tbl := lw_at lw_m6 47 rfl
theorem q1377 : (Jvm.Cond.fieldLink "BlindCards$Reader" (302 : Nat) "BlindCards$Open" "places" "[I") ∈ lw_all := lw_g (lw_at lw_m6 53 rfl) rfl
theorem q1381 : (Jvm.Cond.fieldLink "BlindCards$Reader" (299 : Nat) "BlindCards$Open" "many" "I") ∈ lw_all := lw_g (lw_at lw_m6 57 rfl) rfl
theorem q1384 : (Jvm.Cond.fieldLink "BlindCards$Reader" (305 : Nat) "BlindCards$Open" "last" "I") ∈ lw_all := lw_g (lw_at lw_m6 60 rfl) rfl
theorem q1392 : (Jvm.Cond.methodLink "BlindCards$Reader" (207 : Nat) ({ cls := "BlindCards$Reader", name := "step", desc := "()V" } : Jvm.MethodName)) ∈ lw_all := lw_g (lw_at lw_m6 68 rfl) rfl
theorem q1393 : (Jvm.Cond.privateMethod ({ cls := "BlindCards$Reader", name := "step", desc := "()V" } : Jvm.MethodName)) ∈ lw_tbl := lw_at lw_m6 69 rfl
theorem q1394 : (Jvm.Cond.instanceMethod ({ cls := "BlindCards$Reader", name := "step", desc := "()V" } : Jvm.MethodName)) ∈ lw_all := lw_g (lw_at lw_m6 70 rfl) rfl
theorem q1395 : (Jvm.Cond.code ({ cls := "BlindCards$Reader", name := "step", desc := "()V" } : Jvm.MethodName) prog_23_method_17_code (2 : Nat) (Option.none : Option Jvm.ClassFile.FieldType)) ∈ lw_all := lw_g (lw_at lw_m6 71 rfl) rfl
theorem q1396 : (Jvm.Cond.stringRef "BlindCards$Reader" (107 : Nat) "lay") ∈ lw_tbl := lw_at lw_m6 72 rfl
theorem q1397 : (Jvm.Cond.stringRef "BlindCards$Reader" (109 : Nat) "put") ∈ lw_tbl := lw_at lw_m6 73 rfl
theorem q1398 : (Jvm.Cond.stringRef "BlindCards$Reader" (113 : Nat) "if") ∈ lw_tbl := lw_at lw_m6 74 rfl
theorem q1399 : (Jvm.Cond.stringRef "BlindCards$Reader" (116 : Nat) "mark") ∈ lw_tbl := lw_at lw_m6 75 rfl
theorem q1400 : (Jvm.Cond.stringRef "BlindCards$Reader" (118 : Nat) "end") ∈ lw_tbl := lw_at lw_m6 76 rfl
theorem q1401 : (Jvm.Cond.stringRef "BlindCards$Reader" (120 : Nat) "says") ∈ lw_tbl := lw_at lw_m6 77 rfl
theorem q1402 : (Jvm.Cond.methodLink "BlindCards$Reader" (239 : Nat) ({ cls := "BlindCards$Reader", name := "lay", desc := "()LBlindCards$Step;" } : Jvm.MethodName)) ∈ lw_all := lw_g (lw_at lw_m6 78 rfl) rfl
theorem q1403 : (Jvm.Cond.privateMethod ({ cls := "BlindCards$Reader", name := "lay", desc := "()LBlindCards$Step;" } : Jvm.MethodName)) ∈ lw_tbl := lw_at lw_m6 79 rfl
theorem q1404 : (Jvm.Cond.instanceMethod ({ cls := "BlindCards$Reader", name := "lay", desc := "()LBlindCards$Step;" } : Jvm.MethodName)) ∈ lw_all := lw_g (lw_at lw_m6 80 rfl) rfl
theorem q1405 : (Jvm.Cond.code ({ cls := "BlindCards$Reader", name := "lay", desc := "()LBlindCards$Step;" } : Jvm.MethodName) prog_23_method_20_code (1 : Nat) (Option.some (Jvm.ClassFile.FieldType.object "BlindCards$Step"))) ∈ lw_all := lw_g (lw_at lw_m6 81 rfl) rfl
theorem q1406 : (Jvm.Cond.classLink "BlindCards$Reader" (253 : Nat) "BlindCards$Lay") ∈ lw_all := lw_g (lw_at lw_m6 82 rfl) rfl
theorem q1408 : (Jvm.Cond.methodLink "BlindCards$Reader" (258 : Nat) ({ cls := "BlindCards$Lay", name := "<init>", desc := "(IZ)V" } : Jvm.MethodName)) ∈ lw_all := lw_g (lw_at lw_m6 84 rfl) rfl
theorem q1419 : (Jvm.Cond.methodLink "BlindCards$Reader" (242 : Nat) ({ cls := "BlindCards$Reader", name := "put", desc := "()LBlindCards$Step;" } : Jvm.MethodName)) ∈ lw_all := lw_g (lw_at lw_m6 95 rfl) rfl
theorem q1420 : (Jvm.Cond.privateMethod ({ cls := "BlindCards$Reader", name := "put", desc := "()LBlindCards$Step;" } : Jvm.MethodName)) ∈ lw_tbl := lw_at lw_m6 96 rfl
theorem q1421 : (Jvm.Cond.instanceMethod ({ cls := "BlindCards$Reader", name := "put", desc := "()LBlindCards$Step;" } : Jvm.MethodName)) ∈ lw_all := lw_g (lw_at lw_m6 97 rfl) rfl
theorem q1422 : (Jvm.Cond.code ({ cls := "BlindCards$Reader", name := "put", desc := "()LBlindCards$Step;" } : Jvm.MethodName) prog_23_method_21_code (1 : Nat) (Option.some (Jvm.ClassFile.FieldType.object "BlindCards$Step"))) ∈ lw_all := lw_g (lw_at lw_m6 98 rfl) rfl
theorem q1423 : (Jvm.Cond.methodLink "BlindCards$Reader" (261 : Nat) ({ cls := "BlindCards$Reader", name := "red", desc := "()Z" } : Jvm.MethodName)) ∈ lw_all := lw_g (lw_at lw_m6 99 rfl) rfl
theorem q1424 : (Jvm.Cond.privateMethod ({ cls := "BlindCards$Reader", name := "red", desc := "()Z" } : Jvm.MethodName)) ∈ lw_tbl := lw_at lw_m6 100 rfl
theorem q1425 : (Jvm.Cond.instanceMethod ({ cls := "BlindCards$Reader", name := "red", desc := "()Z" } : Jvm.MethodName)) ∈ lw_all := lw_g (lw_at lw_m6 101 rfl) rfl
theorem q1426 : (Jvm.Cond.code ({ cls := "BlindCards$Reader", name := "red", desc := "()Z" } : Jvm.MethodName) prog_23_method_19_code (2 : Nat) (Option.some Jvm.ClassFile.FieldType.boolean)) ∈ lw_all := lw_g (lw_at lw_m6 102 rfl) rfl
theorem q1427 : (Jvm.Cond.stringRef "BlindCards$Reader" (128 : Nat) "red") ∈ lw_tbl := lw_at lw_m6 103 rfl
theorem q1428 : (Jvm.Cond.stringRef "BlindCards$Reader" (130 : Nat) "black") ∈ lw_tbl := lw_at lw_m6 104 rfl
theorem q1429 : (Jvm.Cond.methodLink "BlindCards$Reader" (244 : Nat) ({ cls := "BlindCards$Reader", name := "branch", desc := "()LBlindCards$Step;" } : Jvm.MethodName)) ∈ lw_all := lw_g (lw_at lw_m6 105 rfl) rfl
theorem q1430 : (Jvm.Cond.privateMethod ({ cls := "BlindCards$Reader", name := "branch", desc := "()LBlindCards$Step;" } : Jvm.MethodName)) ∈ lw_tbl := lw_at lw_m6 106 rfl
theorem q1431 : (Jvm.Cond.instanceMethod ({ cls := "BlindCards$Reader", name := "branch", desc := "()LBlindCards$Step;" } : Jvm.MethodName)) ∈ lw_all := lw_g (lw_at lw_m6 107 rfl) rfl
theorem q1432 : (Jvm.Cond.code ({ cls := "BlindCards$Reader", name := "branch", desc := "()LBlindCards$Step;" } : Jvm.MethodName) prog_23_method_27_code (4 : Nat) (Option.some (Jvm.ClassFile.FieldType.object "BlindCards$Step"))) ∈ lw_all := lw_g (lw_at lw_m6 108 rfl) rfl
theorem q1433 : (Jvm.Cond.stringRef "BlindCards$Reader" (115 : Nat) "go") ∈ lw_tbl := lw_at lw_m6 109 rfl
theorem q1434 : (Jvm.Cond.methodLink "BlindCards$Reader" (308 : Nat) ({ cls := "BlindCards$Reader", name := "isName", desc := "()Z" } : Jvm.MethodName)) ∈ lw_all := lw_g (lw_at lw_m6 110 rfl) rfl
theorem q1435 : (Jvm.Cond.privateMethod ({ cls := "BlindCards$Reader", name := "isName", desc := "()Z" } : Jvm.MethodName)) ∈ lw_tbl := lw_at lw_m6 111 rfl
theorem q1436 : (Jvm.Cond.instanceMethod ({ cls := "BlindCards$Reader", name := "isName", desc := "()Z" } : Jvm.MethodName)) ∈ lw_all := lw_g (lw_at lw_m6 112 rfl) rfl
theorem q1437 : (Jvm.Cond.code ({ cls := "BlindCards$Reader", name := "isName", desc := "()Z" } : Jvm.MethodName) prog_23_method_11_code (3 : Nat) (Option.some Jvm.ClassFile.FieldType.boolean)) ∈ lw_all := lw_g (lw_at lw_m6 113 rfl) rfl
theorem q1438 : (Jvm.Cond.methodLink "BlindCards$Reader" (97 : Nat) ({ cls := "java/lang/String", name := "hashCode", desc := "()I" } : Jvm.MethodName)) ∈ lw_all := lw_g (lw_at lw_m6 114 rfl) rfl
theorem q1491 : (Jvm.Cond.methodLink "BlindCards$Reader" (177 : Nat) ({ cls := "BlindCards$Recipe", name := "mark", desc := "(Ljava/lang/String;)I" } : Jvm.MethodName)) ∈ lw_all := lw_g (lw_at lw_m6 167 rfl) rfl
theorem q1499 : (Jvm.Cond.classLink "BlindCards$Reader" (172 : Nat) "BlindCards$If") ∈ lw_all := lw_g (lw_at lw_m6 175 rfl) rfl
theorem q1501 : (Jvm.Cond.methodLink "BlindCards$Reader" (311 : Nat) ({ cls := "BlindCards$If", name := "<init>", desc := "(IZLjava/lang/String;I)V" } : Jvm.MethodName)) ∈ lw_all := lw_g (lw_at lw_m6 177 rfl) rfl
theorem q1512 : (Jvm.Cond.fieldLink "BlindCards$Reader" (174 : Nat) "BlindCards$If" "name" "Ljava/lang/String;") ∈ lw_all := lw_g (lw_at lw_m6 188 rfl) rfl
theorem q1514 : (Jvm.Cond.fieldLink "BlindCards$Reader" (183 : Nat) "BlindCards$If" "told" "I") ∈ lw_all := lw_g (lw_at lw_m6 190 rfl) rfl
theorem q1517 : (Jvm.Cond.fieldLink "BlindCards$Reader" (180 : Nat) "BlindCards$If" "goes" "I") ∈ lw_all := lw_g (lw_at lw_m6 193 rfl) rfl
theorem q1530 : (Jvm.Cond.methodLink "BlindCards$Reader" (247 : Nat) ({ cls := "BlindCards$Reader", name := "mark", desc := "()LBlindCards$Step;" } : Jvm.MethodName)) ∈ lw_all := lw_g (lw_at lw_m6 206 rfl) rfl
theorem q1531 : (Jvm.Cond.privateMethod ({ cls := "BlindCards$Reader", name := "mark", desc := "()LBlindCards$Step;" } : Jvm.MethodName)) ∈ lw_tbl := lw_at lw_m6 207 rfl
theorem q1532 : (Jvm.Cond.instanceMethod ({ cls := "BlindCards$Reader", name := "mark", desc := "()LBlindCards$Step;" } : Jvm.MethodName)) ∈ lw_all := lw_g (lw_at lw_m6 208 rfl) rfl
theorem q1533 : (Jvm.Cond.code ({ cls := "BlindCards$Reader", name := "mark", desc := "()LBlindCards$Step;" } : Jvm.MethodName) prog_23_method_28_code (2 : Nat) (Option.some (Jvm.ClassFile.FieldType.object "BlindCards$Step"))) ∈ lw_all := lw_g (lw_at lw_m6 209 rfl) rfl
theorem q1534 : (Jvm.Cond.classLink "BlindCards$Reader" (314 : Nat) "BlindCards$Mark") ∈ lw_all := lw_g (lw_at lw_m6 210 rfl) rfl
theorem q1536 : (Jvm.Cond.methodLink "BlindCards$Reader" (316 : Nat) ({ cls := "BlindCards$Mark", name := "<init>", desc := "(Ljava/lang/String;)V" } : Jvm.MethodName)) ∈ lw_all := lw_g (lw_at lw_m6 212 rfl) rfl
theorem q1545 : (Jvm.Cond.methodLink "BlindCards$Reader" (249 : Nat) ({ cls := "BlindCards$Reader", name := "end", desc := "()LBlindCards$Step;" } : Jvm.MethodName)) ∈ lw_all := lw_g (lw_at lw_m6 221 rfl) rfl
theorem q1546 : (Jvm.Cond.privateMethod ({ cls := "BlindCards$Reader", name := "end", desc := "()LBlindCards$Step;" } : Jvm.MethodName)) ∈ lw_tbl := lw_at lw_m6 222 rfl
theorem q1547 : (Jvm.Cond.instanceMethod ({ cls := "BlindCards$Reader", name := "end", desc := "()LBlindCards$Step;" } : Jvm.MethodName)) ∈ lw_all := lw_g (lw_at lw_m6 223 rfl) rfl
theorem q1548 : (Jvm.Cond.code ({ cls := "BlindCards$Reader", name := "end", desc := "()LBlindCards$Step;" } : Jvm.MethodName) prog_23_method_29_code (4 : Nat) (Option.some (Jvm.ClassFile.FieldType.object "BlindCards$Step"))) ∈ lw_all := lw_g (lw_at lw_m6 224 rfl) rfl
theorem q1549 : (Jvm.Cond.classLink "BlindCards$Reader" (318 : Nat) "BlindCards$End") ∈ lw_all := lw_g (lw_at lw_m6 225 rfl) rfl
theorem q1551 : (Jvm.Cond.methodLink "BlindCards$Reader" (320 : Nat) ({ cls := "BlindCards$End", name := "<init>", desc := "(II)V" } : Jvm.MethodName)) ∈ lw_all := lw_g (lw_at lw_m6 227 rfl) rfl
theorem q1562 : (Jvm.Cond.methodLink "BlindCards$Reader" (251 : Nat) ({ cls := "BlindCards$Reader", name := "says", desc := "()LBlindCards$Step;" } : Jvm.MethodName)) ∈ lw_all := lw_g (lw_at lw_m6 238 rfl) rfl
theorem q1563 : (Jvm.Cond.privateMethod ({ cls := "BlindCards$Reader", name := "says", desc := "()LBlindCards$Step;" } : Jvm.MethodName)) ∈ lw_tbl := lw_at lw_m6 239 rfl
theorem q1564 : (Jvm.Cond.instanceMethod ({ cls := "BlindCards$Reader", name := "says", desc := "()LBlindCards$Step;" } : Jvm.MethodName)) ∈ lw_all := lw_g (lw_at lw_m7 0 rfl) rfl
theorem q1565 : (Jvm.Cond.code ({ cls := "BlindCards$Reader", name := "says", desc := "()LBlindCards$Step;" } : Jvm.MethodName) prog_23_method_30_code (1 : Nat) (Option.some (Jvm.ClassFile.FieldType.object "BlindCards$Step"))) ∈ lw_all := lw_g (lw_at lw_m7 1 rfl) rfl
theorem q1566 : (Jvm.Cond.classLink "BlindCards$Reader" (321 : Nat) "BlindCards$Says") ∈ lw_all := lw_g (lw_at lw_m7 2 rfl) rfl
theorem q1568 : (Jvm.Cond.methodLink "BlindCards$Reader" (323 : Nat) ({ cls := "BlindCards$Says", name := "<init>", desc := "(I)V" } : Jvm.MethodName)) ∈ lw_all := lw_g (lw_at lw_m7 4 rfl) rfl
theorem q1577 : (Jvm.Cond.methodLink "BlindCards$Reader" (168 : Nat) ({ cls := "java/util/ArrayList", name := "get", desc := "(I)Ljava/lang/Object;" } : Jvm.MethodName)) ∈ lw_all := lw_g (lw_at lw_m7 13 rfl) rfl
theorem q2590 : (Jvm.Cond.castable "BlindCards$Reader" "java/lang/Object") ∈ lw_tbl := lw_at lw_m11 66 rfl
theorem in_X11 : ∀ w ∈ wsX110, w ∈ lw_all := lw_in wsX110 [872, 874, 876, 878, 880, 882, 884, 886] (by decide +kernel) (by decide +kernel)
