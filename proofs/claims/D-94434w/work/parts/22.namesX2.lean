/-! BlindCards$Recipe -/
set_option maxRecDepth 100000
def RX1 : String := "BlindCards$Recipe"
def TX1 : u_T := fun k => match k with
  | 0 => ("BlindCards$Recipe", "steps", "Ljava/util/ArrayList;", true)
  | 1 => ("BlindCards$Recipe", "mays", "Ljava/util/ArrayList;", true)
  | 2 => ("BlindCards$Recipe", "mayOpens", "Ljava/util/ArrayList;", true)
  | 3 => ("BlindCards$Recipe", "people", "I", false)
  | 4 => ("BlindCards$Recipe", "units", "I", false)
  | 5 => ("BlindCards$Recipe", "opens", "I", false)
  | 6 => ("BlindCards$Recipe", "shuffles", "I", false)
  | 7 => ("BlindCards$Recipe", "hasPeople", "Z", false)
  | 8 => ("BlindCards$Recipe", "hasLay", "Z", false)
  | _ => ("BlindCards$Recipe", "asks", "LBlindCards$Node;", false)
def tyX1 : Nat → FieldType := fun k => match k with
  | 0 => .object "java/util/ArrayList"
  | 1 => .object "java/util/ArrayList"
  | 2 => .object "java/util/ArrayList"
  | 3 => .int
  | 4 => .int
  | 5 => .int
  | 6 => .int
  | 7 => .boolean
  | 8 => .boolean
  | _ => .object "BlindCards$Node"
abbrev wsX10 : List Cond := u_ws RX1 TX1 10
theorem nmX1 : ∀ a, a < 10 → ∀ b, b < 10 → a ≠ b → (TX1 a).2.1 ≠ (TX1 b).2.1 := by decide +kernel
theorem tyX1_ok : ∀ k, k < 10 → parseFieldDescriptor (TX1 k).2.2.1 = some (tyX1 k) := by decide +kernel
abbrev cX1_init : ByteArray := prog_24_method_1_code
def yX1_init : MethodName := ⟨RX1, "<init>", "()V"⟩
def dkwX1_init_1 : List UInt8 := [183, 0, 11, 181, 0, 20, 42, 187, 0, 9, 89, 4, 183, 0, 11, 181, 0, 23, 42, 5, 181, 0, 26, 177]
abbrev dktX1_init_1 : List UInt8 := dkwX1_init_1 ++ []
def dkwX1_init_0 : List UInt8 := [42, 183, 0, 3, 42, 187, 0, 9, 89, 7, 183, 0, 11, 181, 0, 14, 42, 187, 0, 9, 89, 4]
abbrev dktX1_init_0 : List UInt8 := dkwX1_init_0 ++ dktX1_init_1
theorem dksX1_init_0 : cX1_init.data.toList.drop 0 = dktX1_init_0 := by decide +kernel
theorem dksX1_init_1 : cX1_init.data.toList.drop 22 = dktX1_init_1 := dk_seg dksX1_init_0 22 rfl rfl
theorem dX1_init_0 : decode cX1_init 0 = .ok (.aload_n 0, 1) := dk_42 (dk_at dksX1_init_0 0 rfl rfl)
theorem dX1_init_1 : decode cX1_init 1 = .ok (.invokespecial 3, 3) := dk_183 0 3 (dk_at dksX1_init_0 1 rfl rfl)
theorem dX1_init_4 : decode cX1_init 4 = .ok (.aload_n 0, 1) := dk_42 (dk_at dksX1_init_0 4 rfl rfl)
theorem dX1_init_5 : decode cX1_init 5 = .ok (.new 9, 3) := dk_187 0 9 (dk_at dksX1_init_0 5 rfl rfl)
theorem dX1_init_8 : decode cX1_init 8 = .ok (.dup, 1) := dk_89 (dk_at dksX1_init_0 8 rfl rfl)
theorem dX1_init_9 : decode cX1_init 9 = .ok (.iconst 4, 1) := dk_7 (dk_at dksX1_init_0 9 rfl rfl)
theorem dX1_init_10 : decode cX1_init 10 = .ok (.invokespecial 11, 3) := dk_183 0 11 (dk_at dksX1_init_0 10 rfl rfl)
theorem dX1_init_13 : decode cX1_init 13 = .ok (.putfield 14, 3) := dk_181 0 14 (dk_at dksX1_init_0 13 rfl rfl)
theorem dX1_init_16 : decode cX1_init 16 = .ok (.aload_n 0, 1) := dk_42 (dk_at dksX1_init_0 16 rfl rfl)
theorem dX1_init_17 : decode cX1_init 17 = .ok (.new 9, 3) := dk_187 0 9 (dk_at dksX1_init_0 17 rfl rfl)
theorem dX1_init_20 : decode cX1_init 20 = .ok (.dup, 1) := dk_89 (dk_at dksX1_init_0 20 rfl rfl)
theorem dX1_init_21 : decode cX1_init 21 = .ok (.iconst 1, 1) := dk_4 (dk_at dksX1_init_0 21 rfl rfl)
theorem dX1_init_22 : decode cX1_init 22 = .ok (.invokespecial 11, 3) := dk_183 0 11 (dk_at dksX1_init_1 0 rfl rfl)
theorem dX1_init_25 : decode cX1_init 25 = .ok (.putfield 20, 3) := dk_181 0 20 (dk_at dksX1_init_1 3 rfl rfl)
theorem dX1_init_28 : decode cX1_init 28 = .ok (.aload_n 0, 1) := dk_42 (dk_at dksX1_init_1 6 rfl rfl)
theorem dX1_init_29 : decode cX1_init 29 = .ok (.new 9, 3) := dk_187 0 9 (dk_at dksX1_init_1 7 rfl rfl)
theorem dX1_init_32 : decode cX1_init 32 = .ok (.dup, 1) := dk_89 (dk_at dksX1_init_1 10 rfl rfl)
theorem dX1_init_33 : decode cX1_init 33 = .ok (.iconst 1, 1) := dk_4 (dk_at dksX1_init_1 11 rfl rfl)
theorem dX1_init_34 : decode cX1_init 34 = .ok (.invokespecial 11, 3) := dk_183 0 11 (dk_at dksX1_init_1 12 rfl rfl)
theorem dX1_init_37 : decode cX1_init 37 = .ok (.putfield 23, 3) := dk_181 0 23 (dk_at dksX1_init_1 15 rfl rfl)
theorem dX1_init_40 : decode cX1_init 40 = .ok (.aload_n 0, 1) := dk_42 (dk_at dksX1_init_1 18 rfl rfl)
theorem dX1_init_41 : decode cX1_init 41 = .ok (.iconst 2, 1) := dk_5 (dk_at dksX1_init_1 19 rfl rfl)
theorem dX1_init_42 : decode cX1_init 42 = .ok (.putfield 26, 3) := dk_181 0 26 (dk_at dksX1_init_1 20 rfl rfl)
theorem dX1_init_45 : decode cX1_init 45 = .ok (.return_, 1) := dk_177 (dk_at dksX1_init_1 23 rfl rfl)
abbrev cX1_inputs : ByteArray := prog_24_method_2_code
def yX1_inputs : MethodName := ⟨RX1, "inputs", "()I"⟩
def dkwX1_inputs_0 : List UInt8 := [4, 42, 180, 0, 26, 120, 172]
abbrev dktX1_inputs_0 : List UInt8 := dkwX1_inputs_0 ++ []
theorem dksX1_inputs_0 : cX1_inputs.data.toList.drop 0 = dktX1_inputs_0 := by decide +kernel
theorem dX1_inputs_0 : decode cX1_inputs 0 = .ok (.iconst 1, 1) := dk_4 (dk_at dksX1_inputs_0 0 rfl rfl)
theorem dX1_inputs_1 : decode cX1_inputs 1 = .ok (.aload_n 0, 1) := dk_42 (dk_at dksX1_inputs_0 1 rfl rfl)
theorem dX1_inputs_2 : decode cX1_inputs 2 = .ok (.getfield 26, 3) := dk_180 0 26 (dk_at dksX1_inputs_0 2 rfl rfl)
theorem dX1_inputs_5 : decode cX1_inputs 5 = .ok (.ishl, 1) := dk_120 (dk_at dksX1_inputs_0 5 rfl rfl)
theorem dX1_inputs_6 : decode cX1_inputs 6 = .ok (.ireturn, 1) := dk_172 (dk_at dksX1_inputs_0 6 rfl rfl)
abbrev cX1_asked : ByteArray := prog_24_method_3_code
def yX1_asked : MethodName := ⟨RX1, "asked", "(I)I"⟩
def dkwX1_asked_0 : List UInt8 := [42, 180, 0, 30, 199, 0, 7, 3, 167, 0, 13, 42, 180, 0, 30, 27, 185, 0, 34, 2, 0, 172]
abbrev dktX1_asked_0 : List UInt8 := dkwX1_asked_0 ++ []
theorem dksX1_asked_0 : cX1_asked.data.toList.drop 0 = dktX1_asked_0 := by decide +kernel
theorem dX1_asked_0 : decode cX1_asked 0 = .ok (.aload_n 0, 1) := dk_42 (dk_at dksX1_asked_0 0 rfl rfl)
theorem dX1_asked_1 : decode cX1_asked 1 = .ok (.getfield 30, 3) := dk_180 0 30 (dk_at dksX1_asked_0 1 rfl rfl)
theorem dX1_asked_4 : decode cX1_asked 4 = .ok (.ifnonnull 7, 3) := dk_199 0 7 (dk_at dksX1_asked_0 4 rfl rfl)
theorem dX1_asked_7 : decode cX1_asked 7 = .ok (.iconst 0, 1) := dk_3 (dk_at dksX1_asked_0 7 rfl rfl)
theorem dX1_asked_8 : decode cX1_asked 8 = .ok (.goto 13, 3) := dk_167 0 13 (dk_at dksX1_asked_0 8 rfl rfl)
theorem dX1_asked_11 : decode cX1_asked 11 = .ok (.aload_n 0, 1) := dk_42 (dk_at dksX1_asked_0 11 rfl rfl)
theorem dX1_asked_12 : decode cX1_asked 12 = .ok (.getfield 30, 3) := dk_180 0 30 (dk_at dksX1_asked_0 12 rfl rfl)
theorem dX1_asked_15 : decode cX1_asked 15 = .ok (.iload_n 1, 1) := dk_27 (dk_at dksX1_asked_0 15 rfl rfl)
theorem dX1_asked_16 : decode cX1_asked 16 = .ok (.invokeinterface 34 2, 5) := by decide +kernel
theorem dX1_asked_21 : decode cX1_asked 21 = .ok (.ireturn, 1) := dk_172 (dk_at dksX1_asked_0 21 rfl rfl)
abbrev cX1_mark : ByteArray := prog_24_method_4_code
def yX1_mark : MethodName := ⟨RX1, "mark", "(Ljava/lang/String;)I"⟩
def dkwX1_mark_2 : List UInt8 := [153, 0, 5, 29, 61, 132, 3, 1, 167, 255, 205, 28, 172]
abbrev dktX1_mark_2 : List UInt8 := dkwX1_mark_2 ++ []
def dkwX1_mark_1 : List UInt8 := [193, 0, 48, 153, 0, 26, 42, 180, 0, 14, 29, 182, 0, 44, 192, 0, 48, 180, 0, 50, 43, 182, 0, 54]
abbrev dktX1_mark_1 : List UInt8 := dkwX1_mark_1 ++ dktX1_mark_2
def dkwX1_mark_0 : List UInt8 := [2, 61, 3, 62, 29, 42, 180, 0, 14, 182, 0, 40, 162, 0, 46, 42, 180, 0, 14, 29, 182, 0, 44]
abbrev dktX1_mark_0 : List UInt8 := dkwX1_mark_0 ++ dktX1_mark_1
theorem dksX1_mark_0 : cX1_mark.data.toList.drop 0 = dktX1_mark_0 := by decide +kernel
theorem dksX1_mark_1 : cX1_mark.data.toList.drop 23 = dktX1_mark_1 := dk_seg dksX1_mark_0 23 rfl rfl
theorem dksX1_mark_2 : cX1_mark.data.toList.drop 47 = dktX1_mark_2 := dk_seg dksX1_mark_1 24 rfl rfl
theorem dX1_mark_0 : decode cX1_mark 0 = .ok (.iconst (-1), 1) := dk_2 (dk_at dksX1_mark_0 0 rfl rfl)
theorem dX1_mark_1 : decode cX1_mark 1 = .ok (.istore_n 2, 1) := dk_61 (dk_at dksX1_mark_0 1 rfl rfl)
theorem dX1_mark_2 : decode cX1_mark 2 = .ok (.iconst 0, 1) := dk_3 (dk_at dksX1_mark_0 2 rfl rfl)
theorem dX1_mark_3 : decode cX1_mark 3 = .ok (.istore_n 3, 1) := dk_62 (dk_at dksX1_mark_0 3 rfl rfl)
theorem dX1_mark_4 : decode cX1_mark 4 = .ok (.iload_n 3, 1) := dk_29 (dk_at dksX1_mark_0 4 rfl rfl)
theorem dX1_mark_5 : decode cX1_mark 5 = .ok (.aload_n 0, 1) := dk_42 (dk_at dksX1_mark_0 5 rfl rfl)
theorem dX1_mark_6 : decode cX1_mark 6 = .ok (.getfield 14, 3) := dk_180 0 14 (dk_at dksX1_mark_0 6 rfl rfl)
theorem dX1_mark_9 : decode cX1_mark 9 = .ok (.invokevirtual 40, 3) := dk_182 0 40 (dk_at dksX1_mark_0 9 rfl rfl)
theorem dX1_mark_12 : decode cX1_mark 12 = .ok (.if_icmp .ge 46, 3) := dk_162 0 46 (dk_at dksX1_mark_0 12 rfl rfl)
theorem dX1_mark_15 : decode cX1_mark 15 = .ok (.aload_n 0, 1) := dk_42 (dk_at dksX1_mark_0 15 rfl rfl)
theorem dX1_mark_16 : decode cX1_mark 16 = .ok (.getfield 14, 3) := dk_180 0 14 (dk_at dksX1_mark_0 16 rfl rfl)
theorem dX1_mark_19 : decode cX1_mark 19 = .ok (.iload_n 3, 1) := dk_29 (dk_at dksX1_mark_0 19 rfl rfl)
theorem dX1_mark_20 : decode cX1_mark 20 = .ok (.invokevirtual 44, 3) := dk_182 0 44 (dk_at dksX1_mark_0 20 rfl rfl)
theorem dX1_mark_23 : decode cX1_mark 23 = .ok (.instanceof 48, 3) := dk_193 0 48 (dk_at dksX1_mark_1 0 rfl rfl)
theorem dX1_mark_26 : decode cX1_mark 26 = .ok (.ifCond .eq 26, 3) := dk_153 0 26 (dk_at dksX1_mark_1 3 rfl rfl)
theorem dX1_mark_29 : decode cX1_mark 29 = .ok (.aload_n 0, 1) := dk_42 (dk_at dksX1_mark_1 6 rfl rfl)
theorem dX1_mark_30 : decode cX1_mark 30 = .ok (.getfield 14, 3) := dk_180 0 14 (dk_at dksX1_mark_1 7 rfl rfl)
theorem dX1_mark_33 : decode cX1_mark 33 = .ok (.iload_n 3, 1) := dk_29 (dk_at dksX1_mark_1 10 rfl rfl)
theorem dX1_mark_34 : decode cX1_mark 34 = .ok (.invokevirtual 44, 3) := dk_182 0 44 (dk_at dksX1_mark_1 11 rfl rfl)
theorem dX1_mark_37 : decode cX1_mark 37 = .ok (.checkcast 48, 3) := dk_192 0 48 (dk_at dksX1_mark_1 14 rfl rfl)
theorem dX1_mark_40 : decode cX1_mark 40 = .ok (.getfield 50, 3) := dk_180 0 50 (dk_at dksX1_mark_1 17 rfl rfl)
theorem dX1_mark_43 : decode cX1_mark 43 = .ok (.aload_n 1, 1) := dk_43 (dk_at dksX1_mark_1 20 rfl rfl)
theorem dX1_mark_44 : decode cX1_mark 44 = .ok (.invokevirtual 54, 3) := dk_182 0 54 (dk_at dksX1_mark_1 21 rfl rfl)
theorem dX1_mark_47 : decode cX1_mark 47 = .ok (.ifCond .eq 5, 3) := dk_153 0 5 (dk_at dksX1_mark_2 0 rfl rfl)
theorem dX1_mark_50 : decode cX1_mark 50 = .ok (.iload_n 3, 1) := dk_29 (dk_at dksX1_mark_2 3 rfl rfl)
theorem dX1_mark_51 : decode cX1_mark 51 = .ok (.istore_n 2, 1) := dk_61 (dk_at dksX1_mark_2 4 rfl rfl)
theorem dX1_mark_52 : decode cX1_mark 52 = .ok (.iinc 3 1, 3) := dk_132 3 1 (dk_at dksX1_mark_2 5 rfl rfl)
theorem dX1_mark_55 : decode cX1_mark 55 = .ok (.goto (-51), 3) := dk_167 255 205 (dk_at dksX1_mark_2 8 rfl rfl)
theorem dX1_mark_58 : decode cX1_mark 58 = .ok (.iload_n 2, 1) := dk_28 (dk_at dksX1_mark_2 11 rfl rfl)
theorem dX1_mark_59 : decode cX1_mark 59 = .ok (.ireturn, 1) := dk_172 (dk_at dksX1_mark_2 12 rfl rfl)
abbrev cX1_shuffle : ByteArray := prog_24_method_5_code
def yX1_shuffle : MethodName := ⟨RX1, "shuffle", "(I)I"⟩
def dkwX1_shuffle_2 : List UInt8 := [167, 255, 215, 2, 172]
abbrev dktX1_shuffle_2 : List UInt8 := dkwX1_shuffle_2 ++ []
def dkwX1_shuffle_1 : List UInt8 := [193, 0, 60, 154, 0, 6, 167, 0, 13, 28, 27, 160, 0, 5, 29, 172, 132, 2, 1, 132, 3, 1]
abbrev dktX1_shuffle_1 : List UInt8 := dkwX1_shuffle_1 ++ dktX1_shuffle_2
def dkwX1_shuffle_0 : List UInt8 := [3, 61, 3, 62, 29, 42, 180, 0, 14, 182, 0, 40, 162, 0, 36, 42, 180, 0, 14, 29, 182, 0, 44]
abbrev dktX1_shuffle_0 : List UInt8 := dkwX1_shuffle_0 ++ dktX1_shuffle_1
theorem dksX1_shuffle_0 : cX1_shuffle.data.toList.drop 0 = dktX1_shuffle_0 := by decide +kernel
theorem dksX1_shuffle_1 : cX1_shuffle.data.toList.drop 23 = dktX1_shuffle_1 := dk_seg dksX1_shuffle_0 23 rfl rfl
theorem dksX1_shuffle_2 : cX1_shuffle.data.toList.drop 45 = dktX1_shuffle_2 := dk_seg dksX1_shuffle_1 22 rfl rfl
theorem dX1_shuffle_0 : decode cX1_shuffle 0 = .ok (.iconst 0, 1) := dk_3 (dk_at dksX1_shuffle_0 0 rfl rfl)
theorem dX1_shuffle_1 : decode cX1_shuffle 1 = .ok (.istore_n 2, 1) := dk_61 (dk_at dksX1_shuffle_0 1 rfl rfl)
theorem dX1_shuffle_2 : decode cX1_shuffle 2 = .ok (.iconst 0, 1) := dk_3 (dk_at dksX1_shuffle_0 2 rfl rfl)
theorem dX1_shuffle_3 : decode cX1_shuffle 3 = .ok (.istore_n 3, 1) := dk_62 (dk_at dksX1_shuffle_0 3 rfl rfl)
theorem dX1_shuffle_4 : decode cX1_shuffle 4 = .ok (.iload_n 3, 1) := dk_29 (dk_at dksX1_shuffle_0 4 rfl rfl)
theorem dX1_shuffle_5 : decode cX1_shuffle 5 = .ok (.aload_n 0, 1) := dk_42 (dk_at dksX1_shuffle_0 5 rfl rfl)
theorem dX1_shuffle_6 : decode cX1_shuffle 6 = .ok (.getfield 14, 3) := dk_180 0 14 (dk_at dksX1_shuffle_0 6 rfl rfl)
theorem dX1_shuffle_9 : decode cX1_shuffle 9 = .ok (.invokevirtual 40, 3) := dk_182 0 40 (dk_at dksX1_shuffle_0 9 rfl rfl)
theorem dX1_shuffle_12 : decode cX1_shuffle 12 = .ok (.if_icmp .ge 36, 3) := dk_162 0 36 (dk_at dksX1_shuffle_0 12 rfl rfl)
theorem dX1_shuffle_15 : decode cX1_shuffle 15 = .ok (.aload_n 0, 1) := dk_42 (dk_at dksX1_shuffle_0 15 rfl rfl)
theorem dX1_shuffle_16 : decode cX1_shuffle 16 = .ok (.getfield 14, 3) := dk_180 0 14 (dk_at dksX1_shuffle_0 16 rfl rfl)
theorem dX1_shuffle_19 : decode cX1_shuffle 19 = .ok (.iload_n 3, 1) := dk_29 (dk_at dksX1_shuffle_0 19 rfl rfl)
theorem dX1_shuffle_20 : decode cX1_shuffle 20 = .ok (.invokevirtual 44, 3) := dk_182 0 44 (dk_at dksX1_shuffle_0 20 rfl rfl)
theorem dX1_shuffle_23 : decode cX1_shuffle 23 = .ok (.instanceof 60, 3) := dk_193 0 60 (dk_at dksX1_shuffle_1 0 rfl rfl)
theorem dX1_shuffle_26 : decode cX1_shuffle 26 = .ok (.ifCond .ne 6, 3) := dk_154 0 6 (dk_at dksX1_shuffle_1 3 rfl rfl)
theorem dX1_shuffle_29 : decode cX1_shuffle 29 = .ok (.goto 13, 3) := dk_167 0 13 (dk_at dksX1_shuffle_1 6 rfl rfl)
theorem dX1_shuffle_32 : decode cX1_shuffle 32 = .ok (.iload_n 2, 1) := dk_28 (dk_at dksX1_shuffle_1 9 rfl rfl)
theorem dX1_shuffle_33 : decode cX1_shuffle 33 = .ok (.iload_n 1, 1) := dk_27 (dk_at dksX1_shuffle_1 10 rfl rfl)
theorem dX1_shuffle_34 : decode cX1_shuffle 34 = .ok (.if_icmp .ne 5, 3) := dk_160 0 5 (dk_at dksX1_shuffle_1 11 rfl rfl)
theorem dX1_shuffle_37 : decode cX1_shuffle 37 = .ok (.iload_n 3, 1) := dk_29 (dk_at dksX1_shuffle_1 14 rfl rfl)
theorem dX1_shuffle_38 : decode cX1_shuffle 38 = .ok (.ireturn, 1) := dk_172 (dk_at dksX1_shuffle_1 15 rfl rfl)
theorem dX1_shuffle_39 : decode cX1_shuffle 39 = .ok (.iinc 2 1, 3) := dk_132 2 1 (dk_at dksX1_shuffle_1 16 rfl rfl)
theorem dX1_shuffle_42 : decode cX1_shuffle 42 = .ok (.iinc 3 1, 3) := dk_132 3 1 (dk_at dksX1_shuffle_1 19 rfl rfl)
theorem dX1_shuffle_45 : decode cX1_shuffle 45 = .ok (.goto (-41), 3) := dk_167 255 215 (dk_at dksX1_shuffle_2 0 rfl rfl)
theorem dX1_shuffle_48 : decode cX1_shuffle 48 = .ok (.iconst (-1), 1) := dk_2 (dk_at dksX1_shuffle_2 3 rfl rfl)
theorem dX1_shuffle_49 : decode cX1_shuffle 49 = .ok (.ireturn, 1) := dk_172 (dk_at dksX1_shuffle_2 4 rfl rfl)
theorem q126 : (Jvm.Cond.initialized "BlindCards$Recipe") ∈ lw_all := lw_g (lw_at lw_m1 2 rfl) rfl
theorem q182 : (Jvm.Cond.instantiable "BlindCards$Recipe" (10 : Nat)) ∈ lw_all := lw_g (lw_at lw_m1 58 rfl) rfl
theorem q184 : (Jvm.Cond.instanceMethod ({ cls := "BlindCards$Recipe", name := "<init>", desc := "()V" } : Jvm.MethodName)) ∈ lw_all := lw_g (lw_at lw_m1 60 rfl) rfl
theorem q185 : (Jvm.Cond.code ({ cls := "BlindCards$Recipe", name := "<init>", desc := "()V" } : Jvm.MethodName) prog_24_method_1_code (1 : Nat) (Option.none : Option Jvm.ClassFile.FieldType)) ∈ lw_all := lw_g (lw_at lw_m1 61 rfl) rfl
theorem q186 : (Jvm.Cond.methodLink "BlindCards$Recipe" (3 : Nat) ({ cls := "java/lang/Object", name := "<init>", desc := "()V" } : Jvm.MethodName)) ∈ lw_all := lw_g (lw_at lw_m1 62 rfl) rfl
theorem q187 : (Jvm.Cond.classLink "BlindCards$Recipe" (9 : Nat) "java/util/ArrayList") ∈ lw_all := lw_g (lw_at lw_m1 63 rfl) rfl
theorem q189 : (Jvm.Cond.methodLink "BlindCards$Recipe" (11 : Nat) ({ cls := "java/util/ArrayList", name := "<init>", desc := "(I)V" } : Jvm.MethodName)) ∈ lw_all := lw_g (lw_at lw_m1 65 rfl) rfl
theorem q218 : (Jvm.Cond.fieldLink "BlindCards$Recipe" (14 : Nat) "BlindCards$Recipe" "steps" "Ljava/util/ArrayList;") ∈ lw_all := lw_g (lw_at lw_m1 94 rfl) rfl
theorem q222 : (Jvm.Cond.fieldLink "BlindCards$Recipe" (20 : Nat) "BlindCards$Recipe" "mays" "Ljava/util/ArrayList;") ∈ lw_all := lw_g (lw_at lw_m1 98 rfl) rfl
theorem q225 : (Jvm.Cond.fieldLink "BlindCards$Recipe" (23 : Nat) "BlindCards$Recipe" "mayOpens" "Ljava/util/ArrayList;") ∈ lw_all := lw_g (lw_at lw_m1 101 rfl) rfl
theorem q228 : (Jvm.Cond.fieldLink "BlindCards$Recipe" (26 : Nat) "BlindCards$Recipe" "people" "I") ∈ lw_all := lw_g (lw_at lw_m1 104 rfl) rfl
theorem q237 : (Jvm.Cond.fieldLink "BlindCards$Recipe" (30 : Nat) "BlindCards$Recipe" "asks" "LBlindCards$Node;") ∈ lw_all := lw_g (lw_at lw_m1 113 rfl) rfl
theorem q239 : (Jvm.Cond.laysFinal "BlindCards$Recipe" "BlindCards$Recipe" "steps" "Ljava/util/ArrayList;") ∈ lw_all := lw_g (lw_at lw_m1 115 rfl) rfl
theorem q240 : (Jvm.Cond.soleField "BlindCards$Recipe" "steps") ∈ lw_all := lw_g (lw_at lw_m1 116 rfl) rfl
theorem q241 : (Jvm.Cond.laysFinal "BlindCards$Recipe" "BlindCards$Recipe" "mays" "Ljava/util/ArrayList;") ∈ lw_all := lw_g (lw_at lw_m1 117 rfl) rfl
theorem q242 : (Jvm.Cond.soleField "BlindCards$Recipe" "mays") ∈ lw_all := lw_g (lw_at lw_m1 118 rfl) rfl
theorem q243 : (Jvm.Cond.laysFinal "BlindCards$Recipe" "BlindCards$Recipe" "mayOpens" "Ljava/util/ArrayList;") ∈ lw_all := lw_g (lw_at lw_m1 119 rfl) rfl
theorem q244 : (Jvm.Cond.soleField "BlindCards$Recipe" "mayOpens") ∈ lw_all := lw_g (lw_at lw_m1 120 rfl) rfl
theorem q245 : (Jvm.Cond.lays "BlindCards$Recipe" "BlindCards$Recipe" "people" "I") ∈ lw_all := lw_g (lw_at lw_m1 121 rfl) rfl
theorem q246 : (Jvm.Cond.soleField "BlindCards$Recipe" "people") ∈ lw_all := lw_g (lw_at lw_m1 122 rfl) rfl
theorem q247 : (Jvm.Cond.lays "BlindCards$Recipe" "BlindCards$Recipe" "units" "I") ∈ lw_all := lw_g (lw_at lw_m1 123 rfl) rfl
theorem q248 : (Jvm.Cond.soleField "BlindCards$Recipe" "units") ∈ lw_all := lw_g (lw_at lw_m1 124 rfl) rfl
theorem q249 : (Jvm.Cond.lays "BlindCards$Recipe" "BlindCards$Recipe" "opens" "I") ∈ lw_all := lw_g (lw_at lw_m1 125 rfl) rfl
theorem q250 : (Jvm.Cond.soleField "BlindCards$Recipe" "opens") ∈ lw_all := lw_g (lw_at lw_m1 126 rfl) rfl
theorem q251 : (Jvm.Cond.lays "BlindCards$Recipe" "BlindCards$Recipe" "shuffles" "I") ∈ lw_all := lw_g (lw_at lw_m1 127 rfl) rfl
theorem q252 : (Jvm.Cond.soleField "BlindCards$Recipe" "shuffles") ∈ lw_all := lw_g (lw_at lw_m1 128 rfl) rfl
theorem q253 : (Jvm.Cond.lays "BlindCards$Recipe" "BlindCards$Recipe" "hasPeople" "Z") ∈ lw_all := lw_g (lw_at lw_m1 129 rfl) rfl
theorem q254 : (Jvm.Cond.soleField "BlindCards$Recipe" "hasPeople") ∈ lw_all := lw_g (lw_at lw_m1 130 rfl) rfl
theorem q255 : (Jvm.Cond.lays "BlindCards$Recipe" "BlindCards$Recipe" "hasLay" "Z") ∈ lw_all := lw_g (lw_at lw_m1 131 rfl) rfl
theorem q256 : (Jvm.Cond.soleField "BlindCards$Recipe" "hasLay") ∈ lw_all := lw_g (lw_at lw_m1 132 rfl) rfl
theorem q257 : (Jvm.Cond.lays "BlindCards$Recipe" "BlindCards$Recipe" "asks" "LBlindCards$Node;") ∈ lw_all := lw_g (lw_at lw_m1 133 rfl) rfl
theorem q258 : (Jvm.Cond.soleField "BlindCards$Recipe" "asks") ∈ lw_all := lw_g (lw_at lw_m1 134 rfl) rfl
theorem q259 : (Jvm.Cond.superclass "BlindCards$Recipe" "java/lang/Object") ∈ lw_all := lw_g (lw_at lw_m1 135 rfl) rfl
theorem q446 : (Jvm.Cond.selects "BlindCards$Recipe" ({ cls := "java/lang/Object", name := "getClass", desc := "()Ljava/lang/Class;" } : Jvm.MethodName) ({ cls := "java/lang/Object", name := "getClass", desc := "()Ljava/lang/Class;" } : Jvm.MethodName)) ∈ lw_all := lw_g (lw_at lw_m2 82 rfl) rfl
theorem q480 : (Jvm.Cond.instanceMethod ({ cls := "BlindCards$Recipe", name := "inputs", desc := "()I" } : Jvm.MethodName)) ∈ lw_all := lw_g (lw_at lw_m2 116 rfl) rfl
theorem q481 : (Jvm.Cond.selects "BlindCards$Recipe" ({ cls := "BlindCards$Recipe", name := "inputs", desc := "()I" } : Jvm.MethodName) ({ cls := "BlindCards$Recipe", name := "inputs", desc := "()I" } : Jvm.MethodName)) ∈ lw_all := lw_g (lw_at lw_m2 117 rfl) rfl
theorem q482 : (Jvm.Cond.code ({ cls := "BlindCards$Recipe", name := "inputs", desc := "()I" } : Jvm.MethodName) prog_24_method_2_code (1 : Nat) (Option.some Jvm.ClassFile.FieldType.int)) ∈ lw_all := lw_g (lw_at lw_m2 118 rfl) rfl
theorem q655 : (Jvm.Cond.instanceMethod ({ cls := "BlindCards$Recipe", name := "asked", desc := "(I)I" } : Jvm.MethodName)) ∈ lw_all := lw_g (lw_at lw_m3 51 rfl) rfl
theorem q656 : (Jvm.Cond.selects "BlindCards$Recipe" ({ cls := "BlindCards$Recipe", name := "asked", desc := "(I)I" } : Jvm.MethodName) ({ cls := "BlindCards$Recipe", name := "asked", desc := "(I)I" } : Jvm.MethodName)) ∈ lw_all := lw_g (lw_at lw_m3 52 rfl) rfl
theorem q657 : (Jvm.Cond.code ({ cls := "BlindCards$Recipe", name := "asked", desc := "(I)I" } : Jvm.MethodName) prog_24_method_3_code (2 : Nat) (Option.some Jvm.ClassFile.FieldType.int)) ∈ lw_all := lw_g (lw_at lw_m3 53 rfl) rfl
theorem q658 : (Jvm.Cond.interfaceEntry "BlindCards$Recipe" (34 : Nat)) ∈ lw_tbl := lw_at lw_m3 54 rfl
theorem q659 : (Jvm.Cond.methodLink "BlindCards$Recipe" (34 : Nat) ({ cls := "BlindCards$Node", name := "of", desc := "(I)I" } : Jvm.MethodName)) ∈ lw_all := lw_g (lw_at lw_m3 55 rfl) rfl
theorem q1492 : (Jvm.Cond.instanceMethod ({ cls := "BlindCards$Recipe", name := "mark", desc := "(Ljava/lang/String;)I" } : Jvm.MethodName)) ∈ lw_all := lw_g (lw_at lw_m6 168 rfl) rfl
theorem q1493 : (Jvm.Cond.selects "BlindCards$Recipe" ({ cls := "BlindCards$Recipe", name := "mark", desc := "(Ljava/lang/String;)I" } : Jvm.MethodName) ({ cls := "BlindCards$Recipe", name := "mark", desc := "(Ljava/lang/String;)I" } : Jvm.MethodName)) ∈ lw_all := lw_g (lw_at lw_m6 169 rfl) rfl
theorem q1494 : (Jvm.Cond.code ({ cls := "BlindCards$Recipe", name := "mark", desc := "(Ljava/lang/String;)I" } : Jvm.MethodName) prog_24_method_4_code (4 : Nat) (Option.some Jvm.ClassFile.FieldType.int)) ∈ lw_all := lw_g (lw_at lw_m6 170 rfl) rfl
theorem q1495 : (Jvm.Cond.methodLink "BlindCards$Recipe" (40 : Nat) ({ cls := "java/util/ArrayList", name := "size", desc := "()I" } : Jvm.MethodName)) ∈ lw_all := lw_g (lw_at lw_m6 171 rfl) rfl
theorem q1496 : (Jvm.Cond.methodLink "BlindCards$Recipe" (44 : Nat) ({ cls := "java/util/ArrayList", name := "get", desc := "(I)Ljava/lang/Object;" } : Jvm.MethodName)) ∈ lw_all := lw_g (lw_at lw_m6 172 rfl) rfl
theorem q1497 : (Jvm.Cond.classLink "BlindCards$Recipe" (48 : Nat) "BlindCards$Mark") ∈ lw_all := lw_g (lw_at lw_m6 173 rfl) rfl
theorem q1498 : (Jvm.Cond.methodLink "BlindCards$Recipe" (54 : Nat) ({ cls := "java/lang/String", name := "equals", desc := "(Ljava/lang/Object;)Z" } : Jvm.MethodName)) ∈ lw_all := lw_g (lw_at lw_m6 174 rfl) rfl
theorem q1541 : (Jvm.Cond.fieldLink "BlindCards$Recipe" (50 : Nat) "BlindCards$Mark" "name" "Ljava/lang/String;") ∈ lw_all := lw_g (lw_at lw_m6 217 rfl) rfl
theorem q1653 : (Jvm.Cond.instanceMethod ({ cls := "BlindCards$Recipe", name := "shuffle", desc := "(I)I" } : Jvm.MethodName)) ∈ lw_all := lw_g (lw_at lw_m7 89 rfl) rfl
theorem q1654 : (Jvm.Cond.selects "BlindCards$Recipe" ({ cls := "BlindCards$Recipe", name := "shuffle", desc := "(I)I" } : Jvm.MethodName) ({ cls := "BlindCards$Recipe", name := "shuffle", desc := "(I)I" } : Jvm.MethodName)) ∈ lw_all := lw_g (lw_at lw_m7 90 rfl) rfl
theorem q1655 : (Jvm.Cond.code ({ cls := "BlindCards$Recipe", name := "shuffle", desc := "(I)I" } : Jvm.MethodName) prog_24_method_5_code (4 : Nat) (Option.some Jvm.ClassFile.FieldType.int)) ∈ lw_all := lw_g (lw_at lw_m7 91 rfl) rfl
theorem q1656 : (Jvm.Cond.classLink "BlindCards$Recipe" (60 : Nat) "BlindCards$Cut") ∈ lw_all := lw_g (lw_at lw_m7 92 rfl) rfl
theorem q2584 : (Jvm.Cond.castable "BlindCards$Recipe" "java/lang/Object") ∈ lw_tbl := lw_at lw_m11 60 rfl
theorem in_X1 : ∀ w ∈ wsX10, w ∈ lw_all := lw_in wsX10 [239, 241, 243, 245, 247, 249, 251, 253, 255, 257] (by decide +kernel) (by decide +kernel)

/-! BlindCards$Wrong -/
set_option maxRecDepth 100000
def RX12 : String := "BlindCards$Wrong"
def TX12 : u_T := fun k => match k with
  | 0 => ("java/lang/Throwable", "cause", "Ljava/lang/Throwable;", false)
  | 1 => ("java/lang/Throwable", "stackTrace", "[Ljava/lang/StackTraceElement;", false)
  | 2 => ("java/lang/Throwable", "suppressedExceptions", "Ljava/util/List;", false)
  | 3 => ("java/lang/Throwable", "detailMessage", "Ljava/lang/String;", false)
  | 4 => ("java/lang/Throwable", "backtrace", "Ljava/lang/Object;", false)
  | 5 => ("java/lang/Throwable", "depth", "I", false)
  | 6 => ("BlindCards$Wrong", "kind", "I", true)
  | _ => ("BlindCards$Wrong", "place", "I", true)
def tyX12 : Nat → FieldType := fun k => match k with
  | 0 => .object "java/lang/Throwable"
  | 1 => .array (.object "java/lang/StackTraceElement")
  | 2 => .object "java/util/List"
  | 3 => .object "java/lang/String"
  | 4 => .object "java/lang/Object"
  | 5 => .int
  | 6 => .int
  | _ => .int
abbrev wsX120 : List Cond := u_ws RX12 TX12 8
theorem nmX12 : ∀ a, a < 8 → ∀ b, b < 8 → a ≠ b → (TX12 a).2.1 ≠ (TX12 b).2.1 := by decide +kernel
theorem tyX12_ok : ∀ k, k < 8 → parseFieldDescriptor (TX12 k).2.2.1 = some (tyX12 k) := by decide +kernel
abbrev cX12_init : ByteArray := prog_30_method_1_code
def yX12_init : MethodName := ⟨RX12, "<init>", "(II)V"⟩
def dkwX12_init_0 : List UInt8 := [42, 1, 1, 3, 3, 183, 0, 1, 42, 27, 181, 0, 7, 42, 28, 181, 0, 13, 177]
abbrev dktX12_init_0 : List UInt8 := dkwX12_init_0 ++ []
theorem dksX12_init_0 : cX12_init.data.toList.drop 0 = dktX12_init_0 := by decide +kernel
theorem dX12_init_0 : decode cX12_init 0 = .ok (.aload_n 0, 1) := dk_42 (dk_at dksX12_init_0 0 rfl rfl)
theorem dX12_init_1 : decode cX12_init 1 = .ok (.aconst_null, 1) := dk_1 (dk_at dksX12_init_0 1 rfl rfl)
theorem dX12_init_2 : decode cX12_init 2 = .ok (.aconst_null, 1) := dk_1 (dk_at dksX12_init_0 2 rfl rfl)
theorem dX12_init_3 : decode cX12_init 3 = .ok (.iconst 0, 1) := dk_3 (dk_at dksX12_init_0 3 rfl rfl)
theorem dX12_init_4 : decode cX12_init 4 = .ok (.iconst 0, 1) := dk_3 (dk_at dksX12_init_0 4 rfl rfl)
theorem dX12_init_5 : decode cX12_init 5 = .ok (.invokespecial 1, 3) := dk_183 0 1 (dk_at dksX12_init_0 5 rfl rfl)
theorem dX12_init_8 : decode cX12_init 8 = .ok (.aload_n 0, 1) := dk_42 (dk_at dksX12_init_0 8 rfl rfl)
theorem dX12_init_9 : decode cX12_init 9 = .ok (.iload_n 1, 1) := dk_27 (dk_at dksX12_init_0 9 rfl rfl)
theorem dX12_init_10 : decode cX12_init 10 = .ok (.putfield 7, 3) := dk_181 0 7 (dk_at dksX12_init_0 10 rfl rfl)
theorem dX12_init_13 : decode cX12_init 13 = .ok (.aload_n 0, 1) := dk_42 (dk_at dksX12_init_0 13 rfl rfl)
theorem dX12_init_14 : decode cX12_init 14 = .ok (.iload_n 2, 1) := dk_28 (dk_at dksX12_init_0 14 rfl rfl)
theorem dX12_init_15 : decode cX12_init 15 = .ok (.putfield 13, 3) := dk_181 0 13 (dk_at dksX12_init_0 15 rfl rfl)
theorem dX12_init_18 : decode cX12_init 18 = .ok (.return_, 1) := dk_177 (dk_at dksX12_init_0 18 rfl rfl)
theorem q154 : (Jvm.Cond.initialized "BlindCards$Wrong") ∈ lw_all := lw_g (lw_at lw_m1 30 rfl) rfl
theorem q450 : (Jvm.Cond.selects "BlindCards$Wrong" ({ cls := "java/lang/Object", name := "getClass", desc := "()Ljava/lang/Class;" } : Jvm.MethodName) ({ cls := "java/lang/Object", name := "getClass", desc := "()Ljava/lang/Class;" } : Jvm.MethodName)) ∈ lw_all := lw_g (lw_at lw_m2 86 rfl) rfl
theorem q1110 : (Jvm.Cond.instantiable "BlindCards$Wrong" (8 : Nat)) ∈ lw_all := lw_g (lw_at lw_m5 26 rfl) rfl
theorem q1111 : (Jvm.Cond.castable "BlindCards$Wrong" "BlindCards$Wrong") ∈ lw_tbl := lw_at lw_m5 27 rfl
theorem q1116 : (Jvm.Cond.selects "BlindCards$Wrong" ({ cls := "java/lang/Throwable", name := "fillInStackTrace", desc := "(I)Ljava/lang/Throwable;" } : Jvm.MethodName) ({ cls := "java/lang/Throwable", name := "fillInStackTrace", desc := "(I)Ljava/lang/Throwable;" } : Jvm.MethodName)) ∈ lw_all := lw_g (lw_at lw_m5 32 rfl) rfl
theorem q1117 : (Jvm.Cond.selects "BlindCards$Wrong" ({ cls := "java/lang/Throwable", name := "fillInStackTrace", desc := "()Ljava/lang/Throwable;" } : Jvm.MethodName) ({ cls := "java/lang/Throwable", name := "fillInStackTrace", desc := "()Ljava/lang/Throwable;" } : Jvm.MethodName)) ∈ lw_all := lw_g (lw_at lw_m5 33 rfl) rfl
theorem q1118 : (Jvm.Cond.lays "BlindCards$Wrong" "java/lang/Throwable" "cause" "Ljava/lang/Throwable;") ∈ lw_all := lw_g (lw_at lw_m5 34 rfl) rfl
theorem q1120 : (Jvm.Cond.lays "BlindCards$Wrong" "java/lang/Throwable" "stackTrace" "[Ljava/lang/StackTraceElement;") ∈ lw_all := lw_g (lw_at lw_m5 36 rfl) rfl
theorem q1122 : (Jvm.Cond.lays "BlindCards$Wrong" "java/lang/Throwable" "suppressedExceptions" "Ljava/util/List;") ∈ lw_all := lw_g (lw_at lw_m5 38 rfl) rfl
theorem q1124 : (Jvm.Cond.lays "BlindCards$Wrong" "java/lang/Throwable" "detailMessage" "Ljava/lang/String;") ∈ lw_all := lw_g (lw_at lw_m5 40 rfl) rfl
theorem q1126 : (Jvm.Cond.lays "BlindCards$Wrong" "java/lang/Throwable" "backtrace" "Ljava/lang/Object;") ∈ lw_all := lw_g (lw_at lw_m5 42 rfl) rfl
theorem q1147 : (Jvm.Cond.instanceMethod ({ cls := "BlindCards$Wrong", name := "<init>", desc := "(II)V" } : Jvm.MethodName)) ∈ lw_all := lw_g (lw_at lw_m5 63 rfl) rfl
theorem q1148 : (Jvm.Cond.code ({ cls := "BlindCards$Wrong", name := "<init>", desc := "(II)V" } : Jvm.MethodName) prog_30_method_1_code (3 : Nat) (Option.none : Option Jvm.ClassFile.FieldType)) ∈ lw_all := lw_g (lw_at lw_m5 64 rfl) rfl
theorem q1149 : (Jvm.Cond.methodLink "BlindCards$Wrong" (1 : Nat) ({ cls := "java/lang/Exception", name := "<init>", desc := "(Ljava/lang/String;Ljava/lang/Throwable;ZZ)V" } : Jvm.MethodName)) ∈ lw_all := lw_g (lw_at lw_m5 65 rfl) rfl
theorem q1155 : (Jvm.Cond.fieldLink "BlindCards$Wrong" (7 : Nat) "BlindCards$Wrong" "kind" "I") ∈ lw_all := lw_g (lw_at lw_m5 71 rfl) rfl
theorem q1157 : (Jvm.Cond.fieldLink "BlindCards$Wrong" (13 : Nat) "BlindCards$Wrong" "place" "I") ∈ lw_all := lw_g (lw_at lw_m5 73 rfl) rfl
theorem q1164 : (Jvm.Cond.laysFinal "BlindCards$Wrong" "BlindCards$Wrong" "kind" "I") ∈ lw_all := lw_g (lw_at lw_m5 80 rfl) rfl
theorem q1165 : (Jvm.Cond.soleField "BlindCards$Wrong" "kind") ∈ lw_all := lw_g (lw_at lw_m5 81 rfl) rfl
theorem q1166 : (Jvm.Cond.laysFinal "BlindCards$Wrong" "BlindCards$Wrong" "place" "I") ∈ lw_all := lw_g (lw_at lw_m5 82 rfl) rfl
theorem q1167 : (Jvm.Cond.soleField "BlindCards$Wrong" "place") ∈ lw_all := lw_g (lw_at lw_m5 83 rfl) rfl
theorem q1172 : (Jvm.Cond.lays "BlindCards$Wrong" "java/lang/Throwable" "depth" "I") ∈ lw_all := lw_g (lw_at lw_m5 88 rfl) rfl
theorem q1175 : (Jvm.Cond.superclass "BlindCards$Wrong" "java/lang/Exception") ∈ lw_all := lw_g (lw_at lw_m5 91 rfl) rfl
theorem q2593 : (Jvm.Cond.castable "BlindCards$Wrong" "java/lang/Object") ∈ lw_tbl := lw_at lw_m11 69 rfl
theorem in_X12 : ∀ w ∈ wsX120, w ∈ lw_all := lw_in wsX120 [1118, 1120, 1122, 1124, 1126, 1172, 1164, 1166] (by decide +kernel) (by decide +kernel)

/-! BlindCards$Not -/
set_option maxRecDepth 100000
def RX13 : String := "BlindCards$Not"
def TX13 : u_T := fun k => match k with
  | _ => ("BlindCards$Not", "a", "LBlindCards$Node;", true)
def tyX13 : Nat → FieldType := fun k => match k with
  | _ => .object "BlindCards$Node"
abbrev wsX130 : List Cond := u_ws RX13 TX13 1
theorem nmX13 : ∀ a, a < 1 → ∀ b, b < 1 → a ≠ b → (TX13 a).2.1 ≠ (TX13 b).2.1 := by decide +kernel
theorem tyX13_ok : ∀ k, k < 1 → parseFieldDescriptor (TX13 k).2.2.1 = some (tyX13 k) := by decide +kernel
abbrev cX13_of : ByteArray := prog_20_method_2_code
def yX13_of : MethodName := ⟨RX13, "of", "(I)I"⟩
def dkwX13_of_0 : List UInt8 := [42, 180, 0, 7, 27, 185, 0, 13, 2, 0, 154, 0, 7, 4, 167, 0, 4, 3, 172]
abbrev dktX13_of_0 : List UInt8 := dkwX13_of_0 ++ []
theorem dksX13_of_0 : cX13_of.data.toList.drop 0 = dktX13_of_0 := by decide +kernel
theorem dX13_of_0 : decode cX13_of 0 = .ok (.aload_n 0, 1) := dk_42 (dk_at dksX13_of_0 0 rfl rfl)
theorem dX13_of_1 : decode cX13_of 1 = .ok (.getfield 7, 3) := dk_180 0 7 (dk_at dksX13_of_0 1 rfl rfl)
theorem dX13_of_4 : decode cX13_of 4 = .ok (.iload_n 1, 1) := dk_27 (dk_at dksX13_of_0 4 rfl rfl)
theorem dX13_of_5 : decode cX13_of 5 = .ok (.invokeinterface 13 2, 5) := by decide +kernel
theorem dX13_of_10 : decode cX13_of 10 = .ok (.ifCond .ne 7, 3) := dk_154 0 7 (dk_at dksX13_of_0 10 rfl rfl)
theorem dX13_of_13 : decode cX13_of 13 = .ok (.iconst 1, 1) := dk_4 (dk_at dksX13_of_0 13 rfl rfl)
theorem dX13_of_14 : decode cX13_of 14 = .ok (.goto 4, 3) := dk_167 0 4 (dk_at dksX13_of_0 14 rfl rfl)
theorem dX13_of_17 : decode cX13_of 17 = .ok (.iconst 0, 1) := dk_3 (dk_at dksX13_of_0 17 rfl rfl)
theorem dX13_of_18 : decode cX13_of 18 = .ok (.ireturn, 1) := dk_172 (dk_at dksX13_of_0 18 rfl rfl)
abbrev cX13_init : ByteArray := prog_20_method_1_code
def yX13_init : MethodName := ⟨RX13, "<init>", "(LBlindCards$Node;)V"⟩
def dkwX13_init_0 : List UInt8 := [42, 183, 0, 1, 42, 43, 181, 0, 7, 177]
abbrev dktX13_init_0 : List UInt8 := dkwX13_init_0 ++ []
theorem dksX13_init_0 : cX13_init.data.toList.drop 0 = dktX13_init_0 := by decide +kernel
theorem dX13_init_0 : decode cX13_init 0 = .ok (.aload_n 0, 1) := dk_42 (dk_at dksX13_init_0 0 rfl rfl)
theorem dX13_init_1 : decode cX13_init 1 = .ok (.invokespecial 1, 3) := dk_183 0 1 (dk_at dksX13_init_0 1 rfl rfl)
theorem dX13_init_4 : decode cX13_init 4 = .ok (.aload_n 0, 1) := dk_42 (dk_at dksX13_init_0 4 rfl rfl)
theorem dX13_init_5 : decode cX13_init 5 = .ok (.aload_n 1, 1) := dk_43 (dk_at dksX13_init_0 5 rfl rfl)
theorem dX13_init_6 : decode cX13_init 6 = .ok (.putfield 7, 3) := dk_181 0 7 (dk_at dksX13_init_0 6 rfl rfl)
theorem dX13_init_9 : decode cX13_init 9 = .ok (.return_, 1) := dk_177 (dk_at dksX13_init_0 9 rfl rfl)
theorem q155 : (Jvm.Cond.initialized "BlindCards$Not") ∈ lw_all := lw_g (lw_at lw_m1 31 rfl) rfl
theorem q442 : (Jvm.Cond.selects "BlindCards$Not" ({ cls := "java/lang/Object", name := "getClass", desc := "()Ljava/lang/Class;" } : Jvm.MethodName) ({ cls := "java/lang/Object", name := "getClass", desc := "()Ljava/lang/Class;" } : Jvm.MethodName)) ∈ lw_all := lw_g (lw_at lw_m2 78 rfl) rfl
theorem q692 : (Jvm.Cond.castable "BlindCards$Not" "BlindCards$Node") ∈ lw_tbl := lw_at lw_m3 88 rfl
theorem q693 : (Jvm.Cond.selects "BlindCards$Not" ({ cls := "BlindCards$Node", name := "of", desc := "(I)I" } : Jvm.MethodName) ({ cls := "BlindCards$Not", name := "of", desc := "(I)I" } : Jvm.MethodName)) ∈ lw_all := lw_g (lw_at lw_m3 89 rfl) rfl
theorem q694 : (Jvm.Cond.unhidden "BlindCards$Not" "of" "(I)I") ∈ lw_tbl := lw_at lw_m3 90 rfl
theorem q695 : (Jvm.Cond.instanceMethod ({ cls := "BlindCards$Not", name := "of", desc := "(I)I" } : Jvm.MethodName)) ∈ lw_all := lw_g (lw_at lw_m3 91 rfl) rfl
theorem q696 : (Jvm.Cond.publicMethod ({ cls := "BlindCards$Not", name := "of", desc := "(I)I" } : Jvm.MethodName)) ∈ lw_tbl := lw_at lw_m3 92 rfl
theorem q697 : (Jvm.Cond.code ({ cls := "BlindCards$Not", name := "of", desc := "(I)I" } : Jvm.MethodName) prog_20_method_2_code (2 : Nat) (Option.some Jvm.ClassFile.FieldType.int)) ∈ lw_all := lw_g (lw_at lw_m3 93 rfl) rfl
theorem q698 : (Jvm.Cond.interfaceEntry "BlindCards$Not" (13 : Nat)) ∈ lw_tbl := lw_at lw_m3 94 rfl
theorem q699 : (Jvm.Cond.methodLink "BlindCards$Not" (13 : Nat) ({ cls := "BlindCards$Node", name := "of", desc := "(I)I" } : Jvm.MethodName)) ∈ lw_all := lw_g (lw_at lw_m3 95 rfl) rfl
theorem q1191 : (Jvm.Cond.instantiable "BlindCards$Not" (1 : Nat)) ∈ lw_all := lw_g (lw_at lw_m5 107 rfl) rfl
theorem q1193 : (Jvm.Cond.instanceMethod ({ cls := "BlindCards$Not", name := "<init>", desc := "(LBlindCards$Node;)V" } : Jvm.MethodName)) ∈ lw_all := lw_g (lw_at lw_m5 109 rfl) rfl
theorem q1194 : (Jvm.Cond.code ({ cls := "BlindCards$Not", name := "<init>", desc := "(LBlindCards$Node;)V" } : Jvm.MethodName) prog_20_method_1_code (2 : Nat) (Option.none : Option Jvm.ClassFile.FieldType)) ∈ lw_all := lw_g (lw_at lw_m5 110 rfl) rfl
theorem q1195 : (Jvm.Cond.methodLink "BlindCards$Not" (1 : Nat) ({ cls := "java/lang/Object", name := "<init>", desc := "()V" } : Jvm.MethodName)) ∈ lw_all := lw_g (lw_at lw_m5 111 rfl) rfl
theorem q1196 : (Jvm.Cond.fieldLink "BlindCards$Not" (7 : Nat) "BlindCards$Not" "a" "LBlindCards$Node;") ∈ lw_all := lw_g (lw_at lw_m5 112 rfl) rfl
theorem q1197 : (Jvm.Cond.laysFinal "BlindCards$Not" "BlindCards$Not" "a" "LBlindCards$Node;") ∈ lw_all := lw_g (lw_at lw_m5 113 rfl) rfl
theorem q1198 : (Jvm.Cond.soleField "BlindCards$Not" "a") ∈ lw_all := lw_g (lw_at lw_m5 114 rfl) rfl
theorem q1199 : (Jvm.Cond.superclass "BlindCards$Not" "java/lang/Object") ∈ lw_all := lw_g (lw_at lw_m5 115 rfl) rfl
theorem q2594 : (Jvm.Cond.castable "BlindCards$Not" "java/lang/Object") ∈ lw_tbl := lw_at lw_m11 70 rfl
theorem in_X13 : ∀ w ∈ wsX130, w ∈ lw_all := lw_in wsX130 [1197] (by decide +kernel) (by decide +kernel)

/-! BlindCards$Value -/
set_option maxRecDepth 100000
def RX14 : String := "BlindCards$Value"
def TX14 : u_T := fun k => match k with
  | _ => ("BlindCards$Value", "v", "I", true)
def tyX14 : Nat → FieldType := fun k => match k with
  | _ => .int
abbrev wsX140 : List Cond := u_ws RX14 TX14 1
theorem nmX14 : ∀ a, a < 1 → ∀ b, b < 1 → a ≠ b → (TX14 a).2.1 ≠ (TX14 b).2.1 := by decide +kernel
theorem tyX14_ok : ∀ k, k < 1 → parseFieldDescriptor (TX14 k).2.2.1 = some (tyX14 k) := by decide +kernel
abbrev cX14_of : ByteArray := prog_29_method_2_code
def yX14_of : MethodName := ⟨RX14, "of", "(I)I"⟩
theorem dX14_of_0 : decode cX14_of 0 = .ok (.aload_n 0, 1) := by decide +kernel
theorem dX14_of_1 : decode cX14_of 1 = .ok (.getfield 7, 3) := by decide +kernel
theorem dX14_of_4 : decode cX14_of 4 = .ok (.ireturn, 1) := by decide +kernel
abbrev cX14_init : ByteArray := prog_29_method_1_code
def yX14_init : MethodName := ⟨RX14, "<init>", "(I)V"⟩
def dkwX14_init_0 : List UInt8 := [42, 183, 0, 1, 42, 27, 181, 0, 7, 177]
abbrev dktX14_init_0 : List UInt8 := dkwX14_init_0 ++ []
theorem dksX14_init_0 : cX14_init.data.toList.drop 0 = dktX14_init_0 := by decide +kernel
theorem dX14_init_0 : decode cX14_init 0 = .ok (.aload_n 0, 1) := dk_42 (dk_at dksX14_init_0 0 rfl rfl)
theorem dX14_init_1 : decode cX14_init 1 = .ok (.invokespecial 1, 3) := dk_183 0 1 (dk_at dksX14_init_0 1 rfl rfl)
theorem dX14_init_4 : decode cX14_init 4 = .ok (.aload_n 0, 1) := dk_42 (dk_at dksX14_init_0 4 rfl rfl)
theorem dX14_init_5 : decode cX14_init 5 = .ok (.iload_n 1, 1) := dk_27 (dk_at dksX14_init_0 5 rfl rfl)
theorem dX14_init_6 : decode cX14_init 6 = .ok (.putfield 7, 3) := dk_181 0 7 (dk_at dksX14_init_0 6 rfl rfl)
theorem dX14_init_9 : decode cX14_init 9 = .ok (.return_, 1) := dk_177 (dk_at dksX14_init_0 9 rfl rfl)
theorem q158 : (Jvm.Cond.initialized "BlindCards$Value") ∈ lw_all := lw_g (lw_at lw_m1 34 rfl) rfl
theorem q449 : (Jvm.Cond.selects "BlindCards$Value" ({ cls := "java/lang/Object", name := "getClass", desc := "()Ljava/lang/Class;" } : Jvm.MethodName) ({ cls := "java/lang/Object", name := "getClass", desc := "()Ljava/lang/Class;" } : Jvm.MethodName)) ∈ lw_all := lw_g (lw_at lw_m2 85 rfl) rfl
theorem q708 : (Jvm.Cond.castable "BlindCards$Value" "BlindCards$Node") ∈ lw_tbl := lw_at lw_m3 104 rfl
theorem q709 : (Jvm.Cond.selects "BlindCards$Value" ({ cls := "BlindCards$Node", name := "of", desc := "(I)I" } : Jvm.MethodName) ({ cls := "BlindCards$Value", name := "of", desc := "(I)I" } : Jvm.MethodName)) ∈ lw_all := lw_g (lw_at lw_m3 105 rfl) rfl
theorem q710 : (Jvm.Cond.unhidden "BlindCards$Value" "of" "(I)I") ∈ lw_tbl := lw_at lw_m3 106 rfl
theorem q711 : (Jvm.Cond.instanceMethod ({ cls := "BlindCards$Value", name := "of", desc := "(I)I" } : Jvm.MethodName)) ∈ lw_all := lw_g (lw_at lw_m3 107 rfl) rfl
theorem q712 : (Jvm.Cond.publicMethod ({ cls := "BlindCards$Value", name := "of", desc := "(I)I" } : Jvm.MethodName)) ∈ lw_tbl := lw_at lw_m3 108 rfl
theorem q713 : (Jvm.Cond.code ({ cls := "BlindCards$Value", name := "of", desc := "(I)I" } : Jvm.MethodName) prog_29_method_2_code (2 : Nat) (Option.some Jvm.ClassFile.FieldType.int)) ∈ lw_all := lw_g (lw_at lw_m3 109 rfl) rfl
theorem q1233 : (Jvm.Cond.instantiable "BlindCards$Value" (1 : Nat)) ∈ lw_all := lw_g (lw_at lw_m5 149 rfl) rfl
theorem q1235 : (Jvm.Cond.instanceMethod ({ cls := "BlindCards$Value", name := "<init>", desc := "(I)V" } : Jvm.MethodName)) ∈ lw_all := lw_g (lw_at lw_m5 151 rfl) rfl
theorem q1236 : (Jvm.Cond.code ({ cls := "BlindCards$Value", name := "<init>", desc := "(I)V" } : Jvm.MethodName) prog_29_method_1_code (2 : Nat) (Option.none : Option Jvm.ClassFile.FieldType)) ∈ lw_all := lw_g (lw_at lw_m5 152 rfl) rfl
theorem q1237 : (Jvm.Cond.methodLink "BlindCards$Value" (1 : Nat) ({ cls := "java/lang/Object", name := "<init>", desc := "()V" } : Jvm.MethodName)) ∈ lw_all := lw_g (lw_at lw_m5 153 rfl) rfl
theorem q1238 : (Jvm.Cond.fieldLink "BlindCards$Value" (7 : Nat) "BlindCards$Value" "v" "I") ∈ lw_all := lw_g (lw_at lw_m5 154 rfl) rfl
theorem q1239 : (Jvm.Cond.laysFinal "BlindCards$Value" "BlindCards$Value" "v" "I") ∈ lw_all := lw_g (lw_at lw_m5 155 rfl) rfl
theorem q1240 : (Jvm.Cond.soleField "BlindCards$Value" "v") ∈ lw_all := lw_g (lw_at lw_m5 156 rfl) rfl
theorem q1241 : (Jvm.Cond.superclass "BlindCards$Value" "java/lang/Object") ∈ lw_all := lw_g (lw_at lw_m5 157 rfl) rfl
theorem q2599 : (Jvm.Cond.castable "BlindCards$Value" "java/lang/Object") ∈ lw_tbl := lw_at lw_m11 75 rfl
theorem in_X14 : ∀ w ∈ wsX140, w ∈ lw_all := lw_in wsX140 [1239] (by decide +kernel) (by decide +kernel)

/-! BlindCards$Pair -/
set_option maxRecDepth 100000
def RX15 : String := "BlindCards$Pair"
def TX15 : u_T := fun k => match k with
  | 0 => ("BlindCards$Pair", "a", "LBlindCards$Node;", true)
  | 1 => ("BlindCards$Pair", "b", "LBlindCards$Node;", true)
  | _ => ("BlindCards$Pair", "sign", "C", true)
def tyX15 : Nat → FieldType := fun k => match k with
  | 0 => .object "BlindCards$Node"
  | 1 => .object "BlindCards$Node"
  | _ => .char
abbrev wsX150 : List Cond := u_ws RX15 TX15 3
theorem nmX15 : ∀ a, a < 3 → ∀ b, b < 3 → a ≠ b → (TX15 a).2.1 ≠ (TX15 b).2.1 := by decide +kernel
theorem tyX15_ok : ∀ k, k < 3 → parseFieldDescriptor (TX15 k).2.2.1 = some (tyX15 k) := by decide +kernel
abbrev cX15_of : ByteArray := prog_22_method_2_code
def yX15_of : MethodName := ⟨RX15, "of", "(I)I"⟩
def dkwX15_of_6 : List UInt8 := [167, 0, 4, 3, 172]
abbrev dktX15_of_6 : List UInt8 := dkwX15_of_6 ++ []
def dkwX15_of_5 : List UInt8 := [153, 0, 11, 29, 153, 0, 7, 4, 167, 0, 4, 3, 172, 28, 154, 0, 7, 29, 153, 0, 7, 4]
abbrev dktX15_of_5 : List UInt8 := dkwX15_of_5 ++ dktX15_of_6
def dkwX15_of_4 : List UInt8 := [29, 164, 0, 7, 4, 167, 0, 4, 3, 172, 28, 29, 160, 0, 7, 4, 167, 0, 4, 3, 172, 28]
abbrev dktX15_of_4 : List UInt8 := dkwX15_of_4 ++ dktX15_of_5
def dkwX15_of_3 : List UInt8 := [28, 29, 96, 172, 28, 29, 100, 172, 28, 29, 104, 172, 28, 29, 162, 0, 7, 4, 167, 0, 4, 3, 172, 28]
abbrev dktX15_of_3 : List UInt8 := dkwX15_of_3 ++ dktX15_of_4
def dkwX15_of_2 : List UInt8 := [170, 0, 0, 0, 0, 173, 0, 0, 0, 38, 0, 0, 0, 62, 0, 0, 0, 159, 0, 0, 0, 173, 0, 0, 0, 173, 0, 0, 0, 173, 0, 0, 0, 122, 0, 0, 0, 114, 0, 0, 0, 173, 0, 0, 0, 118, 0, 0, 0, 173, 0, 0, 0, 173, 0, 0, 0, 173, 0, 0, 0, 173, 0, 0, 0, 173, 0, 0, 0, 173, 0, 0, 0, 173, 0, 0, 0, 173, 0, 0, 0, 173, 0, 0, 0, 173, 0, 0, 0, 173, 0, 0, 0, 173, 0, 0, 0, 173, 0, 0, 0, 173, 0, 0, 0, 126, 0, 0, 0, 148, 0, 0, 0, 137]
abbrev dktX15_of_2 : List UInt8 := dkwX15_of_2 ++ dktX15_of_3
def dkwX15_of_1 : List UInt8 := [180, 0, 16]
abbrev dktX15_of_1 : List UInt8 := dkwX15_of_1 ++ dktX15_of_2
def dkwX15_of_0 : List UInt8 := [42, 180, 0, 7, 27, 185, 0, 20, 2, 0, 61, 42, 180, 0, 13, 27, 185, 0, 20, 2, 0, 62, 42]
abbrev dktX15_of_0 : List UInt8 := dkwX15_of_0 ++ dktX15_of_1
theorem dksX15_of_0 : cX15_of.data.toList.drop 0 = dktX15_of_0 := by decide +kernel
theorem dksX15_of_1 : cX15_of.data.toList.drop 23 = dktX15_of_1 := dk_seg dksX15_of_0 23 rfl rfl
theorem dksX15_of_2 : cX15_of.data.toList.drop 26 = dktX15_of_2 := dk_seg dksX15_of_1 3 rfl rfl
theorem dksX15_of_3 : cX15_of.data.toList.drop 140 = dktX15_of_3 := dk_seg dksX15_of_2 114 rfl rfl
theorem dksX15_of_4 : cX15_of.data.toList.drop 164 = dktX15_of_4 := dk_seg dksX15_of_3 24 rfl rfl
theorem dksX15_of_5 : cX15_of.data.toList.drop 186 = dktX15_of_5 := dk_seg dksX15_of_4 22 rfl rfl
theorem dksX15_of_6 : cX15_of.data.toList.drop 208 = dktX15_of_6 := dk_seg dksX15_of_5 22 rfl rfl
theorem dX15_of_0 : decode cX15_of 0 = .ok (.aload_n 0, 1) := dk_42 (dk_at dksX15_of_0 0 rfl rfl)
theorem dX15_of_1 : decode cX15_of 1 = .ok (.getfield 7, 3) := dk_180 0 7 (dk_at dksX15_of_0 1 rfl rfl)
theorem dX15_of_4 : decode cX15_of 4 = .ok (.iload_n 1, 1) := dk_27 (dk_at dksX15_of_0 4 rfl rfl)
theorem dX15_of_5 : decode cX15_of 5 = .ok (.invokeinterface 20 2, 5) := by decide +kernel
theorem dX15_of_10 : decode cX15_of 10 = .ok (.istore_n 2, 1) := dk_61 (dk_at dksX15_of_0 10 rfl rfl)
theorem dX15_of_11 : decode cX15_of 11 = .ok (.aload_n 0, 1) := dk_42 (dk_at dksX15_of_0 11 rfl rfl)
theorem dX15_of_12 : decode cX15_of 12 = .ok (.getfield 13, 3) := dk_180 0 13 (dk_at dksX15_of_0 12 rfl rfl)
theorem dX15_of_15 : decode cX15_of 15 = .ok (.iload_n 1, 1) := dk_27 (dk_at dksX15_of_0 15 rfl rfl)
theorem dX15_of_16 : decode cX15_of 16 = .ok (.invokeinterface 20 2, 5) := by decide +kernel
theorem dX15_of_21 : decode cX15_of 21 = .ok (.istore_n 3, 1) := dk_62 (dk_at dksX15_of_0 21 rfl rfl)
theorem dX15_of_22 : decode cX15_of 22 = .ok (.aload_n 0, 1) := dk_42 (dk_at dksX15_of_0 22 rfl rfl)
theorem dX15_of_23 : decode cX15_of 23 = .ok (.getfield 16, 3) := dk_180 0 16 (dk_at dksX15_of_1 0 rfl rfl)
theorem dX15_of_26 : decode cX15_of 26 = .ok (.tableswitch 173 38 62 #[159, 173, 173, 173, 122, 114, 173, 118, 173, 173, 173, 173, 173, 173, 173, 173, 173, 173, 173, 173, 173, 173, 126, 148, 137], 114) := by decide +kernel
theorem dX15_of_140 : decode cX15_of 140 = .ok (.iload_n 2, 1) := dk_28 (dk_at dksX15_of_3 0 rfl rfl)
theorem dX15_of_141 : decode cX15_of 141 = .ok (.iload_n 3, 1) := dk_29 (dk_at dksX15_of_3 1 rfl rfl)
theorem dX15_of_142 : decode cX15_of 142 = .ok (.iadd, 1) := dk_96 (dk_at dksX15_of_3 2 rfl rfl)
theorem dX15_of_143 : decode cX15_of 143 = .ok (.ireturn, 1) := dk_172 (dk_at dksX15_of_3 3 rfl rfl)
theorem dX15_of_144 : decode cX15_of 144 = .ok (.iload_n 2, 1) := dk_28 (dk_at dksX15_of_3 4 rfl rfl)
theorem dX15_of_145 : decode cX15_of 145 = .ok (.iload_n 3, 1) := dk_29 (dk_at dksX15_of_3 5 rfl rfl)
theorem dX15_of_146 : decode cX15_of 146 = .ok (.isub, 1) := dk_100 (dk_at dksX15_of_3 6 rfl rfl)
theorem dX15_of_147 : decode cX15_of 147 = .ok (.ireturn, 1) := dk_172 (dk_at dksX15_of_3 7 rfl rfl)
theorem dX15_of_148 : decode cX15_of 148 = .ok (.iload_n 2, 1) := dk_28 (dk_at dksX15_of_3 8 rfl rfl)
theorem dX15_of_149 : decode cX15_of 149 = .ok (.iload_n 3, 1) := dk_29 (dk_at dksX15_of_3 9 rfl rfl)
theorem dX15_of_150 : decode cX15_of 150 = .ok (.imul, 1) := dk_104 (dk_at dksX15_of_3 10 rfl rfl)
theorem dX15_of_151 : decode cX15_of 151 = .ok (.ireturn, 1) := dk_172 (dk_at dksX15_of_3 11 rfl rfl)
theorem dX15_of_152 : decode cX15_of 152 = .ok (.iload_n 2, 1) := dk_28 (dk_at dksX15_of_3 12 rfl rfl)
theorem dX15_of_153 : decode cX15_of 153 = .ok (.iload_n 3, 1) := dk_29 (dk_at dksX15_of_3 13 rfl rfl)
theorem dX15_of_154 : decode cX15_of 154 = .ok (.if_icmp .ge 7, 3) := dk_162 0 7 (dk_at dksX15_of_3 14 rfl rfl)
theorem dX15_of_157 : decode cX15_of 157 = .ok (.iconst 1, 1) := dk_4 (dk_at dksX15_of_3 17 rfl rfl)
theorem dX15_of_158 : decode cX15_of 158 = .ok (.goto 4, 3) := dk_167 0 4 (dk_at dksX15_of_3 18 rfl rfl)
theorem dX15_of_161 : decode cX15_of 161 = .ok (.iconst 0, 1) := dk_3 (dk_at dksX15_of_3 21 rfl rfl)
theorem dX15_of_162 : decode cX15_of 162 = .ok (.ireturn, 1) := dk_172 (dk_at dksX15_of_3 22 rfl rfl)
theorem dX15_of_163 : decode cX15_of 163 = .ok (.iload_n 2, 1) := dk_28 (dk_at dksX15_of_3 23 rfl rfl)
theorem dX15_of_164 : decode cX15_of 164 = .ok (.iload_n 3, 1) := dk_29 (dk_at dksX15_of_4 0 rfl rfl)
theorem dX15_of_165 : decode cX15_of 165 = .ok (.if_icmp .le 7, 3) := dk_164 0 7 (dk_at dksX15_of_4 1 rfl rfl)
theorem dX15_of_168 : decode cX15_of 168 = .ok (.iconst 1, 1) := dk_4 (dk_at dksX15_of_4 4 rfl rfl)
theorem dX15_of_169 : decode cX15_of 169 = .ok (.goto 4, 3) := dk_167 0 4 (dk_at dksX15_of_4 5 rfl rfl)
theorem dX15_of_172 : decode cX15_of 172 = .ok (.iconst 0, 1) := dk_3 (dk_at dksX15_of_4 8 rfl rfl)
theorem dX15_of_173 : decode cX15_of 173 = .ok (.ireturn, 1) := dk_172 (dk_at dksX15_of_4 9 rfl rfl)
theorem dX15_of_174 : decode cX15_of 174 = .ok (.iload_n 2, 1) := dk_28 (dk_at dksX15_of_4 10 rfl rfl)
theorem dX15_of_175 : decode cX15_of 175 = .ok (.iload_n 3, 1) := dk_29 (dk_at dksX15_of_4 11 rfl rfl)
theorem dX15_of_176 : decode cX15_of 176 = .ok (.if_icmp .ne 7, 3) := dk_160 0 7 (dk_at dksX15_of_4 12 rfl rfl)
theorem dX15_of_179 : decode cX15_of 179 = .ok (.iconst 1, 1) := dk_4 (dk_at dksX15_of_4 15 rfl rfl)
theorem dX15_of_180 : decode cX15_of 180 = .ok (.goto 4, 3) := dk_167 0 4 (dk_at dksX15_of_4 16 rfl rfl)
theorem dX15_of_183 : decode cX15_of 183 = .ok (.iconst 0, 1) := dk_3 (dk_at dksX15_of_4 19 rfl rfl)
theorem dX15_of_184 : decode cX15_of 184 = .ok (.ireturn, 1) := dk_172 (dk_at dksX15_of_4 20 rfl rfl)
theorem dX15_of_185 : decode cX15_of 185 = .ok (.iload_n 2, 1) := dk_28 (dk_at dksX15_of_4 21 rfl rfl)
theorem dX15_of_186 : decode cX15_of 186 = .ok (.ifCond .eq 11, 3) := dk_153 0 11 (dk_at dksX15_of_5 0 rfl rfl)
theorem dX15_of_189 : decode cX15_of 189 = .ok (.iload_n 3, 1) := dk_29 (dk_at dksX15_of_5 3 rfl rfl)
theorem dX15_of_190 : decode cX15_of 190 = .ok (.ifCond .eq 7, 3) := dk_153 0 7 (dk_at dksX15_of_5 4 rfl rfl)
theorem dX15_of_193 : decode cX15_of 193 = .ok (.iconst 1, 1) := dk_4 (dk_at dksX15_of_5 7 rfl rfl)
theorem dX15_of_194 : decode cX15_of 194 = .ok (.goto 4, 3) := dk_167 0 4 (dk_at dksX15_of_5 8 rfl rfl)
theorem dX15_of_197 : decode cX15_of 197 = .ok (.iconst 0, 1) := dk_3 (dk_at dksX15_of_5 11 rfl rfl)
theorem dX15_of_198 : decode cX15_of 198 = .ok (.ireturn, 1) := dk_172 (dk_at dksX15_of_5 12 rfl rfl)
theorem dX15_of_199 : decode cX15_of 199 = .ok (.iload_n 2, 1) := dk_28 (dk_at dksX15_of_5 13 rfl rfl)
theorem dX15_of_200 : decode cX15_of 200 = .ok (.ifCond .ne 7, 3) := dk_154 0 7 (dk_at dksX15_of_5 14 rfl rfl)
theorem dX15_of_203 : decode cX15_of 203 = .ok (.iload_n 3, 1) := dk_29 (dk_at dksX15_of_5 17 rfl rfl)
theorem dX15_of_204 : decode cX15_of 204 = .ok (.ifCond .eq 7, 3) := dk_153 0 7 (dk_at dksX15_of_5 18 rfl rfl)
theorem dX15_of_207 : decode cX15_of 207 = .ok (.iconst 1, 1) := dk_4 (dk_at dksX15_of_5 21 rfl rfl)
theorem dX15_of_208 : decode cX15_of 208 = .ok (.goto 4, 3) := dk_167 0 4 (dk_at dksX15_of_6 0 rfl rfl)
theorem dX15_of_211 : decode cX15_of 211 = .ok (.iconst 0, 1) := dk_3 (dk_at dksX15_of_6 3 rfl rfl)
theorem dX15_of_212 : decode cX15_of 212 = .ok (.ireturn, 1) := dk_172 (dk_at dksX15_of_6 4 rfl rfl)
abbrev cX15_init : ByteArray := prog_22_method_1_code
def yX15_init : MethodName := ⟨RX15, "<init>", "(LBlindCards$Node;LBlindCards$Node;C)V"⟩
def dkwX15_init_0 : List UInt8 := [42, 183, 0, 1, 42, 43, 181, 0, 7, 42, 44, 181, 0, 13, 42, 29, 181, 0, 16, 177]
abbrev dktX15_init_0 : List UInt8 := dkwX15_init_0 ++ []
theorem dksX15_init_0 : cX15_init.data.toList.drop 0 = dktX15_init_0 := by decide +kernel
theorem dX15_init_0 : decode cX15_init 0 = .ok (.aload_n 0, 1) := dk_42 (dk_at dksX15_init_0 0 rfl rfl)
theorem dX15_init_1 : decode cX15_init 1 = .ok (.invokespecial 1, 3) := dk_183 0 1 (dk_at dksX15_init_0 1 rfl rfl)
theorem dX15_init_4 : decode cX15_init 4 = .ok (.aload_n 0, 1) := dk_42 (dk_at dksX15_init_0 4 rfl rfl)
theorem dX15_init_5 : decode cX15_init 5 = .ok (.aload_n 1, 1) := dk_43 (dk_at dksX15_init_0 5 rfl rfl)
theorem dX15_init_6 : decode cX15_init 6 = .ok (.putfield 7, 3) := dk_181 0 7 (dk_at dksX15_init_0 6 rfl rfl)
theorem dX15_init_9 : decode cX15_init 9 = .ok (.aload_n 0, 1) := dk_42 (dk_at dksX15_init_0 9 rfl rfl)
theorem dX15_init_10 : decode cX15_init 10 = .ok (.aload_n 2, 1) := dk_44 (dk_at dksX15_init_0 10 rfl rfl)
theorem dX15_init_11 : decode cX15_init 11 = .ok (.putfield 13, 3) := dk_181 0 13 (dk_at dksX15_init_0 11 rfl rfl)
theorem dX15_init_14 : decode cX15_init 14 = .ok (.aload_n 0, 1) := dk_42 (dk_at dksX15_init_0 14 rfl rfl)
theorem dX15_init_15 : decode cX15_init 15 = .ok (.iload_n 3, 1) := dk_29 (dk_at dksX15_init_0 15 rfl rfl)
theorem dX15_init_16 : decode cX15_init 16 = .ok (.putfield 16, 3) := dk_181 0 16 (dk_at dksX15_init_0 16 rfl rfl)
theorem dX15_init_19 : decode cX15_init 19 = .ok (.return_, 1) := dk_177 (dk_at dksX15_init_0 19 rfl rfl)
theorem q159 : (Jvm.Cond.initialized "BlindCards$Pair") ∈ lw_all := lw_g (lw_at lw_m1 35 rfl) rfl
theorem q444 : (Jvm.Cond.selects "BlindCards$Pair" ({ cls := "java/lang/Object", name := "getClass", desc := "()Ljava/lang/Class;" } : Jvm.MethodName) ({ cls := "java/lang/Object", name := "getClass", desc := "()Ljava/lang/Class;" } : Jvm.MethodName)) ∈ lw_all := lw_g (lw_at lw_m2 80 rfl) rfl
theorem q700 : (Jvm.Cond.castable "BlindCards$Pair" "BlindCards$Node") ∈ lw_tbl := lw_at lw_m3 96 rfl
theorem q701 : (Jvm.Cond.selects "BlindCards$Pair" ({ cls := "BlindCards$Node", name := "of", desc := "(I)I" } : Jvm.MethodName) ({ cls := "BlindCards$Pair", name := "of", desc := "(I)I" } : Jvm.MethodName)) ∈ lw_all := lw_g (lw_at lw_m3 97 rfl) rfl
theorem q702 : (Jvm.Cond.unhidden "BlindCards$Pair" "of" "(I)I") ∈ lw_tbl := lw_at lw_m3 98 rfl
theorem q703 : (Jvm.Cond.instanceMethod ({ cls := "BlindCards$Pair", name := "of", desc := "(I)I" } : Jvm.MethodName)) ∈ lw_all := lw_g (lw_at lw_m3 99 rfl) rfl
theorem q704 : (Jvm.Cond.publicMethod ({ cls := "BlindCards$Pair", name := "of", desc := "(I)I" } : Jvm.MethodName)) ∈ lw_tbl := lw_at lw_m3 100 rfl
theorem q705 : (Jvm.Cond.code ({ cls := "BlindCards$Pair", name := "of", desc := "(I)I" } : Jvm.MethodName) prog_22_method_2_code (4 : Nat) (Option.some Jvm.ClassFile.FieldType.int)) ∈ lw_all := lw_g (lw_at lw_m3 101 rfl) rfl
theorem q706 : (Jvm.Cond.interfaceEntry "BlindCards$Pair" (20 : Nat)) ∈ lw_tbl := lw_at lw_m3 102 rfl
theorem q707 : (Jvm.Cond.methodLink "BlindCards$Pair" (20 : Nat) ({ cls := "BlindCards$Node", name := "of", desc := "(I)I" } : Jvm.MethodName)) ∈ lw_all := lw_g (lw_at lw_m3 103 rfl) rfl
theorem q1243 : (Jvm.Cond.instantiable "BlindCards$Pair" (3 : Nat)) ∈ lw_all := lw_g (lw_at lw_m5 159 rfl) rfl
theorem q1245 : (Jvm.Cond.instanceMethod ({ cls := "BlindCards$Pair", name := "<init>", desc := "(LBlindCards$Node;LBlindCards$Node;C)V" } : Jvm.MethodName)) ∈ lw_all := lw_g (lw_at lw_m5 161 rfl) rfl
theorem q1246 : (Jvm.Cond.code ({ cls := "BlindCards$Pair", name := "<init>", desc := "(LBlindCards$Node;LBlindCards$Node;C)V" } : Jvm.MethodName) prog_22_method_1_code (4 : Nat) (Option.none : Option Jvm.ClassFile.FieldType)) ∈ lw_all := lw_g (lw_at lw_m5 162 rfl) rfl
theorem q1247 : (Jvm.Cond.methodLink "BlindCards$Pair" (1 : Nat) ({ cls := "java/lang/Object", name := "<init>", desc := "()V" } : Jvm.MethodName)) ∈ lw_all := lw_g (lw_at lw_m5 163 rfl) rfl
theorem q1248 : (Jvm.Cond.fieldLink "BlindCards$Pair" (7 : Nat) "BlindCards$Pair" "a" "LBlindCards$Node;") ∈ lw_all := lw_g (lw_at lw_m5 164 rfl) rfl
theorem q1249 : (Jvm.Cond.fieldLink "BlindCards$Pair" (13 : Nat) "BlindCards$Pair" "b" "LBlindCards$Node;") ∈ lw_all := lw_g (lw_at lw_m5 165 rfl) rfl
theorem q1250 : (Jvm.Cond.fieldLink "BlindCards$Pair" (16 : Nat) "BlindCards$Pair" "sign" "C") ∈ lw_all := lw_g (lw_at lw_m5 166 rfl) rfl
theorem q1251 : (Jvm.Cond.laysFinal "BlindCards$Pair" "BlindCards$Pair" "a" "LBlindCards$Node;") ∈ lw_all := lw_g (lw_at lw_m5 167 rfl) rfl
theorem q1252 : (Jvm.Cond.soleField "BlindCards$Pair" "a") ∈ lw_all := lw_g (lw_at lw_m5 168 rfl) rfl
theorem q1253 : (Jvm.Cond.laysFinal "BlindCards$Pair" "BlindCards$Pair" "b" "LBlindCards$Node;") ∈ lw_all := lw_g (lw_at lw_m5 169 rfl) rfl
theorem q1254 : (Jvm.Cond.soleField "BlindCards$Pair" "b") ∈ lw_all := lw_g (lw_at lw_m5 170 rfl) rfl
theorem q1255 : (Jvm.Cond.laysFinal "BlindCards$Pair" "BlindCards$Pair" "sign" "C") ∈ lw_all := lw_g (lw_at lw_m5 171 rfl) rfl
theorem q1256 : (Jvm.Cond.soleField "BlindCards$Pair" "sign") ∈ lw_all := lw_g (lw_at lw_m5 172 rfl) rfl
theorem q1257 : (Jvm.Cond.superclass "BlindCards$Pair" "java/lang/Object") ∈ lw_all := lw_g (lw_at lw_m5 173 rfl) rfl
theorem q2600 : (Jvm.Cond.castable "BlindCards$Pair" "java/lang/Object") ∈ lw_tbl := lw_at lw_m11 76 rfl
theorem in_X15 : ∀ w ∈ wsX150, w ∈ lw_all := lw_in wsX150 [1251, 1253, 1255] (by decide +kernel) (by decide +kernel)

/-! BlindCards$Told -/
set_option maxRecDepth 100000
def RX16 : String := "BlindCards$Told"
def TX16 : u_T := fun k => match k with
  | 0 => ("BlindCards$Told", "where", "[I", true)
  | _ => ("BlindCards$Told", "least", "I", true)
def tyX16 : Nat → FieldType := fun k => match k with
  | 0 => .array .int
  | _ => .int
abbrev wsX160 : List Cond := u_ws RX16 TX16 2
theorem nmX16 : ∀ a, a < 2 → ∀ b, b < 2 → a ≠ b → (TX16 a).2.1 ≠ (TX16 b).2.1 := by decide +kernel
theorem tyX16_ok : ∀ k, k < 2 → parseFieldDescriptor (TX16 k).2.2.1 = some (tyX16 k) := by decide +kernel
abbrev cX16_needs : ByteArray := prog_28_method_2_code
def yX16_needs : MethodName := ⟨RX16, "needs", "()I"⟩
theorem dX16_needs_0 : decode cX16_needs 0 = .ok (.aload_n 0, 1) := by decide +kernel
theorem dX16_needs_1 : decode cX16_needs 1 = .ok (.getfield 15, 3) := by decide +kernel
theorem dX16_needs_4 : decode cX16_needs 4 = .ok (.ireturn, 1) := by decide +kernel
abbrev cX16_ways : ByteArray := prog_28_method_3_code
def yX16_ways : MethodName := ⟨RX16, "ways", "()I"⟩
theorem dX16_ways_0 : decode cX16_ways 0 = .ok (.iconst 1, 1) := by decide +kernel
theorem dX16_ways_1 : decode cX16_ways 1 = .ok (.ireturn, 1) := by decide +kernel
abbrev cX16_to : ByteArray := prog_28_method_4_code
def yX16_to : MethodName := ⟨RX16, "to", "(II)I"⟩
def dkwX16_to_0 : List UInt8 := [42, 180, 0, 9, 27, 46, 172]
abbrev dktX16_to_0 : List UInt8 := dkwX16_to_0 ++ []
theorem dksX16_to_0 : cX16_to.data.toList.drop 0 = dktX16_to_0 := by decide +kernel
theorem dX16_to_0 : decode cX16_to 0 = .ok (.aload_n 0, 1) := dk_42 (dk_at dksX16_to_0 0 rfl rfl)
theorem dX16_to_1 : decode cX16_to 1 = .ok (.getfield 9, 3) := dk_180 0 9 (dk_at dksX16_to_0 1 rfl rfl)
theorem dX16_to_4 : decode cX16_to 4 = .ok (.iload_n 1, 1) := dk_27 (dk_at dksX16_to_0 4 rfl rfl)
theorem dX16_to_5 : decode cX16_to 5 = .ok (.iaload, 1) := dk_46 (dk_at dksX16_to_0 5 rfl rfl)
theorem dX16_to_6 : decode cX16_to 6 = .ok (.ireturn, 1) := dk_172 (dk_at dksX16_to_0 6 rfl rfl)
abbrev cX16_init : ByteArray := prog_28_method_1_code
def yX16_init : MethodName := ⟨RX16, "<init>", "(I)V"⟩
def dkwX16_init_1 : List UInt8 := [162, 0, 16, 42, 180, 0, 9, 28, 28, 79, 132, 2, 1, 167, 255, 240, 177]
abbrev dktX16_init_1 : List UInt8 := dkwX16_init_1 ++ []
def dkwX16_init_0 : List UInt8 := [42, 183, 0, 3, 42, 16, 8, 188, 10, 181, 0, 9, 42, 27, 181, 0, 15, 3, 61, 28, 16, 8]
abbrev dktX16_init_0 : List UInt8 := dkwX16_init_0 ++ dktX16_init_1
theorem dksX16_init_0 : cX16_init.data.toList.drop 0 = dktX16_init_0 := by decide +kernel
theorem dksX16_init_1 : cX16_init.data.toList.drop 22 = dktX16_init_1 := dk_seg dksX16_init_0 22 rfl rfl
theorem dX16_init_0 : decode cX16_init 0 = .ok (.aload_n 0, 1) := dk_42 (dk_at dksX16_init_0 0 rfl rfl)
theorem dX16_init_1 : decode cX16_init 1 = .ok (.invokespecial 3, 3) := dk_183 0 3 (dk_at dksX16_init_0 1 rfl rfl)
theorem dX16_init_4 : decode cX16_init 4 = .ok (.aload_n 0, 1) := dk_42 (dk_at dksX16_init_0 4 rfl rfl)
theorem dX16_init_5 : decode cX16_init 5 = .ok (.bipush 8, 2) := dk_16 8 (dk_at dksX16_init_0 5 rfl rfl)
theorem dX16_init_7 : decode cX16_init 7 = .ok (.newarray .int, 2) := dk_188_10 (dk_at dksX16_init_0 7 rfl rfl)
theorem dX16_init_9 : decode cX16_init 9 = .ok (.putfield 9, 3) := dk_181 0 9 (dk_at dksX16_init_0 9 rfl rfl)
theorem dX16_init_12 : decode cX16_init 12 = .ok (.aload_n 0, 1) := dk_42 (dk_at dksX16_init_0 12 rfl rfl)
theorem dX16_init_13 : decode cX16_init 13 = .ok (.iload_n 1, 1) := dk_27 (dk_at dksX16_init_0 13 rfl rfl)
theorem dX16_init_14 : decode cX16_init 14 = .ok (.putfield 15, 3) := dk_181 0 15 (dk_at dksX16_init_0 14 rfl rfl)
theorem dX16_init_17 : decode cX16_init 17 = .ok (.iconst 0, 1) := dk_3 (dk_at dksX16_init_0 17 rfl rfl)
theorem dX16_init_18 : decode cX16_init 18 = .ok (.istore_n 2, 1) := dk_61 (dk_at dksX16_init_0 18 rfl rfl)
theorem dX16_init_19 : decode cX16_init 19 = .ok (.iload_n 2, 1) := dk_28 (dk_at dksX16_init_0 19 rfl rfl)
theorem dX16_init_20 : decode cX16_init 20 = .ok (.bipush 8, 2) := dk_16 8 (dk_at dksX16_init_0 20 rfl rfl)
theorem dX16_init_22 : decode cX16_init 22 = .ok (.if_icmp .ge 16, 3) := dk_162 0 16 (dk_at dksX16_init_1 0 rfl rfl)
theorem dX16_init_25 : decode cX16_init 25 = .ok (.aload_n 0, 1) := dk_42 (dk_at dksX16_init_1 3 rfl rfl)
theorem dX16_init_26 : decode cX16_init 26 = .ok (.getfield 9, 3) := dk_180 0 9 (dk_at dksX16_init_1 4 rfl rfl)
theorem dX16_init_29 : decode cX16_init 29 = .ok (.iload_n 2, 1) := dk_28 (dk_at dksX16_init_1 7 rfl rfl)
theorem dX16_init_30 : decode cX16_init 30 = .ok (.iload_n 2, 1) := dk_28 (dk_at dksX16_init_1 8 rfl rfl)
theorem dX16_init_31 : decode cX16_init 31 = .ok (.iastore, 1) := dk_79 (dk_at dksX16_init_1 9 rfl rfl)
theorem dX16_init_32 : decode cX16_init 32 = .ok (.iinc 2 1, 3) := dk_132 2 1 (dk_at dksX16_init_1 10 rfl rfl)
theorem dX16_init_35 : decode cX16_init 35 = .ok (.goto (-16), 3) := dk_167 255 240 (dk_at dksX16_init_1 13 rfl rfl)
theorem dX16_init_38 : decode cX16_init 38 = .ok (.return_, 1) := dk_177 (dk_at dksX16_init_1 16 rfl rfl)
theorem q160 : (Jvm.Cond.initialized "BlindCards$Told") ∈ lw_all := lw_g (lw_at lw_m1 36 rfl) rfl
theorem q448 : (Jvm.Cond.selects "BlindCards$Told" ({ cls := "java/lang/Object", name := "getClass", desc := "()Ljava/lang/Class;" } : Jvm.MethodName) ({ cls := "java/lang/Object", name := "getClass", desc := "()Ljava/lang/Class;" } : Jvm.MethodName)) ∈ lw_all := lw_g (lw_at lw_m2 84 rfl) rfl
theorem q537 : (Jvm.Cond.selects "BlindCards$Told" ({ cls := "BlindCards$Step", name := "needs", desc := "()I" } : Jvm.MethodName) ({ cls := "BlindCards$Told", name := "needs", desc := "()I" } : Jvm.MethodName)) ∈ lw_all := lw_g (lw_at lw_m2 173 rfl) rfl
theorem q538 : (Jvm.Cond.instanceMethod ({ cls := "BlindCards$Told", name := "needs", desc := "()I" } : Jvm.MethodName)) ∈ lw_all := lw_g (lw_at lw_m2 174 rfl) rfl
theorem q539 : (Jvm.Cond.code ({ cls := "BlindCards$Told", name := "needs", desc := "()I" } : Jvm.MethodName) prog_28_method_2_code (1 : Nat) (Option.some Jvm.ClassFile.FieldType.int)) ∈ lw_all := lw_g (lw_at lw_m2 175 rfl) rfl
theorem q567 : (Jvm.Cond.selects "BlindCards$Told" ({ cls := "BlindCards$Move", name := "ways", desc := "()I" } : Jvm.MethodName) ({ cls := "BlindCards$Told", name := "ways", desc := "()I" } : Jvm.MethodName)) ∈ lw_all := lw_g (lw_at lw_m2 203 rfl) rfl
theorem q568 : (Jvm.Cond.instanceMethod ({ cls := "BlindCards$Told", name := "ways", desc := "()I" } : Jvm.MethodName)) ∈ lw_all := lw_g (lw_at lw_m2 204 rfl) rfl
theorem q569 : (Jvm.Cond.code ({ cls := "BlindCards$Told", name := "ways", desc := "()I" } : Jvm.MethodName) prog_28_method_3_code (1 : Nat) (Option.some Jvm.ClassFile.FieldType.int)) ∈ lw_all := lw_g (lw_at lw_m2 205 rfl) rfl
theorem q592 : (Jvm.Cond.selects "BlindCards$Told" ({ cls := "BlindCards$Move", name := "to", desc := "(II)I" } : Jvm.MethodName) ({ cls := "BlindCards$Told", name := "to", desc := "(II)I" } : Jvm.MethodName)) ∈ lw_all := lw_g (lw_at lw_m2 228 rfl) rfl
theorem q593 : (Jvm.Cond.instanceMethod ({ cls := "BlindCards$Told", name := "to", desc := "(II)I" } : Jvm.MethodName)) ∈ lw_all := lw_g (lw_at lw_m2 229 rfl) rfl
theorem q594 : (Jvm.Cond.code ({ cls := "BlindCards$Told", name := "to", desc := "(II)I" } : Jvm.MethodName) prog_28_method_4_code (3 : Nat) (Option.some Jvm.ClassFile.FieldType.int)) ∈ lw_all := lw_g (lw_at lw_m2 230 rfl) rfl
theorem q601 : (Jvm.Cond.selects "BlindCards$Told" ({ cls := "BlindCards$Move", name := "row", desc := "(II)I" } : Jvm.MethodName) ({ cls := "BlindCards$Move", name := "row", desc := "(II)I" } : Jvm.MethodName)) ∈ lw_all := lw_g (lw_at lw_m2 237 rfl) rfl
theorem q1293 : (Jvm.Cond.instantiable "BlindCards$Told" (2 : Nat)) ∈ lw_all := lw_g (lw_at lw_m5 209 rfl) rfl
theorem q1296 : (Jvm.Cond.instanceMethod ({ cls := "BlindCards$Told", name := "<init>", desc := "(I)V" } : Jvm.MethodName)) ∈ lw_all := lw_g (lw_at lw_m5 212 rfl) rfl
theorem q1297 : (Jvm.Cond.code ({ cls := "BlindCards$Told", name := "<init>", desc := "(I)V" } : Jvm.MethodName) prog_28_method_1_code (3 : Nat) (Option.none : Option Jvm.ClassFile.FieldType)) ∈ lw_all := lw_g (lw_at lw_m5 213 rfl) rfl
theorem q1298 : (Jvm.Cond.methodLinkNest "BlindCards$Told" (3 : Nat) ({ cls := "BlindCards$Move", name := "<init>", desc := "()V" } : Jvm.MethodName) "BlindCards") ∈ lw_tbl := lw_at lw_m5 214 rfl
theorem q1305 : (Jvm.Cond.fieldLink "BlindCards$Told" (9 : Nat) "BlindCards$Told" "where" "[I") ∈ lw_all := lw_g (lw_at lw_m5 221 rfl) rfl
theorem q1307 : (Jvm.Cond.fieldLink "BlindCards$Told" (15 : Nat) "BlindCards$Told" "least" "I") ∈ lw_all := lw_g (lw_at lw_m5 223 rfl) rfl
theorem q1308 : (Jvm.Cond.laysFinal "BlindCards$Told" "BlindCards$Told" "where" "[I") ∈ lw_all := lw_g (lw_at lw_m5 224 rfl) rfl
theorem q1309 : (Jvm.Cond.soleField "BlindCards$Told" "where") ∈ lw_all := lw_g (lw_at lw_m5 225 rfl) rfl
theorem q1310 : (Jvm.Cond.laysFinal "BlindCards$Told" "BlindCards$Told" "least" "I") ∈ lw_all := lw_g (lw_at lw_m5 226 rfl) rfl
theorem q1311 : (Jvm.Cond.soleField "BlindCards$Told" "least") ∈ lw_all := lw_g (lw_at lw_m5 227 rfl) rfl
theorem q1312 : (Jvm.Cond.superclass "BlindCards$Told" "BlindCards$Move") ∈ lw_all := lw_g (lw_at lw_m5 228 rfl) rfl
theorem q1701 : (Jvm.Cond.selects "BlindCards$Told" ({ cls := "BlindCards$Move", name := "needs", desc := "()I" } : Jvm.MethodName) ({ cls := "BlindCards$Told", name := "needs", desc := "()I" } : Jvm.MethodName)) ∈ lw_all := lw_g (lw_at lw_m7 137 rfl) rfl
theorem q2576 : (Jvm.Cond.castable "BlindCards$Told" "BlindCards$Step") ∈ lw_tbl := lw_at lw_m11 52 rfl
theorem q2580 : (Jvm.Cond.castable "BlindCards$Told" "BlindCards$Move") ∈ lw_tbl := lw_at lw_m11 56 rfl
theorem q2601 : (Jvm.Cond.castable "BlindCards$Told" "java/lang/Object") ∈ lw_tbl := lw_at lw_m11 77 rfl
theorem in_X16 : ∀ w ∈ wsX160, w ∈ lw_all := lw_in wsX160 [1308, 1310] (by decide +kernel) (by decide +kernel)

/-! BlindCards$Halves -/
set_option maxRecDepth 100000
def RX17 : String := "BlindCards$Halves"
def TX17 : u_T := fun k => match k with
  | 0 => ("BlindCards$Cut", "from", "I", true)
  | 1 => ("BlindCards$Cut", "to", "I", true)
  | _ => ("BlindCards$Cut", "size", "I", true)
def tyX17 : Nat → FieldType := fun k => match k with
  | 0 => .int
  | 1 => .int
  | _ => .int
abbrev wsX170 : List Cond := u_ws RX17 TX17 3
theorem nmX17 : ∀ a, a < 3 → ∀ b, b < 3 → a ≠ b → (TX17 a).2.1 ≠ (TX17 b).2.1 := by decide +kernel
theorem tyX17_ok : ∀ k, k < 3 → parseFieldDescriptor (TX17 k).2.2.1 = some (tyX17 k) := by decide +kernel
abbrev cX17_init : ByteArray := prog_11_method_1_code
def yX17_init : MethodName := ⟨RX17, "<init>", "(II)V"⟩
def dkwX17_init_0 : List UInt8 := [42, 27, 28, 28, 27, 100, 4, 96, 5, 108, 183, 0, 1, 177]
abbrev dktX17_init_0 : List UInt8 := dkwX17_init_0 ++ []
theorem dksX17_init_0 : cX17_init.data.toList.drop 0 = dktX17_init_0 := by decide +kernel
theorem dX17_init_0 : decode cX17_init 0 = .ok (.aload_n 0, 1) := dk_42 (dk_at dksX17_init_0 0 rfl rfl)
theorem dX17_init_1 : decode cX17_init 1 = .ok (.iload_n 1, 1) := dk_27 (dk_at dksX17_init_0 1 rfl rfl)
theorem dX17_init_2 : decode cX17_init 2 = .ok (.iload_n 2, 1) := dk_28 (dk_at dksX17_init_0 2 rfl rfl)
theorem dX17_init_3 : decode cX17_init 3 = .ok (.iload_n 2, 1) := dk_28 (dk_at dksX17_init_0 3 rfl rfl)
theorem dX17_init_4 : decode cX17_init 4 = .ok (.iload_n 1, 1) := dk_27 (dk_at dksX17_init_0 4 rfl rfl)
theorem dX17_init_5 : decode cX17_init 5 = .ok (.isub, 1) := dk_100 (dk_at dksX17_init_0 5 rfl rfl)
theorem dX17_init_6 : decode cX17_init 6 = .ok (.iconst 1, 1) := dk_4 (dk_at dksX17_init_0 6 rfl rfl)
theorem dX17_init_7 : decode cX17_init 7 = .ok (.iadd, 1) := dk_96 (dk_at dksX17_init_0 7 rfl rfl)
theorem dX17_init_8 : decode cX17_init 8 = .ok (.iconst 2, 1) := dk_5 (dk_at dksX17_init_0 8 rfl rfl)
theorem dX17_init_9 : decode cX17_init 9 = .ok (.idiv, 1) := dk_108 (dk_at dksX17_init_0 9 rfl rfl)
theorem dX17_init_10 : decode cX17_init 10 = .ok (.invokespecial 1, 3) := dk_183 0 1 (dk_at dksX17_init_0 10 rfl rfl)
theorem dX17_init_13 : decode cX17_init 13 = .ok (.return_, 1) := dk_177 (dk_at dksX17_init_0 13 rfl rfl)
theorem q161 : (Jvm.Cond.initialized "BlindCards$Halves") ∈ lw_all := lw_g (lw_at lw_m1 37 rfl) rfl
theorem q435 : (Jvm.Cond.selects "BlindCards$Halves" ({ cls := "java/lang/Object", name := "getClass", desc := "()Ljava/lang/Class;" } : Jvm.MethodName) ({ cls := "java/lang/Object", name := "getClass", desc := "()Ljava/lang/Class;" } : Jvm.MethodName)) ∈ lw_all := lw_g (lw_at lw_m2 71 rfl) rfl
theorem q528 : (Jvm.Cond.selects "BlindCards$Halves" ({ cls := "BlindCards$Step", name := "needs", desc := "()I" } : Jvm.MethodName) ({ cls := "BlindCards$Cut", name := "needs", desc := "()I" } : Jvm.MethodName)) ∈ lw_all := lw_g (lw_at lw_m2 164 rfl) rfl
theorem q561 : (Jvm.Cond.selects "BlindCards$Halves" ({ cls := "BlindCards$Move", name := "ways", desc := "()I" } : Jvm.MethodName) ({ cls := "BlindCards$Cut", name := "ways", desc := "()I" } : Jvm.MethodName)) ∈ lw_all := lw_g (lw_at lw_m2 197 rfl) rfl
theorem q581 : (Jvm.Cond.selects "BlindCards$Halves" ({ cls := "BlindCards$Move", name := "to", desc := "(II)I" } : Jvm.MethodName) ({ cls := "BlindCards$Cut", name := "to", desc := "(II)I" } : Jvm.MethodName)) ∈ lw_all := lw_g (lw_at lw_m2 217 rfl) rfl
theorem q599 : (Jvm.Cond.selects "BlindCards$Halves" ({ cls := "BlindCards$Move", name := "row", desc := "(II)I" } : Jvm.MethodName) ({ cls := "BlindCards$Move", name := "row", desc := "(II)I" } : Jvm.MethodName)) ∈ lw_all := lw_g (lw_at lw_m2 235 rfl) rfl
theorem q1324 : (Jvm.Cond.instantiable "BlindCards$Halves" (3 : Nat)) ∈ lw_all := lw_g (lw_at lw_m6 0 rfl) rfl
theorem q1326 : (Jvm.Cond.instanceMethod ({ cls := "BlindCards$Halves", name := "<init>", desc := "(II)V" } : Jvm.MethodName)) ∈ lw_all := lw_g (lw_at lw_m6 2 rfl) rfl
theorem q1327 : (Jvm.Cond.code ({ cls := "BlindCards$Halves", name := "<init>", desc := "(II)V" } : Jvm.MethodName) prog_11_method_1_code (3 : Nat) (Option.none : Option Jvm.ClassFile.FieldType)) ∈ lw_all := lw_g (lw_at lw_m6 3 rfl) rfl
theorem q1328 : (Jvm.Cond.methodLink "BlindCards$Halves" (1 : Nat) ({ cls := "BlindCards$Cut", name := "<init>", desc := "(III)V" } : Jvm.MethodName)) ∈ lw_all := lw_g (lw_at lw_m6 4 rfl) rfl
theorem q1339 : (Jvm.Cond.laysFinal "BlindCards$Halves" "BlindCards$Cut" "from" "I") ∈ lw_all := lw_g (lw_at lw_m6 15 rfl) rfl
theorem q1341 : (Jvm.Cond.laysFinal "BlindCards$Halves" "BlindCards$Cut" "to" "I") ∈ lw_all := lw_g (lw_at lw_m6 17 rfl) rfl
theorem q1343 : (Jvm.Cond.laysFinal "BlindCards$Halves" "BlindCards$Cut" "size" "I") ∈ lw_all := lw_g (lw_at lw_m6 19 rfl) rfl
theorem q1345 : (Jvm.Cond.superclass "BlindCards$Halves" "BlindCards$Cut") ∈ lw_all := lw_g (lw_at lw_m6 21 rfl) rfl
theorem q1699 : (Jvm.Cond.selects "BlindCards$Halves" ({ cls := "BlindCards$Move", name := "needs", desc := "()I" } : Jvm.MethodName) ({ cls := "BlindCards$Cut", name := "needs", desc := "()I" } : Jvm.MethodName)) ∈ lw_all := lw_g (lw_at lw_m7 135 rfl) rfl
theorem q1729 : (Jvm.Cond.selects "BlindCards$Halves" ({ cls := "BlindCards$Cut", name := "row", desc := "(II)I" } : Jvm.MethodName) ({ cls := "BlindCards$Move", name := "row", desc := "(II)I" } : Jvm.MethodName)) ∈ lw_all := lw_g (lw_at lw_m7 165 rfl) rfl
theorem q2565 : (Jvm.Cond.selects "BlindCards$Halves" ({ cls := "BlindCards$Cut", name := "ways", desc := "()I" } : Jvm.MethodName) ({ cls := "BlindCards$Cut", name := "ways", desc := "()I" } : Jvm.MethodName)) ∈ lw_all := lw_g (lw_at lw_m11 41 rfl) rfl
theorem q2569 : (Jvm.Cond.castable "BlindCards$Halves" "BlindCards$Step") ∈ lw_tbl := lw_at lw_m11 45 rfl
theorem q2578 : (Jvm.Cond.castable "BlindCards$Halves" "BlindCards$Move") ∈ lw_tbl := lw_at lw_m11 54 rfl
theorem q2581 : (Jvm.Cond.castable "BlindCards$Halves" "BlindCards$Cut") ∈ lw_tbl := lw_at lw_m11 57 rfl
theorem q2602 : (Jvm.Cond.castable "BlindCards$Halves" "java/lang/Object") ∈ lw_tbl := lw_at lw_m11 78 rfl
theorem in_X17 : ∀ w ∈ wsX170, w ∈ lw_all := lw_in wsX170 [1339, 1341, 1343] (by decide +kernel) (by decide +kernel)

/-! BlindCards$Open -/
set_option maxRecDepth 100000
def RX18 : String := "BlindCards$Open"
def TX18 : u_T := fun k => match k with
  | 0 => ("BlindCards$Open", "places", "[I", true)
  | 1 => ("BlindCards$Open", "many", "I", false)
  | _ => ("BlindCards$Open", "last", "I", false)
def tyX18 : Nat → FieldType := fun k => match k with
  | 0 => .array .int
  | 1 => .int
  | _ => .int
abbrev wsX180 : List Cond := u_ws RX18 TX18 3
theorem nmX18 : ∀ a, a < 3 → ∀ b, b < 3 → a ≠ b → (TX18 a).2.1 ≠ (TX18 b).2.1 := by decide +kernel
theorem tyX18_ok : ∀ k, k < 3 → parseFieldDescriptor (TX18 k).2.2.1 = some (tyX18 k) := by decide +kernel
abbrev cX18_needs : ByteArray := prog_21_method_2_code
def yX18_needs : MethodName := ⟨RX18, "needs", "()I"⟩
def dkwX18_needs_0 : List UInt8 := [42, 180, 0, 15, 4, 96, 172]
abbrev dktX18_needs_0 : List UInt8 := dkwX18_needs_0 ++ []
theorem dksX18_needs_0 : cX18_needs.data.toList.drop 0 = dktX18_needs_0 := by decide +kernel
theorem dX18_needs_0 : decode cX18_needs 0 = .ok (.aload_n 0, 1) := dk_42 (dk_at dksX18_needs_0 0 rfl rfl)
theorem dX18_needs_1 : decode cX18_needs 1 = .ok (.getfield 15, 3) := dk_180 0 15 (dk_at dksX18_needs_0 1 rfl rfl)
theorem dX18_needs_4 : decode cX18_needs 4 = .ok (.iconst 1, 1) := dk_4 (dk_at dksX18_needs_0 4 rfl rfl)
theorem dX18_needs_5 : decode cX18_needs 5 = .ok (.iadd, 1) := dk_96 (dk_at dksX18_needs_0 5 rfl rfl)
theorem dX18_needs_6 : decode cX18_needs 6 = .ok (.ireturn, 1) := dk_172 (dk_at dksX18_needs_0 6 rfl rfl)
abbrev cX18_seen : ByteArray := prog_21_method_3_code
def yX18_seen : MethodName := ⟨RX18, "seen", "(I)I"⟩
def dkwX18_seen_1 : List UInt8 := [120, 128, 61, 132, 3, 1, 167, 255, 230, 28, 172]
abbrev dktX18_seen_1 : List UInt8 := dkwX18_seen_1 ++ []
def dkwX18_seen_0 : List UInt8 := [3, 61, 3, 62, 29, 42, 180, 0, 19, 162, 0, 24, 28, 27, 42, 180, 0, 9, 29, 46, 122, 4, 126, 29]
abbrev dktX18_seen_0 : List UInt8 := dkwX18_seen_0 ++ dktX18_seen_1
theorem dksX18_seen_0 : cX18_seen.data.toList.drop 0 = dktX18_seen_0 := by decide +kernel
theorem dksX18_seen_1 : cX18_seen.data.toList.drop 24 = dktX18_seen_1 := dk_seg dksX18_seen_0 24 rfl rfl
theorem dX18_seen_0 : decode cX18_seen 0 = .ok (.iconst 0, 1) := dk_3 (dk_at dksX18_seen_0 0 rfl rfl)
theorem dX18_seen_1 : decode cX18_seen 1 = .ok (.istore_n 2, 1) := dk_61 (dk_at dksX18_seen_0 1 rfl rfl)
theorem dX18_seen_2 : decode cX18_seen 2 = .ok (.iconst 0, 1) := dk_3 (dk_at dksX18_seen_0 2 rfl rfl)
theorem dX18_seen_3 : decode cX18_seen 3 = .ok (.istore_n 3, 1) := dk_62 (dk_at dksX18_seen_0 3 rfl rfl)
theorem dX18_seen_4 : decode cX18_seen 4 = .ok (.iload_n 3, 1) := dk_29 (dk_at dksX18_seen_0 4 rfl rfl)
theorem dX18_seen_5 : decode cX18_seen 5 = .ok (.aload_n 0, 1) := dk_42 (dk_at dksX18_seen_0 5 rfl rfl)
theorem dX18_seen_6 : decode cX18_seen 6 = .ok (.getfield 19, 3) := dk_180 0 19 (dk_at dksX18_seen_0 6 rfl rfl)
theorem dX18_seen_9 : decode cX18_seen 9 = .ok (.if_icmp .ge 24, 3) := dk_162 0 24 (dk_at dksX18_seen_0 9 rfl rfl)
theorem dX18_seen_12 : decode cX18_seen 12 = .ok (.iload_n 2, 1) := dk_28 (dk_at dksX18_seen_0 12 rfl rfl)
theorem dX18_seen_13 : decode cX18_seen 13 = .ok (.iload_n 1, 1) := dk_27 (dk_at dksX18_seen_0 13 rfl rfl)
theorem dX18_seen_14 : decode cX18_seen 14 = .ok (.aload_n 0, 1) := dk_42 (dk_at dksX18_seen_0 14 rfl rfl)
theorem dX18_seen_15 : decode cX18_seen 15 = .ok (.getfield 9, 3) := dk_180 0 9 (dk_at dksX18_seen_0 15 rfl rfl)
theorem dX18_seen_18 : decode cX18_seen 18 = .ok (.iload_n 3, 1) := dk_29 (dk_at dksX18_seen_0 18 rfl rfl)
theorem dX18_seen_19 : decode cX18_seen 19 = .ok (.iaload, 1) := dk_46 (dk_at dksX18_seen_0 19 rfl rfl)
theorem dX18_seen_20 : decode cX18_seen 20 = .ok (.ishr, 1) := dk_122 (dk_at dksX18_seen_0 20 rfl rfl)
theorem dX18_seen_21 : decode cX18_seen 21 = .ok (.iconst 1, 1) := dk_4 (dk_at dksX18_seen_0 21 rfl rfl)
theorem dX18_seen_22 : decode cX18_seen 22 = .ok (.iand, 1) := dk_126 (dk_at dksX18_seen_0 22 rfl rfl)
theorem dX18_seen_23 : decode cX18_seen 23 = .ok (.iload_n 3, 1) := dk_29 (dk_at dksX18_seen_0 23 rfl rfl)
theorem dX18_seen_24 : decode cX18_seen 24 = .ok (.ishl, 1) := dk_120 (dk_at dksX18_seen_1 0 rfl rfl)
theorem dX18_seen_25 : decode cX18_seen 25 = .ok (.ior, 1) := dk_128 (dk_at dksX18_seen_1 1 rfl rfl)
theorem dX18_seen_26 : decode cX18_seen 26 = .ok (.istore_n 2, 1) := dk_61 (dk_at dksX18_seen_1 2 rfl rfl)
theorem dX18_seen_27 : decode cX18_seen 27 = .ok (.iinc 3 1, 3) := dk_132 3 1 (dk_at dksX18_seen_1 3 rfl rfl)
theorem dX18_seen_30 : decode cX18_seen 30 = .ok (.goto (-26), 3) := dk_167 255 230 (dk_at dksX18_seen_1 6 rfl rfl)
theorem dX18_seen_33 : decode cX18_seen 33 = .ok (.iload_n 2, 1) := dk_28 (dk_at dksX18_seen_1 9 rfl rfl)
theorem dX18_seen_34 : decode cX18_seen 34 = .ok (.ireturn, 1) := dk_172 (dk_at dksX18_seen_1 10 rfl rfl)
abbrev cX18_init : ByteArray := prog_21_method_1_code
def yX18_init : MethodName := ⟨RX18, "<init>", "()V"⟩
def dkwX18_init_0 : List UInt8 := [42, 183, 0, 3, 42, 16, 8, 188, 10, 181, 0, 9, 177]
abbrev dktX18_init_0 : List UInt8 := dkwX18_init_0 ++ []
theorem dksX18_init_0 : cX18_init.data.toList.drop 0 = dktX18_init_0 := by decide +kernel
theorem dX18_init_0 : decode cX18_init 0 = .ok (.aload_n 0, 1) := dk_42 (dk_at dksX18_init_0 0 rfl rfl)
theorem dX18_init_1 : decode cX18_init 1 = .ok (.invokespecial 3, 3) := dk_183 0 3 (dk_at dksX18_init_0 1 rfl rfl)
theorem dX18_init_4 : decode cX18_init 4 = .ok (.aload_n 0, 1) := dk_42 (dk_at dksX18_init_0 4 rfl rfl)
theorem dX18_init_5 : decode cX18_init 5 = .ok (.bipush 8, 2) := dk_16 8 (dk_at dksX18_init_0 5 rfl rfl)
theorem dX18_init_7 : decode cX18_init 7 = .ok (.newarray .int, 2) := dk_188_10 (dk_at dksX18_init_0 7 rfl rfl)
theorem dX18_init_9 : decode cX18_init 9 = .ok (.putfield 9, 3) := dk_181 0 9 (dk_at dksX18_init_0 9 rfl rfl)
theorem dX18_init_12 : decode cX18_init 12 = .ok (.return_, 1) := dk_177 (dk_at dksX18_init_0 12 rfl rfl)
theorem q162 : (Jvm.Cond.initialized "BlindCards$Open") ∈ lw_all := lw_g (lw_at lw_m1 38 rfl) rfl
theorem q443 : (Jvm.Cond.selects "BlindCards$Open" ({ cls := "java/lang/Object", name := "getClass", desc := "()Ljava/lang/Class;" } : Jvm.MethodName) ({ cls := "java/lang/Object", name := "getClass", desc := "()Ljava/lang/Class;" } : Jvm.MethodName)) ∈ lw_all := lw_g (lw_at lw_m2 79 rfl) rfl
theorem q533 : (Jvm.Cond.selects "BlindCards$Open" ({ cls := "BlindCards$Step", name := "needs", desc := "()I" } : Jvm.MethodName) ({ cls := "BlindCards$Open", name := "needs", desc := "()I" } : Jvm.MethodName)) ∈ lw_all := lw_g (lw_at lw_m2 169 rfl) rfl
theorem q534 : (Jvm.Cond.instanceMethod ({ cls := "BlindCards$Open", name := "needs", desc := "()I" } : Jvm.MethodName)) ∈ lw_all := lw_g (lw_at lw_m2 170 rfl) rfl
theorem q535 : (Jvm.Cond.code ({ cls := "BlindCards$Open", name := "needs", desc := "()I" } : Jvm.MethodName) prog_21_method_2_code (1 : Nat) (Option.some Jvm.ClassFile.FieldType.int)) ∈ lw_all := lw_g (lw_at lw_m2 171 rfl) rfl
theorem q615 : (Jvm.Cond.instanceMethod ({ cls := "BlindCards$Open", name := "seen", desc := "(I)I" } : Jvm.MethodName)) ∈ lw_all := lw_g (lw_at lw_m3 11 rfl) rfl
theorem q616 : (Jvm.Cond.selects "BlindCards$Open" ({ cls := "BlindCards$Open", name := "seen", desc := "(I)I" } : Jvm.MethodName) ({ cls := "BlindCards$Open", name := "seen", desc := "(I)I" } : Jvm.MethodName)) ∈ lw_all := lw_g (lw_at lw_m3 12 rfl) rfl
theorem q617 : (Jvm.Cond.code ({ cls := "BlindCards$Open", name := "seen", desc := "(I)I" } : Jvm.MethodName) prog_21_method_3_code (4 : Nat) (Option.some Jvm.ClassFile.FieldType.int)) ∈ lw_all := lw_g (lw_at lw_m3 13 rfl) rfl
theorem q1370 : (Jvm.Cond.instantiable "BlindCards$Open" (3 : Nat)) ∈ lw_all := lw_g (lw_at lw_m6 46 rfl) rfl
theorem q1372 : (Jvm.Cond.instanceMethod ({ cls := "BlindCards$Open", name := "<init>", desc := "()V" } : Jvm.MethodName)) ∈ lw_all := lw_g (lw_at lw_m6 48 rfl) rfl
theorem q1373 : (Jvm.Cond.code ({ cls := "BlindCards$Open", name := "<init>", desc := "()V" } : Jvm.MethodName) prog_21_method_1_code (1 : Nat) (Option.none : Option Jvm.ClassFile.FieldType)) ∈ lw_all := lw_g (lw_at lw_m6 49 rfl) rfl
theorem q1374 : (Jvm.Cond.methodLinkNest "BlindCards$Open" (3 : Nat) ({ cls := "BlindCards$Step", name := "<init>", desc := "()V" } : Jvm.MethodName) "BlindCards") ∈ lw_tbl := lw_at lw_m6 50 rfl
theorem q1375 : (Jvm.Cond.fieldLink "BlindCards$Open" (9 : Nat) "BlindCards$Open" "places" "[I") ∈ lw_all := lw_g (lw_at lw_m6 51 rfl) rfl
theorem q1379 : (Jvm.Cond.fieldLink "BlindCards$Open" (19 : Nat) "BlindCards$Open" "many" "I") ∈ lw_all := lw_g (lw_at lw_m6 55 rfl) rfl
theorem q1383 : (Jvm.Cond.fieldLink "BlindCards$Open" (15 : Nat) "BlindCards$Open" "last" "I") ∈ lw_all := lw_g (lw_at lw_m6 59 rfl) rfl
theorem q1385 : (Jvm.Cond.laysFinal "BlindCards$Open" "BlindCards$Open" "places" "[I") ∈ lw_all := lw_g (lw_at lw_m6 61 rfl) rfl
theorem q1386 : (Jvm.Cond.soleField "BlindCards$Open" "places") ∈ lw_all := lw_g (lw_at lw_m6 62 rfl) rfl
theorem q1387 : (Jvm.Cond.lays "BlindCards$Open" "BlindCards$Open" "many" "I") ∈ lw_all := lw_g (lw_at lw_m6 63 rfl) rfl
theorem q1388 : (Jvm.Cond.soleField "BlindCards$Open" "many") ∈ lw_all := lw_g (lw_at lw_m6 64 rfl) rfl
theorem q1389 : (Jvm.Cond.lays "BlindCards$Open" "BlindCards$Open" "last" "I") ∈ lw_all := lw_g (lw_at lw_m6 65 rfl) rfl
theorem q1390 : (Jvm.Cond.soleField "BlindCards$Open" "last") ∈ lw_all := lw_g (lw_at lw_m6 66 rfl) rfl
theorem q1391 : (Jvm.Cond.superclass "BlindCards$Open" "BlindCards$Step") ∈ lw_all := lw_g (lw_at lw_m6 67 rfl) rfl
theorem q2562 : (Jvm.Cond.selects "BlindCards$Open" ({ cls := "BlindCards$Open", name := "needs", desc := "()I" } : Jvm.MethodName) ({ cls := "BlindCards$Open", name := "needs", desc := "()I" } : Jvm.MethodName)) ∈ lw_all := lw_g (lw_at lw_m11 38 rfl) rfl
theorem q2574 : (Jvm.Cond.castable "BlindCards$Open" "BlindCards$Step") ∈ lw_tbl := lw_at lw_m11 50 rfl
theorem q2605 : (Jvm.Cond.castable "BlindCards$Open" "java/lang/Object") ∈ lw_tbl := lw_at lw_m11 81 rfl
theorem in_X18 : ∀ w ∈ wsX180, w ∈ lw_all := lw_in wsX180 [1385, 1387, 1389] (by decide +kernel) (by decide +kernel)

/-! BlindCards$Lay -/
set_option maxRecDepth 100000
def RX19 : String := "BlindCards$Lay"
def TX19 : u_T := fun k => match k with
  | 0 => ("BlindCards$Lay", "who", "I", true)
  | _ => ("BlindCards$Lay", "isRed", "Z", true)
def tyX19 : Nat → FieldType := fun k => match k with
  | 0 => .int
  | _ => .boolean
abbrev wsX190 : List Cond := u_ws RX19 TX19 2
theorem nmX19 : ∀ a, a < 2 → ∀ b, b < 2 → a ≠ b → (TX19 a).2.1 ≠ (TX19 b).2.1 := by decide +kernel
theorem tyX19_ok : ∀ k, k < 2 → parseFieldDescriptor (TX19 k).2.2.1 = some (tyX19 k) := by decide +kernel
abbrev cX19_many : ByteArray := prog_14_method_2_code
def yX19_many : MethodName := ⟨RX19, "many", "()I"⟩
def dkwX19_many_0 : List UInt8 := [42, 180, 0, 7, 156, 0, 7, 4, 167, 0, 4, 5, 172]
abbrev dktX19_many_0 : List UInt8 := dkwX19_many_0 ++ []
theorem dksX19_many_0 : cX19_many.data.toList.drop 0 = dktX19_many_0 := by decide +kernel
theorem dX19_many_0 : decode cX19_many 0 = .ok (.aload_n 0, 1) := dk_42 (dk_at dksX19_many_0 0 rfl rfl)
theorem dX19_many_1 : decode cX19_many 1 = .ok (.getfield 7, 3) := dk_180 0 7 (dk_at dksX19_many_0 1 rfl rfl)
theorem dX19_many_4 : decode cX19_many 4 = .ok (.ifCond .ge 7, 3) := dk_156 0 7 (dk_at dksX19_many_0 4 rfl rfl)
theorem dX19_many_7 : decode cX19_many 7 = .ok (.iconst 1, 1) := dk_4 (dk_at dksX19_many_0 7 rfl rfl)
theorem dX19_many_8 : decode cX19_many 8 = .ok (.goto 4, 3) := dk_167 0 4 (dk_at dksX19_many_0 8 rfl rfl)
theorem dX19_many_11 : decode cX19_many 11 = .ok (.iconst 2, 1) := dk_5 (dk_at dksX19_many_0 11 rfl rfl)
theorem dX19_many_12 : decode cX19_many 12 = .ok (.ireturn, 1) := dk_172 (dk_at dksX19_many_0 12 rfl rfl)
abbrev cX19_cards : ByteArray := prog_14_method_3_code
def yX19_cards : MethodName := ⟨RX19, "cards", "(IIIZ)I"⟩
def dkwX19_cards_2 : List UInt8 := [180, 0, 7, 122, 4, 126, 4, 160, 0, 9, 4, 27, 120, 167, 0, 6, 5, 27, 120, 172]
abbrev dktX19_cards_2 : List UInt8 := dkwX19_cards_2 ++ []
def dkwX19_cards_1 : List UInt8 := [180, 0, 7, 29, 160, 0, 16, 21, 4, 153, 0, 9, 6, 27, 120, 167, 0, 4, 3, 172, 28, 42]
abbrev dktX19_cards_1 : List UInt8 := dkwX19_cards_1 ++ dktX19_cards_2
def dkwX19_cards_0 : List UInt8 := [42, 180, 0, 7, 156, 0, 18, 42, 180, 0, 13, 153, 0, 9, 4, 27, 120, 167, 0, 4, 3, 172, 42]
abbrev dktX19_cards_0 : List UInt8 := dkwX19_cards_0 ++ dktX19_cards_1
theorem dksX19_cards_0 : cX19_cards.data.toList.drop 0 = dktX19_cards_0 := by decide +kernel
theorem dksX19_cards_1 : cX19_cards.data.toList.drop 23 = dktX19_cards_1 := dk_seg dksX19_cards_0 23 rfl rfl
theorem dksX19_cards_2 : cX19_cards.data.toList.drop 45 = dktX19_cards_2 := dk_seg dksX19_cards_1 22 rfl rfl
theorem dX19_cards_0 : decode cX19_cards 0 = .ok (.aload_n 0, 1) := dk_42 (dk_at dksX19_cards_0 0 rfl rfl)
theorem dX19_cards_1 : decode cX19_cards 1 = .ok (.getfield 7, 3) := dk_180 0 7 (dk_at dksX19_cards_0 1 rfl rfl)
theorem dX19_cards_4 : decode cX19_cards 4 = .ok (.ifCond .ge 18, 3) := dk_156 0 18 (dk_at dksX19_cards_0 4 rfl rfl)
theorem dX19_cards_7 : decode cX19_cards 7 = .ok (.aload_n 0, 1) := dk_42 (dk_at dksX19_cards_0 7 rfl rfl)
theorem dX19_cards_8 : decode cX19_cards 8 = .ok (.getfield 13, 3) := dk_180 0 13 (dk_at dksX19_cards_0 8 rfl rfl)
theorem dX19_cards_11 : decode cX19_cards 11 = .ok (.ifCond .eq 9, 3) := dk_153 0 9 (dk_at dksX19_cards_0 11 rfl rfl)
theorem dX19_cards_14 : decode cX19_cards 14 = .ok (.iconst 1, 1) := dk_4 (dk_at dksX19_cards_0 14 rfl rfl)
theorem dX19_cards_15 : decode cX19_cards 15 = .ok (.iload_n 1, 1) := dk_27 (dk_at dksX19_cards_0 15 rfl rfl)
theorem dX19_cards_16 : decode cX19_cards 16 = .ok (.ishl, 1) := dk_120 (dk_at dksX19_cards_0 16 rfl rfl)
theorem dX19_cards_17 : decode cX19_cards 17 = .ok (.goto 4, 3) := dk_167 0 4 (dk_at dksX19_cards_0 17 rfl rfl)
theorem dX19_cards_20 : decode cX19_cards 20 = .ok (.iconst 0, 1) := dk_3 (dk_at dksX19_cards_0 20 rfl rfl)
theorem dX19_cards_21 : decode cX19_cards 21 = .ok (.ireturn, 1) := dk_172 (dk_at dksX19_cards_0 21 rfl rfl)
theorem dX19_cards_22 : decode cX19_cards 22 = .ok (.aload_n 0, 1) := dk_42 (dk_at dksX19_cards_0 22 rfl rfl)
theorem dX19_cards_23 : decode cX19_cards 23 = .ok (.getfield 7, 3) := dk_180 0 7 (dk_at dksX19_cards_1 0 rfl rfl)
theorem dX19_cards_26 : decode cX19_cards 26 = .ok (.iload_n 3, 1) := dk_29 (dk_at dksX19_cards_1 3 rfl rfl)
theorem dX19_cards_27 : decode cX19_cards 27 = .ok (.if_icmp .ne 16, 3) := dk_160 0 16 (dk_at dksX19_cards_1 4 rfl rfl)
theorem dX19_cards_30 : decode cX19_cards 30 = .ok (.iload 4, 2) := dk_21 4 (dk_at dksX19_cards_1 7 rfl rfl)
theorem dX19_cards_32 : decode cX19_cards 32 = .ok (.ifCond .eq 9, 3) := dk_153 0 9 (dk_at dksX19_cards_1 9 rfl rfl)
theorem dX19_cards_35 : decode cX19_cards 35 = .ok (.iconst 3, 1) := dk_6 (dk_at dksX19_cards_1 12 rfl rfl)
theorem dX19_cards_36 : decode cX19_cards 36 = .ok (.iload_n 1, 1) := dk_27 (dk_at dksX19_cards_1 13 rfl rfl)
theorem dX19_cards_37 : decode cX19_cards 37 = .ok (.ishl, 1) := dk_120 (dk_at dksX19_cards_1 14 rfl rfl)
theorem dX19_cards_38 : decode cX19_cards 38 = .ok (.goto 4, 3) := dk_167 0 4 (dk_at dksX19_cards_1 15 rfl rfl)
theorem dX19_cards_41 : decode cX19_cards 41 = .ok (.iconst 0, 1) := dk_3 (dk_at dksX19_cards_1 18 rfl rfl)
theorem dX19_cards_42 : decode cX19_cards 42 = .ok (.ireturn, 1) := dk_172 (dk_at dksX19_cards_1 19 rfl rfl)
theorem dX19_cards_43 : decode cX19_cards 43 = .ok (.iload_n 2, 1) := dk_28 (dk_at dksX19_cards_1 20 rfl rfl)
theorem dX19_cards_44 : decode cX19_cards 44 = .ok (.aload_n 0, 1) := dk_42 (dk_at dksX19_cards_1 21 rfl rfl)
theorem dX19_cards_45 : decode cX19_cards 45 = .ok (.getfield 7, 3) := dk_180 0 7 (dk_at dksX19_cards_2 0 rfl rfl)
theorem dX19_cards_48 : decode cX19_cards 48 = .ok (.ishr, 1) := dk_122 (dk_at dksX19_cards_2 3 rfl rfl)
theorem dX19_cards_49 : decode cX19_cards 49 = .ok (.iconst 1, 1) := dk_4 (dk_at dksX19_cards_2 4 rfl rfl)
theorem dX19_cards_50 : decode cX19_cards 50 = .ok (.iand, 1) := dk_126 (dk_at dksX19_cards_2 5 rfl rfl)
theorem dX19_cards_51 : decode cX19_cards 51 = .ok (.iconst 1, 1) := dk_4 (dk_at dksX19_cards_2 6 rfl rfl)
theorem dX19_cards_52 : decode cX19_cards 52 = .ok (.if_icmp .ne 9, 3) := dk_160 0 9 (dk_at dksX19_cards_2 7 rfl rfl)
theorem dX19_cards_55 : decode cX19_cards 55 = .ok (.iconst 1, 1) := dk_4 (dk_at dksX19_cards_2 10 rfl rfl)
theorem dX19_cards_56 : decode cX19_cards 56 = .ok (.iload_n 1, 1) := dk_27 (dk_at dksX19_cards_2 11 rfl rfl)
theorem dX19_cards_57 : decode cX19_cards 57 = .ok (.ishl, 1) := dk_120 (dk_at dksX19_cards_2 12 rfl rfl)
theorem dX19_cards_58 : decode cX19_cards 58 = .ok (.goto 6, 3) := dk_167 0 6 (dk_at dksX19_cards_2 13 rfl rfl)
theorem dX19_cards_61 : decode cX19_cards 61 = .ok (.iconst 2, 1) := dk_5 (dk_at dksX19_cards_2 16 rfl rfl)
theorem dX19_cards_62 : decode cX19_cards 62 = .ok (.iload_n 1, 1) := dk_27 (dk_at dksX19_cards_2 17 rfl rfl)
theorem dX19_cards_63 : decode cX19_cards 63 = .ok (.ishl, 1) := dk_120 (dk_at dksX19_cards_2 18 rfl rfl)
theorem dX19_cards_64 : decode cX19_cards 64 = .ok (.ireturn, 1) := dk_172 (dk_at dksX19_cards_2 19 rfl rfl)
abbrev cX19_init : ByteArray := prog_14_method_1_code
def yX19_init : MethodName := ⟨RX19, "<init>", "(IZ)V"⟩
def dkwX19_init_0 : List UInt8 := [42, 183, 0, 1, 42, 27, 181, 0, 7, 42, 28, 181, 0, 13, 177]
abbrev dktX19_init_0 : List UInt8 := dkwX19_init_0 ++ []
theorem dksX19_init_0 : cX19_init.data.toList.drop 0 = dktX19_init_0 := by decide +kernel
theorem dX19_init_0 : decode cX19_init 0 = .ok (.aload_n 0, 1) := dk_42 (dk_at dksX19_init_0 0 rfl rfl)
theorem dX19_init_1 : decode cX19_init 1 = .ok (.invokespecial 1, 3) := dk_183 0 1 (dk_at dksX19_init_0 1 rfl rfl)
theorem dX19_init_4 : decode cX19_init 4 = .ok (.aload_n 0, 1) := dk_42 (dk_at dksX19_init_0 4 rfl rfl)
theorem dX19_init_5 : decode cX19_init 5 = .ok (.iload_n 1, 1) := dk_27 (dk_at dksX19_init_0 5 rfl rfl)
theorem dX19_init_6 : decode cX19_init 6 = .ok (.putfield 7, 3) := dk_181 0 7 (dk_at dksX19_init_0 6 rfl rfl)
theorem dX19_init_9 : decode cX19_init 9 = .ok (.aload_n 0, 1) := dk_42 (dk_at dksX19_init_0 9 rfl rfl)
theorem dX19_init_10 : decode cX19_init 10 = .ok (.iload_n 2, 1) := dk_28 (dk_at dksX19_init_0 10 rfl rfl)
theorem dX19_init_11 : decode cX19_init 11 = .ok (.putfield 13, 3) := dk_181 0 13 (dk_at dksX19_init_0 11 rfl rfl)
theorem dX19_init_14 : decode cX19_init 14 = .ok (.return_, 1) := dk_177 (dk_at dksX19_init_0 14 rfl rfl)
theorem q163 : (Jvm.Cond.initialized "BlindCards$Lay") ∈ lw_all := lw_g (lw_at lw_m1 39 rfl) rfl
theorem q438 : (Jvm.Cond.selects "BlindCards$Lay" ({ cls := "java/lang/Object", name := "getClass", desc := "()Ljava/lang/Class;" } : Jvm.MethodName) ({ cls := "java/lang/Object", name := "getClass", desc := "()Ljava/lang/Class;" } : Jvm.MethodName)) ∈ lw_all := lw_g (lw_at lw_m2 74 rfl) rfl
theorem q530 : (Jvm.Cond.selects "BlindCards$Lay" ({ cls := "BlindCards$Step", name := "needs", desc := "()I" } : Jvm.MethodName) ({ cls := "BlindCards$Step", name := "needs", desc := "()I" } : Jvm.MethodName)) ∈ lw_all := lw_g (lw_at lw_m2 166 rfl) rfl
theorem q543 : (Jvm.Cond.instanceMethod ({ cls := "BlindCards$Lay", name := "many", desc := "()I" } : Jvm.MethodName)) ∈ lw_all := lw_g (lw_at lw_m2 179 rfl) rfl
theorem q544 : (Jvm.Cond.selects "BlindCards$Lay" ({ cls := "BlindCards$Lay", name := "many", desc := "()I" } : Jvm.MethodName) ({ cls := "BlindCards$Lay", name := "many", desc := "()I" } : Jvm.MethodName)) ∈ lw_all := lw_g (lw_at lw_m2 180 rfl) rfl
theorem q545 : (Jvm.Cond.code ({ cls := "BlindCards$Lay", name := "many", desc := "()I" } : Jvm.MethodName) prog_14_method_2_code (1 : Nat) (Option.some Jvm.ClassFile.FieldType.int)) ∈ lw_all := lw_g (lw_at lw_m2 181 rfl) rfl
theorem q551 : (Jvm.Cond.instanceMethod ({ cls := "BlindCards$Lay", name := "cards", desc := "(IIIZ)I" } : Jvm.MethodName)) ∈ lw_all := lw_g (lw_at lw_m2 187 rfl) rfl
theorem q552 : (Jvm.Cond.selects "BlindCards$Lay" ({ cls := "BlindCards$Lay", name := "cards", desc := "(IIIZ)I" } : Jvm.MethodName) ({ cls := "BlindCards$Lay", name := "cards", desc := "(IIIZ)I" } : Jvm.MethodName)) ∈ lw_all := lw_g (lw_at lw_m2 188 rfl) rfl
theorem q553 : (Jvm.Cond.code ({ cls := "BlindCards$Lay", name := "cards", desc := "(IIIZ)I" } : Jvm.MethodName) prog_14_method_3_code (5 : Nat) (Option.some Jvm.ClassFile.FieldType.int)) ∈ lw_all := lw_g (lw_at lw_m2 189 rfl) rfl
theorem q1407 : (Jvm.Cond.instantiable "BlindCards$Lay" (2 : Nat)) ∈ lw_all := lw_g (lw_at lw_m6 83 rfl) rfl
theorem q1409 : (Jvm.Cond.instanceMethod ({ cls := "BlindCards$Lay", name := "<init>", desc := "(IZ)V" } : Jvm.MethodName)) ∈ lw_all := lw_g (lw_at lw_m6 85 rfl) rfl
theorem q1410 : (Jvm.Cond.code ({ cls := "BlindCards$Lay", name := "<init>", desc := "(IZ)V" } : Jvm.MethodName) prog_14_method_1_code (3 : Nat) (Option.none : Option Jvm.ClassFile.FieldType)) ∈ lw_all := lw_g (lw_at lw_m6 86 rfl) rfl
theorem q1411 : (Jvm.Cond.methodLinkNest "BlindCards$Lay" (1 : Nat) ({ cls := "BlindCards$Step", name := "<init>", desc := "()V" } : Jvm.MethodName) "BlindCards") ∈ lw_tbl := lw_at lw_m6 87 rfl
theorem q1412 : (Jvm.Cond.fieldLink "BlindCards$Lay" (7 : Nat) "BlindCards$Lay" "who" "I") ∈ lw_all := lw_g (lw_at lw_m6 88 rfl) rfl
theorem q1413 : (Jvm.Cond.fieldLink "BlindCards$Lay" (13 : Nat) "BlindCards$Lay" "isRed" "Z") ∈ lw_all := lw_g (lw_at lw_m6 89 rfl) rfl
theorem q1414 : (Jvm.Cond.laysFinal "BlindCards$Lay" "BlindCards$Lay" "who" "I") ∈ lw_all := lw_g (lw_at lw_m6 90 rfl) rfl
theorem q1415 : (Jvm.Cond.soleField "BlindCards$Lay" "who") ∈ lw_all := lw_g (lw_at lw_m6 91 rfl) rfl
theorem q1416 : (Jvm.Cond.laysFinal "BlindCards$Lay" "BlindCards$Lay" "isRed" "Z") ∈ lw_all := lw_g (lw_at lw_m6 92 rfl) rfl
theorem q1417 : (Jvm.Cond.soleField "BlindCards$Lay" "isRed") ∈ lw_all := lw_g (lw_at lw_m6 93 rfl) rfl
theorem q1418 : (Jvm.Cond.superclass "BlindCards$Lay" "BlindCards$Step") ∈ lw_all := lw_g (lw_at lw_m6 94 rfl) rfl
theorem q2571 : (Jvm.Cond.castable "BlindCards$Lay" "BlindCards$Step") ∈ lw_tbl := lw_at lw_m11 47 rfl
theorem q2606 : (Jvm.Cond.castable "BlindCards$Lay" "java/lang/Object") ∈ lw_tbl := lw_at lw_m11 82 rfl
theorem in_X19 : ∀ w ∈ wsX190, w ∈ lw_all := lw_in wsX190 [1414, 1416] (by decide +kernel) (by decide +kernel)

/-! BlindCards$If -/
set_option maxRecDepth 100000
def RX20 : String := "BlindCards$If"
def TX20 : u_T := fun k => match k with
  | 0 => ("BlindCards$If", "at", "I", true)
  | 1 => ("BlindCards$If", "isRed", "Z", true)
  | 2 => ("BlindCards$If", "name", "Ljava/lang/String;", true)
  | 3 => ("BlindCards$If", "told", "I", true)
  | _ => ("BlindCards$If", "goes", "I", false)
def tyX20 : Nat → FieldType := fun k => match k with
  | 0 => .int
  | 1 => .boolean
  | 2 => .object "java/lang/String"
  | 3 => .int
  | _ => .int
abbrev wsX200 : List Cond := u_ws RX20 TX20 5
theorem nmX20 : ∀ a, a < 5 → ∀ b, b < 5 → a ≠ b → (TX20 a).2.1 ≠ (TX20 b).2.1 := by decide +kernel
theorem tyX20_ok : ∀ k, k < 5 → parseFieldDescriptor (TX20 k).2.2.1 = some (tyX20 k) := by decide +kernel
abbrev cX20_init : ByteArray := prog_12_method_1_code
def yX20_init : MethodName := ⟨RX20, "<init>", "(IZLjava/lang/String;I)V"⟩
def dkwX20_init_1 : List UInt8 := [42, 21, 4, 181, 0, 26, 177]
abbrev dktX20_init_1 : List UInt8 := dkwX20_init_1 ++ []
def dkwX20_init_0 : List UInt8 := [42, 183, 0, 3, 42, 2, 181, 0, 9, 42, 27, 181, 0, 15, 42, 28, 181, 0, 18, 42, 45, 181, 0, 22]
abbrev dktX20_init_0 : List UInt8 := dkwX20_init_0 ++ dktX20_init_1
theorem dksX20_init_0 : cX20_init.data.toList.drop 0 = dktX20_init_0 := by decide +kernel
theorem dksX20_init_1 : cX20_init.data.toList.drop 24 = dktX20_init_1 := dk_seg dksX20_init_0 24 rfl rfl
theorem dX20_init_0 : decode cX20_init 0 = .ok (.aload_n 0, 1) := dk_42 (dk_at dksX20_init_0 0 rfl rfl)
theorem dX20_init_1 : decode cX20_init 1 = .ok (.invokespecial 3, 3) := dk_183 0 3 (dk_at dksX20_init_0 1 rfl rfl)
theorem dX20_init_4 : decode cX20_init 4 = .ok (.aload_n 0, 1) := dk_42 (dk_at dksX20_init_0 4 rfl rfl)
theorem dX20_init_5 : decode cX20_init 5 = .ok (.iconst (-1), 1) := dk_2 (dk_at dksX20_init_0 5 rfl rfl)
theorem dX20_init_6 : decode cX20_init 6 = .ok (.putfield 9, 3) := dk_181 0 9 (dk_at dksX20_init_0 6 rfl rfl)
theorem dX20_init_9 : decode cX20_init 9 = .ok (.aload_n 0, 1) := dk_42 (dk_at dksX20_init_0 9 rfl rfl)
theorem dX20_init_10 : decode cX20_init 10 = .ok (.iload_n 1, 1) := dk_27 (dk_at dksX20_init_0 10 rfl rfl)
theorem dX20_init_11 : decode cX20_init 11 = .ok (.putfield 15, 3) := dk_181 0 15 (dk_at dksX20_init_0 11 rfl rfl)
theorem dX20_init_14 : decode cX20_init 14 = .ok (.aload_n 0, 1) := dk_42 (dk_at dksX20_init_0 14 rfl rfl)
theorem dX20_init_15 : decode cX20_init 15 = .ok (.iload_n 2, 1) := dk_28 (dk_at dksX20_init_0 15 rfl rfl)
theorem dX20_init_16 : decode cX20_init 16 = .ok (.putfield 18, 3) := dk_181 0 18 (dk_at dksX20_init_0 16 rfl rfl)
theorem dX20_init_19 : decode cX20_init 19 = .ok (.aload_n 0, 1) := dk_42 (dk_at dksX20_init_0 19 rfl rfl)
theorem dX20_init_20 : decode cX20_init 20 = .ok (.aload_n 3, 1) := dk_45 (dk_at dksX20_init_0 20 rfl rfl)
theorem dX20_init_21 : decode cX20_init 21 = .ok (.putfield 22, 3) := dk_181 0 22 (dk_at dksX20_init_0 21 rfl rfl)
theorem dX20_init_24 : decode cX20_init 24 = .ok (.aload_n 0, 1) := dk_42 (dk_at dksX20_init_1 0 rfl rfl)
theorem dX20_init_25 : decode cX20_init 25 = .ok (.iload 4, 2) := dk_21 4 (dk_at dksX20_init_1 1 rfl rfl)
theorem dX20_init_27 : decode cX20_init 27 = .ok (.putfield 26, 3) := dk_181 0 26 (dk_at dksX20_init_1 3 rfl rfl)
theorem dX20_init_30 : decode cX20_init 30 = .ok (.return_, 1) := dk_177 (dk_at dksX20_init_1 6 rfl rfl)
theorem q164 : (Jvm.Cond.initialized "BlindCards$If") ∈ lw_all := lw_g (lw_at lw_m1 40 rfl) rfl
theorem q436 : (Jvm.Cond.selects "BlindCards$If" ({ cls := "java/lang/Object", name := "getClass", desc := "()Ljava/lang/Class;" } : Jvm.MethodName) ({ cls := "java/lang/Object", name := "getClass", desc := "()Ljava/lang/Class;" } : Jvm.MethodName)) ∈ lw_all := lw_g (lw_at lw_m2 72 rfl) rfl
theorem q529 : (Jvm.Cond.selects "BlindCards$If" ({ cls := "BlindCards$Step", name := "needs", desc := "()I" } : Jvm.MethodName) ({ cls := "BlindCards$Step", name := "needs", desc := "()I" } : Jvm.MethodName)) ∈ lw_all := lw_g (lw_at lw_m2 165 rfl) rfl
theorem q1500 : (Jvm.Cond.instantiable "BlindCards$If" (5 : Nat)) ∈ lw_all := lw_g (lw_at lw_m6 176 rfl) rfl
theorem q1502 : (Jvm.Cond.instanceMethod ({ cls := "BlindCards$If", name := "<init>", desc := "(IZLjava/lang/String;I)V" } : Jvm.MethodName)) ∈ lw_all := lw_g (lw_at lw_m6 178 rfl) rfl
theorem q1503 : (Jvm.Cond.code ({ cls := "BlindCards$If", name := "<init>", desc := "(IZLjava/lang/String;I)V" } : Jvm.MethodName) prog_12_method_1_code (5 : Nat) (Option.none : Option Jvm.ClassFile.FieldType)) ∈ lw_all := lw_g (lw_at lw_m6 179 rfl) rfl
theorem q1504 : (Jvm.Cond.methodLinkNest "BlindCards$If" (3 : Nat) ({ cls := "BlindCards$Step", name := "<init>", desc := "()V" } : Jvm.MethodName) "BlindCards") ∈ lw_tbl := lw_at lw_m6 180 rfl
theorem q1505 : (Jvm.Cond.fieldLink "BlindCards$If" (15 : Nat) "BlindCards$If" "at" "I") ∈ lw_all := lw_g (lw_at lw_m6 181 rfl) rfl
theorem q1508 : (Jvm.Cond.fieldLink "BlindCards$If" (18 : Nat) "BlindCards$If" "isRed" "Z") ∈ lw_all := lw_g (lw_at lw_m6 184 rfl) rfl
theorem q1511 : (Jvm.Cond.fieldLink "BlindCards$If" (22 : Nat) "BlindCards$If" "name" "Ljava/lang/String;") ∈ lw_all := lw_g (lw_at lw_m6 187 rfl) rfl
theorem q1513 : (Jvm.Cond.fieldLink "BlindCards$If" (26 : Nat) "BlindCards$If" "told" "I") ∈ lw_all := lw_g (lw_at lw_m6 189 rfl) rfl
theorem q1515 : (Jvm.Cond.fieldLink "BlindCards$If" (9 : Nat) "BlindCards$If" "goes" "I") ∈ lw_all := lw_g (lw_at lw_m6 191 rfl) rfl
theorem q1519 : (Jvm.Cond.laysFinal "BlindCards$If" "BlindCards$If" "at" "I") ∈ lw_all := lw_g (lw_at lw_m6 195 rfl) rfl
theorem q1520 : (Jvm.Cond.soleField "BlindCards$If" "at") ∈ lw_all := lw_g (lw_at lw_m6 196 rfl) rfl
theorem q1521 : (Jvm.Cond.laysFinal "BlindCards$If" "BlindCards$If" "isRed" "Z") ∈ lw_all := lw_g (lw_at lw_m6 197 rfl) rfl
theorem q1522 : (Jvm.Cond.soleField "BlindCards$If" "isRed") ∈ lw_all := lw_g (lw_at lw_m6 198 rfl) rfl
theorem q1523 : (Jvm.Cond.laysFinal "BlindCards$If" "BlindCards$If" "name" "Ljava/lang/String;") ∈ lw_all := lw_g (lw_at lw_m6 199 rfl) rfl
theorem q1524 : (Jvm.Cond.soleField "BlindCards$If" "name") ∈ lw_all := lw_g (lw_at lw_m6 200 rfl) rfl
theorem q1525 : (Jvm.Cond.laysFinal "BlindCards$If" "BlindCards$If" "told" "I") ∈ lw_all := lw_g (lw_at lw_m6 201 rfl) rfl
theorem q1526 : (Jvm.Cond.soleField "BlindCards$If" "told") ∈ lw_all := lw_g (lw_at lw_m6 202 rfl) rfl
theorem q1527 : (Jvm.Cond.lays "BlindCards$If" "BlindCards$If" "goes" "I") ∈ lw_all := lw_g (lw_at lw_m6 203 rfl) rfl
theorem q1528 : (Jvm.Cond.soleField "BlindCards$If" "goes") ∈ lw_all := lw_g (lw_at lw_m6 204 rfl) rfl
theorem q1529 : (Jvm.Cond.superclass "BlindCards$If" "BlindCards$Step") ∈ lw_all := lw_g (lw_at lw_m6 205 rfl) rfl
theorem q2570 : (Jvm.Cond.castable "BlindCards$If" "BlindCards$Step") ∈ lw_tbl := lw_at lw_m11 46 rfl
theorem q2608 : (Jvm.Cond.castable "BlindCards$If" "java/lang/Object") ∈ lw_tbl := lw_at lw_m11 84 rfl
theorem in_X20 : ∀ w ∈ wsX200, w ∈ lw_all := lw_in wsX200 [1519, 1521, 1523, 1525, 1527] (by decide +kernel) (by decide +kernel)

/-! BlindCards$Mark -/
set_option maxRecDepth 100000
def RX21 : String := "BlindCards$Mark"
def TX21 : u_T := fun k => match k with
  | _ => ("BlindCards$Mark", "name", "Ljava/lang/String;", true)
def tyX21 : Nat → FieldType := fun k => match k with
  | _ => .object "java/lang/String"
abbrev wsX210 : List Cond := u_ws RX21 TX21 1
theorem nmX21 : ∀ a, a < 1 → ∀ b, b < 1 → a ≠ b → (TX21 a).2.1 ≠ (TX21 b).2.1 := by decide +kernel
theorem tyX21_ok : ∀ k, k < 1 → parseFieldDescriptor (TX21 k).2.2.1 = some (tyX21 k) := by decide +kernel
abbrev cX21_init : ByteArray := prog_16_method_1_code
def yX21_init : MethodName := ⟨RX21, "<init>", "(Ljava/lang/String;)V"⟩
def dkwX21_init_0 : List UInt8 := [42, 183, 0, 1, 42, 43, 181, 0, 7, 177]
abbrev dktX21_init_0 : List UInt8 := dkwX21_init_0 ++ []
theorem dksX21_init_0 : cX21_init.data.toList.drop 0 = dktX21_init_0 := by decide +kernel
theorem dX21_init_0 : decode cX21_init 0 = .ok (.aload_n 0, 1) := dk_42 (dk_at dksX21_init_0 0 rfl rfl)
theorem dX21_init_1 : decode cX21_init 1 = .ok (.invokespecial 1, 3) := dk_183 0 1 (dk_at dksX21_init_0 1 rfl rfl)
theorem dX21_init_4 : decode cX21_init 4 = .ok (.aload_n 0, 1) := dk_42 (dk_at dksX21_init_0 4 rfl rfl)
theorem dX21_init_5 : decode cX21_init 5 = .ok (.aload_n 1, 1) := dk_43 (dk_at dksX21_init_0 5 rfl rfl)
theorem dX21_init_6 : decode cX21_init 6 = .ok (.putfield 7, 3) := dk_181 0 7 (dk_at dksX21_init_0 6 rfl rfl)
theorem dX21_init_9 : decode cX21_init 9 = .ok (.return_, 1) := dk_177 (dk_at dksX21_init_0 9 rfl rfl)
theorem q165 : (Jvm.Cond.initialized "BlindCards$Mark") ∈ lw_all := lw_g (lw_at lw_m1 41 rfl) rfl
theorem q440 : (Jvm.Cond.selects "BlindCards$Mark" ({ cls := "java/lang/Object", name := "getClass", desc := "()Ljava/lang/Class;" } : Jvm.MethodName) ({ cls := "java/lang/Object", name := "getClass", desc := "()Ljava/lang/Class;" } : Jvm.MethodName)) ∈ lw_all := lw_g (lw_at lw_m2 76 rfl) rfl
theorem q531 : (Jvm.Cond.selects "BlindCards$Mark" ({ cls := "BlindCards$Step", name := "needs", desc := "()I" } : Jvm.MethodName) ({ cls := "BlindCards$Step", name := "needs", desc := "()I" } : Jvm.MethodName)) ∈ lw_all := lw_g (lw_at lw_m2 167 rfl) rfl
theorem q1535 : (Jvm.Cond.instantiable "BlindCards$Mark" (1 : Nat)) ∈ lw_all := lw_g (lw_at lw_m6 211 rfl) rfl
theorem q1537 : (Jvm.Cond.instanceMethod ({ cls := "BlindCards$Mark", name := "<init>", desc := "(Ljava/lang/String;)V" } : Jvm.MethodName)) ∈ lw_all := lw_g (lw_at lw_m6 213 rfl) rfl
theorem q1538 : (Jvm.Cond.code ({ cls := "BlindCards$Mark", name := "<init>", desc := "(Ljava/lang/String;)V" } : Jvm.MethodName) prog_16_method_1_code (2 : Nat) (Option.none : Option Jvm.ClassFile.FieldType)) ∈ lw_all := lw_g (lw_at lw_m6 214 rfl) rfl
theorem q1539 : (Jvm.Cond.methodLinkNest "BlindCards$Mark" (1 : Nat) ({ cls := "BlindCards$Step", name := "<init>", desc := "()V" } : Jvm.MethodName) "BlindCards") ∈ lw_tbl := lw_at lw_m6 215 rfl
theorem q1540 : (Jvm.Cond.fieldLink "BlindCards$Mark" (7 : Nat) "BlindCards$Mark" "name" "Ljava/lang/String;") ∈ lw_all := lw_g (lw_at lw_m6 216 rfl) rfl
theorem q1542 : (Jvm.Cond.laysFinal "BlindCards$Mark" "BlindCards$Mark" "name" "Ljava/lang/String;") ∈ lw_all := lw_g (lw_at lw_m6 218 rfl) rfl
theorem q1543 : (Jvm.Cond.soleField "BlindCards$Mark" "name") ∈ lw_all := lw_g (lw_at lw_m6 219 rfl) rfl
theorem q1544 : (Jvm.Cond.superclass "BlindCards$Mark" "BlindCards$Step") ∈ lw_all := lw_g (lw_at lw_m6 220 rfl) rfl
theorem q2572 : (Jvm.Cond.castable "BlindCards$Mark" "BlindCards$Step") ∈ lw_tbl := lw_at lw_m11 48 rfl
theorem q2609 : (Jvm.Cond.castable "BlindCards$Mark" "java/lang/Object") ∈ lw_tbl := lw_at lw_m11 85 rfl
theorem in_X21 : ∀ w ∈ wsX210, w ∈ lw_all := lw_in wsX210 [1542] (by decide +kernel) (by decide +kernel)

/-! BlindCards$End -/
set_option maxRecDepth 100000
def RX22 : String := "BlindCards$End"
def TX22 : u_T := fun k => match k with
  | 0 => ("BlindCards$End", "a", "I", true)
  | _ => ("BlindCards$End", "b", "I", true)
def tyX22 : Nat → FieldType := fun k => match k with
  | 0 => .int
  | _ => .int
abbrev wsX220 : List Cond := u_ws RX22 TX22 2
theorem nmX22 : ∀ a, a < 2 → ∀ b, b < 2 → a ≠ b → (TX22 a).2.1 ≠ (TX22 b).2.1 := by decide +kernel
theorem tyX22_ok : ∀ k, k < 2 → parseFieldDescriptor (TX22 k).2.2.1 = some (tyX22 k) := by decide +kernel
abbrev cX22_needs : ByteArray := prog_10_method_2_code
def yX22_needs : MethodName := ⟨RX22, "needs", "()I"⟩
def dkwX22_needs_0 : List UInt8 := [42, 180, 0, 9, 42, 180, 0, 15, 184, 0, 18, 4, 96, 172]
abbrev dktX22_needs_0 : List UInt8 := dkwX22_needs_0 ++ []
theorem dksX22_needs_0 : cX22_needs.data.toList.drop 0 = dktX22_needs_0 := by decide +kernel
theorem dX22_needs_0 : decode cX22_needs 0 = .ok (.aload_n 0, 1) := dk_42 (dk_at dksX22_needs_0 0 rfl rfl)
theorem dX22_needs_1 : decode cX22_needs 1 = .ok (.getfield 9, 3) := dk_180 0 9 (dk_at dksX22_needs_0 1 rfl rfl)
theorem dX22_needs_4 : decode cX22_needs 4 = .ok (.aload_n 0, 1) := dk_42 (dk_at dksX22_needs_0 4 rfl rfl)
theorem dX22_needs_5 : decode cX22_needs 5 = .ok (.getfield 15, 3) := dk_180 0 15 (dk_at dksX22_needs_0 5 rfl rfl)
theorem dX22_needs_8 : decode cX22_needs 8 = .ok (.invokestatic 18, 3) := dk_184 0 18 (dk_at dksX22_needs_0 8 rfl rfl)
theorem dX22_needs_11 : decode cX22_needs 11 = .ok (.iconst 1, 1) := dk_4 (dk_at dksX22_needs_0 11 rfl rfl)
theorem dX22_needs_12 : decode cX22_needs 12 = .ok (.iadd, 1) := dk_96 (dk_at dksX22_needs_0 12 rfl rfl)
theorem dX22_needs_13 : decode cX22_needs 13 = .ok (.ireturn, 1) := dk_172 (dk_at dksX22_needs_0 13 rfl rfl)
abbrev cX22_answer : ByteArray := prog_10_method_3_code
def yX22_answer : MethodName := ⟨RX22, "answer", "(I)I"⟩
def dkwX22_answer_1 : List UInt8 := [167, 0, 4, 28, 172]
abbrev dktX22_answer_1 : List UInt8 := dkwX22_answer_1 ++ []
def dkwX22_answer_0 : List UInt8 := [27, 42, 180, 0, 9, 122, 4, 126, 61, 27, 42, 180, 0, 15, 122, 4, 126, 62, 28, 29, 160, 0, 7, 2]
abbrev dktX22_answer_0 : List UInt8 := dkwX22_answer_0 ++ dktX22_answer_1
theorem dksX22_answer_0 : cX22_answer.data.toList.drop 0 = dktX22_answer_0 := by decide +kernel
theorem dksX22_answer_1 : cX22_answer.data.toList.drop 24 = dktX22_answer_1 := dk_seg dksX22_answer_0 24 rfl rfl
theorem dX22_answer_0 : decode cX22_answer 0 = .ok (.iload_n 1, 1) := dk_27 (dk_at dksX22_answer_0 0 rfl rfl)
theorem dX22_answer_1 : decode cX22_answer 1 = .ok (.aload_n 0, 1) := dk_42 (dk_at dksX22_answer_0 1 rfl rfl)
theorem dX22_answer_2 : decode cX22_answer 2 = .ok (.getfield 9, 3) := dk_180 0 9 (dk_at dksX22_answer_0 2 rfl rfl)
theorem dX22_answer_5 : decode cX22_answer 5 = .ok (.ishr, 1) := dk_122 (dk_at dksX22_answer_0 5 rfl rfl)
theorem dX22_answer_6 : decode cX22_answer 6 = .ok (.iconst 1, 1) := dk_4 (dk_at dksX22_answer_0 6 rfl rfl)
theorem dX22_answer_7 : decode cX22_answer 7 = .ok (.iand, 1) := dk_126 (dk_at dksX22_answer_0 7 rfl rfl)
theorem dX22_answer_8 : decode cX22_answer 8 = .ok (.istore_n 2, 1) := dk_61 (dk_at dksX22_answer_0 8 rfl rfl)
theorem dX22_answer_9 : decode cX22_answer 9 = .ok (.iload_n 1, 1) := dk_27 (dk_at dksX22_answer_0 9 rfl rfl)
theorem dX22_answer_10 : decode cX22_answer 10 = .ok (.aload_n 0, 1) := dk_42 (dk_at dksX22_answer_0 10 rfl rfl)
theorem dX22_answer_11 : decode cX22_answer 11 = .ok (.getfield 15, 3) := dk_180 0 15 (dk_at dksX22_answer_0 11 rfl rfl)
theorem dX22_answer_14 : decode cX22_answer 14 = .ok (.ishr, 1) := dk_122 (dk_at dksX22_answer_0 14 rfl rfl)
theorem dX22_answer_15 : decode cX22_answer 15 = .ok (.iconst 1, 1) := dk_4 (dk_at dksX22_answer_0 15 rfl rfl)
theorem dX22_answer_16 : decode cX22_answer 16 = .ok (.iand, 1) := dk_126 (dk_at dksX22_answer_0 16 rfl rfl)
theorem dX22_answer_17 : decode cX22_answer 17 = .ok (.istore_n 3, 1) := dk_62 (dk_at dksX22_answer_0 17 rfl rfl)
theorem dX22_answer_18 : decode cX22_answer 18 = .ok (.iload_n 2, 1) := dk_28 (dk_at dksX22_answer_0 18 rfl rfl)
theorem dX22_answer_19 : decode cX22_answer 19 = .ok (.iload_n 3, 1) := dk_29 (dk_at dksX22_answer_0 19 rfl rfl)
theorem dX22_answer_20 : decode cX22_answer 20 = .ok (.if_icmp .ne 7, 3) := dk_160 0 7 (dk_at dksX22_answer_0 20 rfl rfl)
theorem dX22_answer_23 : decode cX22_answer 23 = .ok (.iconst (-1), 1) := dk_2 (dk_at dksX22_answer_0 23 rfl rfl)
theorem dX22_answer_24 : decode cX22_answer 24 = .ok (.goto 4, 3) := dk_167 0 4 (dk_at dksX22_answer_1 0 rfl rfl)
theorem dX22_answer_27 : decode cX22_answer 27 = .ok (.iload_n 2, 1) := dk_28 (dk_at dksX22_answer_1 3 rfl rfl)
theorem dX22_answer_28 : decode cX22_answer 28 = .ok (.ireturn, 1) := dk_172 (dk_at dksX22_answer_1 4 rfl rfl)
abbrev cX22_init : ByteArray := prog_10_method_1_code
def yX22_init : MethodName := ⟨RX22, "<init>", "(II)V"⟩
def dkwX22_init_0 : List UInt8 := [42, 183, 0, 3, 42, 27, 181, 0, 9, 42, 28, 181, 0, 15, 177]
abbrev dktX22_init_0 : List UInt8 := dkwX22_init_0 ++ []
theorem dksX22_init_0 : cX22_init.data.toList.drop 0 = dktX22_init_0 := by decide +kernel
theorem dX22_init_0 : decode cX22_init 0 = .ok (.aload_n 0, 1) := dk_42 (dk_at dksX22_init_0 0 rfl rfl)
theorem dX22_init_1 : decode cX22_init 1 = .ok (.invokespecial 3, 3) := dk_183 0 3 (dk_at dksX22_init_0 1 rfl rfl)
theorem dX22_init_4 : decode cX22_init 4 = .ok (.aload_n 0, 1) := dk_42 (dk_at dksX22_init_0 4 rfl rfl)
theorem dX22_init_5 : decode cX22_init 5 = .ok (.iload_n 1, 1) := dk_27 (dk_at dksX22_init_0 5 rfl rfl)
theorem dX22_init_6 : decode cX22_init 6 = .ok (.putfield 9, 3) := dk_181 0 9 (dk_at dksX22_init_0 6 rfl rfl)
theorem dX22_init_9 : decode cX22_init 9 = .ok (.aload_n 0, 1) := dk_42 (dk_at dksX22_init_0 9 rfl rfl)
theorem dX22_init_10 : decode cX22_init 10 = .ok (.iload_n 2, 1) := dk_28 (dk_at dksX22_init_0 10 rfl rfl)
theorem dX22_init_11 : decode cX22_init 11 = .ok (.putfield 15, 3) := dk_181 0 15 (dk_at dksX22_init_0 11 rfl rfl)
theorem dX22_init_14 : decode cX22_init 14 = .ok (.return_, 1) := dk_177 (dk_at dksX22_init_0 14 rfl rfl)
theorem q166 : (Jvm.Cond.initialized "BlindCards$End") ∈ lw_all := lw_g (lw_at lw_m1 42 rfl) rfl
theorem q434 : (Jvm.Cond.selects "BlindCards$End" ({ cls := "java/lang/Object", name := "getClass", desc := "()Ljava/lang/Class;" } : Jvm.MethodName) ({ cls := "java/lang/Object", name := "getClass", desc := "()Ljava/lang/Class;" } : Jvm.MethodName)) ∈ lw_all := lw_g (lw_at lw_m2 70 rfl) rfl
theorem q524 : (Jvm.Cond.selects "BlindCards$End" ({ cls := "BlindCards$Step", name := "needs", desc := "()I" } : Jvm.MethodName) ({ cls := "BlindCards$End", name := "needs", desc := "()I" } : Jvm.MethodName)) ∈ lw_all := lw_g (lw_at lw_m2 160 rfl) rfl
theorem q525 : (Jvm.Cond.instanceMethod ({ cls := "BlindCards$End", name := "needs", desc := "()I" } : Jvm.MethodName)) ∈ lw_all := lw_g (lw_at lw_m2 161 rfl) rfl
theorem q526 : (Jvm.Cond.code ({ cls := "BlindCards$End", name := "needs", desc := "()I" } : Jvm.MethodName) prog_10_method_2_code (1 : Nat) (Option.some Jvm.ClassFile.FieldType.int)) ∈ lw_all := lw_g (lw_at lw_m2 162 rfl) rfl
theorem q527 : (Jvm.Cond.methodLink "BlindCards$End" (18 : Nat) ({ cls := "java/lang/Math", name := "max", desc := "(II)I" } : Jvm.MethodName)) ∈ lw_all := lw_g (lw_at lw_m2 163 rfl) rfl
theorem q639 : (Jvm.Cond.instanceMethod ({ cls := "BlindCards$End", name := "answer", desc := "(I)I" } : Jvm.MethodName)) ∈ lw_all := lw_g (lw_at lw_m3 35 rfl) rfl
theorem q640 : (Jvm.Cond.selects "BlindCards$End" ({ cls := "BlindCards$End", name := "answer", desc := "(I)I" } : Jvm.MethodName) ({ cls := "BlindCards$End", name := "answer", desc := "(I)I" } : Jvm.MethodName)) ∈ lw_all := lw_g (lw_at lw_m3 36 rfl) rfl
theorem q641 : (Jvm.Cond.code ({ cls := "BlindCards$End", name := "answer", desc := "(I)I" } : Jvm.MethodName) prog_10_method_3_code (4 : Nat) (Option.some Jvm.ClassFile.FieldType.int)) ∈ lw_all := lw_g (lw_at lw_m3 37 rfl) rfl
theorem q1550 : (Jvm.Cond.instantiable "BlindCards$End" (2 : Nat)) ∈ lw_all := lw_g (lw_at lw_m6 226 rfl) rfl
theorem q1552 : (Jvm.Cond.instanceMethod ({ cls := "BlindCards$End", name := "<init>", desc := "(II)V" } : Jvm.MethodName)) ∈ lw_all := lw_g (lw_at lw_m6 228 rfl) rfl
theorem q1553 : (Jvm.Cond.code ({ cls := "BlindCards$End", name := "<init>", desc := "(II)V" } : Jvm.MethodName) prog_10_method_1_code (3 : Nat) (Option.none : Option Jvm.ClassFile.FieldType)) ∈ lw_all := lw_g (lw_at lw_m6 229 rfl) rfl
theorem q1554 : (Jvm.Cond.methodLinkNest "BlindCards$End" (3 : Nat) ({ cls := "BlindCards$Step", name := "<init>", desc := "()V" } : Jvm.MethodName) "BlindCards") ∈ lw_tbl := lw_at lw_m6 230 rfl
theorem q1555 : (Jvm.Cond.fieldLink "BlindCards$End" (9 : Nat) "BlindCards$End" "a" "I") ∈ lw_all := lw_g (lw_at lw_m6 231 rfl) rfl
theorem q1556 : (Jvm.Cond.fieldLink "BlindCards$End" (15 : Nat) "BlindCards$End" "b" "I") ∈ lw_all := lw_g (lw_at lw_m6 232 rfl) rfl
theorem q1557 : (Jvm.Cond.laysFinal "BlindCards$End" "BlindCards$End" "a" "I") ∈ lw_all := lw_g (lw_at lw_m6 233 rfl) rfl
theorem q1558 : (Jvm.Cond.soleField "BlindCards$End" "a") ∈ lw_all := lw_g (lw_at lw_m6 234 rfl) rfl
theorem q1559 : (Jvm.Cond.laysFinal "BlindCards$End" "BlindCards$End" "b" "I") ∈ lw_all := lw_g (lw_at lw_m6 235 rfl) rfl
theorem q1560 : (Jvm.Cond.soleField "BlindCards$End" "b") ∈ lw_all := lw_g (lw_at lw_m6 236 rfl) rfl
theorem q1561 : (Jvm.Cond.superclass "BlindCards$End" "BlindCards$Step") ∈ lw_all := lw_g (lw_at lw_m6 237 rfl) rfl
theorem q2568 : (Jvm.Cond.castable "BlindCards$End" "BlindCards$Step") ∈ lw_tbl := lw_at lw_m11 44 rfl
theorem q2610 : (Jvm.Cond.castable "BlindCards$End" "java/lang/Object") ∈ lw_tbl := lw_at lw_m11 86 rfl
theorem in_X22 : ∀ w ∈ wsX220, w ∈ lw_all := lw_in wsX220 [1557, 1559] (by decide +kernel) (by decide +kernel)

/-! BlindCards$Says -/
set_option maxRecDepth 100000
def RX23 : String := "BlindCards$Says"
def TX23 : u_T := fun k => match k with
  | _ => ("BlindCards$Says", "what", "I", true)
def tyX23 : Nat → FieldType := fun k => match k with
  | _ => .int
abbrev wsX230 : List Cond := u_ws RX23 TX23 1
theorem nmX23 : ∀ a, a < 1 → ∀ b, b < 1 → a ≠ b → (TX23 a).2.1 ≠ (TX23 b).2.1 := by decide +kernel
theorem tyX23_ok : ∀ k, k < 1 → parseFieldDescriptor (TX23 k).2.2.1 = some (tyX23 k) := by decide +kernel
abbrev cX23_init : ByteArray := prog_26_method_1_code
def yX23_init : MethodName := ⟨RX23, "<init>", "(I)V"⟩
def dkwX23_init_0 : List UInt8 := [42, 183, 0, 1, 42, 27, 181, 0, 7, 177]
abbrev dktX23_init_0 : List UInt8 := dkwX23_init_0 ++ []
theorem dksX23_init_0 : cX23_init.data.toList.drop 0 = dktX23_init_0 := by decide +kernel
theorem dX23_init_0 : decode cX23_init 0 = .ok (.aload_n 0, 1) := dk_42 (dk_at dksX23_init_0 0 rfl rfl)
theorem dX23_init_1 : decode cX23_init 1 = .ok (.invokespecial 1, 3) := dk_183 0 1 (dk_at dksX23_init_0 1 rfl rfl)
theorem dX23_init_4 : decode cX23_init 4 = .ok (.aload_n 0, 1) := dk_42 (dk_at dksX23_init_0 4 rfl rfl)
theorem dX23_init_5 : decode cX23_init 5 = .ok (.iload_n 1, 1) := dk_27 (dk_at dksX23_init_0 5 rfl rfl)
theorem dX23_init_6 : decode cX23_init 6 = .ok (.putfield 7, 3) := dk_181 0 7 (dk_at dksX23_init_0 6 rfl rfl)
theorem dX23_init_9 : decode cX23_init 9 = .ok (.return_, 1) := dk_177 (dk_at dksX23_init_0 9 rfl rfl)
theorem q167 : (Jvm.Cond.initialized "BlindCards$Says") ∈ lw_all := lw_g (lw_at lw_m1 43 rfl) rfl
theorem q447 : (Jvm.Cond.selects "BlindCards$Says" ({ cls := "java/lang/Object", name := "getClass", desc := "()Ljava/lang/Class;" } : Jvm.MethodName) ({ cls := "java/lang/Object", name := "getClass", desc := "()Ljava/lang/Class;" } : Jvm.MethodName)) ∈ lw_all := lw_g (lw_at lw_m2 83 rfl) rfl
theorem q536 : (Jvm.Cond.selects "BlindCards$Says" ({ cls := "BlindCards$Step", name := "needs", desc := "()I" } : Jvm.MethodName) ({ cls := "BlindCards$Step", name := "needs", desc := "()I" } : Jvm.MethodName)) ∈ lw_all := lw_g (lw_at lw_m2 172 rfl) rfl
theorem q1567 : (Jvm.Cond.instantiable "BlindCards$Says" (1 : Nat)) ∈ lw_all := lw_g (lw_at lw_m7 3 rfl) rfl
theorem q1569 : (Jvm.Cond.instanceMethod ({ cls := "BlindCards$Says", name := "<init>", desc := "(I)V" } : Jvm.MethodName)) ∈ lw_all := lw_g (lw_at lw_m7 5 rfl) rfl
theorem q1570 : (Jvm.Cond.code ({ cls := "BlindCards$Says", name := "<init>", desc := "(I)V" } : Jvm.MethodName) prog_26_method_1_code (2 : Nat) (Option.none : Option Jvm.ClassFile.FieldType)) ∈ lw_all := lw_g (lw_at lw_m7 6 rfl) rfl
theorem q1571 : (Jvm.Cond.methodLinkNest "BlindCards$Says" (1 : Nat) ({ cls := "BlindCards$Step", name := "<init>", desc := "()V" } : Jvm.MethodName) "BlindCards") ∈ lw_tbl := lw_at lw_m7 7 rfl
theorem q1572 : (Jvm.Cond.fieldLink "BlindCards$Says" (7 : Nat) "BlindCards$Says" "what" "I") ∈ lw_all := lw_g (lw_at lw_m7 8 rfl) rfl
theorem q1574 : (Jvm.Cond.laysFinal "BlindCards$Says" "BlindCards$Says" "what" "I") ∈ lw_all := lw_g (lw_at lw_m7 10 rfl) rfl
theorem q1575 : (Jvm.Cond.soleField "BlindCards$Says" "what") ∈ lw_all := lw_g (lw_at lw_m7 11 rfl) rfl
theorem q1576 : (Jvm.Cond.superclass "BlindCards$Says" "BlindCards$Step") ∈ lw_all := lw_g (lw_at lw_m7 12 rfl) rfl
theorem q2575 : (Jvm.Cond.castable "BlindCards$Says" "BlindCards$Step") ∈ lw_tbl := lw_at lw_m11 51 rfl
theorem q2611 : (Jvm.Cond.castable "BlindCards$Says" "java/lang/Object") ∈ lw_tbl := lw_at lw_m11 87 rfl
theorem in_X23 : ∀ w ∈ wsX230, w ∈ lw_all := lw_in wsX230 [1574] (by decide +kernel) (by decide +kernel)

/-! BlindCards$Look -/
set_option maxRecDepth 100000
def RX24 : String := "BlindCards$Look"
def TX24 : u_T := fun k => match k with
  | 0 => ("BlindCards$Look", "path", "I", true)
  | 1 => ("BlindCards$Look", "told", "I", true)
  | _ => ("BlindCards$Look", "untold", "I", false)
def tyX24 : Nat → FieldType := fun k => match k with
  | 0 => .int
  | 1 => .int
  | _ => .int
abbrev wsX240 : List Cond := u_ws RX24 TX24 3
theorem nmX24 : ∀ a, a < 3 → ∀ b, b < 3 → a ≠ b → (TX24 a).2.1 ≠ (TX24 b).2.1 := by decide +kernel
theorem tyX24_ok : ∀ k, k < 3 → parseFieldDescriptor (TX24 k).2.2.1 = some (tyX24 k) := by decide +kernel
abbrev cX24_init : ByteArray := prog_15_method_1_code
def yX24_init : MethodName := ⟨RX24, "<init>", "(II)V"⟩
def dkwX24_init_0 : List UInt8 := [42, 183, 0, 3, 42, 2, 181, 0, 9, 42, 27, 181, 0, 15, 42, 28, 181, 0, 18, 177]
abbrev dktX24_init_0 : List UInt8 := dkwX24_init_0 ++ []
theorem dksX24_init_0 : cX24_init.data.toList.drop 0 = dktX24_init_0 := by decide +kernel
theorem dX24_init_0 : decode cX24_init 0 = .ok (.aload_n 0, 1) := dk_42 (dk_at dksX24_init_0 0 rfl rfl)
theorem dX24_init_1 : decode cX24_init 1 = .ok (.invokespecial 3, 3) := dk_183 0 3 (dk_at dksX24_init_0 1 rfl rfl)
theorem dX24_init_4 : decode cX24_init 4 = .ok (.aload_n 0, 1) := dk_42 (dk_at dksX24_init_0 4 rfl rfl)
theorem dX24_init_5 : decode cX24_init 5 = .ok (.iconst (-1), 1) := dk_2 (dk_at dksX24_init_0 5 rfl rfl)
theorem dX24_init_6 : decode cX24_init 6 = .ok (.putfield 9, 3) := dk_181 0 9 (dk_at dksX24_init_0 6 rfl rfl)
theorem dX24_init_9 : decode cX24_init 9 = .ok (.aload_n 0, 1) := dk_42 (dk_at dksX24_init_0 9 rfl rfl)
theorem dX24_init_10 : decode cX24_init 10 = .ok (.iload_n 1, 1) := dk_27 (dk_at dksX24_init_0 10 rfl rfl)
theorem dX24_init_11 : decode cX24_init 11 = .ok (.putfield 15, 3) := dk_181 0 15 (dk_at dksX24_init_0 11 rfl rfl)
theorem dX24_init_14 : decode cX24_init 14 = .ok (.aload_n 0, 1) := dk_42 (dk_at dksX24_init_0 14 rfl rfl)
theorem dX24_init_15 : decode cX24_init 15 = .ok (.iload_n 2, 1) := dk_28 (dk_at dksX24_init_0 15 rfl rfl)
theorem dX24_init_16 : decode cX24_init 16 = .ok (.putfield 18, 3) := dk_181 0 18 (dk_at dksX24_init_0 16 rfl rfl)
theorem dX24_init_19 : decode cX24_init 19 = .ok (.return_, 1) := dk_177 (dk_at dksX24_init_0 19 rfl rfl)
abbrev cX24_untell : ByteArray := prog_15_method_3_code
def yX24_untell : MethodName := ⟨RX24, "untell", "(I)Z"⟩
def dkwX24_untell_0 : List UInt8 := [42, 180, 0, 9, 155, 0, 5, 3, 172, 42, 27, 181, 0, 9, 4, 172]
abbrev dktX24_untell_0 : List UInt8 := dkwX24_untell_0 ++ []
theorem dksX24_untell_0 : cX24_untell.data.toList.drop 0 = dktX24_untell_0 := by decide +kernel
theorem dX24_untell_0 : decode cX24_untell 0 = .ok (.aload_n 0, 1) := dk_42 (dk_at dksX24_untell_0 0 rfl rfl)
theorem dX24_untell_1 : decode cX24_untell 1 = .ok (.getfield 9, 3) := dk_180 0 9 (dk_at dksX24_untell_0 1 rfl rfl)
theorem dX24_untell_4 : decode cX24_untell 4 = .ok (.ifCond .lt 5, 3) := dk_155 0 5 (dk_at dksX24_untell_0 4 rfl rfl)
theorem dX24_untell_7 : decode cX24_untell 7 = .ok (.iconst 0, 1) := dk_3 (dk_at dksX24_untell_0 7 rfl rfl)
theorem dX24_untell_8 : decode cX24_untell 8 = .ok (.ireturn, 1) := dk_172 (dk_at dksX24_untell_0 8 rfl rfl)
theorem dX24_untell_9 : decode cX24_untell 9 = .ok (.aload_n 0, 1) := dk_42 (dk_at dksX24_untell_0 9 rfl rfl)
theorem dX24_untell_10 : decode cX24_untell 10 = .ok (.iload_n 1, 1) := dk_27 (dk_at dksX24_untell_0 10 rfl rfl)
theorem dX24_untell_11 : decode cX24_untell 11 = .ok (.putfield 9, 3) := dk_181 0 9 (dk_at dksX24_untell_0 11 rfl rfl)
theorem dX24_untell_14 : decode cX24_untell 14 = .ok (.iconst 1, 1) := dk_4 (dk_at dksX24_untell_0 14 rfl rfl)
theorem dX24_untell_15 : decode cX24_untell 15 = .ok (.ireturn, 1) := dk_172 (dk_at dksX24_untell_0 15 rfl rfl)
abbrev cX24_isKnown : ByteArray := prog_15_method_4_code
def yX24_isKnown : MethodName := ⟨RX24, "isKnown", "(I)Z"⟩
def dkwX24_isKnown_1 : List UInt8 := [167, 0, 4, 3, 172]
abbrev dktX24_isKnown_1 : List UInt8 := dkwX24_isKnown_1 ++ []
def dkwX24_isKnown_0 : List UInt8 := [42, 180, 0, 18, 27, 163, 0, 22, 42, 180, 0, 9, 155, 0, 11, 42, 180, 0, 9, 27, 164, 0, 7, 4]
abbrev dktX24_isKnown_0 : List UInt8 := dkwX24_isKnown_0 ++ dktX24_isKnown_1
theorem dksX24_isKnown_0 : cX24_isKnown.data.toList.drop 0 = dktX24_isKnown_0 := by decide +kernel
theorem dksX24_isKnown_1 : cX24_isKnown.data.toList.drop 24 = dktX24_isKnown_1 := dk_seg dksX24_isKnown_0 24 rfl rfl
theorem dX24_isKnown_0 : decode cX24_isKnown 0 = .ok (.aload_n 0, 1) := dk_42 (dk_at dksX24_isKnown_0 0 rfl rfl)
theorem dX24_isKnown_1 : decode cX24_isKnown 1 = .ok (.getfield 18, 3) := dk_180 0 18 (dk_at dksX24_isKnown_0 1 rfl rfl)
theorem dX24_isKnown_4 : decode cX24_isKnown 4 = .ok (.iload_n 1, 1) := dk_27 (dk_at dksX24_isKnown_0 4 rfl rfl)
theorem dX24_isKnown_5 : decode cX24_isKnown 5 = .ok (.if_icmp .gt 22, 3) := dk_163 0 22 (dk_at dksX24_isKnown_0 5 rfl rfl)
theorem dX24_isKnown_8 : decode cX24_isKnown 8 = .ok (.aload_n 0, 1) := dk_42 (dk_at dksX24_isKnown_0 8 rfl rfl)
theorem dX24_isKnown_9 : decode cX24_isKnown 9 = .ok (.getfield 9, 3) := dk_180 0 9 (dk_at dksX24_isKnown_0 9 rfl rfl)
theorem dX24_isKnown_12 : decode cX24_isKnown 12 = .ok (.ifCond .lt 11, 3) := dk_155 0 11 (dk_at dksX24_isKnown_0 12 rfl rfl)
theorem dX24_isKnown_15 : decode cX24_isKnown 15 = .ok (.aload_n 0, 1) := dk_42 (dk_at dksX24_isKnown_0 15 rfl rfl)
theorem dX24_isKnown_16 : decode cX24_isKnown 16 = .ok (.getfield 9, 3) := dk_180 0 9 (dk_at dksX24_isKnown_0 16 rfl rfl)
theorem dX24_isKnown_19 : decode cX24_isKnown 19 = .ok (.iload_n 1, 1) := dk_27 (dk_at dksX24_isKnown_0 19 rfl rfl)
theorem dX24_isKnown_20 : decode cX24_isKnown 20 = .ok (.if_icmp .le 7, 3) := dk_164 0 7 (dk_at dksX24_isKnown_0 20 rfl rfl)
theorem dX24_isKnown_23 : decode cX24_isKnown 23 = .ok (.iconst 1, 1) := dk_4 (dk_at dksX24_isKnown_0 23 rfl rfl)
theorem dX24_isKnown_24 : decode cX24_isKnown 24 = .ok (.goto 4, 3) := dk_167 0 4 (dk_at dksX24_isKnown_1 0 rfl rfl)
theorem dX24_isKnown_27 : decode cX24_isKnown 27 = .ok (.iconst 0, 1) := dk_3 (dk_at dksX24_isKnown_1 3 rfl rfl)
theorem dX24_isKnown_28 : decode cX24_isKnown 28 = .ok (.ireturn, 1) := dk_172 (dk_at dksX24_isKnown_1 4 rfl rfl)
abbrev cX24_again : ByteArray := prog_15_method_2_code
def yX24_again : MethodName := ⟨RX24, "again", "()LBlindCards$Look;"⟩
def dkwX24_again_1 : List UInt8 := [43, 176]
abbrev dktX24_again_1 : List UInt8 := dkwX24_again_1 ++ []
def dkwX24_again_0 : List UInt8 := [187, 0, 10, 89, 42, 180, 0, 15, 42, 180, 0, 18, 183, 0, 21, 76, 43, 42, 180, 0, 9, 181, 0, 9]
abbrev dktX24_again_0 : List UInt8 := dkwX24_again_0 ++ dktX24_again_1
theorem dksX24_again_0 : cX24_again.data.toList.drop 0 = dktX24_again_0 := by decide +kernel
theorem dksX24_again_1 : cX24_again.data.toList.drop 24 = dktX24_again_1 := dk_seg dksX24_again_0 24 rfl rfl
theorem dX24_again_0 : decode cX24_again 0 = .ok (.new 10, 3) := dk_187 0 10 (dk_at dksX24_again_0 0 rfl rfl)
theorem dX24_again_3 : decode cX24_again 3 = .ok (.dup, 1) := dk_89 (dk_at dksX24_again_0 3 rfl rfl)
theorem dX24_again_4 : decode cX24_again 4 = .ok (.aload_n 0, 1) := dk_42 (dk_at dksX24_again_0 4 rfl rfl)
theorem dX24_again_5 : decode cX24_again 5 = .ok (.getfield 15, 3) := dk_180 0 15 (dk_at dksX24_again_0 5 rfl rfl)
theorem dX24_again_8 : decode cX24_again 8 = .ok (.aload_n 0, 1) := dk_42 (dk_at dksX24_again_0 8 rfl rfl)
theorem dX24_again_9 : decode cX24_again 9 = .ok (.getfield 18, 3) := dk_180 0 18 (dk_at dksX24_again_0 9 rfl rfl)
theorem dX24_again_12 : decode cX24_again 12 = .ok (.invokespecial 21, 3) := dk_183 0 21 (dk_at dksX24_again_0 12 rfl rfl)
theorem dX24_again_15 : decode cX24_again 15 = .ok (.astore_n 1, 1) := dk_76 (dk_at dksX24_again_0 15 rfl rfl)
theorem dX24_again_16 : decode cX24_again 16 = .ok (.aload_n 1, 1) := dk_43 (dk_at dksX24_again_0 16 rfl rfl)
theorem dX24_again_17 : decode cX24_again 17 = .ok (.aload_n 0, 1) := dk_42 (dk_at dksX24_again_0 17 rfl rfl)
theorem dX24_again_18 : decode cX24_again 18 = .ok (.getfield 9, 3) := dk_180 0 9 (dk_at dksX24_again_0 18 rfl rfl)
theorem dX24_again_21 : decode cX24_again 21 = .ok (.putfield 9, 3) := dk_181 0 9 (dk_at dksX24_again_0 21 rfl rfl)
theorem dX24_again_24 : decode cX24_again 24 = .ok (.aload_n 1, 1) := dk_43 (dk_at dksX24_again_1 0 rfl rfl)
theorem dX24_again_25 : decode cX24_again 25 = .ok (.areturn, 1) := dk_176 (dk_at dksX24_again_1 1 rfl rfl)
theorem q168 : (Jvm.Cond.initialized "BlindCards$Look") ∈ lw_all := lw_g (lw_at lw_m1 44 rfl) rfl
theorem q439 : (Jvm.Cond.selects "BlindCards$Look" ({ cls := "java/lang/Object", name := "getClass", desc := "()Ljava/lang/Class;" } : Jvm.MethodName) ({ cls := "java/lang/Object", name := "getClass", desc := "()Ljava/lang/Class;" } : Jvm.MethodName)) ∈ lw_all := lw_g (lw_at lw_m2 75 rfl) rfl
theorem q1746 : (Jvm.Cond.instantiable "BlindCards$Look" (3 : Nat)) ∈ lw_all := lw_g (lw_at lw_m7 182 rfl) rfl
theorem q1748 : (Jvm.Cond.instanceMethod ({ cls := "BlindCards$Look", name := "<init>", desc := "(II)V" } : Jvm.MethodName)) ∈ lw_all := lw_g (lw_at lw_m7 184 rfl) rfl
theorem q1749 : (Jvm.Cond.code ({ cls := "BlindCards$Look", name := "<init>", desc := "(II)V" } : Jvm.MethodName) prog_15_method_1_code (3 : Nat) (Option.none : Option Jvm.ClassFile.FieldType)) ∈ lw_all := lw_g (lw_at lw_m7 185 rfl) rfl
theorem q1750 : (Jvm.Cond.methodLink "BlindCards$Look" (3 : Nat) ({ cls := "java/lang/Object", name := "<init>", desc := "()V" } : Jvm.MethodName)) ∈ lw_all := lw_g (lw_at lw_m7 186 rfl) rfl
theorem q1751 : (Jvm.Cond.fieldLink "BlindCards$Look" (15 : Nat) "BlindCards$Look" "path" "I") ∈ lw_all := lw_g (lw_at lw_m7 187 rfl) rfl
theorem q1753 : (Jvm.Cond.fieldLink "BlindCards$Look" (18 : Nat) "BlindCards$Look" "told" "I") ∈ lw_all := lw_g (lw_at lw_m7 189 rfl) rfl
theorem q1754 : (Jvm.Cond.fieldLink "BlindCards$Look" (9 : Nat) "BlindCards$Look" "untold" "I") ∈ lw_all := lw_g (lw_at lw_m7 190 rfl) rfl
theorem q1755 : (Jvm.Cond.laysFinal "BlindCards$Look" "BlindCards$Look" "path" "I") ∈ lw_all := lw_g (lw_at lw_m7 191 rfl) rfl
theorem q1756 : (Jvm.Cond.soleField "BlindCards$Look" "path") ∈ lw_all := lw_g (lw_at lw_m7 192 rfl) rfl
theorem q1757 : (Jvm.Cond.laysFinal "BlindCards$Look" "BlindCards$Look" "told" "I") ∈ lw_all := lw_g (lw_at lw_m7 193 rfl) rfl
theorem q1758 : (Jvm.Cond.soleField "BlindCards$Look" "told") ∈ lw_all := lw_g (lw_at lw_m7 194 rfl) rfl
theorem q1759 : (Jvm.Cond.lays "BlindCards$Look" "BlindCards$Look" "untold" "I") ∈ lw_all := lw_g (lw_at lw_m7 195 rfl) rfl
theorem q1760 : (Jvm.Cond.soleField "BlindCards$Look" "untold") ∈ lw_all := lw_g (lw_at lw_m7 196 rfl) rfl
theorem q1761 : (Jvm.Cond.superclass "BlindCards$Look" "java/lang/Object") ∈ lw_all := lw_g (lw_at lw_m7 197 rfl) rfl
theorem q1767 : (Jvm.Cond.instanceMethod ({ cls := "BlindCards$Look", name := "untell", desc := "(I)Z" } : Jvm.MethodName)) ∈ lw_all := lw_g (lw_at lw_m7 203 rfl) rfl
theorem q1768 : (Jvm.Cond.selects "BlindCards$Look" ({ cls := "BlindCards$Look", name := "untell", desc := "(I)Z" } : Jvm.MethodName) ({ cls := "BlindCards$Look", name := "untell", desc := "(I)Z" } : Jvm.MethodName)) ∈ lw_all := lw_g (lw_at lw_m7 204 rfl) rfl
theorem q1769 : (Jvm.Cond.code ({ cls := "BlindCards$Look", name := "untell", desc := "(I)Z" } : Jvm.MethodName) prog_15_method_3_code (2 : Nat) (Option.some Jvm.ClassFile.FieldType.boolean)) ∈ lw_all := lw_g (lw_at lw_m7 205 rfl) rfl
theorem q1780 : (Jvm.Cond.instanceMethod ({ cls := "BlindCards$Look", name := "isKnown", desc := "(I)Z" } : Jvm.MethodName)) ∈ lw_all := lw_g (lw_at lw_m7 216 rfl) rfl
theorem q1781 : (Jvm.Cond.selects "BlindCards$Look" ({ cls := "BlindCards$Look", name := "isKnown", desc := "(I)Z" } : Jvm.MethodName) ({ cls := "BlindCards$Look", name := "isKnown", desc := "(I)Z" } : Jvm.MethodName)) ∈ lw_all := lw_g (lw_at lw_m7 217 rfl) rfl
theorem q1782 : (Jvm.Cond.code ({ cls := "BlindCards$Look", name := "isKnown", desc := "(I)Z" } : Jvm.MethodName) prog_15_method_4_code (2 : Nat) (Option.some Jvm.ClassFile.FieldType.boolean)) ∈ lw_all := lw_g (lw_at lw_m7 218 rfl) rfl
theorem q1798 : (Jvm.Cond.instanceMethod ({ cls := "BlindCards$Look", name := "again", desc := "()LBlindCards$Look;" } : Jvm.MethodName)) ∈ lw_all := lw_g (lw_at lw_m7 234 rfl) rfl
theorem q1799 : (Jvm.Cond.selects "BlindCards$Look" ({ cls := "BlindCards$Look", name := "again", desc := "()LBlindCards$Look;" } : Jvm.MethodName) ({ cls := "BlindCards$Look", name := "again", desc := "()LBlindCards$Look;" } : Jvm.MethodName)) ∈ lw_all := lw_g (lw_at lw_m7 235 rfl) rfl
theorem q1800 : (Jvm.Cond.code ({ cls := "BlindCards$Look", name := "again", desc := "()LBlindCards$Look;" } : Jvm.MethodName) prog_15_method_2_code (2 : Nat) (Option.some (Jvm.ClassFile.FieldType.object "BlindCards$Look"))) ∈ lw_all := lw_g (lw_at lw_m7 236 rfl) rfl
theorem q1801 : (Jvm.Cond.classLink "BlindCards$Look" (10 : Nat) "BlindCards$Look") ∈ lw_all := lw_g (lw_at lw_m7 237 rfl) rfl
theorem q1802 : (Jvm.Cond.methodLink "BlindCards$Look" (21 : Nat) ({ cls := "BlindCards$Look", name := "<init>", desc := "(II)V" } : Jvm.MethodName)) ∈ lw_all := lw_g (lw_at lw_m7 238 rfl) rfl
theorem q2612 : (Jvm.Cond.castable "BlindCards$Look" "java/lang/Object") ∈ lw_tbl := lw_at lw_m11 88 rfl
theorem in_X24 : ∀ w ∈ wsX240, w ∈ lw_all := lw_in wsX240 [1755, 1757, 1759] (by decide +kernel) (by decide +kernel)

/-! BlindCards$Asked$1 -/
set_option maxRecDepth 100000
def RX25 : String := "BlindCards$Asked$1"
abbrev cX25_of : ByteArray := prog_3_method_2_code
def yX25_of : MethodName := ⟨RX25, "of", "(I)I"⟩
def dkwX25_of_0 : List UInt8 := [27, 4, 126, 172]
abbrev dktX25_of_0 : List UInt8 := dkwX25_of_0 ++ []
theorem dksX25_of_0 : cX25_of.data.toList.drop 0 = dktX25_of_0 := by decide +kernel
theorem dX25_of_0 : decode cX25_of 0 = .ok (.iload_n 1, 1) := dk_27 (dk_at dksX25_of_0 0 rfl rfl)
theorem dX25_of_1 : decode cX25_of 1 = .ok (.iconst 1, 1) := dk_4 (dk_at dksX25_of_0 1 rfl rfl)
theorem dX25_of_2 : decode cX25_of 2 = .ok (.iand, 1) := dk_126 (dk_at dksX25_of_0 2 rfl rfl)
theorem dX25_of_3 : decode cX25_of 3 = .ok (.ireturn, 1) := dk_172 (dk_at dksX25_of_0 3 rfl rfl)
theorem q427 : (Jvm.Cond.selects "BlindCards$Asked$1" ({ cls := "java/lang/Object", name := "getClass", desc := "()Ljava/lang/Class;" } : Jvm.MethodName) ({ cls := "java/lang/Object", name := "getClass", desc := "()Ljava/lang/Class;" } : Jvm.MethodName)) ∈ lw_all := lw_g (lw_at lw_m2 63 rfl) rfl
theorem q662 : (Jvm.Cond.castable "BlindCards$Asked$1" "BlindCards$Node") ∈ lw_tbl := lw_at lw_m3 58 rfl
theorem q663 : (Jvm.Cond.selects "BlindCards$Asked$1" ({ cls := "BlindCards$Node", name := "of", desc := "(I)I" } : Jvm.MethodName) ({ cls := "BlindCards$Asked$1", name := "of", desc := "(I)I" } : Jvm.MethodName)) ∈ lw_all := lw_g (lw_at lw_m3 59 rfl) rfl
theorem q664 : (Jvm.Cond.unhidden "BlindCards$Asked$1" "of" "(I)I") ∈ lw_tbl := lw_at lw_m3 60 rfl
theorem q665 : (Jvm.Cond.instanceMethod ({ cls := "BlindCards$Asked$1", name := "of", desc := "(I)I" } : Jvm.MethodName)) ∈ lw_all := lw_g (lw_at lw_m3 61 rfl) rfl
theorem q666 : (Jvm.Cond.publicMethod ({ cls := "BlindCards$Asked$1", name := "of", desc := "(I)I" } : Jvm.MethodName)) ∈ lw_tbl := lw_at lw_m3 62 rfl
theorem q667 : (Jvm.Cond.code ({ cls := "BlindCards$Asked$1", name := "of", desc := "(I)I" } : Jvm.MethodName) prog_3_method_2_code (2 : Nat) (Option.some Jvm.ClassFile.FieldType.int)) ∈ lw_all := lw_g (lw_at lw_m3 63 rfl) rfl
theorem q2595 : (Jvm.Cond.castable "BlindCards$Asked$1" "java/lang/Object") ∈ lw_tbl := lw_at lw_m11 71 rfl

/-! BlindCards$Asked$2 -/
set_option maxRecDepth 100000
def RX26 : String := "BlindCards$Asked$2"
abbrev cX26_of : ByteArray := prog_4_method_2_code
def yX26_of : MethodName := ⟨RX26, "of", "(I)I"⟩
def dkwX26_of_0 : List UInt8 := [27, 4, 122, 4, 126, 172]
abbrev dktX26_of_0 : List UInt8 := dkwX26_of_0 ++ []
theorem dksX26_of_0 : cX26_of.data.toList.drop 0 = dktX26_of_0 := by decide +kernel
theorem dX26_of_0 : decode cX26_of 0 = .ok (.iload_n 1, 1) := dk_27 (dk_at dksX26_of_0 0 rfl rfl)
theorem dX26_of_1 : decode cX26_of 1 = .ok (.iconst 1, 1) := dk_4 (dk_at dksX26_of_0 1 rfl rfl)
theorem dX26_of_2 : decode cX26_of 2 = .ok (.ishr, 1) := dk_122 (dk_at dksX26_of_0 2 rfl rfl)
theorem dX26_of_3 : decode cX26_of 3 = .ok (.iconst 1, 1) := dk_4 (dk_at dksX26_of_0 3 rfl rfl)
theorem dX26_of_4 : decode cX26_of 4 = .ok (.iand, 1) := dk_126 (dk_at dksX26_of_0 4 rfl rfl)
theorem dX26_of_5 : decode cX26_of 5 = .ok (.ireturn, 1) := dk_172 (dk_at dksX26_of_0 5 rfl rfl)
theorem q428 : (Jvm.Cond.selects "BlindCards$Asked$2" ({ cls := "java/lang/Object", name := "getClass", desc := "()Ljava/lang/Class;" } : Jvm.MethodName) ({ cls := "java/lang/Object", name := "getClass", desc := "()Ljava/lang/Class;" } : Jvm.MethodName)) ∈ lw_all := lw_g (lw_at lw_m2 64 rfl) rfl
theorem q668 : (Jvm.Cond.castable "BlindCards$Asked$2" "BlindCards$Node") ∈ lw_tbl := lw_at lw_m3 64 rfl
theorem q669 : (Jvm.Cond.selects "BlindCards$Asked$2" ({ cls := "BlindCards$Node", name := "of", desc := "(I)I" } : Jvm.MethodName) ({ cls := "BlindCards$Asked$2", name := "of", desc := "(I)I" } : Jvm.MethodName)) ∈ lw_all := lw_g (lw_at lw_m3 65 rfl) rfl
theorem q670 : (Jvm.Cond.unhidden "BlindCards$Asked$2" "of" "(I)I") ∈ lw_tbl := lw_at lw_m3 66 rfl
theorem q671 : (Jvm.Cond.instanceMethod ({ cls := "BlindCards$Asked$2", name := "of", desc := "(I)I" } : Jvm.MethodName)) ∈ lw_all := lw_g (lw_at lw_m3 67 rfl) rfl
theorem q672 : (Jvm.Cond.publicMethod ({ cls := "BlindCards$Asked$2", name := "of", desc := "(I)I" } : Jvm.MethodName)) ∈ lw_tbl := lw_at lw_m3 68 rfl
theorem q673 : (Jvm.Cond.code ({ cls := "BlindCards$Asked$2", name := "of", desc := "(I)I" } : Jvm.MethodName) prog_4_method_2_code (2 : Nat) (Option.some Jvm.ClassFile.FieldType.int)) ∈ lw_all := lw_g (lw_at lw_m3 69 rfl) rfl
theorem q2596 : (Jvm.Cond.castable "BlindCards$Asked$2" "java/lang/Object") ∈ lw_tbl := lw_at lw_m11 72 rfl

/-! BlindCards$Asked$3 -/
set_option maxRecDepth 100000
def RX27 : String := "BlindCards$Asked$3"
abbrev cX27_of : ByteArray := prog_5_method_2_code
def yX27_of : MethodName := ⟨RX27, "of", "(I)I"⟩
def dkwX27_of_0 : List UInt8 := [27, 5, 122, 4, 126, 172]
abbrev dktX27_of_0 : List UInt8 := dkwX27_of_0 ++ []
theorem dksX27_of_0 : cX27_of.data.toList.drop 0 = dktX27_of_0 := by decide +kernel
theorem dX27_of_0 : decode cX27_of 0 = .ok (.iload_n 1, 1) := dk_27 (dk_at dksX27_of_0 0 rfl rfl)
theorem dX27_of_1 : decode cX27_of 1 = .ok (.iconst 2, 1) := dk_5 (dk_at dksX27_of_0 1 rfl rfl)
theorem dX27_of_2 : decode cX27_of 2 = .ok (.ishr, 1) := dk_122 (dk_at dksX27_of_0 2 rfl rfl)
theorem dX27_of_3 : decode cX27_of 3 = .ok (.iconst 1, 1) := dk_4 (dk_at dksX27_of_0 3 rfl rfl)
theorem dX27_of_4 : decode cX27_of 4 = .ok (.iand, 1) := dk_126 (dk_at dksX27_of_0 4 rfl rfl)
theorem dX27_of_5 : decode cX27_of 5 = .ok (.ireturn, 1) := dk_172 (dk_at dksX27_of_0 5 rfl rfl)
theorem q429 : (Jvm.Cond.selects "BlindCards$Asked$3" ({ cls := "java/lang/Object", name := "getClass", desc := "()Ljava/lang/Class;" } : Jvm.MethodName) ({ cls := "java/lang/Object", name := "getClass", desc := "()Ljava/lang/Class;" } : Jvm.MethodName)) ∈ lw_all := lw_g (lw_at lw_m2 65 rfl) rfl
theorem q674 : (Jvm.Cond.castable "BlindCards$Asked$3" "BlindCards$Node") ∈ lw_tbl := lw_at lw_m3 70 rfl
theorem q675 : (Jvm.Cond.selects "BlindCards$Asked$3" ({ cls := "BlindCards$Node", name := "of", desc := "(I)I" } : Jvm.MethodName) ({ cls := "BlindCards$Asked$3", name := "of", desc := "(I)I" } : Jvm.MethodName)) ∈ lw_all := lw_g (lw_at lw_m3 71 rfl) rfl
theorem q676 : (Jvm.Cond.unhidden "BlindCards$Asked$3" "of" "(I)I") ∈ lw_tbl := lw_at lw_m3 72 rfl
theorem q677 : (Jvm.Cond.instanceMethod ({ cls := "BlindCards$Asked$3", name := "of", desc := "(I)I" } : Jvm.MethodName)) ∈ lw_all := lw_g (lw_at lw_m3 73 rfl) rfl
theorem q678 : (Jvm.Cond.publicMethod ({ cls := "BlindCards$Asked$3", name := "of", desc := "(I)I" } : Jvm.MethodName)) ∈ lw_tbl := lw_at lw_m3 74 rfl
theorem q679 : (Jvm.Cond.code ({ cls := "BlindCards$Asked$3", name := "of", desc := "(I)I" } : Jvm.MethodName) prog_5_method_2_code (2 : Nat) (Option.some Jvm.ClassFile.FieldType.int)) ∈ lw_all := lw_g (lw_at lw_m3 75 rfl) rfl
theorem q2597 : (Jvm.Cond.castable "BlindCards$Asked$3" "java/lang/Object") ∈ lw_tbl := lw_at lw_m11 73 rfl

/-! BlindCards$Asked$4 -/
set_option maxRecDepth 100000
def RX28 : String := "BlindCards$Asked$4"
abbrev cX28_of : ByteArray := prog_6_method_2_code
def yX28_of : MethodName := ⟨RX28, "of", "(I)I"⟩
theorem dX28_of_0 : decode cX28_of 0 = .ok (.iload_n 1, 1) := by decide +kernel
theorem dX28_of_1 : decode cX28_of 1 = .ok (.invokestatic 7, 3) := by decide +kernel
theorem dX28_of_4 : decode cX28_of 4 = .ok (.ireturn, 1) := by decide +kernel
theorem q430 : (Jvm.Cond.selects "BlindCards$Asked$4" ({ cls := "java/lang/Object", name := "getClass", desc := "()Ljava/lang/Class;" } : Jvm.MethodName) ({ cls := "java/lang/Object", name := "getClass", desc := "()Ljava/lang/Class;" } : Jvm.MethodName)) ∈ lw_all := lw_g (lw_at lw_m2 66 rfl) rfl
theorem q680 : (Jvm.Cond.castable "BlindCards$Asked$4" "BlindCards$Node") ∈ lw_tbl := lw_at lw_m3 76 rfl
theorem q681 : (Jvm.Cond.selects "BlindCards$Asked$4" ({ cls := "BlindCards$Node", name := "of", desc := "(I)I" } : Jvm.MethodName) ({ cls := "BlindCards$Asked$4", name := "of", desc := "(I)I" } : Jvm.MethodName)) ∈ lw_all := lw_g (lw_at lw_m3 77 rfl) rfl
theorem q682 : (Jvm.Cond.unhidden "BlindCards$Asked$4" "of" "(I)I") ∈ lw_tbl := lw_at lw_m3 78 rfl
theorem q683 : (Jvm.Cond.instanceMethod ({ cls := "BlindCards$Asked$4", name := "of", desc := "(I)I" } : Jvm.MethodName)) ∈ lw_all := lw_g (lw_at lw_m3 79 rfl) rfl
theorem q684 : (Jvm.Cond.publicMethod ({ cls := "BlindCards$Asked$4", name := "of", desc := "(I)I" } : Jvm.MethodName)) ∈ lw_tbl := lw_at lw_m3 80 rfl
theorem q685 : (Jvm.Cond.code ({ cls := "BlindCards$Asked$4", name := "of", desc := "(I)I" } : Jvm.MethodName) prog_6_method_2_code (2 : Nat) (Option.some Jvm.ClassFile.FieldType.int)) ∈ lw_all := lw_g (lw_at lw_m3 81 rfl) rfl
theorem q686 : (Jvm.Cond.methodLink "BlindCards$Asked$4" (7 : Nat) ({ cls := "java/lang/Integer", name := "bitCount", desc := "(I)I" } : Jvm.MethodName)) ∈ lw_all := lw_g (lw_at lw_m3 82 rfl) rfl
theorem q2598 : (Jvm.Cond.castable "BlindCards$Asked$4" "java/lang/Object") ∈ lw_tbl := lw_at lw_m11 74 rfl

/-! BlindCards$Keeper -/
set_option maxRecDepth 100000
def RX3 : String := "BlindCards$Keeper"
def TX3 : u_T := fun k => match k with
  | 0 => ("BlindCards$Runs", "cheat", "I", false)
  | 1 => ("BlindCards$Runs", "bent", "I", false)
  | 2 => ("BlindCards$Runs", "counted", "I", false)
  | 3 => ("BlindCards$Runs", "cheatsRed", "Z", false)
  | 4 => ("BlindCards$Runs", "looks", "[I", true)
  | 5 => ("BlindCards$Runs", "lookMany", "I", false)
  | 6 => ("BlindCards$Runs", "this$0", "LBlindCards;", true)
  | 7 => ("BlindCards$Keeper", "rows", "[I", true)
  | 8 => ("BlindCards$Keeper", "looked", "[I", true)
  | 9 => ("BlindCards$Keeper", "ends", "[I", true)
  | 10 => ("BlindCards$Keeper", "ways", "[J", true)
  | 11 => ("BlindCards$Keeper", "all", "[J", true)
  | 12 => ("BlindCards$Keeper", "many", "I", false)
  | 13 => ("BlindCards$Keeper", "wrong", "I", false)
  | 14 => ("BlindCards$Keeper", "isSpent", "Z", false)
  | _ => ("BlindCards$Keeper", "this$0", "LBlindCards;", true)
def tyX3 : Nat → FieldType := fun k => match k with
  | 0 => .int
  | 1 => .int
  | 2 => .int
  | 3 => .boolean
  | 4 => .array .int
  | 5 => .int
  | 6 => .object "BlindCards"
  | 7 => .array .int
  | 8 => .array .int
  | 9 => .array .int
  | 10 => .array .long
  | 11 => .array .long
  | 12 => .int
  | 13 => .int
  | 14 => .boolean
  | _ => .object "BlindCards"
abbrev wsX30 : List Cond := u_ws RX3 TX3 16
-- two fields of one name: no nmX3
set_option maxRecDepth 100000 in
theorem tyX3_ok : ∀ k, k < 16 → parseFieldDescriptor (TX3 k).2.2.1 = some (tyX3 k) := by decide +kernel
abbrev cX3_init : ByteArray := prog_13_method_1_code
def yX3_init : MethodName := ⟨RX3, "<init>", "(LBlindCards;)V"⟩
def dkwX3_init_2 : List UInt8 := [17, 0, 200, 188, 11, 181, 0, 29, 177]
abbrev dktX3_init_2 : List UInt8 := dkwX3_init_2 ++ []
def dkwX3_init_1 : List UInt8 := [188, 10, 181, 0, 19, 42, 17, 6, 64, 188, 10, 181, 0, 22, 42, 17, 6, 64, 188, 11, 181, 0, 25, 42]
abbrev dktX3_init_1 : List UInt8 := dkwX3_init_1 ++ dktX3_init_2
def dkwX3_init_0 : List UInt8 := [42, 43, 181, 0, 3, 42, 43, 183, 0, 9, 42, 17, 4, 176, 188, 10, 181, 0, 15, 42, 17, 0, 200]
abbrev dktX3_init_0 : List UInt8 := dkwX3_init_0 ++ dktX3_init_1
theorem dksX3_init_0 : cX3_init.data.toList.drop 0 = dktX3_init_0 := by decide +kernel
theorem dksX3_init_1 : cX3_init.data.toList.drop 23 = dktX3_init_1 := dk_seg dksX3_init_0 23 rfl rfl
theorem dksX3_init_2 : cX3_init.data.toList.drop 47 = dktX3_init_2 := dk_seg dksX3_init_1 24 rfl rfl
theorem dX3_init_0 : decode cX3_init 0 = .ok (.aload_n 0, 1) := dk_42 (dk_at dksX3_init_0 0 rfl rfl)
theorem dX3_init_1 : decode cX3_init 1 = .ok (.aload_n 1, 1) := dk_43 (dk_at dksX3_init_0 1 rfl rfl)
theorem dX3_init_2 : decode cX3_init 2 = .ok (.putfield 3, 3) := dk_181 0 3 (dk_at dksX3_init_0 2 rfl rfl)
theorem dX3_init_5 : decode cX3_init 5 = .ok (.aload_n 0, 1) := dk_42 (dk_at dksX3_init_0 5 rfl rfl)
theorem dX3_init_6 : decode cX3_init 6 = .ok (.aload_n 1, 1) := dk_43 (dk_at dksX3_init_0 6 rfl rfl)
theorem dX3_init_7 : decode cX3_init 7 = .ok (.invokespecial 9, 3) := dk_183 0 9 (dk_at dksX3_init_0 7 rfl rfl)
theorem dX3_init_10 : decode cX3_init 10 = .ok (.aload_n 0, 1) := dk_42 (dk_at dksX3_init_0 10 rfl rfl)
theorem dX3_init_11 : decode cX3_init 11 = .ok (.sipush 1200, 3) := dk_17 4 176 (dk_at dksX3_init_0 11 rfl rfl)
theorem dX3_init_14 : decode cX3_init 14 = .ok (.newarray .int, 2) := dk_188_10 (dk_at dksX3_init_0 14 rfl rfl)
theorem dX3_init_16 : decode cX3_init 16 = .ok (.putfield 15, 3) := dk_181 0 15 (dk_at dksX3_init_0 16 rfl rfl)
theorem dX3_init_19 : decode cX3_init 19 = .ok (.aload_n 0, 1) := dk_42 (dk_at dksX3_init_0 19 rfl rfl)
theorem dX3_init_20 : decode cX3_init 20 = .ok (.sipush 200, 3) := dk_17 0 200 (dk_at dksX3_init_0 20 rfl rfl)
theorem dX3_init_23 : decode cX3_init 23 = .ok (.newarray .int, 2) := dk_188_10 (dk_at dksX3_init_1 0 rfl rfl)
theorem dX3_init_25 : decode cX3_init 25 = .ok (.putfield 19, 3) := dk_181 0 19 (dk_at dksX3_init_1 2 rfl rfl)
theorem dX3_init_28 : decode cX3_init 28 = .ok (.aload_n 0, 1) := dk_42 (dk_at dksX3_init_1 5 rfl rfl)
theorem dX3_init_29 : decode cX3_init 29 = .ok (.sipush 1600, 3) := dk_17 6 64 (dk_at dksX3_init_1 6 rfl rfl)
theorem dX3_init_32 : decode cX3_init 32 = .ok (.newarray .int, 2) := dk_188_10 (dk_at dksX3_init_1 9 rfl rfl)
theorem dX3_init_34 : decode cX3_init 34 = .ok (.putfield 22, 3) := dk_181 0 22 (dk_at dksX3_init_1 11 rfl rfl)
theorem dX3_init_37 : decode cX3_init 37 = .ok (.aload_n 0, 1) := dk_42 (dk_at dksX3_init_1 14 rfl rfl)
theorem dX3_init_38 : decode cX3_init 38 = .ok (.sipush 1600, 3) := dk_17 6 64 (dk_at dksX3_init_1 15 rfl rfl)
theorem dX3_init_41 : decode cX3_init 41 = .ok (.newarray .long, 2) := dk_188_11 (dk_at dksX3_init_1 18 rfl rfl)
theorem dX3_init_43 : decode cX3_init 43 = .ok (.putfield 25, 3) := dk_181 0 25 (dk_at dksX3_init_1 20 rfl rfl)
theorem dX3_init_46 : decode cX3_init 46 = .ok (.aload_n 0, 1) := dk_42 (dk_at dksX3_init_1 23 rfl rfl)
theorem dX3_init_47 : decode cX3_init 47 = .ok (.sipush 200, 3) := dk_17 0 200 (dk_at dksX3_init_2 0 rfl rfl)
theorem dX3_init_50 : decode cX3_init 50 = .ok (.newarray .long, 2) := dk_188_11 (dk_at dksX3_init_2 3 rfl rfl)
theorem dX3_init_52 : decode cX3_init 52 = .ok (.putfield 29, 3) := dk_181 0 29 (dk_at dksX3_init_2 5 rfl rfl)
theorem dX3_init_55 : decode cX3_init 55 = .ok (.return_, 1) := dk_177 (dk_at dksX3_init_2 8 rfl rfl)
abbrev cX3_lay : ByteArray := prog_13_method_2_code
def yX3_lay : MethodName := ⟨RX3, "lay", "()V"⟩
def dkwX3_lay_0 : List UInt8 := [42, 3, 181, 0, 32, 42, 2, 181, 0, 36, 42, 3, 181, 0, 39, 42, 182, 0, 43, 177]
abbrev dktX3_lay_0 : List UInt8 := dkwX3_lay_0 ++ []
theorem dksX3_lay_0 : cX3_lay.data.toList.drop 0 = dktX3_lay_0 := by decide +kernel
theorem dX3_lay_0 : decode cX3_lay 0 = .ok (.aload_n 0, 1) := dk_42 (dk_at dksX3_lay_0 0 rfl rfl)
theorem dX3_lay_1 : decode cX3_lay 1 = .ok (.iconst 0, 1) := dk_3 (dk_at dksX3_lay_0 1 rfl rfl)
theorem dX3_lay_2 : decode cX3_lay 2 = .ok (.putfield 32, 3) := dk_181 0 32 (dk_at dksX3_lay_0 2 rfl rfl)
theorem dX3_lay_5 : decode cX3_lay 5 = .ok (.aload_n 0, 1) := dk_42 (dk_at dksX3_lay_0 5 rfl rfl)
theorem dX3_lay_6 : decode cX3_lay 6 = .ok (.iconst (-1), 1) := dk_2 (dk_at dksX3_lay_0 6 rfl rfl)
theorem dX3_lay_7 : decode cX3_lay 7 = .ok (.putfield 36, 3) := dk_181 0 36 (dk_at dksX3_lay_0 7 rfl rfl)
theorem dX3_lay_10 : decode cX3_lay 10 = .ok (.aload_n 0, 1) := dk_42 (dk_at dksX3_lay_0 10 rfl rfl)
theorem dX3_lay_11 : decode cX3_lay 11 = .ok (.iconst 0, 1) := dk_3 (dk_at dksX3_lay_0 11 rfl rfl)
theorem dX3_lay_12 : decode cX3_lay 12 = .ok (.putfield 39, 3) := dk_181 0 39 (dk_at dksX3_lay_0 12 rfl rfl)
theorem dX3_lay_15 : decode cX3_lay 15 = .ok (.aload_n 0, 1) := dk_42 (dk_at dksX3_lay_0 15 rfl rfl)
theorem dX3_lay_16 : decode cX3_lay 16 = .ok (.invokevirtual 43, 3) := dk_182 0 43 (dk_at dksX3_lay_0 16 rfl rfl)
theorem dX3_lay_19 : decode cX3_lay 19 = .ok (.return_, 1) := dk_177 (dk_at dksX3_lay_0 19 rfl rfl)
abbrev cX3_isDone : ByteArray := prog_13_method_3_code
def yX3_isDone : MethodName := ⟨RX3, "isDone", "()Z"⟩
theorem dX3_isDone_0 : decode cX3_isDone 0 = .ok (.aload_n 0, 1) := by decide +kernel
theorem dX3_isDone_1 : decode cX3_isDone 1 = .ok (.getfield 39, 3) := by decide +kernel
theorem dX3_isDone_4 : decode cX3_isDone 4 = .ok (.ireturn, 1) := by decide +kernel
abbrev cX3_end : ByteArray := prog_13_method_4_code
def yX3_end : MethodName := ⟨RX3, "end", "(ILBlindCards$Step;J)V"⟩
def dkwX3_end_8 : List UInt8 := [181, 0, 36, 132, 5, 1, 167, 255, 160, 42, 89, 180, 0, 32, 4, 96, 181, 0, 32, 177]
abbrev dktX3_end_8 : List UInt8 := dkwX3_end_8 ++ []
def dkwX3_end_7 : List UInt8 := [154, 0, 25, 42, 180, 0, 36, 155, 0, 12, 21, 5, 42, 180, 0, 36, 162, 0, 9, 42, 21, 5]
abbrev dktX3_end_7 : List UInt8 := dkwX3_end_7 ++ dktX3_end_8
def dkwX3_end_6 : List UInt8 := [180, 0, 32, 104, 21, 5, 96, 42, 27, 44, 21, 5, 182, 0, 67, 79, 42, 27, 44, 21, 5, 182, 0, 71]
abbrev dktX3_end_6 : List UInt8 := dkwX3_end_6 ++ dktX3_end_7
def dkwX3_end_5 : List UInt8 := [180, 0, 32, 104, 21, 5, 96, 42, 27, 21, 5, 182, 0, 63, 80, 42, 180, 0, 22, 16, 8, 42]
abbrev dktX3_end_5 : List UInt8 := dkwX3_end_5 ++ dktX3_end_6
def dkwX3_end_4 : List UInt8 := [54, 5, 21, 5, 42, 180, 0, 3, 180, 0, 53, 182, 0, 57, 162, 0, 87, 42, 180, 0, 25, 16, 8, 42]
abbrev dktX3_end_4 : List UInt8 := dkwX3_end_4 ++ dktX3_end_5
def dkwX3_end_3 : List UInt8 := [180, 0, 19, 42, 180, 0, 32, 42, 180, 0, 47, 79, 42, 180, 0, 29, 42, 180, 0, 32, 33, 80, 3]
abbrev dktX3_end_3 : List UInt8 := dkwX3_end_3 ++ dktX3_end_4
def dkwX3_end_2 : List UInt8 := [180, 0, 32, 104, 21, 5, 96, 42, 180, 0, 50, 21, 5, 46, 79, 132, 5, 1, 167, 255, 222, 42]
abbrev dktX3_end_2 : List UInt8 := dkwX3_end_2 ++ dktX3_end_3
def dkwX3_end_1 : List UInt8 := [153, 0, 4, 177, 3, 54, 5, 21, 5, 42, 180, 0, 47, 162, 0, 31, 42, 180, 0, 15, 16, 6, 42]
abbrev dktX3_end_1 : List UInt8 := dkwX3_end_1 ++ dktX3_end_2
def dkwX3_end_0 : List UInt8 := [42, 42, 180, 0, 32, 17, 0, 200, 160, 0, 7, 4, 167, 0, 4, 3, 181, 0, 39, 42, 180, 0, 39]
abbrev dktX3_end_0 : List UInt8 := dkwX3_end_0 ++ dktX3_end_1
theorem dksX3_end_0 : cX3_end.data.toList.drop 0 = dktX3_end_0 := by decide +kernel
theorem dksX3_end_1 : cX3_end.data.toList.drop 23 = dktX3_end_1 := dk_seg dksX3_end_0 23 rfl rfl
theorem dksX3_end_2 : cX3_end.data.toList.drop 46 = dktX3_end_2 := dk_seg dksX3_end_1 23 rfl rfl
theorem dksX3_end_3 : cX3_end.data.toList.drop 68 = dktX3_end_3 := dk_seg dksX3_end_2 22 rfl rfl
theorem dksX3_end_4 : cX3_end.data.toList.drop 91 = dktX3_end_4 := dk_seg dksX3_end_3 23 rfl rfl
theorem dksX3_end_5 : cX3_end.data.toList.drop 115 = dktX3_end_5 := dk_seg dksX3_end_4 24 rfl rfl
theorem dksX3_end_6 : cX3_end.data.toList.drop 137 = dktX3_end_6 := dk_seg dksX3_end_5 22 rfl rfl
theorem dksX3_end_7 : cX3_end.data.toList.drop 161 = dktX3_end_7 := dk_seg dksX3_end_6 24 rfl rfl
theorem dksX3_end_8 : cX3_end.data.toList.drop 183 = dktX3_end_8 := dk_seg dksX3_end_7 22 rfl rfl
theorem dX3_end_0 : decode cX3_end 0 = .ok (.aload_n 0, 1) := dk_42 (dk_at dksX3_end_0 0 rfl rfl)
theorem dX3_end_1 : decode cX3_end 1 = .ok (.aload_n 0, 1) := dk_42 (dk_at dksX3_end_0 1 rfl rfl)
theorem dX3_end_2 : decode cX3_end 2 = .ok (.getfield 32, 3) := dk_180 0 32 (dk_at dksX3_end_0 2 rfl rfl)
theorem dX3_end_5 : decode cX3_end 5 = .ok (.sipush 200, 3) := dk_17 0 200 (dk_at dksX3_end_0 5 rfl rfl)
theorem dX3_end_8 : decode cX3_end 8 = .ok (.if_icmp .ne 7, 3) := dk_160 0 7 (dk_at dksX3_end_0 8 rfl rfl)
theorem dX3_end_11 : decode cX3_end 11 = .ok (.iconst 1, 1) := dk_4 (dk_at dksX3_end_0 11 rfl rfl)
theorem dX3_end_12 : decode cX3_end 12 = .ok (.goto 4, 3) := dk_167 0 4 (dk_at dksX3_end_0 12 rfl rfl)
theorem dX3_end_15 : decode cX3_end 15 = .ok (.iconst 0, 1) := dk_3 (dk_at dksX3_end_0 15 rfl rfl)
theorem dX3_end_16 : decode cX3_end 16 = .ok (.putfield 39, 3) := dk_181 0 39 (dk_at dksX3_end_0 16 rfl rfl)
theorem dX3_end_19 : decode cX3_end 19 = .ok (.aload_n 0, 1) := dk_42 (dk_at dksX3_end_0 19 rfl rfl)
theorem dX3_end_20 : decode cX3_end 20 = .ok (.getfield 39, 3) := dk_180 0 39 (dk_at dksX3_end_0 20 rfl rfl)
theorem dX3_end_23 : decode cX3_end 23 = .ok (.ifCond .eq 4, 3) := dk_153 0 4 (dk_at dksX3_end_1 0 rfl rfl)
theorem dX3_end_26 : decode cX3_end 26 = .ok (.return_, 1) := dk_177 (dk_at dksX3_end_1 3 rfl rfl)
theorem dX3_end_27 : decode cX3_end 27 = .ok (.iconst 0, 1) := dk_3 (dk_at dksX3_end_1 4 rfl rfl)
theorem dX3_end_28 : decode cX3_end 28 = .ok (.istore 5, 2) := dk_54 5 (dk_at dksX3_end_1 5 rfl rfl)
theorem dX3_end_30 : decode cX3_end 30 = .ok (.iload 5, 2) := dk_21 5 (dk_at dksX3_end_1 7 rfl rfl)
theorem dX3_end_32 : decode cX3_end 32 = .ok (.aload_n 0, 1) := dk_42 (dk_at dksX3_end_1 9 rfl rfl)
theorem dX3_end_33 : decode cX3_end 33 = .ok (.getfield 47, 3) := dk_180 0 47 (dk_at dksX3_end_1 10 rfl rfl)
theorem dX3_end_36 : decode cX3_end 36 = .ok (.if_icmp .ge 31, 3) := dk_162 0 31 (dk_at dksX3_end_1 13 rfl rfl)
theorem dX3_end_39 : decode cX3_end 39 = .ok (.aload_n 0, 1) := dk_42 (dk_at dksX3_end_1 16 rfl rfl)
theorem dX3_end_40 : decode cX3_end 40 = .ok (.getfield 15, 3) := dk_180 0 15 (dk_at dksX3_end_1 17 rfl rfl)
theorem dX3_end_43 : decode cX3_end 43 = .ok (.bipush 6, 2) := dk_16 6 (dk_at dksX3_end_1 20 rfl rfl)
theorem dX3_end_45 : decode cX3_end 45 = .ok (.aload_n 0, 1) := dk_42 (dk_at dksX3_end_1 22 rfl rfl)
theorem dX3_end_46 : decode cX3_end 46 = .ok (.getfield 32, 3) := dk_180 0 32 (dk_at dksX3_end_2 0 rfl rfl)
theorem dX3_end_49 : decode cX3_end 49 = .ok (.imul, 1) := dk_104 (dk_at dksX3_end_2 3 rfl rfl)
theorem dX3_end_50 : decode cX3_end 50 = .ok (.iload 5, 2) := dk_21 5 (dk_at dksX3_end_2 4 rfl rfl)
theorem dX3_end_52 : decode cX3_end 52 = .ok (.iadd, 1) := dk_96 (dk_at dksX3_end_2 6 rfl rfl)
theorem dX3_end_53 : decode cX3_end 53 = .ok (.aload_n 0, 1) := dk_42 (dk_at dksX3_end_2 7 rfl rfl)
theorem dX3_end_54 : decode cX3_end 54 = .ok (.getfield 50, 3) := dk_180 0 50 (dk_at dksX3_end_2 8 rfl rfl)
theorem dX3_end_57 : decode cX3_end 57 = .ok (.iload 5, 2) := dk_21 5 (dk_at dksX3_end_2 11 rfl rfl)
theorem dX3_end_59 : decode cX3_end 59 = .ok (.iaload, 1) := dk_46 (dk_at dksX3_end_2 13 rfl rfl)
theorem dX3_end_60 : decode cX3_end 60 = .ok (.iastore, 1) := dk_79 (dk_at dksX3_end_2 14 rfl rfl)
theorem dX3_end_61 : decode cX3_end 61 = .ok (.iinc 5 1, 3) := dk_132 5 1 (dk_at dksX3_end_2 15 rfl rfl)
theorem dX3_end_64 : decode cX3_end 64 = .ok (.goto (-34), 3) := dk_167 255 222 (dk_at dksX3_end_2 18 rfl rfl)
theorem dX3_end_67 : decode cX3_end 67 = .ok (.aload_n 0, 1) := dk_42 (dk_at dksX3_end_2 21 rfl rfl)
theorem dX3_end_68 : decode cX3_end 68 = .ok (.getfield 19, 3) := dk_180 0 19 (dk_at dksX3_end_3 0 rfl rfl)
theorem dX3_end_71 : decode cX3_end 71 = .ok (.aload_n 0, 1) := dk_42 (dk_at dksX3_end_3 3 rfl rfl)
theorem dX3_end_72 : decode cX3_end 72 = .ok (.getfield 32, 3) := dk_180 0 32 (dk_at dksX3_end_3 4 rfl rfl)
theorem dX3_end_75 : decode cX3_end 75 = .ok (.aload_n 0, 1) := dk_42 (dk_at dksX3_end_3 7 rfl rfl)
theorem dX3_end_76 : decode cX3_end 76 = .ok (.getfield 47, 3) := dk_180 0 47 (dk_at dksX3_end_3 8 rfl rfl)
theorem dX3_end_79 : decode cX3_end 79 = .ok (.iastore, 1) := dk_79 (dk_at dksX3_end_3 11 rfl rfl)
theorem dX3_end_80 : decode cX3_end 80 = .ok (.aload_n 0, 1) := dk_42 (dk_at dksX3_end_3 12 rfl rfl)
theorem dX3_end_81 : decode cX3_end 81 = .ok (.getfield 29, 3) := dk_180 0 29 (dk_at dksX3_end_3 13 rfl rfl)
theorem dX3_end_84 : decode cX3_end 84 = .ok (.aload_n 0, 1) := dk_42 (dk_at dksX3_end_3 16 rfl rfl)
theorem dX3_end_85 : decode cX3_end 85 = .ok (.getfield 32, 3) := dk_180 0 32 (dk_at dksX3_end_3 17 rfl rfl)
theorem dX3_end_88 : decode cX3_end 88 = .ok (.lload_n 3, 1) := dk_33 (dk_at dksX3_end_3 20 rfl rfl)
theorem dX3_end_89 : decode cX3_end 89 = .ok (.lastore, 1) := dk_80 (dk_at dksX3_end_3 21 rfl rfl)
theorem dX3_end_90 : decode cX3_end 90 = .ok (.iconst 0, 1) := dk_3 (dk_at dksX3_end_3 22 rfl rfl)
theorem dX3_end_91 : decode cX3_end 91 = .ok (.istore 5, 2) := dk_54 5 (dk_at dksX3_end_4 0 rfl rfl)
theorem dX3_end_93 : decode cX3_end 93 = .ok (.iload 5, 2) := dk_21 5 (dk_at dksX3_end_4 2 rfl rfl)
theorem dX3_end_95 : decode cX3_end 95 = .ok (.aload_n 0, 1) := dk_42 (dk_at dksX3_end_4 4 rfl rfl)
theorem dX3_end_96 : decode cX3_end 96 = .ok (.getfield 3, 3) := dk_180 0 3 (dk_at dksX3_end_4 5 rfl rfl)
theorem dX3_end_99 : decode cX3_end 99 = .ok (.getfield 53, 3) := dk_180 0 53 (dk_at dksX3_end_4 8 rfl rfl)
theorem dX3_end_102 : decode cX3_end 102 = .ok (.invokevirtual 57, 3) := dk_182 0 57 (dk_at dksX3_end_4 11 rfl rfl)
theorem dX3_end_105 : decode cX3_end 105 = .ok (.if_icmp .ge 87, 3) := dk_162 0 87 (dk_at dksX3_end_4 14 rfl rfl)
theorem dX3_end_108 : decode cX3_end 108 = .ok (.aload_n 0, 1) := dk_42 (dk_at dksX3_end_4 17 rfl rfl)
theorem dX3_end_109 : decode cX3_end 109 = .ok (.getfield 25, 3) := dk_180 0 25 (dk_at dksX3_end_4 18 rfl rfl)
theorem dX3_end_112 : decode cX3_end 112 = .ok (.bipush 8, 2) := dk_16 8 (dk_at dksX3_end_4 21 rfl rfl)
theorem dX3_end_114 : decode cX3_end 114 = .ok (.aload_n 0, 1) := dk_42 (dk_at dksX3_end_4 23 rfl rfl)
theorem dX3_end_115 : decode cX3_end 115 = .ok (.getfield 32, 3) := dk_180 0 32 (dk_at dksX3_end_5 0 rfl rfl)
theorem dX3_end_118 : decode cX3_end 118 = .ok (.imul, 1) := dk_104 (dk_at dksX3_end_5 3 rfl rfl)
theorem dX3_end_119 : decode cX3_end 119 = .ok (.iload 5, 2) := dk_21 5 (dk_at dksX3_end_5 4 rfl rfl)
theorem dX3_end_121 : decode cX3_end 121 = .ok (.iadd, 1) := dk_96 (dk_at dksX3_end_5 6 rfl rfl)
theorem dX3_end_122 : decode cX3_end 122 = .ok (.aload_n 0, 1) := dk_42 (dk_at dksX3_end_5 7 rfl rfl)
theorem dX3_end_123 : decode cX3_end 123 = .ok (.iload_n 1, 1) := dk_27 (dk_at dksX3_end_5 8 rfl rfl)
theorem dX3_end_124 : decode cX3_end 124 = .ok (.iload 5, 2) := dk_21 5 (dk_at dksX3_end_5 9 rfl rfl)
theorem dX3_end_126 : decode cX3_end 126 = .ok (.invokevirtual 63, 3) := dk_182 0 63 (dk_at dksX3_end_5 11 rfl rfl)
theorem dX3_end_129 : decode cX3_end 129 = .ok (.lastore, 1) := dk_80 (dk_at dksX3_end_5 14 rfl rfl)
theorem dX3_end_130 : decode cX3_end 130 = .ok (.aload_n 0, 1) := dk_42 (dk_at dksX3_end_5 15 rfl rfl)
theorem dX3_end_131 : decode cX3_end 131 = .ok (.getfield 22, 3) := dk_180 0 22 (dk_at dksX3_end_5 16 rfl rfl)
theorem dX3_end_134 : decode cX3_end 134 = .ok (.bipush 8, 2) := dk_16 8 (dk_at dksX3_end_5 19 rfl rfl)
theorem dX3_end_136 : decode cX3_end 136 = .ok (.aload_n 0, 1) := dk_42 (dk_at dksX3_end_5 21 rfl rfl)
theorem dX3_end_137 : decode cX3_end 137 = .ok (.getfield 32, 3) := dk_180 0 32 (dk_at dksX3_end_6 0 rfl rfl)
theorem dX3_end_140 : decode cX3_end 140 = .ok (.imul, 1) := dk_104 (dk_at dksX3_end_6 3 rfl rfl)
theorem dX3_end_141 : decode cX3_end 141 = .ok (.iload 5, 2) := dk_21 5 (dk_at dksX3_end_6 4 rfl rfl)
theorem dX3_end_143 : decode cX3_end 143 = .ok (.iadd, 1) := dk_96 (dk_at dksX3_end_6 6 rfl rfl)
theorem dX3_end_144 : decode cX3_end 144 = .ok (.aload_n 0, 1) := dk_42 (dk_at dksX3_end_6 7 rfl rfl)
theorem dX3_end_145 : decode cX3_end 145 = .ok (.iload_n 1, 1) := dk_27 (dk_at dksX3_end_6 8 rfl rfl)
theorem dX3_end_146 : decode cX3_end 146 = .ok (.aload_n 2, 1) := dk_44 (dk_at dksX3_end_6 9 rfl rfl)
theorem dX3_end_147 : decode cX3_end 147 = .ok (.iload 5, 2) := dk_21 5 (dk_at dksX3_end_6 10 rfl rfl)
theorem dX3_end_149 : decode cX3_end 149 = .ok (.invokevirtual 67, 3) := dk_182 0 67 (dk_at dksX3_end_6 12 rfl rfl)
theorem dX3_end_152 : decode cX3_end 152 = .ok (.iastore, 1) := dk_79 (dk_at dksX3_end_6 15 rfl rfl)
theorem dX3_end_153 : decode cX3_end 153 = .ok (.aload_n 0, 1) := dk_42 (dk_at dksX3_end_6 16 rfl rfl)
theorem dX3_end_154 : decode cX3_end 154 = .ok (.iload_n 1, 1) := dk_27 (dk_at dksX3_end_6 17 rfl rfl)
theorem dX3_end_155 : decode cX3_end 155 = .ok (.aload_n 2, 1) := dk_44 (dk_at dksX3_end_6 18 rfl rfl)
theorem dX3_end_156 : decode cX3_end 156 = .ok (.iload 5, 2) := dk_21 5 (dk_at dksX3_end_6 19 rfl rfl)
theorem dX3_end_158 : decode cX3_end 158 = .ok (.invokevirtual 71, 3) := dk_182 0 71 (dk_at dksX3_end_6 21 rfl rfl)
theorem dX3_end_161 : decode cX3_end 161 = .ok (.ifCond .ne 25, 3) := dk_154 0 25 (dk_at dksX3_end_7 0 rfl rfl)
theorem dX3_end_164 : decode cX3_end 164 = .ok (.aload_n 0, 1) := dk_42 (dk_at dksX3_end_7 3 rfl rfl)
theorem dX3_end_165 : decode cX3_end 165 = .ok (.getfield 36, 3) := dk_180 0 36 (dk_at dksX3_end_7 4 rfl rfl)
theorem dX3_end_168 : decode cX3_end 168 = .ok (.ifCond .lt 12, 3) := dk_155 0 12 (dk_at dksX3_end_7 7 rfl rfl)
theorem dX3_end_171 : decode cX3_end 171 = .ok (.iload 5, 2) := dk_21 5 (dk_at dksX3_end_7 10 rfl rfl)
theorem dX3_end_173 : decode cX3_end 173 = .ok (.aload_n 0, 1) := dk_42 (dk_at dksX3_end_7 12 rfl rfl)
theorem dX3_end_174 : decode cX3_end 174 = .ok (.getfield 36, 3) := dk_180 0 36 (dk_at dksX3_end_7 13 rfl rfl)
theorem dX3_end_177 : decode cX3_end 177 = .ok (.if_icmp .ge 9, 3) := dk_162 0 9 (dk_at dksX3_end_7 16 rfl rfl)
theorem dX3_end_180 : decode cX3_end 180 = .ok (.aload_n 0, 1) := dk_42 (dk_at dksX3_end_7 19 rfl rfl)
theorem dX3_end_181 : decode cX3_end 181 = .ok (.iload 5, 2) := dk_21 5 (dk_at dksX3_end_7 20 rfl rfl)
theorem dX3_end_183 : decode cX3_end 183 = .ok (.putfield 36, 3) := dk_181 0 36 (dk_at dksX3_end_8 0 rfl rfl)
theorem dX3_end_186 : decode cX3_end 186 = .ok (.iinc 5 1, 3) := dk_132 5 1 (dk_at dksX3_end_8 3 rfl rfl)
theorem dX3_end_189 : decode cX3_end 189 = .ok (.goto (-96), 3) := dk_167 255 160 (dk_at dksX3_end_8 6 rfl rfl)
theorem dX3_end_192 : decode cX3_end 192 = .ok (.aload_n 0, 1) := dk_42 (dk_at dksX3_end_8 9 rfl rfl)
theorem dX3_end_193 : decode cX3_end 193 = .ok (.dup, 1) := dk_89 (dk_at dksX3_end_8 10 rfl rfl)
theorem dX3_end_194 : decode cX3_end 194 = .ok (.getfield 32, 3) := dk_180 0 32 (dk_at dksX3_end_8 11 rfl rfl)
theorem dX3_end_197 : decode cX3_end 197 = .ok (.iconst 1, 1) := dk_4 (dk_at dksX3_end_8 14 rfl rfl)
theorem dX3_end_198 : decode cX3_end 198 = .ok (.iadd, 1) := dk_96 (dk_at dksX3_end_8 15 rfl rfl)
theorem dX3_end_199 : decode cX3_end 199 = .ok (.putfield 32, 3) := dk_181 0 32 (dk_at dksX3_end_8 16 rfl rfl)
theorem dX3_end_202 : decode cX3_end 202 = .ok (.return_, 1) := dk_177 (dk_at dksX3_end_8 19 rfl rfl)
abbrev cX3_isRight : ByteArray := prog_13_method_5_code
def yX3_isRight : MethodName := ⟨RX3, "isRight", "(ILBlindCards$Step;I)Z"⟩
def dkwX3_isRight_3 : List UInt8 := [132, 5, 1, 167, 255, 189, 21, 4, 172]
abbrev dktX3_isRight_3 : List UInt8 := dkwX3_isRight_3 ++ []
def dkwX3_isRight_2 : List UInt8 := [180, 0, 3, 180, 0, 53, 29, 182, 0, 79, 182, 0, 83, 153, 0, 7, 4, 167, 0, 4, 3, 54, 4]
abbrev dktX3_isRight_2 : List UInt8 := dkwX3_isRight_2 ++ dktX3_isRight_3
def dkwX3_isRight_1 : List UInt8 := [180, 0, 75, 27, 50, 17, 1, 0, 29, 104, 21, 5, 96, 47, 9, 148, 153, 0, 24, 42, 44, 21, 5, 42]
abbrev dktX3_isRight_1 : List UInt8 := dkwX3_isRight_1 ++ dktX3_isRight_2
def dkwX3_isRight_0 : List UInt8 := [4, 54, 4, 3, 54, 5, 21, 5, 17, 1, 0, 162, 0, 65, 21, 4, 153, 0, 51, 42, 180, 0, 3]
abbrev dktX3_isRight_0 : List UInt8 := dkwX3_isRight_0 ++ dktX3_isRight_1
theorem dksX3_isRight_0 : cX3_isRight.data.toList.drop 0 = dktX3_isRight_0 := by decide +kernel
theorem dksX3_isRight_1 : cX3_isRight.data.toList.drop 23 = dktX3_isRight_1 := dk_seg dksX3_isRight_0 23 rfl rfl
theorem dksX3_isRight_2 : cX3_isRight.data.toList.drop 47 = dktX3_isRight_2 := dk_seg dksX3_isRight_1 24 rfl rfl
theorem dksX3_isRight_3 : cX3_isRight.data.toList.drop 70 = dktX3_isRight_3 := dk_seg dksX3_isRight_2 23 rfl rfl
theorem dX3_isRight_0 : decode cX3_isRight 0 = .ok (.iconst 1, 1) := dk_4 (dk_at dksX3_isRight_0 0 rfl rfl)
theorem dX3_isRight_1 : decode cX3_isRight 1 = .ok (.istore 4, 2) := dk_54 4 (dk_at dksX3_isRight_0 1 rfl rfl)
theorem dX3_isRight_3 : decode cX3_isRight 3 = .ok (.iconst 0, 1) := dk_3 (dk_at dksX3_isRight_0 3 rfl rfl)
theorem dX3_isRight_4 : decode cX3_isRight 4 = .ok (.istore 5, 2) := dk_54 5 (dk_at dksX3_isRight_0 4 rfl rfl)
theorem dX3_isRight_6 : decode cX3_isRight 6 = .ok (.iload 5, 2) := dk_21 5 (dk_at dksX3_isRight_0 6 rfl rfl)
theorem dX3_isRight_8 : decode cX3_isRight 8 = .ok (.sipush 256, 3) := dk_17 1 0 (dk_at dksX3_isRight_0 8 rfl rfl)
theorem dX3_isRight_11 : decode cX3_isRight 11 = .ok (.if_icmp .ge 65, 3) := dk_162 0 65 (dk_at dksX3_isRight_0 11 rfl rfl)
theorem dX3_isRight_14 : decode cX3_isRight 14 = .ok (.iload 4, 2) := dk_21 4 (dk_at dksX3_isRight_0 14 rfl rfl)
theorem dX3_isRight_16 : decode cX3_isRight 16 = .ok (.ifCond .eq 51, 3) := dk_153 0 51 (dk_at dksX3_isRight_0 16 rfl rfl)
theorem dX3_isRight_19 : decode cX3_isRight 19 = .ok (.aload_n 0, 1) := dk_42 (dk_at dksX3_isRight_0 19 rfl rfl)
theorem dX3_isRight_20 : decode cX3_isRight 20 = .ok (.getfield 3, 3) := dk_180 0 3 (dk_at dksX3_isRight_0 20 rfl rfl)
theorem dX3_isRight_23 : decode cX3_isRight 23 = .ok (.getfield 75, 3) := dk_180 0 75 (dk_at dksX3_isRight_1 0 rfl rfl)
theorem dX3_isRight_26 : decode cX3_isRight 26 = .ok (.iload_n 1, 1) := dk_27 (dk_at dksX3_isRight_1 3 rfl rfl)
theorem dX3_isRight_27 : decode cX3_isRight 27 = .ok (.aaload, 1) := dk_50 (dk_at dksX3_isRight_1 4 rfl rfl)
theorem dX3_isRight_28 : decode cX3_isRight 28 = .ok (.sipush 256, 3) := dk_17 1 0 (dk_at dksX3_isRight_1 5 rfl rfl)
theorem dX3_isRight_31 : decode cX3_isRight 31 = .ok (.iload_n 3, 1) := dk_29 (dk_at dksX3_isRight_1 8 rfl rfl)
theorem dX3_isRight_32 : decode cX3_isRight 32 = .ok (.imul, 1) := dk_104 (dk_at dksX3_isRight_1 9 rfl rfl)
theorem dX3_isRight_33 : decode cX3_isRight 33 = .ok (.iload 5, 2) := dk_21 5 (dk_at dksX3_isRight_1 10 rfl rfl)
theorem dX3_isRight_35 : decode cX3_isRight 35 = .ok (.iadd, 1) := dk_96 (dk_at dksX3_isRight_1 12 rfl rfl)
theorem dX3_isRight_36 : decode cX3_isRight 36 = .ok (.laload, 1) := dk_47 (dk_at dksX3_isRight_1 13 rfl rfl)
theorem dX3_isRight_37 : decode cX3_isRight 37 = .ok (.lconst 0, 1) := dk_9 (dk_at dksX3_isRight_1 14 rfl rfl)
theorem dX3_isRight_38 : decode cX3_isRight 38 = .ok (.lcmp, 1) := dk_148 (dk_at dksX3_isRight_1 15 rfl rfl)
theorem dX3_isRight_39 : decode cX3_isRight 39 = .ok (.ifCond .eq 24, 3) := dk_153 0 24 (dk_at dksX3_isRight_1 16 rfl rfl)
theorem dX3_isRight_42 : decode cX3_isRight 42 = .ok (.aload_n 0, 1) := dk_42 (dk_at dksX3_isRight_1 19 rfl rfl)
theorem dX3_isRight_43 : decode cX3_isRight 43 = .ok (.aload_n 2, 1) := dk_44 (dk_at dksX3_isRight_1 20 rfl rfl)
theorem dX3_isRight_44 : decode cX3_isRight 44 = .ok (.iload 5, 2) := dk_21 5 (dk_at dksX3_isRight_1 21 rfl rfl)
theorem dX3_isRight_46 : decode cX3_isRight 46 = .ok (.aload_n 0, 1) := dk_42 (dk_at dksX3_isRight_1 23 rfl rfl)
theorem dX3_isRight_47 : decode cX3_isRight 47 = .ok (.getfield 3, 3) := dk_180 0 3 (dk_at dksX3_isRight_2 0 rfl rfl)
theorem dX3_isRight_50 : decode cX3_isRight 50 = .ok (.getfield 53, 3) := dk_180 0 53 (dk_at dksX3_isRight_2 3 rfl rfl)
theorem dX3_isRight_53 : decode cX3_isRight 53 = .ok (.iload_n 3, 1) := dk_29 (dk_at dksX3_isRight_2 6 rfl rfl)
theorem dX3_isRight_54 : decode cX3_isRight 54 = .ok (.invokevirtual 79, 3) := dk_182 0 79 (dk_at dksX3_isRight_2 7 rfl rfl)
theorem dX3_isRight_57 : decode cX3_isRight 57 = .ok (.invokevirtual 83, 3) := dk_182 0 83 (dk_at dksX3_isRight_2 10 rfl rfl)
theorem dX3_isRight_60 : decode cX3_isRight 60 = .ok (.ifCond .eq 7, 3) := dk_153 0 7 (dk_at dksX3_isRight_2 13 rfl rfl)
theorem dX3_isRight_63 : decode cX3_isRight 63 = .ok (.iconst 1, 1) := dk_4 (dk_at dksX3_isRight_2 16 rfl rfl)
theorem dX3_isRight_64 : decode cX3_isRight 64 = .ok (.goto 4, 3) := dk_167 0 4 (dk_at dksX3_isRight_2 17 rfl rfl)
theorem dX3_isRight_67 : decode cX3_isRight 67 = .ok (.iconst 0, 1) := dk_3 (dk_at dksX3_isRight_2 20 rfl rfl)
theorem dX3_isRight_68 : decode cX3_isRight 68 = .ok (.istore 4, 2) := dk_54 4 (dk_at dksX3_isRight_2 21 rfl rfl)
theorem dX3_isRight_70 : decode cX3_isRight 70 = .ok (.iinc 5 1, 3) := dk_132 5 1 (dk_at dksX3_isRight_3 0 rfl rfl)
theorem dX3_isRight_73 : decode cX3_isRight 73 = .ok (.goto (-67), 3) := dk_167 255 189 (dk_at dksX3_isRight_3 3 rfl rfl)
theorem dX3_isRight_76 : decode cX3_isRight 76 = .ok (.iload 4, 2) := dk_21 4 (dk_at dksX3_isRight_3 6 rfl rfl)
theorem dX3_isRight_78 : decode cX3_isRight 78 = .ok (.ireturn, 1) := dk_172 (dk_at dksX3_isRight_3 8 rfl rfl)
abbrev cX3_isAnswer : ByteArray := prog_13_method_6_code
def yX3_isAnswer : MethodName := ⟨RX3, "isAnswer", "(LBlindCards$Step;II)Z"⟩
def dkwX3_isAnswer_0 : List UInt8 := [43, 28, 184, 0, 87, 155, 0, 16, 43, 28, 184, 0, 87, 29, 160, 0, 7, 4, 167, 0, 4, 3, 172]
abbrev dktX3_isAnswer_0 : List UInt8 := dkwX3_isAnswer_0 ++ []
theorem dksX3_isAnswer_0 : cX3_isAnswer.data.toList.drop 0 = dktX3_isAnswer_0 := by decide +kernel
theorem dX3_isAnswer_0 : decode cX3_isAnswer 0 = .ok (.aload_n 1, 1) := dk_43 (dk_at dksX3_isAnswer_0 0 rfl rfl)
theorem dX3_isAnswer_1 : decode cX3_isAnswer 1 = .ok (.iload_n 2, 1) := dk_28 (dk_at dksX3_isAnswer_0 1 rfl rfl)
theorem dX3_isAnswer_2 : decode cX3_isAnswer 2 = .ok (.invokestatic 87, 3) := dk_184 0 87 (dk_at dksX3_isAnswer_0 2 rfl rfl)
theorem dX3_isAnswer_5 : decode cX3_isAnswer 5 = .ok (.ifCond .lt 16, 3) := dk_155 0 16 (dk_at dksX3_isAnswer_0 5 rfl rfl)
theorem dX3_isAnswer_8 : decode cX3_isAnswer 8 = .ok (.aload_n 1, 1) := dk_43 (dk_at dksX3_isAnswer_0 8 rfl rfl)
theorem dX3_isAnswer_9 : decode cX3_isAnswer 9 = .ok (.iload_n 2, 1) := dk_28 (dk_at dksX3_isAnswer_0 9 rfl rfl)
theorem dX3_isAnswer_10 : decode cX3_isAnswer 10 = .ok (.invokestatic 87, 3) := dk_184 0 87 (dk_at dksX3_isAnswer_0 10 rfl rfl)
theorem dX3_isAnswer_13 : decode cX3_isAnswer 13 = .ok (.iload_n 3, 1) := dk_29 (dk_at dksX3_isAnswer_0 13 rfl rfl)
theorem dX3_isAnswer_14 : decode cX3_isAnswer 14 = .ok (.if_icmp .ne 7, 3) := dk_160 0 7 (dk_at dksX3_isAnswer_0 14 rfl rfl)
theorem dX3_isAnswer_17 : decode cX3_isAnswer 17 = .ok (.iconst 1, 1) := dk_4 (dk_at dksX3_isAnswer_0 17 rfl rfl)
theorem dX3_isAnswer_18 : decode cX3_isAnswer 18 = .ok (.goto 4, 3) := dk_167 0 4 (dk_at dksX3_isAnswer_0 18 rfl rfl)
theorem dX3_isAnswer_21 : decode cX3_isAnswer 21 = .ok (.iconst 0, 1) := dk_3 (dk_at dksX3_isAnswer_0 21 rfl rfl)
theorem dX3_isAnswer_22 : decode cX3_isAnswer 22 = .ok (.ireturn, 1) := dk_172 (dk_at dksX3_isAnswer_0 22 rfl rfl)
abbrev cX3_path : ByteArray := prog_13_method_7_code
def yX3_path : MethodName := ⟨RX3, "path", "([II)I"⟩
def dkwX3_path_3 : List UInt8 := [167, 255, 216, 21, 4, 153, 0, 5, 29, 172, 132, 3, 1, 167, 255, 175, 2, 172]
abbrev dktX3_path_3 : List UInt8 := dkwX3_path_3 ++ []
def dkwX3_path_2 : List UInt8 := [104, 21, 5, 96, 46, 43, 21, 5, 46, 160, 0, 7, 4, 167, 0, 4, 3, 54, 4, 132, 5, 1]
abbrev dktX3_path_2 : List UInt8 := dkwX3_path_2 ++ dktX3_path_3
def dkwX3_path_1 : List UInt8 := [3, 54, 4, 3, 54, 5, 21, 5, 28, 162, 0, 40, 21, 4, 153, 0, 26, 42, 180, 0, 15, 16, 6, 29]
abbrev dktX3_path_1 : List UInt8 := dkwX3_path_1 ++ dktX3_path_2
def dkwX3_path_0 : List UInt8 := [3, 62, 29, 42, 180, 0, 32, 162, 0, 79, 42, 180, 0, 19, 29, 46, 28, 160, 0, 7, 4, 167, 0, 4]
abbrev dktX3_path_0 : List UInt8 := dkwX3_path_0 ++ dktX3_path_1
theorem dksX3_path_0 : cX3_path.data.toList.drop 0 = dktX3_path_0 := by decide +kernel
theorem dksX3_path_1 : cX3_path.data.toList.drop 24 = dktX3_path_1 := dk_seg dksX3_path_0 24 rfl rfl
theorem dksX3_path_2 : cX3_path.data.toList.drop 48 = dktX3_path_2 := dk_seg dksX3_path_1 24 rfl rfl
theorem dksX3_path_3 : cX3_path.data.toList.drop 70 = dktX3_path_3 := dk_seg dksX3_path_2 22 rfl rfl
theorem dX3_path_0 : decode cX3_path 0 = .ok (.iconst 0, 1) := dk_3 (dk_at dksX3_path_0 0 rfl rfl)
theorem dX3_path_1 : decode cX3_path 1 = .ok (.istore_n 3, 1) := dk_62 (dk_at dksX3_path_0 1 rfl rfl)
theorem dX3_path_2 : decode cX3_path 2 = .ok (.iload_n 3, 1) := dk_29 (dk_at dksX3_path_0 2 rfl rfl)
theorem dX3_path_3 : decode cX3_path 3 = .ok (.aload_n 0, 1) := dk_42 (dk_at dksX3_path_0 3 rfl rfl)
theorem dX3_path_4 : decode cX3_path 4 = .ok (.getfield 32, 3) := dk_180 0 32 (dk_at dksX3_path_0 4 rfl rfl)
theorem dX3_path_7 : decode cX3_path 7 = .ok (.if_icmp .ge 79, 3) := dk_162 0 79 (dk_at dksX3_path_0 7 rfl rfl)
theorem dX3_path_10 : decode cX3_path 10 = .ok (.aload_n 0, 1) := dk_42 (dk_at dksX3_path_0 10 rfl rfl)
theorem dX3_path_11 : decode cX3_path 11 = .ok (.getfield 19, 3) := dk_180 0 19 (dk_at dksX3_path_0 11 rfl rfl)
theorem dX3_path_14 : decode cX3_path 14 = .ok (.iload_n 3, 1) := dk_29 (dk_at dksX3_path_0 14 rfl rfl)
theorem dX3_path_15 : decode cX3_path 15 = .ok (.iaload, 1) := dk_46 (dk_at dksX3_path_0 15 rfl rfl)
theorem dX3_path_16 : decode cX3_path 16 = .ok (.iload_n 2, 1) := dk_28 (dk_at dksX3_path_0 16 rfl rfl)
theorem dX3_path_17 : decode cX3_path 17 = .ok (.if_icmp .ne 7, 3) := dk_160 0 7 (dk_at dksX3_path_0 17 rfl rfl)
theorem dX3_path_20 : decode cX3_path 20 = .ok (.iconst 1, 1) := dk_4 (dk_at dksX3_path_0 20 rfl rfl)
theorem dX3_path_21 : decode cX3_path 21 = .ok (.goto 4, 3) := dk_167 0 4 (dk_at dksX3_path_0 21 rfl rfl)
theorem dX3_path_24 : decode cX3_path 24 = .ok (.iconst 0, 1) := dk_3 (dk_at dksX3_path_1 0 rfl rfl)
theorem dX3_path_25 : decode cX3_path 25 = .ok (.istore 4, 2) := dk_54 4 (dk_at dksX3_path_1 1 rfl rfl)
theorem dX3_path_27 : decode cX3_path 27 = .ok (.iconst 0, 1) := dk_3 (dk_at dksX3_path_1 3 rfl rfl)
theorem dX3_path_28 : decode cX3_path 28 = .ok (.istore 5, 2) := dk_54 5 (dk_at dksX3_path_1 4 rfl rfl)
theorem dX3_path_30 : decode cX3_path 30 = .ok (.iload 5, 2) := dk_21 5 (dk_at dksX3_path_1 6 rfl rfl)
theorem dX3_path_32 : decode cX3_path 32 = .ok (.iload_n 2, 1) := dk_28 (dk_at dksX3_path_1 8 rfl rfl)
theorem dX3_path_33 : decode cX3_path 33 = .ok (.if_icmp .ge 40, 3) := dk_162 0 40 (dk_at dksX3_path_1 9 rfl rfl)
theorem dX3_path_36 : decode cX3_path 36 = .ok (.iload 4, 2) := dk_21 4 (dk_at dksX3_path_1 12 rfl rfl)
theorem dX3_path_38 : decode cX3_path 38 = .ok (.ifCond .eq 26, 3) := dk_153 0 26 (dk_at dksX3_path_1 14 rfl rfl)
theorem dX3_path_41 : decode cX3_path 41 = .ok (.aload_n 0, 1) := dk_42 (dk_at dksX3_path_1 17 rfl rfl)
theorem dX3_path_42 : decode cX3_path 42 = .ok (.getfield 15, 3) := dk_180 0 15 (dk_at dksX3_path_1 18 rfl rfl)
theorem dX3_path_45 : decode cX3_path 45 = .ok (.bipush 6, 2) := dk_16 6 (dk_at dksX3_path_1 21 rfl rfl)
theorem dX3_path_47 : decode cX3_path 47 = .ok (.iload_n 3, 1) := dk_29 (dk_at dksX3_path_1 23 rfl rfl)
theorem dX3_path_48 : decode cX3_path 48 = .ok (.imul, 1) := dk_104 (dk_at dksX3_path_2 0 rfl rfl)
theorem dX3_path_49 : decode cX3_path 49 = .ok (.iload 5, 2) := dk_21 5 (dk_at dksX3_path_2 1 rfl rfl)
theorem dX3_path_51 : decode cX3_path 51 = .ok (.iadd, 1) := dk_96 (dk_at dksX3_path_2 3 rfl rfl)
theorem dX3_path_52 : decode cX3_path 52 = .ok (.iaload, 1) := dk_46 (dk_at dksX3_path_2 4 rfl rfl)
theorem dX3_path_53 : decode cX3_path 53 = .ok (.aload_n 1, 1) := dk_43 (dk_at dksX3_path_2 5 rfl rfl)
theorem dX3_path_54 : decode cX3_path 54 = .ok (.iload 5, 2) := dk_21 5 (dk_at dksX3_path_2 6 rfl rfl)
theorem dX3_path_56 : decode cX3_path 56 = .ok (.iaload, 1) := dk_46 (dk_at dksX3_path_2 8 rfl rfl)
theorem dX3_path_57 : decode cX3_path 57 = .ok (.if_icmp .ne 7, 3) := dk_160 0 7 (dk_at dksX3_path_2 9 rfl rfl)
theorem dX3_path_60 : decode cX3_path 60 = .ok (.iconst 1, 1) := dk_4 (dk_at dksX3_path_2 12 rfl rfl)
theorem dX3_path_61 : decode cX3_path 61 = .ok (.goto 4, 3) := dk_167 0 4 (dk_at dksX3_path_2 13 rfl rfl)
theorem dX3_path_64 : decode cX3_path 64 = .ok (.iconst 0, 1) := dk_3 (dk_at dksX3_path_2 16 rfl rfl)
theorem dX3_path_65 : decode cX3_path 65 = .ok (.istore 4, 2) := dk_54 4 (dk_at dksX3_path_2 17 rfl rfl)
theorem dX3_path_67 : decode cX3_path 67 = .ok (.iinc 5 1, 3) := dk_132 5 1 (dk_at dksX3_path_2 19 rfl rfl)
theorem dX3_path_70 : decode cX3_path 70 = .ok (.goto (-40), 3) := dk_167 255 216 (dk_at dksX3_path_3 0 rfl rfl)
theorem dX3_path_73 : decode cX3_path 73 = .ok (.iload 4, 2) := dk_21 4 (dk_at dksX3_path_3 3 rfl rfl)
theorem dX3_path_75 : decode cX3_path 75 = .ok (.ifCond .eq 5, 3) := dk_153 0 5 (dk_at dksX3_path_3 5 rfl rfl)
theorem dX3_path_78 : decode cX3_path 78 = .ok (.iload_n 3, 1) := dk_29 (dk_at dksX3_path_3 8 rfl rfl)
theorem dX3_path_79 : decode cX3_path 79 = .ok (.ireturn, 1) := dk_172 (dk_at dksX3_path_3 9 rfl rfl)
theorem dX3_path_80 : decode cX3_path 80 = .ok (.iinc 3 1, 3) := dk_132 3 1 (dk_at dksX3_path_3 10 rfl rfl)
theorem dX3_path_83 : decode cX3_path 83 = .ok (.goto (-81), 3) := dk_167 255 175 (dk_at dksX3_path_3 13 rfl rfl)
theorem dX3_path_86 : decode cX3_path 86 = .ok (.iconst (-1), 1) := dk_2 (dk_at dksX3_path_3 16 rfl rfl)
theorem dX3_path_87 : decode cX3_path 87 = .ok (.ireturn, 1) := dk_172 (dk_at dksX3_path_3 17 rfl rfl)
theorem q131 : (Jvm.Cond.initialized "BlindCards$Keeper") ∈ lw_all := lw_g (lw_at lw_m1 7 rfl) rfl
theorem q261 : (Jvm.Cond.instantiable "BlindCards$Keeper" (16 : Nat)) ∈ lw_all := lw_g (lw_at lw_m1 137 rfl) rfl
theorem q263 : (Jvm.Cond.instanceMethod ({ cls := "BlindCards$Keeper", name := "<init>", desc := "(LBlindCards;)V" } : Jvm.MethodName)) ∈ lw_all := lw_g (lw_at lw_m1 139 rfl) rfl
theorem q264 : (Jvm.Cond.code ({ cls := "BlindCards$Keeper", name := "<init>", desc := "(LBlindCards;)V" } : Jvm.MethodName) prog_13_method_1_code (2 : Nat) (Option.none : Option Jvm.ClassFile.FieldType)) ∈ lw_all := lw_g (lw_at lw_m1 140 rfl) rfl
theorem q265 : (Jvm.Cond.methodLinkNest "BlindCards$Keeper" (9 : Nat) ({ cls := "BlindCards$Runs", name := "<init>", desc := "(LBlindCards;)V" } : Jvm.MethodName) "BlindCards") ∈ lw_tbl := lw_at lw_m1 141 rfl
theorem q269 : (Jvm.Cond.fieldLink "BlindCards$Keeper" (15 : Nat) "BlindCards$Keeper" "rows" "[I") ∈ lw_all := lw_g (lw_at lw_m1 145 rfl) rfl
theorem q271 : (Jvm.Cond.fieldLink "BlindCards$Keeper" (19 : Nat) "BlindCards$Keeper" "looked" "[I") ∈ lw_all := lw_g (lw_at lw_m1 147 rfl) rfl
theorem q273 : (Jvm.Cond.fieldLink "BlindCards$Keeper" (22 : Nat) "BlindCards$Keeper" "ends" "[I") ∈ lw_all := lw_g (lw_at lw_m1 149 rfl) rfl
theorem q275 : (Jvm.Cond.fieldLink "BlindCards$Keeper" (25 : Nat) "BlindCards$Keeper" "ways" "[J") ∈ lw_all := lw_g (lw_at lw_m1 151 rfl) rfl
theorem q277 : (Jvm.Cond.fieldLink "BlindCards$Keeper" (29 : Nat) "BlindCards$Keeper" "all" "[J") ∈ lw_all := lw_g (lw_at lw_m1 153 rfl) rfl
theorem q279 : (Jvm.Cond.fieldLink "BlindCards$Keeper" (32 : Nat) "BlindCards$Keeper" "many" "I") ∈ lw_all := lw_g (lw_at lw_m1 155 rfl) rfl
theorem q281 : (Jvm.Cond.fieldLink "BlindCards$Keeper" (36 : Nat) "BlindCards$Keeper" "wrong" "I") ∈ lw_all := lw_g (lw_at lw_m1 157 rfl) rfl
theorem q283 : (Jvm.Cond.fieldLink "BlindCards$Keeper" (39 : Nat) "BlindCards$Keeper" "isSpent" "Z") ∈ lw_all := lw_g (lw_at lw_m1 159 rfl) rfl
theorem q285 : (Jvm.Cond.fieldLink "BlindCards$Keeper" (3 : Nat) "BlindCards$Keeper" "this$0" "LBlindCards;") ∈ lw_all := lw_g (lw_at lw_m1 161 rfl) rfl
theorem q299 : (Jvm.Cond.fieldLink "BlindCards$Keeper" (50 : Nat) "BlindCards$Keeper" "looks" "[I") ∈ lw_all := lw_g (lw_at lw_m1 175 rfl) rfl
theorem q300 : (Jvm.Cond.sameField "BlindCards$Keeper" "BlindCards$Runs" "looks" "[I") ∈ lw_all := lw_g (lw_at lw_m1 176 rfl) rfl
theorem q302 : (Jvm.Cond.fieldLink "BlindCards$Keeper" (47 : Nat) "BlindCards$Keeper" "lookMany" "I") ∈ lw_all := lw_g (lw_at lw_m1 178 rfl) rfl
theorem q303 : (Jvm.Cond.sameField "BlindCards$Keeper" "BlindCards$Runs" "lookMany" "I") ∈ lw_all := lw_g (lw_at lw_m1 179 rfl) rfl
theorem q305 : (Jvm.Cond.laysFinal "BlindCards$Keeper" "BlindCards$Keeper" "rows" "[I") ∈ lw_all := lw_g (lw_at lw_m1 181 rfl) rfl
theorem q306 : (Jvm.Cond.soleField "BlindCards$Keeper" "rows") ∈ lw_all := lw_g (lw_at lw_m1 182 rfl) rfl
theorem q307 : (Jvm.Cond.laysFinal "BlindCards$Keeper" "BlindCards$Keeper" "looked" "[I") ∈ lw_all := lw_g (lw_at lw_m1 183 rfl) rfl
theorem q308 : (Jvm.Cond.soleField "BlindCards$Keeper" "looked") ∈ lw_all := lw_g (lw_at lw_m1 184 rfl) rfl
theorem q309 : (Jvm.Cond.laysFinal "BlindCards$Keeper" "BlindCards$Keeper" "ends" "[I") ∈ lw_all := lw_g (lw_at lw_m1 185 rfl) rfl
theorem q310 : (Jvm.Cond.soleField "BlindCards$Keeper" "ends") ∈ lw_all := lw_g (lw_at lw_m1 186 rfl) rfl
theorem q311 : (Jvm.Cond.laysFinal "BlindCards$Keeper" "BlindCards$Keeper" "ways" "[J") ∈ lw_all := lw_g (lw_at lw_m1 187 rfl) rfl
theorem q312 : (Jvm.Cond.soleField "BlindCards$Keeper" "ways") ∈ lw_all := lw_g (lw_at lw_m1 188 rfl) rfl
theorem q313 : (Jvm.Cond.laysFinal "BlindCards$Keeper" "BlindCards$Keeper" "all" "[J") ∈ lw_all := lw_g (lw_at lw_m1 189 rfl) rfl
theorem q314 : (Jvm.Cond.soleField "BlindCards$Keeper" "all") ∈ lw_all := lw_g (lw_at lw_m1 190 rfl) rfl
theorem q315 : (Jvm.Cond.lays "BlindCards$Keeper" "BlindCards$Keeper" "many" "I") ∈ lw_all := lw_g (lw_at lw_m1 191 rfl) rfl
theorem q316 : (Jvm.Cond.soleField "BlindCards$Keeper" "many") ∈ lw_all := lw_g (lw_at lw_m1 192 rfl) rfl
theorem q317 : (Jvm.Cond.lays "BlindCards$Keeper" "BlindCards$Keeper" "wrong" "I") ∈ lw_all := lw_g (lw_at lw_m1 193 rfl) rfl
theorem q318 : (Jvm.Cond.soleField "BlindCards$Keeper" "wrong") ∈ lw_all := lw_g (lw_at lw_m1 194 rfl) rfl
theorem q319 : (Jvm.Cond.lays "BlindCards$Keeper" "BlindCards$Keeper" "isSpent" "Z") ∈ lw_all := lw_g (lw_at lw_m1 195 rfl) rfl
theorem q320 : (Jvm.Cond.soleField "BlindCards$Keeper" "isSpent") ∈ lw_all := lw_g (lw_at lw_m1 196 rfl) rfl
theorem q321 : (Jvm.Cond.laysFinal "BlindCards$Keeper" "BlindCards$Keeper" "this$0" "LBlindCards;") ∈ lw_all := lw_g (lw_at lw_m1 197 rfl) rfl
theorem q322 : (Jvm.Cond.soleField "BlindCards$Keeper" "this$0") ∈ lw_all := lw_g (lw_at lw_m1 198 rfl) rfl
theorem q323 : (Jvm.Cond.lays "BlindCards$Keeper" "BlindCards$Runs" "cheat" "I") ∈ lw_all := lw_g (lw_at lw_m1 199 rfl) rfl
theorem q325 : (Jvm.Cond.lays "BlindCards$Keeper" "BlindCards$Runs" "bent" "I") ∈ lw_all := lw_g (lw_at lw_m1 201 rfl) rfl
theorem q327 : (Jvm.Cond.lays "BlindCards$Keeper" "BlindCards$Runs" "counted" "I") ∈ lw_all := lw_g (lw_at lw_m1 203 rfl) rfl
theorem q329 : (Jvm.Cond.lays "BlindCards$Keeper" "BlindCards$Runs" "cheatsRed" "Z") ∈ lw_all := lw_g (lw_at lw_m1 205 rfl) rfl
theorem q331 : (Jvm.Cond.laysFinal "BlindCards$Keeper" "BlindCards$Runs" "looks" "[I") ∈ lw_all := lw_g (lw_at lw_m1 207 rfl) rfl
theorem q333 : (Jvm.Cond.lays "BlindCards$Keeper" "BlindCards$Runs" "lookMany" "I") ∈ lw_all := lw_g (lw_at lw_m1 209 rfl) rfl
theorem q335 : (Jvm.Cond.laysFinal "BlindCards$Keeper" "BlindCards$Runs" "this$0" "LBlindCards;") ∈ lw_all := lw_g (lw_at lw_m1 211 rfl) rfl
theorem q337 : (Jvm.Cond.superclass "BlindCards$Keeper" "BlindCards$Runs") ∈ lw_all := lw_g (lw_at lw_m1 213 rfl) rfl
theorem q437 : (Jvm.Cond.selects "BlindCards$Keeper" ({ cls := "java/lang/Object", name := "getClass", desc := "()Ljava/lang/Class;" } : Jvm.MethodName) ({ cls := "java/lang/Object", name := "getClass", desc := "()Ljava/lang/Class;" } : Jvm.MethodName)) ∈ lw_all := lw_g (lw_at lw_m2 73 rfl) rfl
theorem q470 : (Jvm.Cond.instanceMethod ({ cls := "BlindCards$Keeper", name := "lay", desc := "()V" } : Jvm.MethodName)) ∈ lw_all := lw_g (lw_at lw_m2 106 rfl) rfl
theorem q471 : (Jvm.Cond.selects "BlindCards$Keeper" ({ cls := "BlindCards$Keeper", name := "lay", desc := "()V" } : Jvm.MethodName) ({ cls := "BlindCards$Keeper", name := "lay", desc := "()V" } : Jvm.MethodName)) ∈ lw_all := lw_g (lw_at lw_m2 107 rfl) rfl
theorem q472 : (Jvm.Cond.code ({ cls := "BlindCards$Keeper", name := "lay", desc := "()V" } : Jvm.MethodName) prog_13_method_2_code (1 : Nat) (Option.none : Option Jvm.ClassFile.FieldType)) ∈ lw_all := lw_g (lw_at lw_m2 108 rfl) rfl
theorem q473 : (Jvm.Cond.methodLink "BlindCards$Keeper" (43 : Nat) ({ cls := "BlindCards$Keeper", name := "begin", desc := "()V" } : Jvm.MethodName)) ∈ lw_all := lw_g (lw_at lw_m2 109 rfl) rfl
theorem q474 : (Jvm.Cond.sameMethod "BlindCards$Keeper" "BlindCards$Runs" "begin" "()V") ∈ lw_all := lw_g (lw_at lw_m2 110 rfl) rfl
theorem q476 : (Jvm.Cond.selects "BlindCards$Keeper" ({ cls := "BlindCards$Keeper", name := "begin", desc := "()V" } : Jvm.MethodName) ({ cls := "BlindCards$Runs", name := "begin", desc := "()V" } : Jvm.MethodName)) ∈ lw_all := lw_g (lw_at lw_m2 112 rfl) rfl
theorem q500 : (Jvm.Cond.selects "BlindCards$Keeper" ({ cls := "BlindCards$Runs", name := "isDone", desc := "()Z" } : Jvm.MethodName) ({ cls := "BlindCards$Keeper", name := "isDone", desc := "()Z" } : Jvm.MethodName)) ∈ lw_all := lw_g (lw_at lw_m2 136 rfl) rfl
theorem q501 : (Jvm.Cond.instanceMethod ({ cls := "BlindCards$Keeper", name := "isDone", desc := "()Z" } : Jvm.MethodName)) ∈ lw_all := lw_g (lw_at lw_m2 137 rfl) rfl
theorem q502 : (Jvm.Cond.code ({ cls := "BlindCards$Keeper", name := "isDone", desc := "()Z" } : Jvm.MethodName) prog_13_method_3_code (1 : Nat) (Option.some Jvm.ClassFile.FieldType.boolean)) ∈ lw_all := lw_g (lw_at lw_m2 138 rfl) rfl
theorem q720 : (Jvm.Cond.selects "BlindCards$Keeper" ({ cls := "BlindCards$Runs", name := "end", desc := "(ILBlindCards$Step;J)V" } : Jvm.MethodName) ({ cls := "BlindCards$Keeper", name := "end", desc := "(ILBlindCards$Step;J)V" } : Jvm.MethodName)) ∈ lw_all := lw_g (lw_at lw_m3 116 rfl) rfl
theorem q721 : (Jvm.Cond.instanceMethod ({ cls := "BlindCards$Keeper", name := "end", desc := "(ILBlindCards$Step;J)V" } : Jvm.MethodName)) ∈ lw_all := lw_g (lw_at lw_m3 117 rfl) rfl
theorem q722 : (Jvm.Cond.code ({ cls := "BlindCards$Keeper", name := "end", desc := "(ILBlindCards$Step;J)V" } : Jvm.MethodName) prog_13_method_4_code (6 : Nat) (Option.none : Option Jvm.ClassFile.FieldType)) ∈ lw_all := lw_g (lw_at lw_m3 118 rfl) rfl
theorem q723 : (Jvm.Cond.methodLink "BlindCards$Keeper" (57 : Nat) ({ cls := "BlindCards$Recipe", name := "inputs", desc := "()I" } : Jvm.MethodName)) ∈ lw_all := lw_g (lw_at lw_m3 119 rfl) rfl
theorem q724 : (Jvm.Cond.methodLink "BlindCards$Keeper" (63 : Nat) ({ cls := "BlindCards$Keeper", name := "sum", desc := "(II)J" } : Jvm.MethodName)) ∈ lw_all := lw_g (lw_at lw_m3 120 rfl) rfl
theorem q725 : (Jvm.Cond.sameMethod "BlindCards$Keeper" "BlindCards$Runs" "sum" "(II)J") ∈ lw_all := lw_g (lw_at lw_m3 121 rfl) rfl
theorem q726 : (Jvm.Cond.selects "BlindCards$Keeper" ({ cls := "BlindCards$Keeper", name := "sum", desc := "(II)J" } : Jvm.MethodName) ({ cls := "BlindCards$Runs", name := "sum", desc := "(II)J" } : Jvm.MethodName)) ∈ lw_all := lw_g (lw_at lw_m3 122 rfl) rfl
theorem q727 : (Jvm.Cond.methodLink "BlindCards$Keeper" (67 : Nat) ({ cls := "BlindCards$Keeper", name := "answers", desc := "(ILBlindCards$Step;I)I" } : Jvm.MethodName)) ∈ lw_all := lw_g (lw_at lw_m3 123 rfl) rfl
theorem q728 : (Jvm.Cond.sameMethod "BlindCards$Keeper" "BlindCards$Runs" "answers" "(ILBlindCards$Step;I)I") ∈ lw_all := lw_g (lw_at lw_m3 124 rfl) rfl
theorem q729 : (Jvm.Cond.selects "BlindCards$Keeper" ({ cls := "BlindCards$Keeper", name := "answers", desc := "(ILBlindCards$Step;I)I" } : Jvm.MethodName) ({ cls := "BlindCards$Runs", name := "answers", desc := "(ILBlindCards$Step;I)I" } : Jvm.MethodName)) ∈ lw_all := lw_g (lw_at lw_m3 125 rfl) rfl
theorem q730 : (Jvm.Cond.methodLink "BlindCards$Keeper" (71 : Nat) ({ cls := "BlindCards$Keeper", name := "isRight", desc := "(ILBlindCards$Step;I)Z" } : Jvm.MethodName)) ∈ lw_all := lw_g (lw_at lw_m3 126 rfl) rfl
theorem q731 : (Jvm.Cond.privateMethod ({ cls := "BlindCards$Keeper", name := "isRight", desc := "(ILBlindCards$Step;I)Z" } : Jvm.MethodName)) ∈ lw_tbl := lw_at lw_m3 127 rfl
theorem q732 : (Jvm.Cond.instanceMethod ({ cls := "BlindCards$Keeper", name := "isRight", desc := "(ILBlindCards$Step;I)Z" } : Jvm.MethodName)) ∈ lw_all := lw_g (lw_at lw_m3 128 rfl) rfl
theorem q733 : (Jvm.Cond.code ({ cls := "BlindCards$Keeper", name := "isRight", desc := "(ILBlindCards$Step;I)Z" } : Jvm.MethodName) prog_13_method_5_code (6 : Nat) (Option.some Jvm.ClassFile.FieldType.boolean)) ∈ lw_all := lw_g (lw_at lw_m3 129 rfl) rfl
theorem q734 : (Jvm.Cond.methodLink "BlindCards$Keeper" (79 : Nat) ({ cls := "BlindCards$Recipe", name := "asked", desc := "(I)I" } : Jvm.MethodName)) ∈ lw_all := lw_g (lw_at lw_m3 130 rfl) rfl
theorem q735 : (Jvm.Cond.methodLink "BlindCards$Keeper" (83 : Nat) ({ cls := "BlindCards$Keeper", name := "isAnswer", desc := "(LBlindCards$Step;II)Z" } : Jvm.MethodName)) ∈ lw_all := lw_g (lw_at lw_m3 131 rfl) rfl
theorem q736 : (Jvm.Cond.privateMethod ({ cls := "BlindCards$Keeper", name := "isAnswer", desc := "(LBlindCards$Step;II)Z" } : Jvm.MethodName)) ∈ lw_tbl := lw_at lw_m3 132 rfl
theorem q737 : (Jvm.Cond.instanceMethod ({ cls := "BlindCards$Keeper", name := "isAnswer", desc := "(LBlindCards$Step;II)Z" } : Jvm.MethodName)) ∈ lw_all := lw_g (lw_at lw_m3 133 rfl) rfl
theorem q738 : (Jvm.Cond.code ({ cls := "BlindCards$Keeper", name := "isAnswer", desc := "(LBlindCards$Step;II)Z" } : Jvm.MethodName) prog_13_method_6_code (4 : Nat) (Option.some Jvm.ClassFile.FieldType.boolean)) ∈ lw_all := lw_g (lw_at lw_m3 134 rfl) rfl
theorem q739 : (Jvm.Cond.methodLinkNest "BlindCards$Keeper" (87 : Nat) ({ cls := "BlindCards", name := "answer", desc := "(LBlindCards$Step;I)I" } : Jvm.MethodName) "BlindCards") ∈ lw_tbl := lw_at lw_m3 135 rfl
theorem q742 : (Jvm.Cond.fieldLinkNest "BlindCards$Keeper" (75 : Nat) "BlindCards" "often" "[[J" "BlindCards") ∈ lw_tbl := lw_at lw_m3 138 rfl
theorem q757 : (Jvm.Cond.fieldLinkNest "BlindCards$Keeper" (53 : Nat) "BlindCards" "recipe" "LBlindCards$Recipe;" "BlindCards") ∈ lw_tbl := lw_at lw_m3 153 rfl
theorem q1734 : (Jvm.Cond.instanceMethod ({ cls := "BlindCards$Keeper", name := "path", desc := "([II)I" } : Jvm.MethodName)) ∈ lw_all := lw_g (lw_at lw_m7 170 rfl) rfl
theorem q1735 : (Jvm.Cond.selects "BlindCards$Keeper" ({ cls := "BlindCards$Keeper", name := "path", desc := "([II)I" } : Jvm.MethodName) ({ cls := "BlindCards$Keeper", name := "path", desc := "([II)I" } : Jvm.MethodName)) ∈ lw_all := lw_g (lw_at lw_m7 171 rfl) rfl
theorem q1736 : (Jvm.Cond.code ({ cls := "BlindCards$Keeper", name := "path", desc := "([II)I" } : Jvm.MethodName) prog_13_method_7_code (6 : Nat) (Option.some Jvm.ClassFile.FieldType.int)) ∈ lw_all := lw_g (lw_at lw_m7 172 rfl) rfl
theorem q2586 : (Jvm.Cond.castable "BlindCards$Keeper" "java/lang/Object") ∈ lw_tbl := lw_at lw_m11 62 rfl
theorem in_X3 : ∀ w ∈ wsX30, w ∈ lw_all := lw_in wsX30 [323, 325, 327, 329, 331, 333, 335, 305, 307, 309, 311, 313, 315, 317, 319, 321] (by decide +kernel) (by decide +kernel)

/-! BlindCards$Closer -/
set_option maxRecDepth 100000
def RX4 : String := "BlindCards$Closer"
def TX4 : u_T := fun k => match k with
  | 0 => ("BlindCards$Runs", "cheat", "I", false)
  | 1 => ("BlindCards$Runs", "bent", "I", false)
  | 2 => ("BlindCards$Runs", "counted", "I", false)
  | 3 => ("BlindCards$Runs", "cheatsRed", "Z", false)
  | 4 => ("BlindCards$Runs", "looks", "[I", true)
  | 5 => ("BlindCards$Runs", "lookMany", "I", false)
  | 6 => ("BlindCards$Runs", "this$0", "LBlindCards;", true)
  | 7 => ("BlindCards$Closer", "many", "I", false)
  | 8 => ("BlindCards$Closer", "isOpen", "Z", false)
  | 9 => ("BlindCards$Closer", "isSpent", "Z", false)
  | 10 => ("BlindCards$Closer", "isSecret", "Z", false)
  | _ => ("BlindCards$Closer", "this$0", "LBlindCards;", true)
def tyX4 : Nat → FieldType := fun k => match k with
  | 0 => .int
  | 1 => .int
  | 2 => .int
  | 3 => .boolean
  | 4 => .array .int
  | 5 => .int
  | 6 => .object "BlindCards"
  | 7 => .int
  | 8 => .boolean
  | 9 => .boolean
  | 10 => .boolean
  | _ => .object "BlindCards"
abbrev wsX40 : List Cond := u_ws RX4 TX4 12
-- two fields of one name: no nmX4
theorem tyX4_ok : ∀ k, k < 12 → parseFieldDescriptor (TX4 k).2.2.1 = some (tyX4 k) := by decide +kernel
abbrev cX4_init : ByteArray := prog_8_method_1_code
def yX4_init : MethodName := ⟨RX4, "<init>", "(LBlindCards;)V"⟩
def dkwX4_init_0 : List UInt8 := [42, 43, 181, 0, 3, 42, 43, 183, 0, 9, 177]
abbrev dktX4_init_0 : List UInt8 := dkwX4_init_0 ++ []
theorem dksX4_init_0 : cX4_init.data.toList.drop 0 = dktX4_init_0 := by decide +kernel
theorem dX4_init_0 : decode cX4_init 0 = .ok (.aload_n 0, 1) := dk_42 (dk_at dksX4_init_0 0 rfl rfl)
theorem dX4_init_1 : decode cX4_init 1 = .ok (.aload_n 1, 1) := dk_43 (dk_at dksX4_init_0 1 rfl rfl)
theorem dX4_init_2 : decode cX4_init 2 = .ok (.putfield 3, 3) := dk_181 0 3 (dk_at dksX4_init_0 2 rfl rfl)
theorem dX4_init_5 : decode cX4_init 5 = .ok (.aload_n 0, 1) := dk_42 (dk_at dksX4_init_0 5 rfl rfl)
theorem dX4_init_6 : decode cX4_init 6 = .ok (.aload_n 1, 1) := dk_43 (dk_at dksX4_init_0 6 rfl rfl)
theorem dX4_init_7 : decode cX4_init 7 = .ok (.invokespecial 9, 3) := dk_183 0 9 (dk_at dksX4_init_0 7 rfl rfl)
theorem dX4_init_10 : decode cX4_init 10 = .ok (.return_, 1) := dk_177 (dk_at dksX4_init_0 10 rfl rfl)
abbrev cX4_isDone : ByteArray := prog_8_method_3_code
def yX4_isDone : MethodName := ⟨RX4, "isDone", "()Z"⟩
theorem dX4_isDone_0 : decode cX4_isDone 0 = .ok (.aload_n 0, 1) := by decide +kernel
theorem dX4_isDone_1 : decode cX4_isDone 1 = .ok (.getfield 32, 3) := by decide +kernel
theorem dX4_isDone_4 : decode cX4_isDone 4 = .ok (.ireturn, 1) := by decide +kernel
abbrev cX4_end : ByteArray := prog_8_method_4_code
def yX4_end : MethodName := ⟨RX4, "end", "(ILBlindCards$Step;J)V"⟩
def dkwX4_end_5 : List UInt8 := [181, 0, 29, 132, 6, 1, 167, 255, 194, 132, 5, 1, 167, 255, 163, 177]
abbrev dktX4_end_5 : List UInt8 := dkwX4_end_5 ++ []
def dkwX4_end_4 : List UInt8 := [42, 27, 21, 5, 182, 0, 53, 42, 27, 21, 6, 182, 0, 53, 148, 153, 0, 7, 4, 167, 0, 4, 3]
abbrev dktX4_end_4 : List UInt8 := dkwX4_end_4 ++ dktX4_end_5
def dkwX4_end_3 : List UInt8 := [180, 0, 29, 154, 0, 39, 42, 180, 0, 3, 21, 5, 21, 6, 42, 180, 0, 22, 182, 0, 49, 153, 0, 25]
abbrev dktX4_end_3 : List UInt8 := dkwX4_end_3 ++ dktX4_end_4
def dkwX4_end_2 : List UInt8 := [162, 0, 84, 42, 180, 0, 29, 154, 0, 77, 3, 54, 6, 21, 6, 21, 5, 162, 0, 61, 42, 42]
abbrev dktX4_end_2 : List UInt8 := dkwX4_end_2 ++ dktX4_end_3
def dkwX4_end_1 : List UInt8 := [167, 0, 4, 3, 181, 0, 32, 3, 54, 5, 21, 5, 42, 180, 0, 3, 180, 0, 39, 182, 0, 43]
abbrev dktX4_end_1 : List UInt8 := dkwX4_end_1 ++ dktX4_end_2
def dkwX4_end_0 : List UInt8 := [42, 89, 180, 0, 26, 4, 96, 181, 0, 26, 42, 42, 180, 0, 26, 17, 19, 136, 164, 0, 7, 4]
abbrev dktX4_end_0 : List UInt8 := dkwX4_end_0 ++ dktX4_end_1
theorem dksX4_end_0 : cX4_end.data.toList.drop 0 = dktX4_end_0 := by decide +kernel
theorem dksX4_end_1 : cX4_end.data.toList.drop 22 = dktX4_end_1 := dk_seg dksX4_end_0 22 rfl rfl
theorem dksX4_end_2 : cX4_end.data.toList.drop 44 = dktX4_end_2 := dk_seg dksX4_end_1 22 rfl rfl
theorem dksX4_end_3 : cX4_end.data.toList.drop 66 = dktX4_end_3 := dk_seg dksX4_end_2 22 rfl rfl
theorem dksX4_end_4 : cX4_end.data.toList.drop 90 = dktX4_end_4 := dk_seg dksX4_end_3 24 rfl rfl
theorem dksX4_end_5 : cX4_end.data.toList.drop 113 = dktX4_end_5 := dk_seg dksX4_end_4 23 rfl rfl
theorem dX4_end_0 : decode cX4_end 0 = .ok (.aload_n 0, 1) := dk_42 (dk_at dksX4_end_0 0 rfl rfl)
theorem dX4_end_1 : decode cX4_end 1 = .ok (.dup, 1) := dk_89 (dk_at dksX4_end_0 1 rfl rfl)
theorem dX4_end_2 : decode cX4_end 2 = .ok (.getfield 26, 3) := dk_180 0 26 (dk_at dksX4_end_0 2 rfl rfl)
theorem dX4_end_5 : decode cX4_end 5 = .ok (.iconst 1, 1) := dk_4 (dk_at dksX4_end_0 5 rfl rfl)
theorem dX4_end_6 : decode cX4_end 6 = .ok (.iadd, 1) := dk_96 (dk_at dksX4_end_0 6 rfl rfl)
theorem dX4_end_7 : decode cX4_end 7 = .ok (.putfield 26, 3) := dk_181 0 26 (dk_at dksX4_end_0 7 rfl rfl)
theorem dX4_end_10 : decode cX4_end 10 = .ok (.aload_n 0, 1) := dk_42 (dk_at dksX4_end_0 10 rfl rfl)
theorem dX4_end_11 : decode cX4_end 11 = .ok (.aload_n 0, 1) := dk_42 (dk_at dksX4_end_0 11 rfl rfl)
theorem dX4_end_12 : decode cX4_end 12 = .ok (.getfield 26, 3) := dk_180 0 26 (dk_at dksX4_end_0 12 rfl rfl)
theorem dX4_end_15 : decode cX4_end 15 = .ok (.sipush 5000, 3) := dk_17 19 136 (dk_at dksX4_end_0 15 rfl rfl)
theorem dX4_end_18 : decode cX4_end 18 = .ok (.if_icmp .le 7, 3) := dk_164 0 7 (dk_at dksX4_end_0 18 rfl rfl)
theorem dX4_end_21 : decode cX4_end 21 = .ok (.iconst 1, 1) := dk_4 (dk_at dksX4_end_0 21 rfl rfl)
theorem dX4_end_22 : decode cX4_end 22 = .ok (.goto 4, 3) := dk_167 0 4 (dk_at dksX4_end_1 0 rfl rfl)
theorem dX4_end_25 : decode cX4_end 25 = .ok (.iconst 0, 1) := dk_3 (dk_at dksX4_end_1 3 rfl rfl)
theorem dX4_end_26 : decode cX4_end 26 = .ok (.putfield 32, 3) := dk_181 0 32 (dk_at dksX4_end_1 4 rfl rfl)
theorem dX4_end_29 : decode cX4_end 29 = .ok (.iconst 0, 1) := dk_3 (dk_at dksX4_end_1 7 rfl rfl)
theorem dX4_end_30 : decode cX4_end 30 = .ok (.istore 5, 2) := dk_54 5 (dk_at dksX4_end_1 8 rfl rfl)
theorem dX4_end_32 : decode cX4_end 32 = .ok (.iload 5, 2) := dk_21 5 (dk_at dksX4_end_1 10 rfl rfl)
theorem dX4_end_34 : decode cX4_end 34 = .ok (.aload_n 0, 1) := dk_42 (dk_at dksX4_end_1 12 rfl rfl)
theorem dX4_end_35 : decode cX4_end 35 = .ok (.getfield 3, 3) := dk_180 0 3 (dk_at dksX4_end_1 13 rfl rfl)
theorem dX4_end_38 : decode cX4_end 38 = .ok (.getfield 39, 3) := dk_180 0 39 (dk_at dksX4_end_1 16 rfl rfl)
theorem dX4_end_41 : decode cX4_end 41 = .ok (.invokevirtual 43, 3) := dk_182 0 43 (dk_at dksX4_end_1 19 rfl rfl)
theorem dX4_end_44 : decode cX4_end 44 = .ok (.if_icmp .ge 84, 3) := dk_162 0 84 (dk_at dksX4_end_2 0 rfl rfl)
theorem dX4_end_47 : decode cX4_end 47 = .ok (.aload_n 0, 1) := dk_42 (dk_at dksX4_end_2 3 rfl rfl)
theorem dX4_end_48 : decode cX4_end 48 = .ok (.getfield 29, 3) := dk_180 0 29 (dk_at dksX4_end_2 4 rfl rfl)
theorem dX4_end_51 : decode cX4_end 51 = .ok (.ifCond .ne 77, 3) := dk_154 0 77 (dk_at dksX4_end_2 7 rfl rfl)
theorem dX4_end_54 : decode cX4_end 54 = .ok (.iconst 0, 1) := dk_3 (dk_at dksX4_end_2 10 rfl rfl)
theorem dX4_end_55 : decode cX4_end 55 = .ok (.istore 6, 2) := dk_54 6 (dk_at dksX4_end_2 11 rfl rfl)
theorem dX4_end_57 : decode cX4_end 57 = .ok (.iload 6, 2) := dk_21 6 (dk_at dksX4_end_2 13 rfl rfl)
theorem dX4_end_59 : decode cX4_end 59 = .ok (.iload 5, 2) := dk_21 5 (dk_at dksX4_end_2 15 rfl rfl)
theorem dX4_end_61 : decode cX4_end 61 = .ok (.if_icmp .ge 61, 3) := dk_162 0 61 (dk_at dksX4_end_2 17 rfl rfl)
theorem dX4_end_64 : decode cX4_end 64 = .ok (.aload_n 0, 1) := dk_42 (dk_at dksX4_end_2 20 rfl rfl)
theorem dX4_end_65 : decode cX4_end 65 = .ok (.aload_n 0, 1) := dk_42 (dk_at dksX4_end_2 21 rfl rfl)
theorem dX4_end_66 : decode cX4_end 66 = .ok (.getfield 29, 3) := dk_180 0 29 (dk_at dksX4_end_3 0 rfl rfl)
theorem dX4_end_69 : decode cX4_end 69 = .ok (.ifCond .ne 39, 3) := dk_154 0 39 (dk_at dksX4_end_3 3 rfl rfl)
theorem dX4_end_72 : decode cX4_end 72 = .ok (.aload_n 0, 1) := dk_42 (dk_at dksX4_end_3 6 rfl rfl)
theorem dX4_end_73 : decode cX4_end 73 = .ok (.getfield 3, 3) := dk_180 0 3 (dk_at dksX4_end_3 7 rfl rfl)
theorem dX4_end_76 : decode cX4_end 76 = .ok (.iload 5, 2) := dk_21 5 (dk_at dksX4_end_3 10 rfl rfl)
theorem dX4_end_78 : decode cX4_end 78 = .ok (.iload 6, 2) := dk_21 6 (dk_at dksX4_end_3 12 rfl rfl)
theorem dX4_end_80 : decode cX4_end 80 = .ok (.aload_n 0, 1) := dk_42 (dk_at dksX4_end_3 14 rfl rfl)
theorem dX4_end_81 : decode cX4_end 81 = .ok (.getfield 22, 3) := dk_180 0 22 (dk_at dksX4_end_3 15 rfl rfl)
theorem dX4_end_84 : decode cX4_end 84 = .ok (.invokevirtual 49, 3) := dk_182 0 49 (dk_at dksX4_end_3 18 rfl rfl)
theorem dX4_end_87 : decode cX4_end 87 = .ok (.ifCond .eq 25, 3) := dk_153 0 25 (dk_at dksX4_end_3 21 rfl rfl)
theorem dX4_end_90 : decode cX4_end 90 = .ok (.aload_n 0, 1) := dk_42 (dk_at dksX4_end_4 0 rfl rfl)
theorem dX4_end_91 : decode cX4_end 91 = .ok (.iload_n 1, 1) := dk_27 (dk_at dksX4_end_4 1 rfl rfl)
theorem dX4_end_92 : decode cX4_end 92 = .ok (.iload 5, 2) := dk_21 5 (dk_at dksX4_end_4 2 rfl rfl)
theorem dX4_end_94 : decode cX4_end 94 = .ok (.invokevirtual 53, 3) := dk_182 0 53 (dk_at dksX4_end_4 4 rfl rfl)
theorem dX4_end_97 : decode cX4_end 97 = .ok (.aload_n 0, 1) := dk_42 (dk_at dksX4_end_4 7 rfl rfl)
theorem dX4_end_98 : decode cX4_end 98 = .ok (.iload_n 1, 1) := dk_27 (dk_at dksX4_end_4 8 rfl rfl)
theorem dX4_end_99 : decode cX4_end 99 = .ok (.iload 6, 2) := dk_21 6 (dk_at dksX4_end_4 9 rfl rfl)
theorem dX4_end_101 : decode cX4_end 101 = .ok (.invokevirtual 53, 3) := dk_182 0 53 (dk_at dksX4_end_4 11 rfl rfl)
theorem dX4_end_104 : decode cX4_end 104 = .ok (.lcmp, 1) := dk_148 (dk_at dksX4_end_4 14 rfl rfl)
theorem dX4_end_105 : decode cX4_end 105 = .ok (.ifCond .eq 7, 3) := dk_153 0 7 (dk_at dksX4_end_4 15 rfl rfl)
theorem dX4_end_108 : decode cX4_end 108 = .ok (.iconst 1, 1) := dk_4 (dk_at dksX4_end_4 18 rfl rfl)
theorem dX4_end_109 : decode cX4_end 109 = .ok (.goto 4, 3) := dk_167 0 4 (dk_at dksX4_end_4 19 rfl rfl)
theorem dX4_end_112 : decode cX4_end 112 = .ok (.iconst 0, 1) := dk_3 (dk_at dksX4_end_4 22 rfl rfl)
theorem dX4_end_113 : decode cX4_end 113 = .ok (.putfield 29, 3) := dk_181 0 29 (dk_at dksX4_end_5 0 rfl rfl)
theorem dX4_end_116 : decode cX4_end 116 = .ok (.iinc 6 1, 3) := dk_132 6 1 (dk_at dksX4_end_5 3 rfl rfl)
theorem dX4_end_119 : decode cX4_end 119 = .ok (.goto (-62), 3) := dk_167 255 194 (dk_at dksX4_end_5 6 rfl rfl)
theorem dX4_end_122 : decode cX4_end 122 = .ok (.iinc 5 1, 3) := dk_132 5 1 (dk_at dksX4_end_5 9 rfl rfl)
theorem dX4_end_125 : decode cX4_end 125 = .ok (.goto (-93), 3) := dk_167 255 163 (dk_at dksX4_end_5 12 rfl rfl)
theorem dX4_end_128 : decode cX4_end 128 = .ok (.return_, 1) := dk_177 (dk_at dksX4_end_5 15 rfl rfl)
abbrev cX4_ask : ByteArray := prog_8_method_2_code
def yX4_ask : MethodName := ⟨RX4, "ask", "(IIZ)I"⟩
def dkwX4_ask_2 : List UInt8 := [42, 180, 0, 29, 153, 0, 7, 3, 167, 0, 4, 4, 172]
abbrev dktX4_ask_2 : List UInt8 := dkwX4_ask_2 ++ []
def dkwX4_ask_1 : List UInt8 := [181, 0, 29, 42, 3, 181, 0, 32, 42, 182, 0, 35, 42, 180, 0, 32, 153, 0, 8, 16, 254, 167, 0, 15]
abbrev dktX4_ask_1 : List UInt8 := dkwX4_ask_1 ++ dktX4_ask_2
def dkwX4_ask_0 : List UInt8 := [42, 27, 181, 0, 15, 42, 28, 181, 0, 19, 42, 29, 181, 0, 22, 42, 3, 181, 0, 26, 42, 3]
abbrev dktX4_ask_0 : List UInt8 := dkwX4_ask_0 ++ dktX4_ask_1
theorem dksX4_ask_0 : cX4_ask.data.toList.drop 0 = dktX4_ask_0 := by decide +kernel
theorem dksX4_ask_1 : cX4_ask.data.toList.drop 22 = dktX4_ask_1 := dk_seg dksX4_ask_0 22 rfl rfl
theorem dksX4_ask_2 : cX4_ask.data.toList.drop 46 = dktX4_ask_2 := dk_seg dksX4_ask_1 24 rfl rfl
theorem dX4_ask_0 : decode cX4_ask 0 = .ok (.aload_n 0, 1) := dk_42 (dk_at dksX4_ask_0 0 rfl rfl)
theorem dX4_ask_1 : decode cX4_ask 1 = .ok (.iload_n 1, 1) := dk_27 (dk_at dksX4_ask_0 1 rfl rfl)
theorem dX4_ask_2 : decode cX4_ask 2 = .ok (.putfield 15, 3) := dk_181 0 15 (dk_at dksX4_ask_0 2 rfl rfl)
theorem dX4_ask_5 : decode cX4_ask 5 = .ok (.aload_n 0, 1) := dk_42 (dk_at dksX4_ask_0 5 rfl rfl)
theorem dX4_ask_6 : decode cX4_ask 6 = .ok (.iload_n 2, 1) := dk_28 (dk_at dksX4_ask_0 6 rfl rfl)
theorem dX4_ask_7 : decode cX4_ask 7 = .ok (.putfield 19, 3) := dk_181 0 19 (dk_at dksX4_ask_0 7 rfl rfl)
theorem dX4_ask_10 : decode cX4_ask 10 = .ok (.aload_n 0, 1) := dk_42 (dk_at dksX4_ask_0 10 rfl rfl)
theorem dX4_ask_11 : decode cX4_ask 11 = .ok (.iload_n 3, 1) := dk_29 (dk_at dksX4_ask_0 11 rfl rfl)
theorem dX4_ask_12 : decode cX4_ask 12 = .ok (.putfield 22, 3) := dk_181 0 22 (dk_at dksX4_ask_0 12 rfl rfl)
theorem dX4_ask_15 : decode cX4_ask 15 = .ok (.aload_n 0, 1) := dk_42 (dk_at dksX4_ask_0 15 rfl rfl)
theorem dX4_ask_16 : decode cX4_ask 16 = .ok (.iconst 0, 1) := dk_3 (dk_at dksX4_ask_0 16 rfl rfl)
theorem dX4_ask_17 : decode cX4_ask 17 = .ok (.putfield 26, 3) := dk_181 0 26 (dk_at dksX4_ask_0 17 rfl rfl)
theorem dX4_ask_20 : decode cX4_ask 20 = .ok (.aload_n 0, 1) := dk_42 (dk_at dksX4_ask_0 20 rfl rfl)
theorem dX4_ask_21 : decode cX4_ask 21 = .ok (.iconst 0, 1) := dk_3 (dk_at dksX4_ask_0 21 rfl rfl)
theorem dX4_ask_22 : decode cX4_ask 22 = .ok (.putfield 29, 3) := dk_181 0 29 (dk_at dksX4_ask_1 0 rfl rfl)
theorem dX4_ask_25 : decode cX4_ask 25 = .ok (.aload_n 0, 1) := dk_42 (dk_at dksX4_ask_1 3 rfl rfl)
theorem dX4_ask_26 : decode cX4_ask 26 = .ok (.iconst 0, 1) := dk_3 (dk_at dksX4_ask_1 4 rfl rfl)
theorem dX4_ask_27 : decode cX4_ask 27 = .ok (.putfield 32, 3) := dk_181 0 32 (dk_at dksX4_ask_1 5 rfl rfl)
theorem dX4_ask_30 : decode cX4_ask 30 = .ok (.aload_n 0, 1) := dk_42 (dk_at dksX4_ask_1 8 rfl rfl)
theorem dX4_ask_31 : decode cX4_ask 31 = .ok (.invokevirtual 35, 3) := dk_182 0 35 (dk_at dksX4_ask_1 9 rfl rfl)
theorem dX4_ask_34 : decode cX4_ask 34 = .ok (.aload_n 0, 1) := dk_42 (dk_at dksX4_ask_1 12 rfl rfl)
theorem dX4_ask_35 : decode cX4_ask 35 = .ok (.getfield 32, 3) := dk_180 0 32 (dk_at dksX4_ask_1 13 rfl rfl)
theorem dX4_ask_38 : decode cX4_ask 38 = .ok (.ifCond .eq 8, 3) := dk_153 0 8 (dk_at dksX4_ask_1 16 rfl rfl)
theorem dX4_ask_41 : decode cX4_ask 41 = .ok (.bipush (-2), 2) := dk_16 254 (dk_at dksX4_ask_1 19 rfl rfl)
theorem dX4_ask_43 : decode cX4_ask 43 = .ok (.goto 15, 3) := dk_167 0 15 (dk_at dksX4_ask_1 21 rfl rfl)
theorem dX4_ask_46 : decode cX4_ask 46 = .ok (.aload_n 0, 1) := dk_42 (dk_at dksX4_ask_2 0 rfl rfl)
theorem dX4_ask_47 : decode cX4_ask 47 = .ok (.getfield 29, 3) := dk_180 0 29 (dk_at dksX4_ask_2 1 rfl rfl)
theorem dX4_ask_50 : decode cX4_ask 50 = .ok (.ifCond .eq 7, 3) := dk_153 0 7 (dk_at dksX4_ask_2 4 rfl rfl)
theorem dX4_ask_53 : decode cX4_ask 53 = .ok (.iconst 0, 1) := dk_3 (dk_at dksX4_ask_2 7 rfl rfl)
theorem dX4_ask_54 : decode cX4_ask 54 = .ok (.goto 4, 3) := dk_167 0 4 (dk_at dksX4_ask_2 8 rfl rfl)
theorem dX4_ask_57 : decode cX4_ask 57 = .ok (.iconst 1, 1) := dk_4 (dk_at dksX4_ask_2 11 rfl rfl)
theorem dX4_ask_58 : decode cX4_ask 58 = .ok (.ireturn, 1) := dk_172 (dk_at dksX4_ask_2 12 rfl rfl)
theorem q132 : (Jvm.Cond.initialized "BlindCards$Closer") ∈ lw_all := lw_g (lw_at lw_m1 8 rfl) rfl
theorem q290 : (Jvm.Cond.fieldLink "BlindCards$Closer" (15 : Nat) "BlindCards$Closer" "bent" "I") ∈ lw_all := lw_g (lw_at lw_m1 166 rfl) rfl
theorem q291 : (Jvm.Cond.sameField "BlindCards$Closer" "BlindCards$Runs" "bent" "I") ∈ lw_all := lw_g (lw_at lw_m1 167 rfl) rfl
theorem q293 : (Jvm.Cond.fieldLink "BlindCards$Closer" (19 : Nat) "BlindCards$Closer" "counted" "I") ∈ lw_all := lw_g (lw_at lw_m1 169 rfl) rfl
theorem q294 : (Jvm.Cond.sameField "BlindCards$Closer" "BlindCards$Runs" "counted" "I") ∈ lw_all := lw_g (lw_at lw_m1 170 rfl) rfl
theorem q339 : (Jvm.Cond.instantiable "BlindCards$Closer" (12 : Nat)) ∈ lw_all := lw_g (lw_at lw_m1 215 rfl) rfl
theorem q341 : (Jvm.Cond.instanceMethod ({ cls := "BlindCards$Closer", name := "<init>", desc := "(LBlindCards;)V" } : Jvm.MethodName)) ∈ lw_all := lw_g (lw_at lw_m1 217 rfl) rfl
theorem q342 : (Jvm.Cond.code ({ cls := "BlindCards$Closer", name := "<init>", desc := "(LBlindCards;)V" } : Jvm.MethodName) prog_8_method_1_code (2 : Nat) (Option.none : Option Jvm.ClassFile.FieldType)) ∈ lw_all := lw_g (lw_at lw_m1 218 rfl) rfl
theorem q343 : (Jvm.Cond.methodLinkNest "BlindCards$Closer" (9 : Nat) ({ cls := "BlindCards$Runs", name := "<init>", desc := "(LBlindCards;)V" } : Jvm.MethodName) "BlindCards") ∈ lw_tbl := lw_at lw_m1 219 rfl
theorem q344 : (Jvm.Cond.fieldLink "BlindCards$Closer" (26 : Nat) "BlindCards$Closer" "many" "I") ∈ lw_all := lw_g (lw_at lw_m1 220 rfl) rfl
theorem q345 : (Jvm.Cond.fieldLink "BlindCards$Closer" (29 : Nat) "BlindCards$Closer" "isOpen" "Z") ∈ lw_all := lw_g (lw_at lw_m1 221 rfl) rfl
theorem q346 : (Jvm.Cond.fieldLink "BlindCards$Closer" (32 : Nat) "BlindCards$Closer" "isSpent" "Z") ∈ lw_all := lw_g (lw_at lw_m1 222 rfl) rfl
theorem q347 : (Jvm.Cond.fieldLink "BlindCards$Closer" (22 : Nat) "BlindCards$Closer" "isSecret" "Z") ∈ lw_all := lw_g (lw_at lw_m1 223 rfl) rfl
theorem q348 : (Jvm.Cond.fieldLink "BlindCards$Closer" (3 : Nat) "BlindCards$Closer" "this$0" "LBlindCards;") ∈ lw_all := lw_g (lw_at lw_m1 224 rfl) rfl
theorem q349 : (Jvm.Cond.lays "BlindCards$Closer" "BlindCards$Closer" "many" "I") ∈ lw_all := lw_g (lw_at lw_m1 225 rfl) rfl
theorem q350 : (Jvm.Cond.soleField "BlindCards$Closer" "many") ∈ lw_all := lw_g (lw_at lw_m1 226 rfl) rfl
theorem q351 : (Jvm.Cond.lays "BlindCards$Closer" "BlindCards$Closer" "isOpen" "Z") ∈ lw_all := lw_g (lw_at lw_m1 227 rfl) rfl
theorem q352 : (Jvm.Cond.soleField "BlindCards$Closer" "isOpen") ∈ lw_all := lw_g (lw_at lw_m1 228 rfl) rfl
theorem q353 : (Jvm.Cond.lays "BlindCards$Closer" "BlindCards$Closer" "isSpent" "Z") ∈ lw_all := lw_g (lw_at lw_m1 229 rfl) rfl
theorem q354 : (Jvm.Cond.soleField "BlindCards$Closer" "isSpent") ∈ lw_all := lw_g (lw_at lw_m1 230 rfl) rfl
theorem q355 : (Jvm.Cond.lays "BlindCards$Closer" "BlindCards$Closer" "isSecret" "Z") ∈ lw_all := lw_g (lw_at lw_m1 231 rfl) rfl
theorem q356 : (Jvm.Cond.soleField "BlindCards$Closer" "isSecret") ∈ lw_all := lw_g (lw_at lw_m1 232 rfl) rfl
theorem q357 : (Jvm.Cond.laysFinal "BlindCards$Closer" "BlindCards$Closer" "this$0" "LBlindCards;") ∈ lw_all := lw_g (lw_at lw_m1 233 rfl) rfl
theorem q358 : (Jvm.Cond.soleField "BlindCards$Closer" "this$0") ∈ lw_all := lw_g (lw_at lw_m1 234 rfl) rfl
theorem q359 : (Jvm.Cond.lays "BlindCards$Closer" "BlindCards$Runs" "cheat" "I") ∈ lw_all := lw_g (lw_at lw_m1 235 rfl) rfl
theorem q360 : (Jvm.Cond.lays "BlindCards$Closer" "BlindCards$Runs" "bent" "I") ∈ lw_all := lw_g (lw_at lw_m1 236 rfl) rfl
theorem q361 : (Jvm.Cond.lays "BlindCards$Closer" "BlindCards$Runs" "counted" "I") ∈ lw_all := lw_g (lw_at lw_m1 237 rfl) rfl
theorem q362 : (Jvm.Cond.lays "BlindCards$Closer" "BlindCards$Runs" "cheatsRed" "Z") ∈ lw_all := lw_g (lw_at lw_m1 238 rfl) rfl
theorem q363 : (Jvm.Cond.laysFinal "BlindCards$Closer" "BlindCards$Runs" "looks" "[I") ∈ lw_all := lw_g (lw_at lw_m1 239 rfl) rfl
theorem q364 : (Jvm.Cond.lays "BlindCards$Closer" "BlindCards$Runs" "lookMany" "I") ∈ lw_all := lw_g (lw_at lw_m2 0 rfl) rfl
theorem q365 : (Jvm.Cond.laysFinal "BlindCards$Closer" "BlindCards$Runs" "this$0" "LBlindCards;") ∈ lw_all := lw_g (lw_at lw_m2 1 rfl) rfl
theorem q366 : (Jvm.Cond.superclass "BlindCards$Closer" "BlindCards$Runs") ∈ lw_all := lw_g (lw_at lw_m2 2 rfl) rfl
theorem q432 : (Jvm.Cond.selects "BlindCards$Closer" ({ cls := "java/lang/Object", name := "getClass", desc := "()Ljava/lang/Class;" } : Jvm.MethodName) ({ cls := "java/lang/Object", name := "getClass", desc := "()Ljava/lang/Class;" } : Jvm.MethodName)) ∈ lw_all := lw_g (lw_at lw_m2 68 rfl) rfl
theorem q497 : (Jvm.Cond.selects "BlindCards$Closer" ({ cls := "BlindCards$Runs", name := "isDone", desc := "()Z" } : Jvm.MethodName) ({ cls := "BlindCards$Closer", name := "isDone", desc := "()Z" } : Jvm.MethodName)) ∈ lw_all := lw_g (lw_at lw_m2 133 rfl) rfl
theorem q498 : (Jvm.Cond.instanceMethod ({ cls := "BlindCards$Closer", name := "isDone", desc := "()Z" } : Jvm.MethodName)) ∈ lw_all := lw_g (lw_at lw_m2 134 rfl) rfl
theorem q499 : (Jvm.Cond.code ({ cls := "BlindCards$Closer", name := "isDone", desc := "()Z" } : Jvm.MethodName) prog_8_method_3_code (1 : Nat) (Option.some Jvm.ClassFile.FieldType.boolean)) ∈ lw_all := lw_g (lw_at lw_m2 135 rfl) rfl
theorem q646 : (Jvm.Cond.selects "BlindCards$Closer" ({ cls := "BlindCards$Runs", name := "end", desc := "(ILBlindCards$Step;J)V" } : Jvm.MethodName) ({ cls := "BlindCards$Closer", name := "end", desc := "(ILBlindCards$Step;J)V" } : Jvm.MethodName)) ∈ lw_all := lw_g (lw_at lw_m3 42 rfl) rfl
theorem q647 : (Jvm.Cond.instanceMethod ({ cls := "BlindCards$Closer", name := "end", desc := "(ILBlindCards$Step;J)V" } : Jvm.MethodName)) ∈ lw_all := lw_g (lw_at lw_m3 43 rfl) rfl
theorem q648 : (Jvm.Cond.code ({ cls := "BlindCards$Closer", name := "end", desc := "(ILBlindCards$Step;J)V" } : Jvm.MethodName) prog_8_method_4_code (7 : Nat) (Option.none : Option Jvm.ClassFile.FieldType)) ∈ lw_all := lw_g (lw_at lw_m3 44 rfl) rfl
theorem q649 : (Jvm.Cond.methodLink "BlindCards$Closer" (43 : Nat) ({ cls := "BlindCards$Recipe", name := "inputs", desc := "()I" } : Jvm.MethodName)) ∈ lw_all := lw_g (lw_at lw_m3 45 rfl) rfl
theorem q650 : (Jvm.Cond.methodLinkNest "BlindCards$Closer" (49 : Nat) ({ cls := "BlindCards", name := "areLike", desc := "(IIZ)Z" } : Jvm.MethodName) "BlindCards") ∈ lw_tbl := lw_at lw_m3 46 rfl
theorem q714 : (Jvm.Cond.methodLink "BlindCards$Closer" (53 : Nat) ({ cls := "BlindCards$Closer", name := "sum", desc := "(II)J" } : Jvm.MethodName)) ∈ lw_all := lw_g (lw_at lw_m3 110 rfl) rfl
theorem q715 : (Jvm.Cond.sameMethod "BlindCards$Closer" "BlindCards$Runs" "sum" "(II)J") ∈ lw_all := lw_g (lw_at lw_m3 111 rfl) rfl
theorem q717 : (Jvm.Cond.selects "BlindCards$Closer" ({ cls := "BlindCards$Closer", name := "sum", desc := "(II)J" } : Jvm.MethodName) ({ cls := "BlindCards$Runs", name := "sum", desc := "(II)J" } : Jvm.MethodName)) ∈ lw_all := lw_g (lw_at lw_m3 113 rfl) rfl
theorem q755 : (Jvm.Cond.fieldLinkNest "BlindCards$Closer" (39 : Nat) "BlindCards" "recipe" "LBlindCards$Recipe;" "BlindCards") ∈ lw_tbl := lw_at lw_m3 151 rfl
theorem q1642 : (Jvm.Cond.instanceMethod ({ cls := "BlindCards$Closer", name := "ask", desc := "(IIZ)I" } : Jvm.MethodName)) ∈ lw_all := lw_g (lw_at lw_m7 78 rfl) rfl
theorem q1643 : (Jvm.Cond.selects "BlindCards$Closer" ({ cls := "BlindCards$Closer", name := "ask", desc := "(IIZ)I" } : Jvm.MethodName) ({ cls := "BlindCards$Closer", name := "ask", desc := "(IIZ)I" } : Jvm.MethodName)) ∈ lw_all := lw_g (lw_at lw_m7 79 rfl) rfl
theorem q1644 : (Jvm.Cond.code ({ cls := "BlindCards$Closer", name := "ask", desc := "(IIZ)I" } : Jvm.MethodName) prog_8_method_2_code (4 : Nat) (Option.some Jvm.ClassFile.FieldType.int)) ∈ lw_all := lw_g (lw_at lw_m7 80 rfl) rfl
theorem q1645 : (Jvm.Cond.methodLink "BlindCards$Closer" (35 : Nat) ({ cls := "BlindCards$Closer", name := "begin", desc := "()V" } : Jvm.MethodName)) ∈ lw_all := lw_g (lw_at lw_m7 81 rfl) rfl
theorem q1646 : (Jvm.Cond.sameMethod "BlindCards$Closer" "BlindCards$Runs" "begin" "()V") ∈ lw_all := lw_g (lw_at lw_m7 82 rfl) rfl
theorem q1647 : (Jvm.Cond.selects "BlindCards$Closer" ({ cls := "BlindCards$Closer", name := "begin", desc := "()V" } : Jvm.MethodName) ({ cls := "BlindCards$Runs", name := "begin", desc := "()V" } : Jvm.MethodName)) ∈ lw_all := lw_g (lw_at lw_m7 83 rfl) rfl
theorem q2587 : (Jvm.Cond.castable "BlindCards$Closer" "java/lang/Object") ∈ lw_tbl := lw_at lw_m11 63 rfl
theorem in_X4 : ∀ w ∈ wsX40, w ∈ lw_all := lw_in wsX40 [359, 360, 361, 362, 363, 364, 365, 349, 351, 353, 355, 357] (by decide +kernel) (by decide +kernel)

/-! BlindCards$Cheater -/
set_option maxRecDepth 100000
def RX5 : String := "BlindCards$Cheater"
def TX5 : u_T := fun k => match k with
  | 0 => ("BlindCards$Runs", "cheat", "I", false)
  | 1 => ("BlindCards$Runs", "bent", "I", false)
  | 2 => ("BlindCards$Runs", "counted", "I", false)
  | 3 => ("BlindCards$Runs", "cheatsRed", "Z", false)
  | 4 => ("BlindCards$Runs", "looks", "[I", true)
  | 5 => ("BlindCards$Runs", "lookMany", "I", false)
  | 6 => ("BlindCards$Runs", "this$0", "LBlindCards;", true)
  | 7 => ("BlindCards$Cheater", "many", "I", false)
  | 8 => ("BlindCards$Cheater", "set", "I", false)
  | _ => ("BlindCards$Cheater", "this$0", "LBlindCards;", true)
def tyX5 : Nat → FieldType := fun k => match k with
  | 0 => .int
  | 1 => .int
  | 2 => .int
  | 3 => .boolean
  | 4 => .array .int
  | 5 => .int
  | 6 => .object "BlindCards"
  | 7 => .int
  | 8 => .int
  | _ => .object "BlindCards"
abbrev wsX50 : List Cond := u_ws RX5 TX5 10
-- two fields of one name: no nmX5
theorem tyX5_ok : ∀ k, k < 10 → parseFieldDescriptor (TX5 k).2.2.1 = some (tyX5 k) := by decide +kernel
abbrev cX5_init : ByteArray := prog_7_method_1_code
def yX5_init : MethodName := ⟨RX5, "<init>", "(LBlindCards;)V"⟩
def dkwX5_init_0 : List UInt8 := [42, 43, 181, 0, 3, 42, 43, 183, 0, 9, 177]
abbrev dktX5_init_0 : List UInt8 := dkwX5_init_0 ++ []
theorem dksX5_init_0 : cX5_init.data.toList.drop 0 = dktX5_init_0 := by decide +kernel
theorem dX5_init_0 : decode cX5_init 0 = .ok (.aload_n 0, 1) := dk_42 (dk_at dksX5_init_0 0 rfl rfl)
theorem dX5_init_1 : decode cX5_init 1 = .ok (.aload_n 1, 1) := dk_43 (dk_at dksX5_init_0 1 rfl rfl)
theorem dX5_init_2 : decode cX5_init 2 = .ok (.putfield 3, 3) := dk_181 0 3 (dk_at dksX5_init_0 2 rfl rfl)
theorem dX5_init_5 : decode cX5_init 5 = .ok (.aload_n 0, 1) := dk_42 (dk_at dksX5_init_0 5 rfl rfl)
theorem dX5_init_6 : decode cX5_init 6 = .ok (.aload_n 1, 1) := dk_43 (dk_at dksX5_init_0 6 rfl rfl)
theorem dX5_init_7 : decode cX5_init 7 = .ok (.invokespecial 9, 3) := dk_183 0 9 (dk_at dksX5_init_0 7 rfl rfl)
theorem dX5_init_10 : decode cX5_init 10 = .ok (.return_, 1) := dk_177 (dk_at dksX5_init_0 10 rfl rfl)
abbrev cX5_isDone : ByteArray := prog_7_method_3_code
def yX5_isDone : MethodName := ⟨RX5, "isDone", "()Z"⟩
def dkwX5_isDone_0 : List UInt8 := [42, 180, 0, 23, 17, 19, 136, 164, 0, 7, 4, 167, 0, 4, 3, 172]
abbrev dktX5_isDone_0 : List UInt8 := dkwX5_isDone_0 ++ []
theorem dksX5_isDone_0 : cX5_isDone.data.toList.drop 0 = dktX5_isDone_0 := by decide +kernel
theorem dX5_isDone_0 : decode cX5_isDone 0 = .ok (.aload_n 0, 1) := dk_42 (dk_at dksX5_isDone_0 0 rfl rfl)
theorem dX5_isDone_1 : decode cX5_isDone 1 = .ok (.getfield 23, 3) := dk_180 0 23 (dk_at dksX5_isDone_0 1 rfl rfl)
theorem dX5_isDone_4 : decode cX5_isDone 4 = .ok (.sipush 5000, 3) := dk_17 19 136 (dk_at dksX5_isDone_0 4 rfl rfl)
theorem dX5_isDone_7 : decode cX5_isDone 7 = .ok (.if_icmp .le 7, 3) := dk_164 0 7 (dk_at dksX5_isDone_0 7 rfl rfl)
theorem dX5_isDone_10 : decode cX5_isDone 10 = .ok (.iconst 1, 1) := dk_4 (dk_at dksX5_isDone_0 10 rfl rfl)
theorem dX5_isDone_11 : decode cX5_isDone 11 = .ok (.goto 4, 3) := dk_167 0 4 (dk_at dksX5_isDone_0 11 rfl rfl)
theorem dX5_isDone_14 : decode cX5_isDone 14 = .ok (.iconst 0, 1) := dk_3 (dk_at dksX5_isDone_0 14 rfl rfl)
theorem dX5_isDone_15 : decode cX5_isDone 15 = .ok (.ireturn, 1) := dk_172 (dk_at dksX5_isDone_0 15 rfl rfl)
abbrev cX5_end : ByteArray := prog_7_method_4_code
def yX5_end : MethodName := ⟨RX5, "end", "(ILBlindCards$Step;J)V"⟩
def dkwX5_end_2 : List UInt8 := [132, 5, 1, 167, 255, 221, 177]
abbrev dktX5_end_2 : List UInt8 := dkwX5_end_2 ++ []
def dkwX5_end_1 : List UInt8 := [182, 0, 37, 162, 0, 26, 42, 89, 180, 0, 26, 42, 27, 44, 21, 5, 182, 0, 43, 128, 181, 0, 26]
abbrev dktX5_end_1 : List UInt8 := dkwX5_end_1 ++ dktX5_end_2
def dkwX5_end_0 : List UInt8 := [42, 89, 180, 0, 23, 4, 96, 181, 0, 23, 3, 54, 5, 21, 5, 42, 180, 0, 3, 180, 0, 33]
abbrev dktX5_end_0 : List UInt8 := dkwX5_end_0 ++ dktX5_end_1
theorem dksX5_end_0 : cX5_end.data.toList.drop 0 = dktX5_end_0 := by decide +kernel
theorem dksX5_end_1 : cX5_end.data.toList.drop 22 = dktX5_end_1 := dk_seg dksX5_end_0 22 rfl rfl
theorem dksX5_end_2 : cX5_end.data.toList.drop 45 = dktX5_end_2 := dk_seg dksX5_end_1 23 rfl rfl
theorem dX5_end_0 : decode cX5_end 0 = .ok (.aload_n 0, 1) := dk_42 (dk_at dksX5_end_0 0 rfl rfl)
theorem dX5_end_1 : decode cX5_end 1 = .ok (.dup, 1) := dk_89 (dk_at dksX5_end_0 1 rfl rfl)
theorem dX5_end_2 : decode cX5_end 2 = .ok (.getfield 23, 3) := dk_180 0 23 (dk_at dksX5_end_0 2 rfl rfl)
theorem dX5_end_5 : decode cX5_end 5 = .ok (.iconst 1, 1) := dk_4 (dk_at dksX5_end_0 5 rfl rfl)
theorem dX5_end_6 : decode cX5_end 6 = .ok (.iadd, 1) := dk_96 (dk_at dksX5_end_0 6 rfl rfl)
theorem dX5_end_7 : decode cX5_end 7 = .ok (.putfield 23, 3) := dk_181 0 23 (dk_at dksX5_end_0 7 rfl rfl)
theorem dX5_end_10 : decode cX5_end 10 = .ok (.iconst 0, 1) := dk_3 (dk_at dksX5_end_0 10 rfl rfl)
theorem dX5_end_11 : decode cX5_end 11 = .ok (.istore 5, 2) := dk_54 5 (dk_at dksX5_end_0 11 rfl rfl)
theorem dX5_end_13 : decode cX5_end 13 = .ok (.iload 5, 2) := dk_21 5 (dk_at dksX5_end_0 13 rfl rfl)
theorem dX5_end_15 : decode cX5_end 15 = .ok (.aload_n 0, 1) := dk_42 (dk_at dksX5_end_0 15 rfl rfl)
theorem dX5_end_16 : decode cX5_end 16 = .ok (.getfield 3, 3) := dk_180 0 3 (dk_at dksX5_end_0 16 rfl rfl)
theorem dX5_end_19 : decode cX5_end 19 = .ok (.getfield 33, 3) := dk_180 0 33 (dk_at dksX5_end_0 19 rfl rfl)
theorem dX5_end_22 : decode cX5_end 22 = .ok (.invokevirtual 37, 3) := dk_182 0 37 (dk_at dksX5_end_1 0 rfl rfl)
theorem dX5_end_25 : decode cX5_end 25 = .ok (.if_icmp .ge 26, 3) := dk_162 0 26 (dk_at dksX5_end_1 3 rfl rfl)
theorem dX5_end_28 : decode cX5_end 28 = .ok (.aload_n 0, 1) := dk_42 (dk_at dksX5_end_1 6 rfl rfl)
theorem dX5_end_29 : decode cX5_end 29 = .ok (.dup, 1) := dk_89 (dk_at dksX5_end_1 7 rfl rfl)
theorem dX5_end_30 : decode cX5_end 30 = .ok (.getfield 26, 3) := dk_180 0 26 (dk_at dksX5_end_1 8 rfl rfl)
theorem dX5_end_33 : decode cX5_end 33 = .ok (.aload_n 0, 1) := dk_42 (dk_at dksX5_end_1 11 rfl rfl)
theorem dX5_end_34 : decode cX5_end 34 = .ok (.iload_n 1, 1) := dk_27 (dk_at dksX5_end_1 12 rfl rfl)
theorem dX5_end_35 : decode cX5_end 35 = .ok (.aload_n 2, 1) := dk_44 (dk_at dksX5_end_1 13 rfl rfl)
theorem dX5_end_36 : decode cX5_end 36 = .ok (.iload 5, 2) := dk_21 5 (dk_at dksX5_end_1 14 rfl rfl)
theorem dX5_end_38 : decode cX5_end 38 = .ok (.invokevirtual 43, 3) := dk_182 0 43 (dk_at dksX5_end_1 16 rfl rfl)
theorem dX5_end_41 : decode cX5_end 41 = .ok (.ior, 1) := dk_128 (dk_at dksX5_end_1 19 rfl rfl)
theorem dX5_end_42 : decode cX5_end 42 = .ok (.putfield 26, 3) := dk_181 0 26 (dk_at dksX5_end_1 20 rfl rfl)
theorem dX5_end_45 : decode cX5_end 45 = .ok (.iinc 5 1, 3) := dk_132 5 1 (dk_at dksX5_end_2 0 rfl rfl)
theorem dX5_end_48 : decode cX5_end 48 = .ok (.goto (-35), 3) := dk_167 255 221 (dk_at dksX5_end_2 3 rfl rfl)
theorem dX5_end_51 : decode cX5_end 51 = .ok (.return_, 1) := dk_177 (dk_at dksX5_end_2 6 rfl rfl)
abbrev cX5_ask : ByteArray := prog_7_method_2_code
def yX5_ask : MethodName := ⟨RX5, "ask", "(IZ)I"⟩
def dkwX5_ask_1 : List UInt8 := [42, 180, 0, 23, 17, 19, 136, 164, 0, 8, 16, 254, 167, 0, 7, 42, 180, 0, 26, 172]
abbrev dktX5_ask_1 : List UInt8 := dkwX5_ask_1 ++ []
def dkwX5_ask_0 : List UInt8 := [42, 27, 181, 0, 15, 42, 28, 181, 0, 19, 42, 3, 181, 0, 23, 42, 3, 181, 0, 26, 42, 182, 0, 29]
abbrev dktX5_ask_0 : List UInt8 := dkwX5_ask_0 ++ dktX5_ask_1
theorem dksX5_ask_0 : cX5_ask.data.toList.drop 0 = dktX5_ask_0 := by decide +kernel
theorem dksX5_ask_1 : cX5_ask.data.toList.drop 24 = dktX5_ask_1 := dk_seg dksX5_ask_0 24 rfl rfl
theorem dX5_ask_0 : decode cX5_ask 0 = .ok (.aload_n 0, 1) := dk_42 (dk_at dksX5_ask_0 0 rfl rfl)
theorem dX5_ask_1 : decode cX5_ask 1 = .ok (.iload_n 1, 1) := dk_27 (dk_at dksX5_ask_0 1 rfl rfl)
theorem dX5_ask_2 : decode cX5_ask 2 = .ok (.putfield 15, 3) := dk_181 0 15 (dk_at dksX5_ask_0 2 rfl rfl)
theorem dX5_ask_5 : decode cX5_ask 5 = .ok (.aload_n 0, 1) := dk_42 (dk_at dksX5_ask_0 5 rfl rfl)
theorem dX5_ask_6 : decode cX5_ask 6 = .ok (.iload_n 2, 1) := dk_28 (dk_at dksX5_ask_0 6 rfl rfl)
theorem dX5_ask_7 : decode cX5_ask 7 = .ok (.putfield 19, 3) := dk_181 0 19 (dk_at dksX5_ask_0 7 rfl rfl)
theorem dX5_ask_10 : decode cX5_ask 10 = .ok (.aload_n 0, 1) := dk_42 (dk_at dksX5_ask_0 10 rfl rfl)
theorem dX5_ask_11 : decode cX5_ask 11 = .ok (.iconst 0, 1) := dk_3 (dk_at dksX5_ask_0 11 rfl rfl)
theorem dX5_ask_12 : decode cX5_ask 12 = .ok (.putfield 23, 3) := dk_181 0 23 (dk_at dksX5_ask_0 12 rfl rfl)
theorem dX5_ask_15 : decode cX5_ask 15 = .ok (.aload_n 0, 1) := dk_42 (dk_at dksX5_ask_0 15 rfl rfl)
theorem dX5_ask_16 : decode cX5_ask 16 = .ok (.iconst 0, 1) := dk_3 (dk_at dksX5_ask_0 16 rfl rfl)
theorem dX5_ask_17 : decode cX5_ask 17 = .ok (.putfield 26, 3) := dk_181 0 26 (dk_at dksX5_ask_0 17 rfl rfl)
theorem dX5_ask_20 : decode cX5_ask 20 = .ok (.aload_n 0, 1) := dk_42 (dk_at dksX5_ask_0 20 rfl rfl)
theorem dX5_ask_21 : decode cX5_ask 21 = .ok (.invokevirtual 29, 3) := dk_182 0 29 (dk_at dksX5_ask_0 21 rfl rfl)
theorem dX5_ask_24 : decode cX5_ask 24 = .ok (.aload_n 0, 1) := dk_42 (dk_at dksX5_ask_1 0 rfl rfl)
theorem dX5_ask_25 : decode cX5_ask 25 = .ok (.getfield 23, 3) := dk_180 0 23 (dk_at dksX5_ask_1 1 rfl rfl)
theorem dX5_ask_28 : decode cX5_ask 28 = .ok (.sipush 5000, 3) := dk_17 19 136 (dk_at dksX5_ask_1 4 rfl rfl)
theorem dX5_ask_31 : decode cX5_ask 31 = .ok (.if_icmp .le 8, 3) := dk_164 0 8 (dk_at dksX5_ask_1 7 rfl rfl)
theorem dX5_ask_34 : decode cX5_ask 34 = .ok (.bipush (-2), 2) := dk_16 254 (dk_at dksX5_ask_1 10 rfl rfl)
theorem dX5_ask_36 : decode cX5_ask 36 = .ok (.goto 7, 3) := dk_167 0 7 (dk_at dksX5_ask_1 12 rfl rfl)
theorem dX5_ask_39 : decode cX5_ask 39 = .ok (.aload_n 0, 1) := dk_42 (dk_at dksX5_ask_1 15 rfl rfl)
theorem dX5_ask_40 : decode cX5_ask 40 = .ok (.getfield 26, 3) := dk_180 0 26 (dk_at dksX5_ask_1 16 rfl rfl)
theorem dX5_ask_43 : decode cX5_ask 43 = .ok (.ireturn, 1) := dk_172 (dk_at dksX5_ask_1 19 rfl rfl)
theorem q133 : (Jvm.Cond.initialized "BlindCards$Cheater") ∈ lw_all := lw_g (lw_at lw_m1 9 rfl) rfl
theorem q287 : (Jvm.Cond.fieldLink "BlindCards$Cheater" (15 : Nat) "BlindCards$Cheater" "cheat" "I") ∈ lw_all := lw_g (lw_at lw_m1 163 rfl) rfl
theorem q288 : (Jvm.Cond.sameField "BlindCards$Cheater" "BlindCards$Runs" "cheat" "I") ∈ lw_all := lw_g (lw_at lw_m1 164 rfl) rfl
theorem q295 : (Jvm.Cond.fieldLink "BlindCards$Cheater" (19 : Nat) "BlindCards$Cheater" "cheatsRed" "Z") ∈ lw_all := lw_g (lw_at lw_m1 171 rfl) rfl
theorem q296 : (Jvm.Cond.sameField "BlindCards$Cheater" "BlindCards$Runs" "cheatsRed" "Z") ∈ lw_all := lw_g (lw_at lw_m1 172 rfl) rfl
theorem q368 : (Jvm.Cond.instantiable "BlindCards$Cheater" (10 : Nat)) ∈ lw_all := lw_g (lw_at lw_m2 4 rfl) rfl
theorem q370 : (Jvm.Cond.instanceMethod ({ cls := "BlindCards$Cheater", name := "<init>", desc := "(LBlindCards;)V" } : Jvm.MethodName)) ∈ lw_all := lw_g (lw_at lw_m2 6 rfl) rfl
theorem q371 : (Jvm.Cond.code ({ cls := "BlindCards$Cheater", name := "<init>", desc := "(LBlindCards;)V" } : Jvm.MethodName) prog_7_method_1_code (2 : Nat) (Option.none : Option Jvm.ClassFile.FieldType)) ∈ lw_all := lw_g (lw_at lw_m2 7 rfl) rfl
theorem q372 : (Jvm.Cond.methodLinkNest "BlindCards$Cheater" (9 : Nat) ({ cls := "BlindCards$Runs", name := "<init>", desc := "(LBlindCards;)V" } : Jvm.MethodName) "BlindCards") ∈ lw_tbl := lw_at lw_m2 8 rfl
theorem q373 : (Jvm.Cond.fieldLink "BlindCards$Cheater" (23 : Nat) "BlindCards$Cheater" "many" "I") ∈ lw_all := lw_g (lw_at lw_m2 9 rfl) rfl
theorem q374 : (Jvm.Cond.fieldLink "BlindCards$Cheater" (26 : Nat) "BlindCards$Cheater" "set" "I") ∈ lw_all := lw_g (lw_at lw_m2 10 rfl) rfl
theorem q375 : (Jvm.Cond.fieldLink "BlindCards$Cheater" (3 : Nat) "BlindCards$Cheater" "this$0" "LBlindCards;") ∈ lw_all := lw_g (lw_at lw_m2 11 rfl) rfl
theorem q376 : (Jvm.Cond.lays "BlindCards$Cheater" "BlindCards$Cheater" "many" "I") ∈ lw_all := lw_g (lw_at lw_m2 12 rfl) rfl
theorem q377 : (Jvm.Cond.soleField "BlindCards$Cheater" "many") ∈ lw_all := lw_g (lw_at lw_m2 13 rfl) rfl
theorem q378 : (Jvm.Cond.lays "BlindCards$Cheater" "BlindCards$Cheater" "set" "I") ∈ lw_all := lw_g (lw_at lw_m2 14 rfl) rfl
theorem q379 : (Jvm.Cond.soleField "BlindCards$Cheater" "set") ∈ lw_all := lw_g (lw_at lw_m2 15 rfl) rfl
theorem q380 : (Jvm.Cond.laysFinal "BlindCards$Cheater" "BlindCards$Cheater" "this$0" "LBlindCards;") ∈ lw_all := lw_g (lw_at lw_m2 16 rfl) rfl
theorem q381 : (Jvm.Cond.soleField "BlindCards$Cheater" "this$0") ∈ lw_all := lw_g (lw_at lw_m2 17 rfl) rfl
theorem q382 : (Jvm.Cond.lays "BlindCards$Cheater" "BlindCards$Runs" "cheat" "I") ∈ lw_all := lw_g (lw_at lw_m2 18 rfl) rfl
theorem q383 : (Jvm.Cond.lays "BlindCards$Cheater" "BlindCards$Runs" "bent" "I") ∈ lw_all := lw_g (lw_at lw_m2 19 rfl) rfl
theorem q384 : (Jvm.Cond.lays "BlindCards$Cheater" "BlindCards$Runs" "counted" "I") ∈ lw_all := lw_g (lw_at lw_m2 20 rfl) rfl
theorem q385 : (Jvm.Cond.lays "BlindCards$Cheater" "BlindCards$Runs" "cheatsRed" "Z") ∈ lw_all := lw_g (lw_at lw_m2 21 rfl) rfl
theorem q386 : (Jvm.Cond.laysFinal "BlindCards$Cheater" "BlindCards$Runs" "looks" "[I") ∈ lw_all := lw_g (lw_at lw_m2 22 rfl) rfl
theorem q387 : (Jvm.Cond.lays "BlindCards$Cheater" "BlindCards$Runs" "lookMany" "I") ∈ lw_all := lw_g (lw_at lw_m2 23 rfl) rfl
theorem q388 : (Jvm.Cond.laysFinal "BlindCards$Cheater" "BlindCards$Runs" "this$0" "LBlindCards;") ∈ lw_all := lw_g (lw_at lw_m2 24 rfl) rfl
theorem q389 : (Jvm.Cond.superclass "BlindCards$Cheater" "BlindCards$Runs") ∈ lw_all := lw_g (lw_at lw_m2 25 rfl) rfl
theorem q431 : (Jvm.Cond.selects "BlindCards$Cheater" ({ cls := "java/lang/Object", name := "getClass", desc := "()Ljava/lang/Class;" } : Jvm.MethodName) ({ cls := "java/lang/Object", name := "getClass", desc := "()Ljava/lang/Class;" } : Jvm.MethodName)) ∈ lw_all := lw_g (lw_at lw_m2 67 rfl) rfl
theorem q494 : (Jvm.Cond.selects "BlindCards$Cheater" ({ cls := "BlindCards$Runs", name := "isDone", desc := "()Z" } : Jvm.MethodName) ({ cls := "BlindCards$Cheater", name := "isDone", desc := "()Z" } : Jvm.MethodName)) ∈ lw_all := lw_g (lw_at lw_m2 130 rfl) rfl
theorem q495 : (Jvm.Cond.instanceMethod ({ cls := "BlindCards$Cheater", name := "isDone", desc := "()Z" } : Jvm.MethodName)) ∈ lw_all := lw_g (lw_at lw_m2 131 rfl) rfl
theorem q496 : (Jvm.Cond.code ({ cls := "BlindCards$Cheater", name := "isDone", desc := "()Z" } : Jvm.MethodName) prog_7_method_3_code (1 : Nat) (Option.some Jvm.ClassFile.FieldType.boolean)) ∈ lw_all := lw_g (lw_at lw_m2 132 rfl) rfl
theorem q624 : (Jvm.Cond.selects "BlindCards$Cheater" ({ cls := "BlindCards$Runs", name := "end", desc := "(ILBlindCards$Step;J)V" } : Jvm.MethodName) ({ cls := "BlindCards$Cheater", name := "end", desc := "(ILBlindCards$Step;J)V" } : Jvm.MethodName)) ∈ lw_all := lw_g (lw_at lw_m3 20 rfl) rfl
theorem q625 : (Jvm.Cond.instanceMethod ({ cls := "BlindCards$Cheater", name := "end", desc := "(ILBlindCards$Step;J)V" } : Jvm.MethodName)) ∈ lw_all := lw_g (lw_at lw_m3 21 rfl) rfl
theorem q626 : (Jvm.Cond.code ({ cls := "BlindCards$Cheater", name := "end", desc := "(ILBlindCards$Step;J)V" } : Jvm.MethodName) prog_7_method_4_code (6 : Nat) (Option.none : Option Jvm.ClassFile.FieldType)) ∈ lw_all := lw_g (lw_at lw_m3 22 rfl) rfl
theorem q627 : (Jvm.Cond.methodLink "BlindCards$Cheater" (37 : Nat) ({ cls := "BlindCards$Recipe", name := "inputs", desc := "()I" } : Jvm.MethodName)) ∈ lw_all := lw_g (lw_at lw_m3 23 rfl) rfl
theorem q628 : (Jvm.Cond.methodLink "BlindCards$Cheater" (43 : Nat) ({ cls := "BlindCards$Cheater", name := "answers", desc := "(ILBlindCards$Step;I)I" } : Jvm.MethodName)) ∈ lw_all := lw_g (lw_at lw_m3 24 rfl) rfl
theorem q629 : (Jvm.Cond.sameMethod "BlindCards$Cheater" "BlindCards$Runs" "answers" "(ILBlindCards$Step;I)I") ∈ lw_all := lw_g (lw_at lw_m3 25 rfl) rfl
theorem q631 : (Jvm.Cond.selects "BlindCards$Cheater" ({ cls := "BlindCards$Cheater", name := "answers", desc := "(ILBlindCards$Step;I)I" } : Jvm.MethodName) ({ cls := "BlindCards$Runs", name := "answers", desc := "(ILBlindCards$Step;I)I" } : Jvm.MethodName)) ∈ lw_all := lw_g (lw_at lw_m3 27 rfl) rfl
theorem q754 : (Jvm.Cond.fieldLinkNest "BlindCards$Cheater" (33 : Nat) "BlindCards" "recipe" "LBlindCards$Recipe;" "BlindCards") ∈ lw_tbl := lw_at lw_m3 150 rfl
theorem q1662 : (Jvm.Cond.instanceMethod ({ cls := "BlindCards$Cheater", name := "ask", desc := "(IZ)I" } : Jvm.MethodName)) ∈ lw_all := lw_g (lw_at lw_m7 98 rfl) rfl
theorem q1663 : (Jvm.Cond.selects "BlindCards$Cheater" ({ cls := "BlindCards$Cheater", name := "ask", desc := "(IZ)I" } : Jvm.MethodName) ({ cls := "BlindCards$Cheater", name := "ask", desc := "(IZ)I" } : Jvm.MethodName)) ∈ lw_all := lw_g (lw_at lw_m7 99 rfl) rfl
theorem q1664 : (Jvm.Cond.code ({ cls := "BlindCards$Cheater", name := "ask", desc := "(IZ)I" } : Jvm.MethodName) prog_7_method_2_code (3 : Nat) (Option.some Jvm.ClassFile.FieldType.int)) ∈ lw_all := lw_g (lw_at lw_m7 100 rfl) rfl
theorem q1665 : (Jvm.Cond.methodLink "BlindCards$Cheater" (29 : Nat) ({ cls := "BlindCards$Cheater", name := "begin", desc := "()V" } : Jvm.MethodName)) ∈ lw_all := lw_g (lw_at lw_m7 101 rfl) rfl
theorem q1666 : (Jvm.Cond.sameMethod "BlindCards$Cheater" "BlindCards$Runs" "begin" "()V") ∈ lw_all := lw_g (lw_at lw_m7 102 rfl) rfl
theorem q1667 : (Jvm.Cond.selects "BlindCards$Cheater" ({ cls := "BlindCards$Cheater", name := "begin", desc := "()V" } : Jvm.MethodName) ({ cls := "BlindCards$Runs", name := "begin", desc := "()V" } : Jvm.MethodName)) ∈ lw_all := lw_g (lw_at lw_m7 103 rfl) rfl
theorem q2588 : (Jvm.Cond.castable "BlindCards$Cheater" "java/lang/Object") ∈ lw_tbl := lw_at lw_m11 64 rfl
theorem in_X5 : ∀ w ∈ wsX50, w ∈ lw_all := lw_in wsX50 [382, 383, 384, 385, 386, 387, 388, 376, 378, 380] (by decide +kernel) (by decide +kernel)

/-! BlindCards$Step -/
set_option maxRecDepth 100000
def RX6 : String := "BlindCards$Step"
abbrev cX6_needs : ByteArray := prog_27_method_2_code
def yX6_needs : MethodName := ⟨RX6, "needs", "()I"⟩
theorem dX6_needs_0 : decode cX6_needs 0 = .ok (.iconst 0, 1) := by decide +kernel
theorem dX6_needs_1 : decode cX6_needs 1 = .ok (.ireturn, 1) := by decide +kernel
abbrev cX6_init : ByteArray := prog_27_method_1_code
def yX6_init : MethodName := ⟨RX6, "<init>", "()V"⟩
theorem dX6_init_0 : decode cX6_init 0 = .ok (.aload_n 0, 1) := by decide +kernel
theorem dX6_init_1 : decode cX6_init 1 = .ok (.invokespecial 1, 3) := by decide +kernel
theorem dX6_init_4 : decode cX6_init 4 = .ok (.return_, 1) := by decide +kernel
theorem q140 : (Jvm.Cond.initialized "BlindCards$Step") ∈ lw_all := lw_g (lw_at lw_m1 16 rfl) rfl
theorem q519 : (Jvm.Cond.instanceMethod ({ cls := "BlindCards$Step", name := "needs", desc := "()I" } : Jvm.MethodName)) ∈ lw_all := lw_g (lw_at lw_m2 155 rfl) rfl
theorem q520 : (Jvm.Cond.sameMethod "BlindCards$Step" "BlindCards$Step" "needs" "()I") ∈ lw_all := lw_g (lw_at lw_m2 156 rfl) rfl
theorem q540 : (Jvm.Cond.code ({ cls := "BlindCards$Step", name := "needs", desc := "()I" } : Jvm.MethodName) prog_27_method_2_code (1 : Nat) (Option.some Jvm.ClassFile.FieldType.int)) ∈ lw_all := lw_g (lw_at lw_m2 176 rfl) rfl
theorem q1302 : (Jvm.Cond.instanceMethod ({ cls := "BlindCards$Step", name := "<init>", desc := "()V" } : Jvm.MethodName)) ∈ lw_all := lw_g (lw_at lw_m5 218 rfl) rfl
theorem q1303 : (Jvm.Cond.code ({ cls := "BlindCards$Step", name := "<init>", desc := "()V" } : Jvm.MethodName) prog_27_method_1_code (1 : Nat) (Option.none : Option Jvm.ClassFile.FieldType)) ∈ lw_all := lw_g (lw_at lw_m5 219 rfl) rfl
theorem q1304 : (Jvm.Cond.methodLink "BlindCards$Step" (1 : Nat) ({ cls := "java/lang/Object", name := "<init>", desc := "()V" } : Jvm.MethodName)) ∈ lw_all := lw_g (lw_at lw_m5 220 rfl) rfl
theorem q1697 : (Jvm.Cond.declares ({ cls := "BlindCards$Step", name := "needs", desc := "()I" } : Jvm.MethodName)) ∈ lw_tbl := lw_at lw_m7 133 rfl

/-! BlindCards$Move -/
set_option maxRecDepth 100000
def RX7 : String := "BlindCards$Move"
abbrev cX7_row : ByteArray := prog_18_method_4_code
def yX7_row : MethodName := ⟨RX7, "row", "(II)I"⟩
def dkwX7_row_1 : List UInt8 := [182, 0, 9, 120, 128, 62, 132, 4, 1, 167, 255, 229, 29, 172]
abbrev dktX7_row_1 : List UInt8 := dkwX7_row_1 ++ []
def dkwX7_row_0 : List UInt8 := [3, 62, 3, 54, 4, 21, 4, 16, 8, 162, 0, 26, 29, 27, 21, 4, 122, 4, 126, 42, 21, 4, 28]
abbrev dktX7_row_0 : List UInt8 := dkwX7_row_0 ++ dktX7_row_1
theorem dksX7_row_0 : cX7_row.data.toList.drop 0 = dktX7_row_0 := by decide +kernel
theorem dksX7_row_1 : cX7_row.data.toList.drop 23 = dktX7_row_1 := dk_seg dksX7_row_0 23 rfl rfl
theorem dX7_row_0 : decode cX7_row 0 = .ok (.iconst 0, 1) := dk_3 (dk_at dksX7_row_0 0 rfl rfl)
theorem dX7_row_1 : decode cX7_row 1 = .ok (.istore_n 3, 1) := dk_62 (dk_at dksX7_row_0 1 rfl rfl)
theorem dX7_row_2 : decode cX7_row 2 = .ok (.iconst 0, 1) := dk_3 (dk_at dksX7_row_0 2 rfl rfl)
theorem dX7_row_3 : decode cX7_row 3 = .ok (.istore 4, 2) := dk_54 4 (dk_at dksX7_row_0 3 rfl rfl)
theorem dX7_row_5 : decode cX7_row 5 = .ok (.iload 4, 2) := dk_21 4 (dk_at dksX7_row_0 5 rfl rfl)
theorem dX7_row_7 : decode cX7_row 7 = .ok (.bipush 8, 2) := dk_16 8 (dk_at dksX7_row_0 7 rfl rfl)
theorem dX7_row_9 : decode cX7_row 9 = .ok (.if_icmp .ge 26, 3) := dk_162 0 26 (dk_at dksX7_row_0 9 rfl rfl)
theorem dX7_row_12 : decode cX7_row 12 = .ok (.iload_n 3, 1) := dk_29 (dk_at dksX7_row_0 12 rfl rfl)
theorem dX7_row_13 : decode cX7_row 13 = .ok (.iload_n 1, 1) := dk_27 (dk_at dksX7_row_0 13 rfl rfl)
theorem dX7_row_14 : decode cX7_row 14 = .ok (.iload 4, 2) := dk_21 4 (dk_at dksX7_row_0 14 rfl rfl)
theorem dX7_row_16 : decode cX7_row 16 = .ok (.ishr, 1) := dk_122 (dk_at dksX7_row_0 16 rfl rfl)
theorem dX7_row_17 : decode cX7_row 17 = .ok (.iconst 1, 1) := dk_4 (dk_at dksX7_row_0 17 rfl rfl)
theorem dX7_row_18 : decode cX7_row 18 = .ok (.iand, 1) := dk_126 (dk_at dksX7_row_0 18 rfl rfl)
theorem dX7_row_19 : decode cX7_row 19 = .ok (.aload_n 0, 1) := dk_42 (dk_at dksX7_row_0 19 rfl rfl)
theorem dX7_row_20 : decode cX7_row 20 = .ok (.iload 4, 2) := dk_21 4 (dk_at dksX7_row_0 20 rfl rfl)
theorem dX7_row_22 : decode cX7_row 22 = .ok (.iload_n 2, 1) := dk_28 (dk_at dksX7_row_0 22 rfl rfl)
theorem dX7_row_23 : decode cX7_row 23 = .ok (.invokevirtual 9, 3) := dk_182 0 9 (dk_at dksX7_row_1 0 rfl rfl)
theorem dX7_row_26 : decode cX7_row 26 = .ok (.ishl, 1) := dk_120 (dk_at dksX7_row_1 3 rfl rfl)
theorem dX7_row_27 : decode cX7_row 27 = .ok (.ior, 1) := dk_128 (dk_at dksX7_row_1 4 rfl rfl)
theorem dX7_row_28 : decode cX7_row 28 = .ok (.istore_n 3, 1) := dk_62 (dk_at dksX7_row_1 5 rfl rfl)
theorem dX7_row_29 : decode cX7_row 29 = .ok (.iinc 4 1, 3) := dk_132 4 1 (dk_at dksX7_row_1 6 rfl rfl)
theorem dX7_row_32 : decode cX7_row 32 = .ok (.goto (-27), 3) := dk_167 255 229 (dk_at dksX7_row_1 9 rfl rfl)
theorem dX7_row_35 : decode cX7_row 35 = .ok (.iload_n 3, 1) := dk_29 (dk_at dksX7_row_1 12 rfl rfl)
theorem dX7_row_36 : decode cX7_row 36 = .ok (.ireturn, 1) := dk_172 (dk_at dksX7_row_1 13 rfl rfl)
abbrev cX7_init : ByteArray := prog_18_method_1_code
def yX7_init : MethodName := ⟨RX7, "<init>", "()V"⟩
theorem dX7_init_0 : decode cX7_init 0 = .ok (.aload_n 0, 1) := by decide +kernel
theorem dX7_init_1 : decode cX7_init 1 = .ok (.invokespecial 3, 3) := by decide +kernel
theorem dX7_init_4 : decode cX7_init 4 = .ok (.return_, 1) := by decide +kernel
theorem q141 : (Jvm.Cond.initialized "BlindCards$Move") ∈ lw_all := lw_g (lw_at lw_m1 17 rfl) rfl
theorem q556 : (Jvm.Cond.declares ({ cls := "BlindCards$Move", name := "ways", desc := "()I" } : Jvm.MethodName)) ∈ lw_tbl := lw_at lw_m2 192 rfl
theorem q557 : (Jvm.Cond.sameMethod "BlindCards$Move" "BlindCards$Move" "ways" "()I") ∈ lw_all := lw_g (lw_at lw_m2 193 rfl) rfl
theorem q576 : (Jvm.Cond.declares ({ cls := "BlindCards$Move", name := "to", desc := "(II)I" } : Jvm.MethodName)) ∈ lw_tbl := lw_at lw_m2 212 rfl
theorem q577 : (Jvm.Cond.sameMethod "BlindCards$Move" "BlindCards$Move" "to" "(II)I") ∈ lw_all := lw_g (lw_at lw_m2 213 rfl) rfl
theorem q596 : (Jvm.Cond.instanceMethod ({ cls := "BlindCards$Move", name := "row", desc := "(II)I" } : Jvm.MethodName)) ∈ lw_all := lw_g (lw_at lw_m2 232 rfl) rfl
theorem q597 : (Jvm.Cond.sameMethod "BlindCards$Move" "BlindCards$Move" "row" "(II)I") ∈ lw_all := lw_g (lw_at lw_m2 233 rfl) rfl
theorem q602 : (Jvm.Cond.code ({ cls := "BlindCards$Move", name := "row", desc := "(II)I" } : Jvm.MethodName) prog_18_method_4_code (5 : Nat) (Option.some Jvm.ClassFile.FieldType.int)) ∈ lw_all := lw_g (lw_at lw_m2 238 rfl) rfl
theorem q603 : (Jvm.Cond.methodLink "BlindCards$Move" (9 : Nat) ({ cls := "BlindCards$Move", name := "to", desc := "(II)I" } : Jvm.MethodName)) ∈ lw_all := lw_g (lw_at lw_m2 239 rfl) rfl
theorem q1299 : (Jvm.Cond.instanceMethod ({ cls := "BlindCards$Move", name := "<init>", desc := "()V" } : Jvm.MethodName)) ∈ lw_all := lw_g (lw_at lw_m5 215 rfl) rfl
theorem q1300 : (Jvm.Cond.code ({ cls := "BlindCards$Move", name := "<init>", desc := "()V" } : Jvm.MethodName) prog_18_method_1_code (1 : Nat) (Option.none : Option Jvm.ClassFile.FieldType)) ∈ lw_all := lw_g (lw_at lw_m5 216 rfl) rfl
theorem q1301 : (Jvm.Cond.methodLinkNest "BlindCards$Move" (3 : Nat) ({ cls := "BlindCards$Step", name := "<init>", desc := "()V" } : Jvm.MethodName) "BlindCards") ∈ lw_tbl := lw_at lw_m5 217 rfl
theorem q1696 : (Jvm.Cond.sameMethod "BlindCards$Move" "BlindCards$Step" "needs" "()I") ∈ lw_all := lw_g (lw_at lw_m7 132 rfl) rfl
theorem q1727 : (Jvm.Cond.declares ({ cls := "BlindCards$Move", name := "row", desc := "(II)I" } : Jvm.MethodName)) ∈ lw_tbl := lw_at lw_m7 163 rfl

/-! BlindCards$Cut -/
set_option maxRecDepth 100000
def RX8 : String := "BlindCards$Cut"
def TX8 : u_T := fun k => match k with
  | 0 => ("BlindCards$Cut", "from", "I", true)
  | 1 => ("BlindCards$Cut", "to", "I", true)
  | _ => ("BlindCards$Cut", "size", "I", true)
def tyX8 : Nat → FieldType := fun k => match k with
  | 0 => .int
  | 1 => .int
  | _ => .int
abbrev wsX80 : List Cond := u_ws RX8 TX8 3
theorem nmX8 : ∀ a, a < 3 → ∀ b, b < 3 → a ≠ b → (TX8 a).2.1 ≠ (TX8 b).2.1 := by decide +kernel
theorem tyX8_ok : ∀ k, k < 3 → parseFieldDescriptor (TX8 k).2.2.1 = some (tyX8 k) := by decide +kernel
abbrev cX8_needs : ByteArray := prog_9_method_2_code
def yX8_needs : MethodName := ⟨RX8, "needs", "()I"⟩
def dkwX8_needs_0 : List UInt8 := [42, 180, 0, 13, 4, 96, 172]
abbrev dktX8_needs_0 : List UInt8 := dkwX8_needs_0 ++ []
theorem dksX8_needs_0 : cX8_needs.data.toList.drop 0 = dktX8_needs_0 := by decide +kernel
theorem dX8_needs_0 : decode cX8_needs 0 = .ok (.aload_n 0, 1) := dk_42 (dk_at dksX8_needs_0 0 rfl rfl)
theorem dX8_needs_1 : decode cX8_needs 1 = .ok (.getfield 13, 3) := dk_180 0 13 (dk_at dksX8_needs_0 1 rfl rfl)
theorem dX8_needs_4 : decode cX8_needs 4 = .ok (.iconst 1, 1) := dk_4 (dk_at dksX8_needs_0 4 rfl rfl)
theorem dX8_needs_5 : decode cX8_needs 5 = .ok (.iadd, 1) := dk_96 (dk_at dksX8_needs_0 5 rfl rfl)
theorem dX8_needs_6 : decode cX8_needs 6 = .ok (.ireturn, 1) := dk_172 (dk_at dksX8_needs_0 6 rfl rfl)
abbrev cX8_ways : ByteArray := prog_9_method_3_code
def yX8_ways : MethodName := ⟨RX8, "ways", "()I"⟩
def dkwX8_ways_0 : List UInt8 := [42, 180, 0, 13, 42, 180, 0, 7, 100, 4, 96, 42, 180, 0, 16, 108, 172]
abbrev dktX8_ways_0 : List UInt8 := dkwX8_ways_0 ++ []
theorem dksX8_ways_0 : cX8_ways.data.toList.drop 0 = dktX8_ways_0 := by decide +kernel
theorem dX8_ways_0 : decode cX8_ways 0 = .ok (.aload_n 0, 1) := dk_42 (dk_at dksX8_ways_0 0 rfl rfl)
theorem dX8_ways_1 : decode cX8_ways 1 = .ok (.getfield 13, 3) := dk_180 0 13 (dk_at dksX8_ways_0 1 rfl rfl)
theorem dX8_ways_4 : decode cX8_ways 4 = .ok (.aload_n 0, 1) := dk_42 (dk_at dksX8_ways_0 4 rfl rfl)
theorem dX8_ways_5 : decode cX8_ways 5 = .ok (.getfield 7, 3) := dk_180 0 7 (dk_at dksX8_ways_0 5 rfl rfl)
theorem dX8_ways_8 : decode cX8_ways 8 = .ok (.isub, 1) := dk_100 (dk_at dksX8_ways_0 8 rfl rfl)
theorem dX8_ways_9 : decode cX8_ways 9 = .ok (.iconst 1, 1) := dk_4 (dk_at dksX8_ways_0 9 rfl rfl)
theorem dX8_ways_10 : decode cX8_ways 10 = .ok (.iadd, 1) := dk_96 (dk_at dksX8_ways_0 10 rfl rfl)
theorem dX8_ways_11 : decode cX8_ways 11 = .ok (.aload_n 0, 1) := dk_42 (dk_at dksX8_ways_0 11 rfl rfl)
theorem dX8_ways_12 : decode cX8_ways 12 = .ok (.getfield 16, 3) := dk_180 0 16 (dk_at dksX8_ways_0 12 rfl rfl)
theorem dX8_ways_15 : decode cX8_ways 15 = .ok (.idiv, 1) := dk_108 (dk_at dksX8_ways_0 15 rfl rfl)
theorem dX8_ways_16 : decode cX8_ways 16 = .ok (.ireturn, 1) := dk_172 (dk_at dksX8_ways_0 16 rfl rfl)
abbrev cX8_to : ByteArray := prog_9_method_4_code
def yX8_to : MethodName := ⟨RX8, "to", "(II)I"⟩
def dkwX8_to_2 : List UInt8 := [112, 96, 172]
abbrev dktX8_to_2 : List UInt8 := dkwX8_to_2 ++ []
def dkwX8_to_1 : List UInt8 := [27, 42, 180, 0, 7, 100, 28, 42, 180, 0, 16, 104, 96, 42, 180, 0, 13, 42, 180, 0, 7, 100, 4, 96]
abbrev dktX8_to_1 : List UInt8 := dkwX8_to_1 ++ dktX8_to_2
def dkwX8_to_0 : List UInt8 := [27, 42, 180, 0, 7, 161, 0, 11, 27, 42, 180, 0, 13, 164, 0, 7, 27, 167, 0, 33, 42, 180, 0, 7]
abbrev dktX8_to_0 : List UInt8 := dkwX8_to_0 ++ dktX8_to_1
theorem dksX8_to_0 : cX8_to.data.toList.drop 0 = dktX8_to_0 := by decide +kernel
theorem dksX8_to_1 : cX8_to.data.toList.drop 24 = dktX8_to_1 := dk_seg dksX8_to_0 24 rfl rfl
theorem dksX8_to_2 : cX8_to.data.toList.drop 48 = dktX8_to_2 := dk_seg dksX8_to_1 24 rfl rfl
theorem dX8_to_0 : decode cX8_to 0 = .ok (.iload_n 1, 1) := dk_27 (dk_at dksX8_to_0 0 rfl rfl)
theorem dX8_to_1 : decode cX8_to 1 = .ok (.aload_n 0, 1) := dk_42 (dk_at dksX8_to_0 1 rfl rfl)
theorem dX8_to_2 : decode cX8_to 2 = .ok (.getfield 7, 3) := dk_180 0 7 (dk_at dksX8_to_0 2 rfl rfl)
theorem dX8_to_5 : decode cX8_to 5 = .ok (.if_icmp .lt 11, 3) := dk_161 0 11 (dk_at dksX8_to_0 5 rfl rfl)
theorem dX8_to_8 : decode cX8_to 8 = .ok (.iload_n 1, 1) := dk_27 (dk_at dksX8_to_0 8 rfl rfl)
theorem dX8_to_9 : decode cX8_to 9 = .ok (.aload_n 0, 1) := dk_42 (dk_at dksX8_to_0 9 rfl rfl)
theorem dX8_to_10 : decode cX8_to 10 = .ok (.getfield 13, 3) := dk_180 0 13 (dk_at dksX8_to_0 10 rfl rfl)
theorem dX8_to_13 : decode cX8_to 13 = .ok (.if_icmp .le 7, 3) := dk_164 0 7 (dk_at dksX8_to_0 13 rfl rfl)
theorem dX8_to_16 : decode cX8_to 16 = .ok (.iload_n 1, 1) := dk_27 (dk_at dksX8_to_0 16 rfl rfl)
theorem dX8_to_17 : decode cX8_to 17 = .ok (.goto 33, 3) := dk_167 0 33 (dk_at dksX8_to_0 17 rfl rfl)
theorem dX8_to_20 : decode cX8_to 20 = .ok (.aload_n 0, 1) := dk_42 (dk_at dksX8_to_0 20 rfl rfl)
theorem dX8_to_21 : decode cX8_to 21 = .ok (.getfield 7, 3) := dk_180 0 7 (dk_at dksX8_to_0 21 rfl rfl)
theorem dX8_to_24 : decode cX8_to 24 = .ok (.iload_n 1, 1) := dk_27 (dk_at dksX8_to_1 0 rfl rfl)
theorem dX8_to_25 : decode cX8_to 25 = .ok (.aload_n 0, 1) := dk_42 (dk_at dksX8_to_1 1 rfl rfl)
theorem dX8_to_26 : decode cX8_to 26 = .ok (.getfield 7, 3) := dk_180 0 7 (dk_at dksX8_to_1 2 rfl rfl)
theorem dX8_to_29 : decode cX8_to 29 = .ok (.isub, 1) := dk_100 (dk_at dksX8_to_1 5 rfl rfl)
theorem dX8_to_30 : decode cX8_to 30 = .ok (.iload_n 2, 1) := dk_28 (dk_at dksX8_to_1 6 rfl rfl)
theorem dX8_to_31 : decode cX8_to 31 = .ok (.aload_n 0, 1) := dk_42 (dk_at dksX8_to_1 7 rfl rfl)
theorem dX8_to_32 : decode cX8_to 32 = .ok (.getfield 16, 3) := dk_180 0 16 (dk_at dksX8_to_1 8 rfl rfl)
theorem dX8_to_35 : decode cX8_to 35 = .ok (.imul, 1) := dk_104 (dk_at dksX8_to_1 11 rfl rfl)
theorem dX8_to_36 : decode cX8_to 36 = .ok (.iadd, 1) := dk_96 (dk_at dksX8_to_1 12 rfl rfl)
theorem dX8_to_37 : decode cX8_to 37 = .ok (.aload_n 0, 1) := dk_42 (dk_at dksX8_to_1 13 rfl rfl)
theorem dX8_to_38 : decode cX8_to 38 = .ok (.getfield 13, 3) := dk_180 0 13 (dk_at dksX8_to_1 14 rfl rfl)
theorem dX8_to_41 : decode cX8_to 41 = .ok (.aload_n 0, 1) := dk_42 (dk_at dksX8_to_1 17 rfl rfl)
theorem dX8_to_42 : decode cX8_to 42 = .ok (.getfield 7, 3) := dk_180 0 7 (dk_at dksX8_to_1 18 rfl rfl)
theorem dX8_to_45 : decode cX8_to 45 = .ok (.isub, 1) := dk_100 (dk_at dksX8_to_1 21 rfl rfl)
theorem dX8_to_46 : decode cX8_to 46 = .ok (.iconst 1, 1) := dk_4 (dk_at dksX8_to_1 22 rfl rfl)
theorem dX8_to_47 : decode cX8_to 47 = .ok (.iadd, 1) := dk_96 (dk_at dksX8_to_1 23 rfl rfl)
theorem dX8_to_48 : decode cX8_to 48 = .ok (.irem, 1) := dk_112 (dk_at dksX8_to_2 0 rfl rfl)
theorem dX8_to_49 : decode cX8_to 49 = .ok (.iadd, 1) := dk_96 (dk_at dksX8_to_2 1 rfl rfl)
theorem dX8_to_50 : decode cX8_to 50 = .ok (.ireturn, 1) := dk_172 (dk_at dksX8_to_2 2 rfl rfl)
abbrev cX8_init : ByteArray := prog_9_method_1_code
def yX8_init : MethodName := ⟨RX8, "<init>", "(III)V"⟩
def dkwX8_init_0 : List UInt8 := [42, 183, 0, 1, 42, 27, 181, 0, 7, 42, 28, 181, 0, 13, 42, 29, 181, 0, 16, 177]
abbrev dktX8_init_0 : List UInt8 := dkwX8_init_0 ++ []
theorem dksX8_init_0 : cX8_init.data.toList.drop 0 = dktX8_init_0 := by decide +kernel
theorem dX8_init_0 : decode cX8_init 0 = .ok (.aload_n 0, 1) := dk_42 (dk_at dksX8_init_0 0 rfl rfl)
theorem dX8_init_1 : decode cX8_init 1 = .ok (.invokespecial 1, 3) := dk_183 0 1 (dk_at dksX8_init_0 1 rfl rfl)
theorem dX8_init_4 : decode cX8_init 4 = .ok (.aload_n 0, 1) := dk_42 (dk_at dksX8_init_0 4 rfl rfl)
theorem dX8_init_5 : decode cX8_init 5 = .ok (.iload_n 1, 1) := dk_27 (dk_at dksX8_init_0 5 rfl rfl)
theorem dX8_init_6 : decode cX8_init 6 = .ok (.putfield 7, 3) := dk_181 0 7 (dk_at dksX8_init_0 6 rfl rfl)
theorem dX8_init_9 : decode cX8_init 9 = .ok (.aload_n 0, 1) := dk_42 (dk_at dksX8_init_0 9 rfl rfl)
theorem dX8_init_10 : decode cX8_init 10 = .ok (.iload_n 2, 1) := dk_28 (dk_at dksX8_init_0 10 rfl rfl)
theorem dX8_init_11 : decode cX8_init 11 = .ok (.putfield 13, 3) := dk_181 0 13 (dk_at dksX8_init_0 11 rfl rfl)
theorem dX8_init_14 : decode cX8_init 14 = .ok (.aload_n 0, 1) := dk_42 (dk_at dksX8_init_0 14 rfl rfl)
theorem dX8_init_15 : decode cX8_init 15 = .ok (.iload_n 3, 1) := dk_29 (dk_at dksX8_init_0 15 rfl rfl)
theorem dX8_init_16 : decode cX8_init 16 = .ok (.putfield 16, 3) := dk_181 0 16 (dk_at dksX8_init_0 16 rfl rfl)
theorem dX8_init_19 : decode cX8_init 19 = .ok (.return_, 1) := dk_177 (dk_at dksX8_init_0 19 rfl rfl)
theorem q142 : (Jvm.Cond.initialized "BlindCards$Cut") ∈ lw_all := lw_g (lw_at lw_m1 18 rfl) rfl
theorem q433 : (Jvm.Cond.selects "BlindCards$Cut" ({ cls := "java/lang/Object", name := "getClass", desc := "()Ljava/lang/Class;" } : Jvm.MethodName) ({ cls := "java/lang/Object", name := "getClass", desc := "()Ljava/lang/Class;" } : Jvm.MethodName)) ∈ lw_all := lw_g (lw_at lw_m2 69 rfl) rfl
theorem q521 : (Jvm.Cond.selects "BlindCards$Cut" ({ cls := "BlindCards$Step", name := "needs", desc := "()I" } : Jvm.MethodName) ({ cls := "BlindCards$Cut", name := "needs", desc := "()I" } : Jvm.MethodName)) ∈ lw_all := lw_g (lw_at lw_m2 157 rfl) rfl
theorem q522 : (Jvm.Cond.instanceMethod ({ cls := "BlindCards$Cut", name := "needs", desc := "()I" } : Jvm.MethodName)) ∈ lw_all := lw_g (lw_at lw_m2 158 rfl) rfl
theorem q523 : (Jvm.Cond.code ({ cls := "BlindCards$Cut", name := "needs", desc := "()I" } : Jvm.MethodName) prog_9_method_2_code (1 : Nat) (Option.some Jvm.ClassFile.FieldType.int)) ∈ lw_all := lw_g (lw_at lw_m2 159 rfl) rfl
theorem q558 : (Jvm.Cond.selects "BlindCards$Cut" ({ cls := "BlindCards$Move", name := "ways", desc := "()I" } : Jvm.MethodName) ({ cls := "BlindCards$Cut", name := "ways", desc := "()I" } : Jvm.MethodName)) ∈ lw_all := lw_g (lw_at lw_m2 194 rfl) rfl
theorem q559 : (Jvm.Cond.instanceMethod ({ cls := "BlindCards$Cut", name := "ways", desc := "()I" } : Jvm.MethodName)) ∈ lw_all := lw_g (lw_at lw_m2 195 rfl) rfl
theorem q560 : (Jvm.Cond.code ({ cls := "BlindCards$Cut", name := "ways", desc := "()I" } : Jvm.MethodName) prog_9_method_3_code (1 : Nat) (Option.some Jvm.ClassFile.FieldType.int)) ∈ lw_all := lw_g (lw_at lw_m2 196 rfl) rfl
theorem q578 : (Jvm.Cond.selects "BlindCards$Cut" ({ cls := "BlindCards$Move", name := "to", desc := "(II)I" } : Jvm.MethodName) ({ cls := "BlindCards$Cut", name := "to", desc := "(II)I" } : Jvm.MethodName)) ∈ lw_all := lw_g (lw_at lw_m2 214 rfl) rfl
theorem q579 : (Jvm.Cond.instanceMethod ({ cls := "BlindCards$Cut", name := "to", desc := "(II)I" } : Jvm.MethodName)) ∈ lw_all := lw_g (lw_at lw_m2 215 rfl) rfl
theorem q580 : (Jvm.Cond.code ({ cls := "BlindCards$Cut", name := "to", desc := "(II)I" } : Jvm.MethodName) prog_9_method_4_code (3 : Nat) (Option.some Jvm.ClassFile.FieldType.int)) ∈ lw_all := lw_g (lw_at lw_m2 216 rfl) rfl
theorem q598 : (Jvm.Cond.selects "BlindCards$Cut" ({ cls := "BlindCards$Move", name := "row", desc := "(II)I" } : Jvm.MethodName) ({ cls := "BlindCards$Move", name := "row", desc := "(II)I" } : Jvm.MethodName)) ∈ lw_all := lw_g (lw_at lw_m2 234 rfl) rfl
theorem q1329 : (Jvm.Cond.instanceMethod ({ cls := "BlindCards$Cut", name := "<init>", desc := "(III)V" } : Jvm.MethodName)) ∈ lw_all := lw_g (lw_at lw_m6 5 rfl) rfl
theorem q1330 : (Jvm.Cond.code ({ cls := "BlindCards$Cut", name := "<init>", desc := "(III)V" } : Jvm.MethodName) prog_9_method_1_code (4 : Nat) (Option.none : Option Jvm.ClassFile.FieldType)) ∈ lw_all := lw_g (lw_at lw_m6 6 rfl) rfl
theorem q1331 : (Jvm.Cond.methodLinkNest "BlindCards$Cut" (1 : Nat) ({ cls := "BlindCards$Move", name := "<init>", desc := "()V" } : Jvm.MethodName) "BlindCards") ∈ lw_tbl := lw_at lw_m6 7 rfl
theorem q1332 : (Jvm.Cond.fieldLink "BlindCards$Cut" (7 : Nat) "BlindCards$Cut" "from" "I") ∈ lw_all := lw_g (lw_at lw_m6 8 rfl) rfl
theorem q1335 : (Jvm.Cond.fieldLink "BlindCards$Cut" (13 : Nat) "BlindCards$Cut" "to" "I") ∈ lw_all := lw_g (lw_at lw_m6 11 rfl) rfl
theorem q1338 : (Jvm.Cond.fieldLink "BlindCards$Cut" (16 : Nat) "BlindCards$Cut" "size" "I") ∈ lw_all := lw_g (lw_at lw_m6 14 rfl) rfl
theorem q1340 : (Jvm.Cond.soleField "BlindCards$Cut" "from") ∈ lw_all := lw_g (lw_at lw_m6 16 rfl) rfl
theorem q1342 : (Jvm.Cond.soleField "BlindCards$Cut" "to") ∈ lw_all := lw_g (lw_at lw_m6 18 rfl) rfl
theorem q1344 : (Jvm.Cond.soleField "BlindCards$Cut" "size") ∈ lw_all := lw_g (lw_at lw_m6 20 rfl) rfl
theorem q1347 : (Jvm.Cond.instantiable "BlindCards$Cut" (3 : Nat)) ∈ lw_all := lw_g (lw_at lw_m6 23 rfl) rfl
theorem q1349 : (Jvm.Cond.laysFinal "BlindCards$Cut" "BlindCards$Cut" "from" "I") ∈ lw_all := lw_g (lw_at lw_m6 25 rfl) rfl
theorem q1350 : (Jvm.Cond.laysFinal "BlindCards$Cut" "BlindCards$Cut" "to" "I") ∈ lw_all := lw_g (lw_at lw_m6 26 rfl) rfl
theorem q1351 : (Jvm.Cond.laysFinal "BlindCards$Cut" "BlindCards$Cut" "size" "I") ∈ lw_all := lw_g (lw_at lw_m6 27 rfl) rfl
theorem q1352 : (Jvm.Cond.superclass "BlindCards$Cut" "BlindCards$Move") ∈ lw_all := lw_g (lw_at lw_m6 28 rfl) rfl
theorem q1698 : (Jvm.Cond.selects "BlindCards$Cut" ({ cls := "BlindCards$Move", name := "needs", desc := "()I" } : Jvm.MethodName) ({ cls := "BlindCards$Cut", name := "needs", desc := "()I" } : Jvm.MethodName)) ∈ lw_all := lw_g (lw_at lw_m7 134 rfl) rfl
theorem q1726 : (Jvm.Cond.sameMethod "BlindCards$Cut" "BlindCards$Move" "row" "(II)I") ∈ lw_all := lw_g (lw_at lw_m7 162 rfl) rfl
theorem q1728 : (Jvm.Cond.selects "BlindCards$Cut" ({ cls := "BlindCards$Cut", name := "row", desc := "(II)I" } : Jvm.MethodName) ({ cls := "BlindCards$Move", name := "row", desc := "(II)I" } : Jvm.MethodName)) ∈ lw_all := lw_g (lw_at lw_m7 164 rfl) rfl
theorem q2563 : (Jvm.Cond.sameMethod "BlindCards$Cut" "BlindCards$Cut" "ways" "()I") ∈ lw_all := lw_g (lw_at lw_m11 39 rfl) rfl
theorem q2564 : (Jvm.Cond.selects "BlindCards$Cut" ({ cls := "BlindCards$Cut", name := "ways", desc := "()I" } : Jvm.MethodName) ({ cls := "BlindCards$Cut", name := "ways", desc := "()I" } : Jvm.MethodName)) ∈ lw_all := lw_g (lw_at lw_m11 40 rfl) rfl
theorem q2567 : (Jvm.Cond.castable "BlindCards$Cut" "BlindCards$Step") ∈ lw_tbl := lw_at lw_m11 43 rfl
theorem q2577 : (Jvm.Cond.castable "BlindCards$Cut" "BlindCards$Move") ∈ lw_tbl := lw_at lw_m11 53 rfl
theorem q2603 : (Jvm.Cond.castable "BlindCards$Cut" "java/lang/Object") ∈ lw_tbl := lw_at lw_m11 79 rfl
theorem in_X8 : ∀ w ∈ wsX80, w ∈ lw_all := lw_in wsX80 [1349, 1350, 1351] (by decide +kernel) (by decide +kernel)

/-! BlindCards$Mix -/
set_option maxRecDepth 100000
def RX9 : String := "BlindCards$Mix"
def TX9 : u_T := fun k => match k with
  | 0 => ("BlindCards$Cut", "from", "I", true)
  | 1 => ("BlindCards$Cut", "to", "I", true)
  | _ => ("BlindCards$Cut", "size", "I", true)
def tyX9 : Nat → FieldType := fun k => match k with
  | 0 => .int
  | 1 => .int
  | _ => .int
abbrev wsX90 : List Cond := u_ws RX9 TX9 3
theorem nmX9 : ∀ a, a < 3 → ∀ b, b < 3 → a ≠ b → (TX9 a).2.1 ≠ (TX9 b).2.1 := by decide +kernel
theorem tyX9_ok : ∀ k, k < 3 → parseFieldDescriptor (TX9 k).2.2.1 = some (tyX9 k) := by decide +kernel
abbrev cX9_ways : ByteArray := prog_17_method_2_code
def yX9_ways : MethodName := ⟨RX9, "ways", "()I"⟩
def dkwX9_ways_0 : List UInt8 := [178, 0, 7, 42, 180, 0, 13, 42, 180, 0, 17, 100, 4, 96, 46, 172]
abbrev dktX9_ways_0 : List UInt8 := dkwX9_ways_0 ++ []
theorem dksX9_ways_0 : cX9_ways.data.toList.drop 0 = dktX9_ways_0 := by decide +kernel
theorem dX9_ways_0 : decode cX9_ways 0 = .ok (.getstatic 7, 3) := dk_178 0 7 (dk_at dksX9_ways_0 0 rfl rfl)
theorem dX9_ways_3 : decode cX9_ways 3 = .ok (.aload_n 0, 1) := dk_42 (dk_at dksX9_ways_0 3 rfl rfl)
theorem dX9_ways_4 : decode cX9_ways 4 = .ok (.getfield 13, 3) := dk_180 0 13 (dk_at dksX9_ways_0 4 rfl rfl)
theorem dX9_ways_7 : decode cX9_ways 7 = .ok (.aload_n 0, 1) := dk_42 (dk_at dksX9_ways_0 7 rfl rfl)
theorem dX9_ways_8 : decode cX9_ways 8 = .ok (.getfield 17, 3) := dk_180 0 17 (dk_at dksX9_ways_0 8 rfl rfl)
theorem dX9_ways_11 : decode cX9_ways 11 = .ok (.isub, 1) := dk_100 (dk_at dksX9_ways_0 11 rfl rfl)
theorem dX9_ways_12 : decode cX9_ways 12 = .ok (.iconst 1, 1) := dk_4 (dk_at dksX9_ways_0 12 rfl rfl)
theorem dX9_ways_13 : decode cX9_ways 13 = .ok (.iadd, 1) := dk_96 (dk_at dksX9_ways_0 13 rfl rfl)
theorem dX9_ways_14 : decode cX9_ways 14 = .ok (.iaload, 1) := dk_46 (dk_at dksX9_ways_0 14 rfl rfl)
theorem dX9_ways_15 : decode cX9_ways 15 = .ok (.ireturn, 1) := dk_172 (dk_at dksX9_ways_0 15 rfl rfl)
abbrev cX9_to : ByteArray := prog_17_method_3_code
def yX9_to : MethodName := ⟨RX9, "to", "(II)I"⟩
def dkwX9_to_5 : List UInt8 := [21, 5, 96, 172, 132, 5, 1, 167, 255, 171, 27, 172]
abbrev dktX9_to_5 : List UInt8 := dkwX9_to_5 ++ []
def dkwX9_to_4 : List UInt8 := [4, 21, 8, 120, 2, 130, 126, 54, 4, 21, 8, 27, 42, 180, 0, 17, 100, 160, 0, 11, 42, 180, 0, 17]
abbrev dktX9_to_4 : List UInt8 := dkwX9_to_4 ++ dktX9_to_5
def dkwX9_to_3 : List UInt8 := [54, 6, 29, 21, 6, 108, 54, 7, 21, 4, 21, 7, 184, 0, 20, 54, 8, 29, 21, 6, 112, 62, 21, 4]
abbrev dktX9_to_3 : List UInt8 := dkwX9_to_3 ++ dktX9_to_4
def dkwX9_to_2 : List UInt8 := [42, 180, 0, 17, 100, 163, 0, 77, 178, 0, 7, 42, 180, 0, 13, 42, 180, 0, 17, 100, 21, 5, 100, 46]
abbrev dktX9_to_2 : List UInt8 := dkwX9_to_2 ++ dktX9_to_3
def dkwX9_to_1 : List UInt8 := [180, 0, 13, 42, 180, 0, 17, 100, 4, 96, 120, 4, 100, 54, 4, 3, 54, 5, 21, 5, 42, 180, 0, 13]
abbrev dktX9_to_1 : List UInt8 := dkwX9_to_1 ++ dktX9_to_2
def dkwX9_to_0 : List UInt8 := [27, 42, 180, 0, 17, 161, 0, 11, 27, 42, 180, 0, 13, 164, 0, 5, 27, 172, 28, 62, 4, 42]
abbrev dktX9_to_0 : List UInt8 := dkwX9_to_0 ++ dktX9_to_1
theorem dksX9_to_0 : cX9_to.data.toList.drop 0 = dktX9_to_0 := by decide +kernel
theorem dksX9_to_1 : cX9_to.data.toList.drop 22 = dktX9_to_1 := dk_seg dksX9_to_0 22 rfl rfl
theorem dksX9_to_2 : cX9_to.data.toList.drop 46 = dktX9_to_2 := dk_seg dksX9_to_1 24 rfl rfl
theorem dksX9_to_3 : cX9_to.data.toList.drop 70 = dktX9_to_3 := dk_seg dksX9_to_2 24 rfl rfl
theorem dksX9_to_4 : cX9_to.data.toList.drop 94 = dktX9_to_4 := dk_seg dksX9_to_3 24 rfl rfl
theorem dksX9_to_5 : cX9_to.data.toList.drop 118 = dktX9_to_5 := dk_seg dksX9_to_4 24 rfl rfl
theorem dX9_to_0 : decode cX9_to 0 = .ok (.iload_n 1, 1) := dk_27 (dk_at dksX9_to_0 0 rfl rfl)
theorem dX9_to_1 : decode cX9_to 1 = .ok (.aload_n 0, 1) := dk_42 (dk_at dksX9_to_0 1 rfl rfl)
theorem dX9_to_2 : decode cX9_to 2 = .ok (.getfield 17, 3) := dk_180 0 17 (dk_at dksX9_to_0 2 rfl rfl)
theorem dX9_to_5 : decode cX9_to 5 = .ok (.if_icmp .lt 11, 3) := dk_161 0 11 (dk_at dksX9_to_0 5 rfl rfl)
theorem dX9_to_8 : decode cX9_to 8 = .ok (.iload_n 1, 1) := dk_27 (dk_at dksX9_to_0 8 rfl rfl)
theorem dX9_to_9 : decode cX9_to 9 = .ok (.aload_n 0, 1) := dk_42 (dk_at dksX9_to_0 9 rfl rfl)
theorem dX9_to_10 : decode cX9_to 10 = .ok (.getfield 13, 3) := dk_180 0 13 (dk_at dksX9_to_0 10 rfl rfl)
theorem dX9_to_13 : decode cX9_to 13 = .ok (.if_icmp .le 5, 3) := dk_164 0 5 (dk_at dksX9_to_0 13 rfl rfl)
theorem dX9_to_16 : decode cX9_to 16 = .ok (.iload_n 1, 1) := dk_27 (dk_at dksX9_to_0 16 rfl rfl)
theorem dX9_to_17 : decode cX9_to 17 = .ok (.ireturn, 1) := dk_172 (dk_at dksX9_to_0 17 rfl rfl)
theorem dX9_to_18 : decode cX9_to 18 = .ok (.iload_n 2, 1) := dk_28 (dk_at dksX9_to_0 18 rfl rfl)
theorem dX9_to_19 : decode cX9_to 19 = .ok (.istore_n 3, 1) := dk_62 (dk_at dksX9_to_0 19 rfl rfl)
theorem dX9_to_20 : decode cX9_to 20 = .ok (.iconst 1, 1) := dk_4 (dk_at dksX9_to_0 20 rfl rfl)
theorem dX9_to_21 : decode cX9_to 21 = .ok (.aload_n 0, 1) := dk_42 (dk_at dksX9_to_0 21 rfl rfl)
theorem dX9_to_22 : decode cX9_to 22 = .ok (.getfield 13, 3) := dk_180 0 13 (dk_at dksX9_to_1 0 rfl rfl)
theorem dX9_to_25 : decode cX9_to 25 = .ok (.aload_n 0, 1) := dk_42 (dk_at dksX9_to_1 3 rfl rfl)
theorem dX9_to_26 : decode cX9_to 26 = .ok (.getfield 17, 3) := dk_180 0 17 (dk_at dksX9_to_1 4 rfl rfl)
theorem dX9_to_29 : decode cX9_to 29 = .ok (.isub, 1) := dk_100 (dk_at dksX9_to_1 7 rfl rfl)
theorem dX9_to_30 : decode cX9_to 30 = .ok (.iconst 1, 1) := dk_4 (dk_at dksX9_to_1 8 rfl rfl)
theorem dX9_to_31 : decode cX9_to 31 = .ok (.iadd, 1) := dk_96 (dk_at dksX9_to_1 9 rfl rfl)
theorem dX9_to_32 : decode cX9_to 32 = .ok (.ishl, 1) := dk_120 (dk_at dksX9_to_1 10 rfl rfl)
theorem dX9_to_33 : decode cX9_to 33 = .ok (.iconst 1, 1) := dk_4 (dk_at dksX9_to_1 11 rfl rfl)
theorem dX9_to_34 : decode cX9_to 34 = .ok (.isub, 1) := dk_100 (dk_at dksX9_to_1 12 rfl rfl)
theorem dX9_to_35 : decode cX9_to 35 = .ok (.istore 4, 2) := dk_54 4 (dk_at dksX9_to_1 13 rfl rfl)
theorem dX9_to_37 : decode cX9_to 37 = .ok (.iconst 0, 1) := dk_3 (dk_at dksX9_to_1 15 rfl rfl)
theorem dX9_to_38 : decode cX9_to 38 = .ok (.istore 5, 2) := dk_54 5 (dk_at dksX9_to_1 16 rfl rfl)
theorem dX9_to_40 : decode cX9_to 40 = .ok (.iload 5, 2) := dk_21 5 (dk_at dksX9_to_1 18 rfl rfl)
theorem dX9_to_42 : decode cX9_to 42 = .ok (.aload_n 0, 1) := dk_42 (dk_at dksX9_to_1 20 rfl rfl)
theorem dX9_to_43 : decode cX9_to 43 = .ok (.getfield 13, 3) := dk_180 0 13 (dk_at dksX9_to_1 21 rfl rfl)
theorem dX9_to_46 : decode cX9_to 46 = .ok (.aload_n 0, 1) := dk_42 (dk_at dksX9_to_2 0 rfl rfl)
theorem dX9_to_47 : decode cX9_to 47 = .ok (.getfield 17, 3) := dk_180 0 17 (dk_at dksX9_to_2 1 rfl rfl)
theorem dX9_to_50 : decode cX9_to 50 = .ok (.isub, 1) := dk_100 (dk_at dksX9_to_2 4 rfl rfl)
theorem dX9_to_51 : decode cX9_to 51 = .ok (.if_icmp .gt 77, 3) := dk_163 0 77 (dk_at dksX9_to_2 5 rfl rfl)
theorem dX9_to_54 : decode cX9_to 54 = .ok (.getstatic 7, 3) := dk_178 0 7 (dk_at dksX9_to_2 8 rfl rfl)
theorem dX9_to_57 : decode cX9_to 57 = .ok (.aload_n 0, 1) := dk_42 (dk_at dksX9_to_2 11 rfl rfl)
theorem dX9_to_58 : decode cX9_to 58 = .ok (.getfield 13, 3) := dk_180 0 13 (dk_at dksX9_to_2 12 rfl rfl)
theorem dX9_to_61 : decode cX9_to 61 = .ok (.aload_n 0, 1) := dk_42 (dk_at dksX9_to_2 15 rfl rfl)
theorem dX9_to_62 : decode cX9_to 62 = .ok (.getfield 17, 3) := dk_180 0 17 (dk_at dksX9_to_2 16 rfl rfl)
theorem dX9_to_65 : decode cX9_to 65 = .ok (.isub, 1) := dk_100 (dk_at dksX9_to_2 19 rfl rfl)
theorem dX9_to_66 : decode cX9_to 66 = .ok (.iload 5, 2) := dk_21 5 (dk_at dksX9_to_2 20 rfl rfl)
theorem dX9_to_68 : decode cX9_to 68 = .ok (.isub, 1) := dk_100 (dk_at dksX9_to_2 22 rfl rfl)
theorem dX9_to_69 : decode cX9_to 69 = .ok (.iaload, 1) := dk_46 (dk_at dksX9_to_2 23 rfl rfl)
theorem dX9_to_70 : decode cX9_to 70 = .ok (.istore 6, 2) := dk_54 6 (dk_at dksX9_to_3 0 rfl rfl)
theorem dX9_to_72 : decode cX9_to 72 = .ok (.iload_n 3, 1) := dk_29 (dk_at dksX9_to_3 2 rfl rfl)
theorem dX9_to_73 : decode cX9_to 73 = .ok (.iload 6, 2) := dk_21 6 (dk_at dksX9_to_3 3 rfl rfl)
theorem dX9_to_75 : decode cX9_to 75 = .ok (.idiv, 1) := dk_108 (dk_at dksX9_to_3 5 rfl rfl)
theorem dX9_to_76 : decode cX9_to 76 = .ok (.istore 7, 2) := dk_54 7 (dk_at dksX9_to_3 6 rfl rfl)
theorem dX9_to_78 : decode cX9_to 78 = .ok (.iload 4, 2) := dk_21 4 (dk_at dksX9_to_3 8 rfl rfl)
theorem dX9_to_80 : decode cX9_to 80 = .ok (.iload 7, 2) := dk_21 7 (dk_at dksX9_to_3 10 rfl rfl)
theorem dX9_to_82 : decode cX9_to 82 = .ok (.invokestatic 20, 3) := dk_184 0 20 (dk_at dksX9_to_3 12 rfl rfl)
theorem dX9_to_85 : decode cX9_to 85 = .ok (.istore 8, 2) := dk_54 8 (dk_at dksX9_to_3 15 rfl rfl)
theorem dX9_to_87 : decode cX9_to 87 = .ok (.iload_n 3, 1) := dk_29 (dk_at dksX9_to_3 17 rfl rfl)
theorem dX9_to_88 : decode cX9_to 88 = .ok (.iload 6, 2) := dk_21 6 (dk_at dksX9_to_3 18 rfl rfl)
theorem dX9_to_90 : decode cX9_to 90 = .ok (.irem, 1) := dk_112 (dk_at dksX9_to_3 20 rfl rfl)
theorem dX9_to_91 : decode cX9_to 91 = .ok (.istore_n 3, 1) := dk_62 (dk_at dksX9_to_3 21 rfl rfl)
theorem dX9_to_92 : decode cX9_to 92 = .ok (.iload 4, 2) := dk_21 4 (dk_at dksX9_to_3 22 rfl rfl)
theorem dX9_to_94 : decode cX9_to 94 = .ok (.iconst 1, 1) := dk_4 (dk_at dksX9_to_4 0 rfl rfl)
theorem dX9_to_95 : decode cX9_to 95 = .ok (.iload 8, 2) := dk_21 8 (dk_at dksX9_to_4 1 rfl rfl)
theorem dX9_to_97 : decode cX9_to 97 = .ok (.ishl, 1) := dk_120 (dk_at dksX9_to_4 3 rfl rfl)
theorem dX9_to_98 : decode cX9_to 98 = .ok (.iconst (-1), 1) := dk_2 (dk_at dksX9_to_4 4 rfl rfl)
theorem dX9_to_99 : decode cX9_to 99 = .ok (.ixor, 1) := dk_130 (dk_at dksX9_to_4 5 rfl rfl)
theorem dX9_to_100 : decode cX9_to 100 = .ok (.iand, 1) := dk_126 (dk_at dksX9_to_4 6 rfl rfl)
theorem dX9_to_101 : decode cX9_to 101 = .ok (.istore 4, 2) := dk_54 4 (dk_at dksX9_to_4 7 rfl rfl)
theorem dX9_to_103 : decode cX9_to 103 = .ok (.iload 8, 2) := dk_21 8 (dk_at dksX9_to_4 9 rfl rfl)
theorem dX9_to_105 : decode cX9_to 105 = .ok (.iload_n 1, 1) := dk_27 (dk_at dksX9_to_4 11 rfl rfl)
theorem dX9_to_106 : decode cX9_to 106 = .ok (.aload_n 0, 1) := dk_42 (dk_at dksX9_to_4 12 rfl rfl)
theorem dX9_to_107 : decode cX9_to 107 = .ok (.getfield 17, 3) := dk_180 0 17 (dk_at dksX9_to_4 13 rfl rfl)
theorem dX9_to_110 : decode cX9_to 110 = .ok (.isub, 1) := dk_100 (dk_at dksX9_to_4 16 rfl rfl)
theorem dX9_to_111 : decode cX9_to 111 = .ok (.if_icmp .ne 11, 3) := dk_160 0 11 (dk_at dksX9_to_4 17 rfl rfl)
theorem dX9_to_114 : decode cX9_to 114 = .ok (.aload_n 0, 1) := dk_42 (dk_at dksX9_to_4 20 rfl rfl)
theorem dX9_to_115 : decode cX9_to 115 = .ok (.getfield 17, 3) := dk_180 0 17 (dk_at dksX9_to_4 21 rfl rfl)
theorem dX9_to_118 : decode cX9_to 118 = .ok (.iload 5, 2) := dk_21 5 (dk_at dksX9_to_5 0 rfl rfl)
theorem dX9_to_120 : decode cX9_to 120 = .ok (.iadd, 1) := dk_96 (dk_at dksX9_to_5 2 rfl rfl)
theorem dX9_to_121 : decode cX9_to 121 = .ok (.ireturn, 1) := dk_172 (dk_at dksX9_to_5 3 rfl rfl)
theorem dX9_to_122 : decode cX9_to 122 = .ok (.iinc 5 1, 3) := dk_132 5 1 (dk_at dksX9_to_5 4 rfl rfl)
theorem dX9_to_125 : decode cX9_to 125 = .ok (.goto (-85), 3) := dk_167 255 171 (dk_at dksX9_to_5 7 rfl rfl)
theorem dX9_to_128 : decode cX9_to 128 = .ok (.iload_n 1, 1) := dk_27 (dk_at dksX9_to_5 10 rfl rfl)
theorem dX9_to_129 : decode cX9_to 129 = .ok (.ireturn, 1) := dk_172 (dk_at dksX9_to_5 11 rfl rfl)
abbrev cX9_nth : ByteArray := prog_17_method_4_code
def yX9_nth : MethodName := ⟨RX9, "nth", "(II)I"⟩
def dkwX9_nth_1 : List UInt8 := [184, 0, 24, 172]
abbrev dktX9_nth_1 : List UInt8 := dkwX9_nth_1 ++ []
def dkwX9_nth_0 : List UInt8 := [26, 61, 3, 62, 29, 27, 162, 0, 15, 28, 28, 4, 100, 126, 61, 132, 3, 1, 167, 255, 242, 28]
abbrev dktX9_nth_0 : List UInt8 := dkwX9_nth_0 ++ dktX9_nth_1
theorem dksX9_nth_0 : cX9_nth.data.toList.drop 0 = dktX9_nth_0 := by decide +kernel
theorem dksX9_nth_1 : cX9_nth.data.toList.drop 22 = dktX9_nth_1 := dk_seg dksX9_nth_0 22 rfl rfl
theorem dX9_nth_0 : decode cX9_nth 0 = .ok (.iload_n 0, 1) := dk_26 (dk_at dksX9_nth_0 0 rfl rfl)
theorem dX9_nth_1 : decode cX9_nth 1 = .ok (.istore_n 2, 1) := dk_61 (dk_at dksX9_nth_0 1 rfl rfl)
theorem dX9_nth_2 : decode cX9_nth 2 = .ok (.iconst 0, 1) := dk_3 (dk_at dksX9_nth_0 2 rfl rfl)
theorem dX9_nth_3 : decode cX9_nth 3 = .ok (.istore_n 3, 1) := dk_62 (dk_at dksX9_nth_0 3 rfl rfl)
theorem dX9_nth_4 : decode cX9_nth 4 = .ok (.iload_n 3, 1) := dk_29 (dk_at dksX9_nth_0 4 rfl rfl)
theorem dX9_nth_5 : decode cX9_nth 5 = .ok (.iload_n 1, 1) := dk_27 (dk_at dksX9_nth_0 5 rfl rfl)
theorem dX9_nth_6 : decode cX9_nth 6 = .ok (.if_icmp .ge 15, 3) := dk_162 0 15 (dk_at dksX9_nth_0 6 rfl rfl)
theorem dX9_nth_9 : decode cX9_nth 9 = .ok (.iload_n 2, 1) := dk_28 (dk_at dksX9_nth_0 9 rfl rfl)
theorem dX9_nth_10 : decode cX9_nth 10 = .ok (.iload_n 2, 1) := dk_28 (dk_at dksX9_nth_0 10 rfl rfl)
theorem dX9_nth_11 : decode cX9_nth 11 = .ok (.iconst 1, 1) := dk_4 (dk_at dksX9_nth_0 11 rfl rfl)
theorem dX9_nth_12 : decode cX9_nth 12 = .ok (.isub, 1) := dk_100 (dk_at dksX9_nth_0 12 rfl rfl)
theorem dX9_nth_13 : decode cX9_nth 13 = .ok (.iand, 1) := dk_126 (dk_at dksX9_nth_0 13 rfl rfl)
theorem dX9_nth_14 : decode cX9_nth 14 = .ok (.istore_n 2, 1) := dk_61 (dk_at dksX9_nth_0 14 rfl rfl)
theorem dX9_nth_15 : decode cX9_nth 15 = .ok (.iinc 3 1, 3) := dk_132 3 1 (dk_at dksX9_nth_0 15 rfl rfl)
theorem dX9_nth_18 : decode cX9_nth 18 = .ok (.goto (-14), 3) := dk_167 255 242 (dk_at dksX9_nth_0 18 rfl rfl)
theorem dX9_nth_21 : decode cX9_nth 21 = .ok (.iload_n 2, 1) := dk_28 (dk_at dksX9_nth_0 21 rfl rfl)
theorem dX9_nth_22 : decode cX9_nth 22 = .ok (.invokestatic 24, 3) := dk_184 0 24 (dk_at dksX9_nth_1 0 rfl rfl)
theorem dX9_nth_25 : decode cX9_nth 25 = .ok (.ireturn, 1) := dk_172 (dk_at dksX9_nth_1 3 rfl rfl)
abbrev cX9_init : ByteArray := prog_17_method_1_code
def yX9_init : MethodName := ⟨RX9, "<init>", "(II)V"⟩
def dkwX9_init_0 : List UInt8 := [42, 27, 28, 4, 183, 0, 1, 177]
abbrev dktX9_init_0 : List UInt8 := dkwX9_init_0 ++ []
theorem dksX9_init_0 : cX9_init.data.toList.drop 0 = dktX9_init_0 := by decide +kernel
theorem dX9_init_0 : decode cX9_init 0 = .ok (.aload_n 0, 1) := dk_42 (dk_at dksX9_init_0 0 rfl rfl)
theorem dX9_init_1 : decode cX9_init 1 = .ok (.iload_n 1, 1) := dk_27 (dk_at dksX9_init_0 1 rfl rfl)
theorem dX9_init_2 : decode cX9_init 2 = .ok (.iload_n 2, 1) := dk_28 (dk_at dksX9_init_0 2 rfl rfl)
theorem dX9_init_3 : decode cX9_init 3 = .ok (.iconst 1, 1) := dk_4 (dk_at dksX9_init_0 3 rfl rfl)
theorem dX9_init_4 : decode cX9_init 4 = .ok (.invokespecial 1, 3) := dk_183 0 1 (dk_at dksX9_init_0 4 rfl rfl)
theorem dX9_init_7 : decode cX9_init 7 = .ok (.return_, 1) := dk_177 (dk_at dksX9_init_0 7 rfl rfl)
theorem q143 : (Jvm.Cond.initialized "BlindCards$Mix") ∈ lw_all := lw_g (lw_at lw_m1 19 rfl) rfl
theorem q441 : (Jvm.Cond.selects "BlindCards$Mix" ({ cls := "java/lang/Object", name := "getClass", desc := "()Ljava/lang/Class;" } : Jvm.MethodName) ({ cls := "java/lang/Object", name := "getClass", desc := "()Ljava/lang/Class;" } : Jvm.MethodName)) ∈ lw_all := lw_g (lw_at lw_m2 77 rfl) rfl
theorem q532 : (Jvm.Cond.selects "BlindCards$Mix" ({ cls := "BlindCards$Step", name := "needs", desc := "()I" } : Jvm.MethodName) ({ cls := "BlindCards$Cut", name := "needs", desc := "()I" } : Jvm.MethodName)) ∈ lw_all := lw_g (lw_at lw_m2 168 rfl) rfl
theorem q562 : (Jvm.Cond.selects "BlindCards$Mix" ({ cls := "BlindCards$Move", name := "ways", desc := "()I" } : Jvm.MethodName) ({ cls := "BlindCards$Mix", name := "ways", desc := "()I" } : Jvm.MethodName)) ∈ lw_all := lw_g (lw_at lw_m2 198 rfl) rfl
theorem q563 : (Jvm.Cond.instanceMethod ({ cls := "BlindCards$Mix", name := "ways", desc := "()I" } : Jvm.MethodName)) ∈ lw_all := lw_g (lw_at lw_m2 199 rfl) rfl
theorem q564 : (Jvm.Cond.code ({ cls := "BlindCards$Mix", name := "ways", desc := "()I" } : Jvm.MethodName) prog_17_method_2_code (1 : Nat) (Option.some Jvm.ClassFile.FieldType.int)) ∈ lw_all := lw_g (lw_at lw_m2 200 rfl) rfl
theorem q565 : (Jvm.Cond.fieldLink "BlindCards$Mix" (7 : Nat) "BlindCards$Mix" "FACTORS" "[I") ∈ lw_all := lw_g (lw_at lw_m2 201 rfl) rfl
theorem q566 : (Jvm.Cond.laysStatic "BlindCards$Mix" "FACTORS" "[I") ∈ lw_tbl := lw_at lw_m2 202 rfl
theorem q582 : (Jvm.Cond.selects "BlindCards$Mix" ({ cls := "BlindCards$Move", name := "to", desc := "(II)I" } : Jvm.MethodName) ({ cls := "BlindCards$Mix", name := "to", desc := "(II)I" } : Jvm.MethodName)) ∈ lw_all := lw_g (lw_at lw_m2 218 rfl) rfl
theorem q583 : (Jvm.Cond.instanceMethod ({ cls := "BlindCards$Mix", name := "to", desc := "(II)I" } : Jvm.MethodName)) ∈ lw_all := lw_g (lw_at lw_m2 219 rfl) rfl
theorem q584 : (Jvm.Cond.code ({ cls := "BlindCards$Mix", name := "to", desc := "(II)I" } : Jvm.MethodName) prog_17_method_3_code (9 : Nat) (Option.some Jvm.ClassFile.FieldType.int)) ∈ lw_all := lw_g (lw_at lw_m2 220 rfl) rfl
theorem q585 : (Jvm.Cond.methodLink "BlindCards$Mix" (20 : Nat) ({ cls := "BlindCards$Mix", name := "nth", desc := "(II)I" } : Jvm.MethodName)) ∈ lw_all := lw_g (lw_at lw_m2 221 rfl) rfl
theorem q586 : (Jvm.Cond.static ({ cls := "BlindCards$Mix", name := "nth", desc := "(II)I" } : Jvm.MethodName)) ∈ lw_all := lw_g (lw_at lw_m2 222 rfl) rfl
theorem q587 : (Jvm.Cond.code ({ cls := "BlindCards$Mix", name := "nth", desc := "(II)I" } : Jvm.MethodName) prog_17_method_4_code (4 : Nat) (Option.some Jvm.ClassFile.FieldType.int)) ∈ lw_all := lw_g (lw_at lw_m2 223 rfl) rfl
theorem q588 : (Jvm.Cond.methodLink "BlindCards$Mix" (24 : Nat) ({ cls := "java/lang/Integer", name := "numberOfTrailingZeros", desc := "(I)I" } : Jvm.MethodName)) ∈ lw_all := lw_g (lw_at lw_m2 224 rfl) rfl
theorem q600 : (Jvm.Cond.selects "BlindCards$Mix" ({ cls := "BlindCards$Move", name := "row", desc := "(II)I" } : Jvm.MethodName) ({ cls := "BlindCards$Move", name := "row", desc := "(II)I" } : Jvm.MethodName)) ∈ lw_all := lw_g (lw_at lw_m2 236 rfl) rfl
theorem q1333 : (Jvm.Cond.fieldLink "BlindCards$Mix" (17 : Nat) "BlindCards$Mix" "from" "I") ∈ lw_all := lw_g (lw_at lw_m6 9 rfl) rfl
theorem q1334 : (Jvm.Cond.sameField "BlindCards$Mix" "BlindCards$Cut" "from" "I") ∈ lw_all := lw_g (lw_at lw_m6 10 rfl) rfl
theorem q1336 : (Jvm.Cond.fieldLink "BlindCards$Mix" (13 : Nat) "BlindCards$Mix" "to" "I") ∈ lw_all := lw_g (lw_at lw_m6 12 rfl) rfl
theorem q1337 : (Jvm.Cond.sameField "BlindCards$Mix" "BlindCards$Cut" "to" "I") ∈ lw_all := lw_g (lw_at lw_m6 13 rfl) rfl
theorem q1354 : (Jvm.Cond.instantiable "BlindCards$Mix" (3 : Nat)) ∈ lw_all := lw_g (lw_at lw_m6 30 rfl) rfl
theorem q1356 : (Jvm.Cond.instanceMethod ({ cls := "BlindCards$Mix", name := "<init>", desc := "(II)V" } : Jvm.MethodName)) ∈ lw_all := lw_g (lw_at lw_m6 32 rfl) rfl
theorem q1357 : (Jvm.Cond.code ({ cls := "BlindCards$Mix", name := "<init>", desc := "(II)V" } : Jvm.MethodName) prog_17_method_1_code (3 : Nat) (Option.none : Option Jvm.ClassFile.FieldType)) ∈ lw_all := lw_g (lw_at lw_m6 33 rfl) rfl
theorem q1358 : (Jvm.Cond.methodLink "BlindCards$Mix" (1 : Nat) ({ cls := "BlindCards$Cut", name := "<init>", desc := "(III)V" } : Jvm.MethodName)) ∈ lw_all := lw_g (lw_at lw_m6 34 rfl) rfl
theorem q1359 : (Jvm.Cond.laysFinal "BlindCards$Mix" "BlindCards$Cut" "from" "I") ∈ lw_all := lw_g (lw_at lw_m6 35 rfl) rfl
theorem q1360 : (Jvm.Cond.laysFinal "BlindCards$Mix" "BlindCards$Cut" "to" "I") ∈ lw_all := lw_g (lw_at lw_m6 36 rfl) rfl
theorem q1361 : (Jvm.Cond.laysFinal "BlindCards$Mix" "BlindCards$Cut" "size" "I") ∈ lw_all := lw_g (lw_at lw_m6 37 rfl) rfl
theorem q1362 : (Jvm.Cond.superclass "BlindCards$Mix" "BlindCards$Cut") ∈ lw_all := lw_g (lw_at lw_m6 38 rfl) rfl
theorem q1700 : (Jvm.Cond.selects "BlindCards$Mix" ({ cls := "BlindCards$Move", name := "needs", desc := "()I" } : Jvm.MethodName) ({ cls := "BlindCards$Cut", name := "needs", desc := "()I" } : Jvm.MethodName)) ∈ lw_all := lw_g (lw_at lw_m7 136 rfl) rfl
theorem q1730 : (Jvm.Cond.selects "BlindCards$Mix" ({ cls := "BlindCards$Cut", name := "row", desc := "(II)I" } : Jvm.MethodName) ({ cls := "BlindCards$Move", name := "row", desc := "(II)I" } : Jvm.MethodName)) ∈ lw_all := lw_g (lw_at lw_m7 166 rfl) rfl
theorem q2566 : (Jvm.Cond.selects "BlindCards$Mix" ({ cls := "BlindCards$Cut", name := "ways", desc := "()I" } : Jvm.MethodName) ({ cls := "BlindCards$Mix", name := "ways", desc := "()I" } : Jvm.MethodName)) ∈ lw_all := lw_g (lw_at lw_m11 42 rfl) rfl
theorem q2573 : (Jvm.Cond.castable "BlindCards$Mix" "BlindCards$Step") ∈ lw_tbl := lw_at lw_m11 49 rfl
theorem q2579 : (Jvm.Cond.castable "BlindCards$Mix" "BlindCards$Move") ∈ lw_tbl := lw_at lw_m11 55 rfl
theorem q2582 : (Jvm.Cond.castable "BlindCards$Mix" "BlindCards$Cut") ∈ lw_tbl := lw_at lw_m11 58 rfl
theorem q2604 : (Jvm.Cond.castable "BlindCards$Mix" "java/lang/Object") ∈ lw_tbl := lw_at lw_m11 80 rfl
theorem in_X9 : ∀ w ∈ wsX90, w ∈ lw_all := lw_in wsX90 [1359, 1360, 1361] (by decide +kernel) (by decide +kernel)

/-! BlindCards$Runs -/
set_option maxRecDepth 100000
def RX2 : String := "BlindCards$Runs"
abbrev cX2_init : ByteArray := prog_25_method_1_code
def yX2_init : MethodName := ⟨RX2, "<init>", "(LBlindCards;)V"⟩
def dkwX2_init_1 : List UInt8 := [42, 16, 6, 188, 10, 181, 0, 25, 177]
abbrev dktX2_init_1 : List UInt8 := dkwX2_init_1 ++ []
def dkwX2_init_0 : List UInt8 := [42, 43, 181, 0, 3, 42, 183, 0, 9, 42, 2, 181, 0, 15, 42, 2, 181, 0, 19, 42, 2, 181, 0, 22]
abbrev dktX2_init_0 : List UInt8 := dkwX2_init_0 ++ dktX2_init_1
theorem dksX2_init_0 : cX2_init.data.toList.drop 0 = dktX2_init_0 := by decide +kernel
theorem dksX2_init_1 : cX2_init.data.toList.drop 24 = dktX2_init_1 := dk_seg dksX2_init_0 24 rfl rfl
theorem dX2_init_0 : decode cX2_init 0 = .ok (.aload_n 0, 1) := dk_42 (dk_at dksX2_init_0 0 rfl rfl)
theorem dX2_init_1 : decode cX2_init 1 = .ok (.aload_n 1, 1) := dk_43 (dk_at dksX2_init_0 1 rfl rfl)
theorem dX2_init_2 : decode cX2_init 2 = .ok (.putfield 3, 3) := dk_181 0 3 (dk_at dksX2_init_0 2 rfl rfl)
theorem dX2_init_5 : decode cX2_init 5 = .ok (.aload_n 0, 1) := dk_42 (dk_at dksX2_init_0 5 rfl rfl)
theorem dX2_init_6 : decode cX2_init 6 = .ok (.invokespecial 9, 3) := dk_183 0 9 (dk_at dksX2_init_0 6 rfl rfl)
theorem dX2_init_9 : decode cX2_init 9 = .ok (.aload_n 0, 1) := dk_42 (dk_at dksX2_init_0 9 rfl rfl)
theorem dX2_init_10 : decode cX2_init 10 = .ok (.iconst (-1), 1) := dk_2 (dk_at dksX2_init_0 10 rfl rfl)
theorem dX2_init_11 : decode cX2_init 11 = .ok (.putfield 15, 3) := dk_181 0 15 (dk_at dksX2_init_0 11 rfl rfl)
theorem dX2_init_14 : decode cX2_init 14 = .ok (.aload_n 0, 1) := dk_42 (dk_at dksX2_init_0 14 rfl rfl)
theorem dX2_init_15 : decode cX2_init 15 = .ok (.iconst (-1), 1) := dk_2 (dk_at dksX2_init_0 15 rfl rfl)
theorem dX2_init_16 : decode cX2_init 16 = .ok (.putfield 19, 3) := dk_181 0 19 (dk_at dksX2_init_0 16 rfl rfl)
theorem dX2_init_19 : decode cX2_init 19 = .ok (.aload_n 0, 1) := dk_42 (dk_at dksX2_init_0 19 rfl rfl)
theorem dX2_init_20 : decode cX2_init 20 = .ok (.iconst (-1), 1) := dk_2 (dk_at dksX2_init_0 20 rfl rfl)
theorem dX2_init_21 : decode cX2_init 21 = .ok (.putfield 22, 3) := dk_181 0 22 (dk_at dksX2_init_0 21 rfl rfl)
theorem dX2_init_24 : decode cX2_init 24 = .ok (.aload_n 0, 1) := dk_42 (dk_at dksX2_init_1 0 rfl rfl)
theorem dX2_init_25 : decode cX2_init 25 = .ok (.bipush 6, 2) := dk_16 6 (dk_at dksX2_init_1 1 rfl rfl)
theorem dX2_init_27 : decode cX2_init 27 = .ok (.newarray .int, 2) := dk_188_10 (dk_at dksX2_init_1 3 rfl rfl)
theorem dX2_init_29 : decode cX2_init 29 = .ok (.putfield 25, 3) := dk_181 0 25 (dk_at dksX2_init_1 5 rfl rfl)
theorem dX2_init_32 : decode cX2_init 32 = .ok (.return_, 1) := dk_177 (dk_at dksX2_init_1 8 rfl rfl)
abbrev cX2_begin : ByteArray := prog_25_method_4_code
def yX2_begin : MethodName := ⟨RX2, "begin", "()V"⟩
def dkwX2_begin_4 : List UInt8 := [42, 3, 3, 3, 10, 2, 182, 0, 50, 177]
abbrev dktX2_begin_4 : List UInt8 := dkwX2_begin_4 ++ []
def dkwX2_begin_3 : List UInt8 := [27, 16, 8, 162, 0, 21, 42, 180, 0, 3, 180, 0, 46, 3, 50, 27, 2, 79, 132, 1, 1, 167, 255, 235]
abbrev dktX2_begin_3 : List UInt8 := dkwX2_begin_3 ++ dktX2_begin_4
def dkwX2_begin_2 : List UInt8 := [42, 180, 0, 3, 180, 0, 32, 3, 50, 17, 1, 0, 27, 104, 10, 80, 132, 1, 1, 167, 255, 223, 3, 60]
abbrev dktX2_begin_2 : List UInt8 := dkwX2_begin_2 ++ dktX2_begin_3
def dkwX2_begin_1 : List UInt8 := [9, 80, 132, 1, 1, 167, 255, 234, 3, 60, 27, 42, 180, 0, 3, 180, 0, 36, 182, 0, 40, 162, 0, 25]
abbrev dktX2_begin_1 : List UInt8 := dkwX2_begin_1 ++ dktX2_begin_2
def dkwX2_begin_0 : List UInt8 := [42, 3, 181, 0, 29, 3, 60, 27, 17, 8, 0, 162, 0, 21, 42, 180, 0, 3, 180, 0, 32, 3, 50, 27]
abbrev dktX2_begin_0 : List UInt8 := dkwX2_begin_0 ++ dktX2_begin_1
theorem dksX2_begin_0 : cX2_begin.data.toList.drop 0 = dktX2_begin_0 := by decide +kernel
theorem dksX2_begin_1 : cX2_begin.data.toList.drop 24 = dktX2_begin_1 := dk_seg dksX2_begin_0 24 rfl rfl
theorem dksX2_begin_2 : cX2_begin.data.toList.drop 48 = dktX2_begin_2 := dk_seg dksX2_begin_1 24 rfl rfl
theorem dksX2_begin_3 : cX2_begin.data.toList.drop 72 = dktX2_begin_3 := dk_seg dksX2_begin_2 24 rfl rfl
theorem dksX2_begin_4 : cX2_begin.data.toList.drop 96 = dktX2_begin_4 := dk_seg dksX2_begin_3 24 rfl rfl
theorem dX2_begin_0 : decode cX2_begin 0 = .ok (.aload_n 0, 1) := dk_42 (dk_at dksX2_begin_0 0 rfl rfl)
theorem dX2_begin_1 : decode cX2_begin 1 = .ok (.iconst 0, 1) := dk_3 (dk_at dksX2_begin_0 1 rfl rfl)
theorem dX2_begin_2 : decode cX2_begin 2 = .ok (.putfield 29, 3) := dk_181 0 29 (dk_at dksX2_begin_0 2 rfl rfl)
theorem dX2_begin_5 : decode cX2_begin 5 = .ok (.iconst 0, 1) := dk_3 (dk_at dksX2_begin_0 5 rfl rfl)
theorem dX2_begin_6 : decode cX2_begin 6 = .ok (.istore_n 1, 1) := dk_60 (dk_at dksX2_begin_0 6 rfl rfl)
theorem dX2_begin_7 : decode cX2_begin 7 = .ok (.iload_n 1, 1) := dk_27 (dk_at dksX2_begin_0 7 rfl rfl)
theorem dX2_begin_8 : decode cX2_begin 8 = .ok (.sipush 2048, 3) := dk_17 8 0 (dk_at dksX2_begin_0 8 rfl rfl)
theorem dX2_begin_11 : decode cX2_begin 11 = .ok (.if_icmp .ge 21, 3) := dk_162 0 21 (dk_at dksX2_begin_0 11 rfl rfl)
theorem dX2_begin_14 : decode cX2_begin 14 = .ok (.aload_n 0, 1) := dk_42 (dk_at dksX2_begin_0 14 rfl rfl)
theorem dX2_begin_15 : decode cX2_begin 15 = .ok (.getfield 3, 3) := dk_180 0 3 (dk_at dksX2_begin_0 15 rfl rfl)
theorem dX2_begin_18 : decode cX2_begin 18 = .ok (.getfield 32, 3) := dk_180 0 32 (dk_at dksX2_begin_0 18 rfl rfl)
theorem dX2_begin_21 : decode cX2_begin 21 = .ok (.iconst 0, 1) := dk_3 (dk_at dksX2_begin_0 21 rfl rfl)
theorem dX2_begin_22 : decode cX2_begin 22 = .ok (.aaload, 1) := dk_50 (dk_at dksX2_begin_0 22 rfl rfl)
theorem dX2_begin_23 : decode cX2_begin 23 = .ok (.iload_n 1, 1) := dk_27 (dk_at dksX2_begin_0 23 rfl rfl)
theorem dX2_begin_24 : decode cX2_begin 24 = .ok (.lconst 0, 1) := dk_9 (dk_at dksX2_begin_1 0 rfl rfl)
theorem dX2_begin_25 : decode cX2_begin 25 = .ok (.lastore, 1) := dk_80 (dk_at dksX2_begin_1 1 rfl rfl)
theorem dX2_begin_26 : decode cX2_begin 26 = .ok (.iinc 1 1, 3) := dk_132 1 1 (dk_at dksX2_begin_1 2 rfl rfl)
theorem dX2_begin_29 : decode cX2_begin 29 = .ok (.goto (-22), 3) := dk_167 255 234 (dk_at dksX2_begin_1 5 rfl rfl)
theorem dX2_begin_32 : decode cX2_begin 32 = .ok (.iconst 0, 1) := dk_3 (dk_at dksX2_begin_1 8 rfl rfl)
theorem dX2_begin_33 : decode cX2_begin 33 = .ok (.istore_n 1, 1) := dk_60 (dk_at dksX2_begin_1 9 rfl rfl)
theorem dX2_begin_34 : decode cX2_begin 34 = .ok (.iload_n 1, 1) := dk_27 (dk_at dksX2_begin_1 10 rfl rfl)
theorem dX2_begin_35 : decode cX2_begin 35 = .ok (.aload_n 0, 1) := dk_42 (dk_at dksX2_begin_1 11 rfl rfl)
theorem dX2_begin_36 : decode cX2_begin 36 = .ok (.getfield 3, 3) := dk_180 0 3 (dk_at dksX2_begin_1 12 rfl rfl)
theorem dX2_begin_39 : decode cX2_begin 39 = .ok (.getfield 36, 3) := dk_180 0 36 (dk_at dksX2_begin_1 15 rfl rfl)
theorem dX2_begin_42 : decode cX2_begin 42 = .ok (.invokevirtual 40, 3) := dk_182 0 40 (dk_at dksX2_begin_1 18 rfl rfl)
theorem dX2_begin_45 : decode cX2_begin 45 = .ok (.if_icmp .ge 25, 3) := dk_162 0 25 (dk_at dksX2_begin_1 21 rfl rfl)
theorem dX2_begin_48 : decode cX2_begin 48 = .ok (.aload_n 0, 1) := dk_42 (dk_at dksX2_begin_2 0 rfl rfl)
theorem dX2_begin_49 : decode cX2_begin 49 = .ok (.getfield 3, 3) := dk_180 0 3 (dk_at dksX2_begin_2 1 rfl rfl)
theorem dX2_begin_52 : decode cX2_begin 52 = .ok (.getfield 32, 3) := dk_180 0 32 (dk_at dksX2_begin_2 4 rfl rfl)
theorem dX2_begin_55 : decode cX2_begin 55 = .ok (.iconst 0, 1) := dk_3 (dk_at dksX2_begin_2 7 rfl rfl)
theorem dX2_begin_56 : decode cX2_begin 56 = .ok (.aaload, 1) := dk_50 (dk_at dksX2_begin_2 8 rfl rfl)
theorem dX2_begin_57 : decode cX2_begin 57 = .ok (.sipush 256, 3) := dk_17 1 0 (dk_at dksX2_begin_2 9 rfl rfl)
theorem dX2_begin_60 : decode cX2_begin 60 = .ok (.iload_n 1, 1) := dk_27 (dk_at dksX2_begin_2 12 rfl rfl)
theorem dX2_begin_61 : decode cX2_begin 61 = .ok (.imul, 1) := dk_104 (dk_at dksX2_begin_2 13 rfl rfl)
theorem dX2_begin_62 : decode cX2_begin 62 = .ok (.lconst 1, 1) := dk_10 (dk_at dksX2_begin_2 14 rfl rfl)
theorem dX2_begin_63 : decode cX2_begin 63 = .ok (.lastore, 1) := dk_80 (dk_at dksX2_begin_2 15 rfl rfl)
theorem dX2_begin_64 : decode cX2_begin 64 = .ok (.iinc 1 1, 3) := dk_132 1 1 (dk_at dksX2_begin_2 16 rfl rfl)
theorem dX2_begin_67 : decode cX2_begin 67 = .ok (.goto (-33), 3) := dk_167 255 223 (dk_at dksX2_begin_2 19 rfl rfl)
theorem dX2_begin_70 : decode cX2_begin 70 = .ok (.iconst 0, 1) := dk_3 (dk_at dksX2_begin_2 22 rfl rfl)
theorem dX2_begin_71 : decode cX2_begin 71 = .ok (.istore_n 1, 1) := dk_60 (dk_at dksX2_begin_2 23 rfl rfl)
theorem dX2_begin_72 : decode cX2_begin 72 = .ok (.iload_n 1, 1) := dk_27 (dk_at dksX2_begin_3 0 rfl rfl)
theorem dX2_begin_73 : decode cX2_begin 73 = .ok (.bipush 8, 2) := dk_16 8 (dk_at dksX2_begin_3 1 rfl rfl)
theorem dX2_begin_75 : decode cX2_begin 75 = .ok (.if_icmp .ge 21, 3) := dk_162 0 21 (dk_at dksX2_begin_3 3 rfl rfl)
theorem dX2_begin_78 : decode cX2_begin 78 = .ok (.aload_n 0, 1) := dk_42 (dk_at dksX2_begin_3 6 rfl rfl)
theorem dX2_begin_79 : decode cX2_begin 79 = .ok (.getfield 3, 3) := dk_180 0 3 (dk_at dksX2_begin_3 7 rfl rfl)
theorem dX2_begin_82 : decode cX2_begin 82 = .ok (.getfield 46, 3) := dk_180 0 46 (dk_at dksX2_begin_3 10 rfl rfl)
theorem dX2_begin_85 : decode cX2_begin 85 = .ok (.iconst 0, 1) := dk_3 (dk_at dksX2_begin_3 13 rfl rfl)
theorem dX2_begin_86 : decode cX2_begin 86 = .ok (.aaload, 1) := dk_50 (dk_at dksX2_begin_3 14 rfl rfl)
theorem dX2_begin_87 : decode cX2_begin 87 = .ok (.iload_n 1, 1) := dk_27 (dk_at dksX2_begin_3 15 rfl rfl)
theorem dX2_begin_88 : decode cX2_begin 88 = .ok (.iconst (-1), 1) := dk_2 (dk_at dksX2_begin_3 16 rfl rfl)
theorem dX2_begin_89 : decode cX2_begin 89 = .ok (.iastore, 1) := dk_79 (dk_at dksX2_begin_3 17 rfl rfl)
theorem dX2_begin_90 : decode cX2_begin 90 = .ok (.iinc 1 1, 3) := dk_132 1 1 (dk_at dksX2_begin_3 18 rfl rfl)
theorem dX2_begin_93 : decode cX2_begin 93 = .ok (.goto (-21), 3) := dk_167 255 235 (dk_at dksX2_begin_3 21 rfl rfl)
theorem dX2_begin_96 : decode cX2_begin 96 = .ok (.aload_n 0, 1) := dk_42 (dk_at dksX2_begin_4 0 rfl rfl)
theorem dX2_begin_97 : decode cX2_begin 97 = .ok (.iconst 0, 1) := dk_3 (dk_at dksX2_begin_4 1 rfl rfl)
theorem dX2_begin_98 : decode cX2_begin 98 = .ok (.iconst 0, 1) := dk_3 (dk_at dksX2_begin_4 2 rfl rfl)
theorem dX2_begin_99 : decode cX2_begin 99 = .ok (.iconst 0, 1) := dk_3 (dk_at dksX2_begin_4 3 rfl rfl)
theorem dX2_begin_100 : decode cX2_begin 100 = .ok (.lconst 1, 1) := dk_10 (dk_at dksX2_begin_4 4 rfl rfl)
theorem dX2_begin_101 : decode cX2_begin 101 = .ok (.iconst (-1), 1) := dk_2 (dk_at dksX2_begin_4 5 rfl rfl)
theorem dX2_begin_102 : decode cX2_begin 102 = .ok (.invokevirtual 50, 3) := dk_182 0 50 (dk_at dksX2_begin_4 6 rfl rfl)
theorem dX2_begin_105 : decode cX2_begin 105 = .ok (.return_, 1) := dk_177 (dk_at dksX2_begin_4 9 rfl rfl)
abbrev cX2_go : ByteArray := prog_25_method_5_code
def yX2_go : MethodName := ⟨RX2, "go", "(IIIJI)V"⟩
def dkwX2_go_16 : List UInt8 := [182, 0, 63, 154, 0, 11, 42, 27, 1, 22, 10, 182, 0, 124, 177]
abbrev dktX2_go_16 : List UInt8 := dkwX2_go_16 ++ []
def dkwX2_go_15 : List UInt8 := [193, 0, 122, 153, 0, 13, 42, 27, 25, 12, 22, 10, 182, 0, 124, 177, 132, 9, 1, 167, 254, 158, 42]
abbrev dktX2_go_15 : List UInt8 := dkwX2_go_15 ++ dktX2_go_16
def dkwX2_go_14 : List UInt8 := [160, 0, 10, 25, 13, 180, 0, 117, 54, 9, 167, 0, 29, 25, 12, 193, 0, 120, 154, 0, 11, 25, 12]
abbrev dktX2_go_14 : List UInt8 := dkwX2_go_14 ++ dktX2_go_15
def dkwX2_go_13 : List UInt8 := [180, 0, 46, 27, 50, 25, 13, 180, 0, 110, 46, 25, 13, 180, 0, 113, 153, 0, 7, 4, 167, 0, 4, 3]
abbrev dktX2_go_13 : List UInt8 := dkwX2_go_13 ++ dktX2_go_14
def dkwX2_go_12 : List UInt8 := [182, 0, 104, 177, 25, 12, 193, 0, 108, 153, 0, 51, 25, 12, 192, 0, 108, 58, 13, 42, 180, 0, 3]
abbrev dktX2_go_12 : List UInt8 := dkwX2_go_12 ++ dktX2_go_13
def dkwX2_go_11 : List UInt8 := [25, 12, 193, 0, 102, 153, 0, 22, 42, 27, 21, 9, 25, 12, 192, 0, 102, 21, 7, 22, 10, 21, 8]
abbrev dktX2_go_11 : List UInt8 := dkwX2_go_11 ++ dktX2_go_12
def dkwX2_go_10 : List UInt8 := [25, 13, 21, 8, 3, 182, 0, 98, 54, 8, 22, 10, 25, 13, 182, 0, 87, 133, 105, 55, 10, 167, 0, 112]
abbrev dktX2_go_10 : List UInt8 := dkwX2_go_10 ++ dktX2_go_11
def dkwX2_go_9 : List UInt8 := [133, 105, 21, 8, 182, 0, 90, 177, 42, 27, 25, 13, 182, 0, 94, 21, 8, 156, 0, 7, 2, 167, 0, 11]
abbrev dktX2_go_9 : List UInt8 := dkwX2_go_9 ++ dktX2_go_10
def dkwX2_go_8 : List UInt8 := [25, 13, 182, 0, 87, 4, 164, 0, 26, 42, 27, 21, 9, 25, 13, 21, 7, 22, 10, 25, 13, 182, 0, 87]
abbrev dktX2_go_8 : List UInt8 := dkwX2_go_8 ++ dktX2_go_9
def dkwX2_go_7 : List UInt8 := [153, 0, 96, 25, 12, 192, 0, 85, 58, 13, 21, 9, 42, 180, 0, 22, 159, 0, 17, 21, 8, 155, 0, 35]
abbrev dktX2_go_7 : List UInt8 := dkwX2_go_7 ++ dktX2_go_8
def dkwX2_go_6 : List UInt8 := [21, 7, 182, 0, 81, 21, 7, 25, 13, 182, 0, 78, 96, 54, 7, 167, 0, 213, 25, 12, 193, 0, 85]
abbrev dktX2_go_6 : List UInt8 := dkwX2_go_6 ++ dktX2_go_7
def dkwX2_go_5 : List UInt8 := [180, 0, 19, 21, 7, 25, 13, 182, 0, 78, 96, 162, 0, 9, 42, 180, 0, 19, 54, 8, 42, 27, 25, 13]
abbrev dktX2_go_5 : List UInt8 := dkwX2_go_5 ++ dktX2_go_6
def dkwX2_go_4 : List UInt8 := [182, 0, 78, 96, 16, 8, 164, 0, 6, 167, 1, 15, 42, 180, 0, 19, 21, 7, 161, 0, 24, 42]
abbrev dktX2_go_4 : List UInt8 := dkwX2_go_4 ++ dktX2_go_5
def dkwX2_go_3 : List UInt8 := [167, 1, 46, 25, 12, 193, 0, 76, 153, 0, 78, 25, 12, 192, 0, 76, 58, 13, 21, 7, 25, 13]
abbrev dktX2_go_3 : List UInt8 := dkwX2_go_3 ++ dktX2_go_4
def dkwX2_go_2 : List UInt8 := [180, 0, 54, 21, 9, 182, 0, 67, 192, 0, 71, 58, 12, 25, 12, 182, 0, 73, 21, 7, 164, 0, 6]
abbrev dktX2_go_2 : List UInt8 := dkwX2_go_2 ++ dktX2_go_3
def dkwX2_go_1 : List UInt8 := [180, 0, 54, 182, 0, 58, 162, 1, 86, 42, 182, 0, 63, 154, 1, 79, 42, 180, 0, 3, 180, 0, 36]
abbrev dktX2_go_1 : List UInt8 := dkwX2_go_1 ++ dktX2_go_2
def dkwX2_go_0 : List UInt8 := [29, 54, 7, 21, 6, 54, 8, 28, 54, 9, 22, 4, 55, 10, 21, 9, 42, 180, 0, 3, 180, 0, 36]
abbrev dktX2_go_0 : List UInt8 := dkwX2_go_0 ++ dktX2_go_1
theorem dksX2_go_0 : cX2_go.data.toList.drop 0 = dktX2_go_0 := by decide +kernel
theorem dksX2_go_1 : cX2_go.data.toList.drop 23 = dktX2_go_1 := dk_seg dksX2_go_0 23 rfl rfl
theorem dksX2_go_2 : cX2_go.data.toList.drop 46 = dktX2_go_2 := dk_seg dksX2_go_1 23 rfl rfl
theorem dksX2_go_3 : cX2_go.data.toList.drop 69 = dktX2_go_3 := dk_seg dksX2_go_2 23 rfl rfl
theorem dksX2_go_4 : cX2_go.data.toList.drop 91 = dktX2_go_4 := dk_seg dksX2_go_3 22 rfl rfl
theorem dksX2_go_5 : cX2_go.data.toList.drop 113 = dktX2_go_5 := dk_seg dksX2_go_4 22 rfl rfl
theorem dksX2_go_6 : cX2_go.data.toList.drop 137 = dktX2_go_6 := dk_seg dksX2_go_5 24 rfl rfl
theorem dksX2_go_7 : cX2_go.data.toList.drop 160 = dktX2_go_7 := dk_seg dksX2_go_6 23 rfl rfl
theorem dksX2_go_8 : cX2_go.data.toList.drop 184 = dktX2_go_8 := dk_seg dksX2_go_7 24 rfl rfl
theorem dksX2_go_9 : cX2_go.data.toList.drop 208 = dktX2_go_9 := dk_seg dksX2_go_8 24 rfl rfl
theorem dksX2_go_10 : cX2_go.data.toList.drop 232 = dktX2_go_10 := dk_seg dksX2_go_9 24 rfl rfl
theorem dksX2_go_11 : cX2_go.data.toList.drop 256 = dktX2_go_11 := dk_seg dksX2_go_10 24 rfl rfl
theorem dksX2_go_12 : cX2_go.data.toList.drop 279 = dktX2_go_12 := dk_seg dksX2_go_11 23 rfl rfl
theorem dksX2_go_13 : cX2_go.data.toList.drop 302 = dktX2_go_13 := dk_seg dksX2_go_12 23 rfl rfl
theorem dksX2_go_14 : cX2_go.data.toList.drop 326 = dktX2_go_14 := dk_seg dksX2_go_13 24 rfl rfl
theorem dksX2_go_15 : cX2_go.data.toList.drop 349 = dktX2_go_15 := dk_seg dksX2_go_14 23 rfl rfl
theorem dksX2_go_16 : cX2_go.data.toList.drop 372 = dktX2_go_16 := dk_seg dksX2_go_15 23 rfl rfl
theorem dX2_go_0 : decode cX2_go 0 = .ok (.iload_n 3, 1) := dk_29 (dk_at dksX2_go_0 0 rfl rfl)
theorem dX2_go_1 : decode cX2_go 1 = .ok (.istore 7, 2) := dk_54 7 (dk_at dksX2_go_0 1 rfl rfl)
theorem dX2_go_3 : decode cX2_go 3 = .ok (.iload 6, 2) := dk_21 6 (dk_at dksX2_go_0 3 rfl rfl)
theorem dX2_go_5 : decode cX2_go 5 = .ok (.istore 8, 2) := dk_54 8 (dk_at dksX2_go_0 5 rfl rfl)
theorem dX2_go_7 : decode cX2_go 7 = .ok (.iload_n 2, 1) := dk_28 (dk_at dksX2_go_0 7 rfl rfl)
theorem dX2_go_8 : decode cX2_go 8 = .ok (.istore 9, 2) := dk_54 9 (dk_at dksX2_go_0 8 rfl rfl)
theorem dX2_go_10 : decode cX2_go 10 = .ok (.lload 4, 2) := dk_22 4 (dk_at dksX2_go_0 10 rfl rfl)
theorem dX2_go_12 : decode cX2_go 12 = .ok (.lstore 10, 2) := dk_55 10 (dk_at dksX2_go_0 12 rfl rfl)
theorem dX2_go_14 : decode cX2_go 14 = .ok (.iload 9, 2) := dk_21 9 (dk_at dksX2_go_0 14 rfl rfl)
theorem dX2_go_16 : decode cX2_go 16 = .ok (.aload_n 0, 1) := dk_42 (dk_at dksX2_go_0 16 rfl rfl)
theorem dX2_go_17 : decode cX2_go 17 = .ok (.getfield 3, 3) := dk_180 0 3 (dk_at dksX2_go_0 17 rfl rfl)
theorem dX2_go_20 : decode cX2_go 20 = .ok (.getfield 36, 3) := dk_180 0 36 (dk_at dksX2_go_0 20 rfl rfl)
theorem dX2_go_23 : decode cX2_go 23 = .ok (.getfield 54, 3) := dk_180 0 54 (dk_at dksX2_go_1 0 rfl rfl)
theorem dX2_go_26 : decode cX2_go 26 = .ok (.invokevirtual 58, 3) := dk_182 0 58 (dk_at dksX2_go_1 3 rfl rfl)
theorem dX2_go_29 : decode cX2_go 29 = .ok (.if_icmp .ge 342, 3) := dk_162 1 86 (dk_at dksX2_go_1 6 rfl rfl)
theorem dX2_go_32 : decode cX2_go 32 = .ok (.aload_n 0, 1) := dk_42 (dk_at dksX2_go_1 9 rfl rfl)
theorem dX2_go_33 : decode cX2_go 33 = .ok (.invokevirtual 63, 3) := dk_182 0 63 (dk_at dksX2_go_1 10 rfl rfl)
theorem dX2_go_36 : decode cX2_go 36 = .ok (.ifCond .ne 335, 3) := dk_154 1 79 (dk_at dksX2_go_1 13 rfl rfl)
theorem dX2_go_39 : decode cX2_go 39 = .ok (.aload_n 0, 1) := dk_42 (dk_at dksX2_go_1 16 rfl rfl)
theorem dX2_go_40 : decode cX2_go 40 = .ok (.getfield 3, 3) := dk_180 0 3 (dk_at dksX2_go_1 17 rfl rfl)
theorem dX2_go_43 : decode cX2_go 43 = .ok (.getfield 36, 3) := dk_180 0 36 (dk_at dksX2_go_1 20 rfl rfl)
theorem dX2_go_46 : decode cX2_go 46 = .ok (.getfield 54, 3) := dk_180 0 54 (dk_at dksX2_go_2 0 rfl rfl)
theorem dX2_go_49 : decode cX2_go 49 = .ok (.iload 9, 2) := dk_21 9 (dk_at dksX2_go_2 3 rfl rfl)
theorem dX2_go_51 : decode cX2_go 51 = .ok (.invokevirtual 67, 3) := dk_182 0 67 (dk_at dksX2_go_2 5 rfl rfl)
theorem dX2_go_54 : decode cX2_go 54 = .ok (.checkcast 71, 3) := dk_192 0 71 (dk_at dksX2_go_2 8 rfl rfl)
theorem dX2_go_57 : decode cX2_go 57 = .ok (.astore 12, 2) := dk_58 12 (dk_at dksX2_go_2 11 rfl rfl)
theorem dX2_go_59 : decode cX2_go 59 = .ok (.aload 12, 2) := dk_25 12 (dk_at dksX2_go_2 13 rfl rfl)
theorem dX2_go_61 : decode cX2_go 61 = .ok (.invokevirtual 73, 3) := dk_182 0 73 (dk_at dksX2_go_2 15 rfl rfl)
theorem dX2_go_64 : decode cX2_go 64 = .ok (.iload 7, 2) := dk_21 7 (dk_at dksX2_go_2 18 rfl rfl)
theorem dX2_go_66 : decode cX2_go 66 = .ok (.if_icmp .le 6, 3) := dk_164 0 6 (dk_at dksX2_go_2 20 rfl rfl)
theorem dX2_go_69 : decode cX2_go 69 = .ok (.goto 302, 3) := dk_167 1 46 (dk_at dksX2_go_3 0 rfl rfl)
theorem dX2_go_72 : decode cX2_go 72 = .ok (.aload 12, 2) := dk_25 12 (dk_at dksX2_go_3 3 rfl rfl)
theorem dX2_go_74 : decode cX2_go 74 = .ok (.instanceof 76, 3) := dk_193 0 76 (dk_at dksX2_go_3 5 rfl rfl)
theorem dX2_go_77 : decode cX2_go 77 = .ok (.ifCond .eq 78, 3) := dk_153 0 78 (dk_at dksX2_go_3 8 rfl rfl)
theorem dX2_go_80 : decode cX2_go 80 = .ok (.aload 12, 2) := dk_25 12 (dk_at dksX2_go_3 11 rfl rfl)
theorem dX2_go_82 : decode cX2_go 82 = .ok (.checkcast 76, 3) := dk_192 0 76 (dk_at dksX2_go_3 13 rfl rfl)
theorem dX2_go_85 : decode cX2_go 85 = .ok (.astore 13, 2) := dk_58 13 (dk_at dksX2_go_3 16 rfl rfl)
theorem dX2_go_87 : decode cX2_go 87 = .ok (.iload 7, 2) := dk_21 7 (dk_at dksX2_go_3 18 rfl rfl)
theorem dX2_go_89 : decode cX2_go 89 = .ok (.aload 13, 2) := dk_25 13 (dk_at dksX2_go_3 20 rfl rfl)
theorem dX2_go_91 : decode cX2_go 91 = .ok (.invokevirtual 78, 3) := dk_182 0 78 (dk_at dksX2_go_4 0 rfl rfl)
theorem dX2_go_94 : decode cX2_go 94 = .ok (.iadd, 1) := dk_96 (dk_at dksX2_go_4 3 rfl rfl)
theorem dX2_go_95 : decode cX2_go 95 = .ok (.bipush 8, 2) := dk_16 8 (dk_at dksX2_go_4 4 rfl rfl)
theorem dX2_go_97 : decode cX2_go 97 = .ok (.if_icmp .le 6, 3) := dk_164 0 6 (dk_at dksX2_go_4 6 rfl rfl)
theorem dX2_go_100 : decode cX2_go 100 = .ok (.goto 271, 3) := dk_167 1 15 (dk_at dksX2_go_4 9 rfl rfl)
theorem dX2_go_103 : decode cX2_go 103 = .ok (.aload_n 0, 1) := dk_42 (dk_at dksX2_go_4 12 rfl rfl)
theorem dX2_go_104 : decode cX2_go 104 = .ok (.getfield 19, 3) := dk_180 0 19 (dk_at dksX2_go_4 13 rfl rfl)
theorem dX2_go_107 : decode cX2_go 107 = .ok (.iload 7, 2) := dk_21 7 (dk_at dksX2_go_4 16 rfl rfl)
theorem dX2_go_109 : decode cX2_go 109 = .ok (.if_icmp .lt 24, 3) := dk_161 0 24 (dk_at dksX2_go_4 18 rfl rfl)
theorem dX2_go_112 : decode cX2_go 112 = .ok (.aload_n 0, 1) := dk_42 (dk_at dksX2_go_4 21 rfl rfl)
theorem dX2_go_113 : decode cX2_go 113 = .ok (.getfield 19, 3) := dk_180 0 19 (dk_at dksX2_go_5 0 rfl rfl)
theorem dX2_go_116 : decode cX2_go 116 = .ok (.iload 7, 2) := dk_21 7 (dk_at dksX2_go_5 3 rfl rfl)
theorem dX2_go_118 : decode cX2_go 118 = .ok (.aload 13, 2) := dk_25 13 (dk_at dksX2_go_5 5 rfl rfl)
theorem dX2_go_120 : decode cX2_go 120 = .ok (.invokevirtual 78, 3) := dk_182 0 78 (dk_at dksX2_go_5 7 rfl rfl)
theorem dX2_go_123 : decode cX2_go 123 = .ok (.iadd, 1) := dk_96 (dk_at dksX2_go_5 10 rfl rfl)
theorem dX2_go_124 : decode cX2_go 124 = .ok (.if_icmp .ge 9, 3) := dk_162 0 9 (dk_at dksX2_go_5 11 rfl rfl)
theorem dX2_go_127 : decode cX2_go 127 = .ok (.aload_n 0, 1) := dk_42 (dk_at dksX2_go_5 14 rfl rfl)
theorem dX2_go_128 : decode cX2_go 128 = .ok (.getfield 19, 3) := dk_180 0 19 (dk_at dksX2_go_5 15 rfl rfl)
theorem dX2_go_131 : decode cX2_go 131 = .ok (.istore 8, 2) := dk_54 8 (dk_at dksX2_go_5 18 rfl rfl)
theorem dX2_go_133 : decode cX2_go 133 = .ok (.aload_n 0, 1) := dk_42 (dk_at dksX2_go_5 20 rfl rfl)
theorem dX2_go_134 : decode cX2_go 134 = .ok (.iload_n 1, 1) := dk_27 (dk_at dksX2_go_5 21 rfl rfl)
theorem dX2_go_135 : decode cX2_go 135 = .ok (.aload 13, 2) := dk_25 13 (dk_at dksX2_go_5 22 rfl rfl)
theorem dX2_go_137 : decode cX2_go 137 = .ok (.iload 7, 2) := dk_21 7 (dk_at dksX2_go_6 0 rfl rfl)
theorem dX2_go_139 : decode cX2_go 139 = .ok (.invokevirtual 81, 3) := dk_182 0 81 (dk_at dksX2_go_6 2 rfl rfl)
theorem dX2_go_142 : decode cX2_go 142 = .ok (.iload 7, 2) := dk_21 7 (dk_at dksX2_go_6 5 rfl rfl)
theorem dX2_go_144 : decode cX2_go 144 = .ok (.aload 13, 2) := dk_25 13 (dk_at dksX2_go_6 7 rfl rfl)
theorem dX2_go_146 : decode cX2_go 146 = .ok (.invokevirtual 78, 3) := dk_182 0 78 (dk_at dksX2_go_6 9 rfl rfl)
theorem dX2_go_149 : decode cX2_go 149 = .ok (.iadd, 1) := dk_96 (dk_at dksX2_go_6 12 rfl rfl)
theorem dX2_go_150 : decode cX2_go 150 = .ok (.istore 7, 2) := dk_54 7 (dk_at dksX2_go_6 13 rfl rfl)
theorem dX2_go_152 : decode cX2_go 152 = .ok (.goto 213, 3) := dk_167 0 213 (dk_at dksX2_go_6 15 rfl rfl)
theorem dX2_go_155 : decode cX2_go 155 = .ok (.aload 12, 2) := dk_25 12 (dk_at dksX2_go_6 18 rfl rfl)
theorem dX2_go_157 : decode cX2_go 157 = .ok (.instanceof 85, 3) := dk_193 0 85 (dk_at dksX2_go_6 20 rfl rfl)
theorem dX2_go_160 : decode cX2_go 160 = .ok (.ifCond .eq 96, 3) := dk_153 0 96 (dk_at dksX2_go_7 0 rfl rfl)
theorem dX2_go_163 : decode cX2_go 163 = .ok (.aload 12, 2) := dk_25 12 (dk_at dksX2_go_7 3 rfl rfl)
theorem dX2_go_165 : decode cX2_go 165 = .ok (.checkcast 85, 3) := dk_192 0 85 (dk_at dksX2_go_7 5 rfl rfl)
theorem dX2_go_168 : decode cX2_go 168 = .ok (.astore 13, 2) := dk_58 13 (dk_at dksX2_go_7 8 rfl rfl)
theorem dX2_go_170 : decode cX2_go 170 = .ok (.iload 9, 2) := dk_21 9 (dk_at dksX2_go_7 10 rfl rfl)
theorem dX2_go_172 : decode cX2_go 172 = .ok (.aload_n 0, 1) := dk_42 (dk_at dksX2_go_7 12 rfl rfl)
theorem dX2_go_173 : decode cX2_go 173 = .ok (.getfield 22, 3) := dk_180 0 22 (dk_at dksX2_go_7 13 rfl rfl)
theorem dX2_go_176 : decode cX2_go 176 = .ok (.if_icmp .eq 17, 3) := dk_159 0 17 (dk_at dksX2_go_7 16 rfl rfl)
theorem dX2_go_179 : decode cX2_go 179 = .ok (.iload 8, 2) := dk_21 8 (dk_at dksX2_go_7 19 rfl rfl)
theorem dX2_go_181 : decode cX2_go 181 = .ok (.ifCond .lt 35, 3) := dk_155 0 35 (dk_at dksX2_go_7 21 rfl rfl)
theorem dX2_go_184 : decode cX2_go 184 = .ok (.aload 13, 2) := dk_25 13 (dk_at dksX2_go_8 0 rfl rfl)
theorem dX2_go_186 : decode cX2_go 186 = .ok (.invokevirtual 87, 3) := dk_182 0 87 (dk_at dksX2_go_8 2 rfl rfl)
theorem dX2_go_189 : decode cX2_go 189 = .ok (.iconst 1, 1) := dk_4 (dk_at dksX2_go_8 5 rfl rfl)
theorem dX2_go_190 : decode cX2_go 190 = .ok (.if_icmp .le 26, 3) := dk_164 0 26 (dk_at dksX2_go_8 6 rfl rfl)
theorem dX2_go_193 : decode cX2_go 193 = .ok (.aload_n 0, 1) := dk_42 (dk_at dksX2_go_8 9 rfl rfl)
theorem dX2_go_194 : decode cX2_go 194 = .ok (.iload_n 1, 1) := dk_27 (dk_at dksX2_go_8 10 rfl rfl)
theorem dX2_go_195 : decode cX2_go 195 = .ok (.iload 9, 2) := dk_21 9 (dk_at dksX2_go_8 11 rfl rfl)
theorem dX2_go_197 : decode cX2_go 197 = .ok (.aload 13, 2) := dk_25 13 (dk_at dksX2_go_8 13 rfl rfl)
theorem dX2_go_199 : decode cX2_go 199 = .ok (.iload 7, 2) := dk_21 7 (dk_at dksX2_go_8 15 rfl rfl)
theorem dX2_go_201 : decode cX2_go 201 = .ok (.lload 10, 2) := dk_22 10 (dk_at dksX2_go_8 17 rfl rfl)
theorem dX2_go_203 : decode cX2_go 203 = .ok (.aload 13, 2) := dk_25 13 (dk_at dksX2_go_8 19 rfl rfl)
theorem dX2_go_205 : decode cX2_go 205 = .ok (.invokevirtual 87, 3) := dk_182 0 87 (dk_at dksX2_go_8 21 rfl rfl)
theorem dX2_go_208 : decode cX2_go 208 = .ok (.i2l, 1) := dk_133 (dk_at dksX2_go_9 0 rfl rfl)
theorem dX2_go_209 : decode cX2_go 209 = .ok (.lmul, 1) := dk_105 (dk_at dksX2_go_9 1 rfl rfl)
theorem dX2_go_210 : decode cX2_go 210 = .ok (.iload 8, 2) := dk_21 8 (dk_at dksX2_go_9 2 rfl rfl)
theorem dX2_go_212 : decode cX2_go 212 = .ok (.invokevirtual 90, 3) := dk_182 0 90 (dk_at dksX2_go_9 4 rfl rfl)
theorem dX2_go_215 : decode cX2_go 215 = .ok (.return_, 1) := dk_177 (dk_at dksX2_go_9 7 rfl rfl)
theorem dX2_go_216 : decode cX2_go 216 = .ok (.aload_n 0, 1) := dk_42 (dk_at dksX2_go_9 8 rfl rfl)
theorem dX2_go_217 : decode cX2_go 217 = .ok (.iload_n 1, 1) := dk_27 (dk_at dksX2_go_9 9 rfl rfl)
theorem dX2_go_218 : decode cX2_go 218 = .ok (.aload 13, 2) := dk_25 13 (dk_at dksX2_go_9 10 rfl rfl)
theorem dX2_go_220 : decode cX2_go 220 = .ok (.invokevirtual 94, 3) := dk_182 0 94 (dk_at dksX2_go_9 12 rfl rfl)
theorem dX2_go_223 : decode cX2_go 223 = .ok (.iload 8, 2) := dk_21 8 (dk_at dksX2_go_9 15 rfl rfl)
theorem dX2_go_225 : decode cX2_go 225 = .ok (.ifCond .ge 7, 3) := dk_156 0 7 (dk_at dksX2_go_9 17 rfl rfl)
theorem dX2_go_228 : decode cX2_go 228 = .ok (.iconst (-1), 1) := dk_2 (dk_at dksX2_go_9 20 rfl rfl)
theorem dX2_go_229 : decode cX2_go 229 = .ok (.goto 11, 3) := dk_167 0 11 (dk_at dksX2_go_9 21 rfl rfl)
theorem dX2_go_232 : decode cX2_go 232 = .ok (.aload 13, 2) := dk_25 13 (dk_at dksX2_go_10 0 rfl rfl)
theorem dX2_go_234 : decode cX2_go 234 = .ok (.iload 8, 2) := dk_21 8 (dk_at dksX2_go_10 2 rfl rfl)
theorem dX2_go_236 : decode cX2_go 236 = .ok (.iconst 0, 1) := dk_3 (dk_at dksX2_go_10 4 rfl rfl)
theorem dX2_go_237 : decode cX2_go 237 = .ok (.invokevirtual 98, 3) := dk_182 0 98 (dk_at dksX2_go_10 5 rfl rfl)
theorem dX2_go_240 : decode cX2_go 240 = .ok (.istore 8, 2) := dk_54 8 (dk_at dksX2_go_10 8 rfl rfl)
theorem dX2_go_242 : decode cX2_go 242 = .ok (.lload 10, 2) := dk_22 10 (dk_at dksX2_go_10 10 rfl rfl)
theorem dX2_go_244 : decode cX2_go 244 = .ok (.aload 13, 2) := dk_25 13 (dk_at dksX2_go_10 12 rfl rfl)
theorem dX2_go_246 : decode cX2_go 246 = .ok (.invokevirtual 87, 3) := dk_182 0 87 (dk_at dksX2_go_10 14 rfl rfl)
theorem dX2_go_249 : decode cX2_go 249 = .ok (.i2l, 1) := dk_133 (dk_at dksX2_go_10 17 rfl rfl)
theorem dX2_go_250 : decode cX2_go 250 = .ok (.lmul, 1) := dk_105 (dk_at dksX2_go_10 18 rfl rfl)
theorem dX2_go_251 : decode cX2_go 251 = .ok (.lstore 10, 2) := dk_55 10 (dk_at dksX2_go_10 19 rfl rfl)
theorem dX2_go_253 : decode cX2_go 253 = .ok (.goto 112, 3) := dk_167 0 112 (dk_at dksX2_go_10 21 rfl rfl)
theorem dX2_go_256 : decode cX2_go 256 = .ok (.aload 12, 2) := dk_25 12 (dk_at dksX2_go_11 0 rfl rfl)
theorem dX2_go_258 : decode cX2_go 258 = .ok (.instanceof 102, 3) := dk_193 0 102 (dk_at dksX2_go_11 2 rfl rfl)
theorem dX2_go_261 : decode cX2_go 261 = .ok (.ifCond .eq 22, 3) := dk_153 0 22 (dk_at dksX2_go_11 5 rfl rfl)
theorem dX2_go_264 : decode cX2_go 264 = .ok (.aload_n 0, 1) := dk_42 (dk_at dksX2_go_11 8 rfl rfl)
theorem dX2_go_265 : decode cX2_go 265 = .ok (.iload_n 1, 1) := dk_27 (dk_at dksX2_go_11 9 rfl rfl)
theorem dX2_go_266 : decode cX2_go 266 = .ok (.iload 9, 2) := dk_21 9 (dk_at dksX2_go_11 10 rfl rfl)
theorem dX2_go_268 : decode cX2_go 268 = .ok (.aload 12, 2) := dk_25 12 (dk_at dksX2_go_11 12 rfl rfl)
theorem dX2_go_270 : decode cX2_go 270 = .ok (.checkcast 102, 3) := dk_192 0 102 (dk_at dksX2_go_11 14 rfl rfl)
theorem dX2_go_273 : decode cX2_go 273 = .ok (.iload 7, 2) := dk_21 7 (dk_at dksX2_go_11 17 rfl rfl)
theorem dX2_go_275 : decode cX2_go 275 = .ok (.lload 10, 2) := dk_22 10 (dk_at dksX2_go_11 19 rfl rfl)
theorem dX2_go_277 : decode cX2_go 277 = .ok (.iload 8, 2) := dk_21 8 (dk_at dksX2_go_11 21 rfl rfl)
theorem dX2_go_279 : decode cX2_go 279 = .ok (.invokevirtual 104, 3) := dk_182 0 104 (dk_at dksX2_go_12 0 rfl rfl)
theorem dX2_go_282 : decode cX2_go 282 = .ok (.return_, 1) := dk_177 (dk_at dksX2_go_12 3 rfl rfl)
theorem dX2_go_283 : decode cX2_go 283 = .ok (.aload 12, 2) := dk_25 12 (dk_at dksX2_go_12 4 rfl rfl)
theorem dX2_go_285 : decode cX2_go 285 = .ok (.instanceof 108, 3) := dk_193 0 108 (dk_at dksX2_go_12 6 rfl rfl)
theorem dX2_go_288 : decode cX2_go 288 = .ok (.ifCond .eq 51, 3) := dk_153 0 51 (dk_at dksX2_go_12 9 rfl rfl)
theorem dX2_go_291 : decode cX2_go 291 = .ok (.aload 12, 2) := dk_25 12 (dk_at dksX2_go_12 12 rfl rfl)
theorem dX2_go_293 : decode cX2_go 293 = .ok (.checkcast 108, 3) := dk_192 0 108 (dk_at dksX2_go_12 14 rfl rfl)
theorem dX2_go_296 : decode cX2_go 296 = .ok (.astore 13, 2) := dk_58 13 (dk_at dksX2_go_12 17 rfl rfl)
theorem dX2_go_298 : decode cX2_go 298 = .ok (.aload_n 0, 1) := dk_42 (dk_at dksX2_go_12 19 rfl rfl)
theorem dX2_go_299 : decode cX2_go 299 = .ok (.getfield 3, 3) := dk_180 0 3 (dk_at dksX2_go_12 20 rfl rfl)
theorem dX2_go_302 : decode cX2_go 302 = .ok (.getfield 46, 3) := dk_180 0 46 (dk_at dksX2_go_13 0 rfl rfl)
theorem dX2_go_305 : decode cX2_go 305 = .ok (.iload_n 1, 1) := dk_27 (dk_at dksX2_go_13 3 rfl rfl)
theorem dX2_go_306 : decode cX2_go 306 = .ok (.aaload, 1) := dk_50 (dk_at dksX2_go_13 4 rfl rfl)
theorem dX2_go_307 : decode cX2_go 307 = .ok (.aload 13, 2) := dk_25 13 (dk_at dksX2_go_13 5 rfl rfl)
theorem dX2_go_309 : decode cX2_go 309 = .ok (.getfield 110, 3) := dk_180 0 110 (dk_at dksX2_go_13 7 rfl rfl)
theorem dX2_go_312 : decode cX2_go 312 = .ok (.iaload, 1) := dk_46 (dk_at dksX2_go_13 10 rfl rfl)
theorem dX2_go_313 : decode cX2_go 313 = .ok (.aload 13, 2) := dk_25 13 (dk_at dksX2_go_13 11 rfl rfl)
theorem dX2_go_315 : decode cX2_go 315 = .ok (.getfield 113, 3) := dk_180 0 113 (dk_at dksX2_go_13 13 rfl rfl)
theorem dX2_go_318 : decode cX2_go 318 = .ok (.ifCond .eq 7, 3) := dk_153 0 7 (dk_at dksX2_go_13 16 rfl rfl)
theorem dX2_go_321 : decode cX2_go 321 = .ok (.iconst 1, 1) := dk_4 (dk_at dksX2_go_13 19 rfl rfl)
theorem dX2_go_322 : decode cX2_go 322 = .ok (.goto 4, 3) := dk_167 0 4 (dk_at dksX2_go_13 20 rfl rfl)
theorem dX2_go_325 : decode cX2_go 325 = .ok (.iconst 0, 1) := dk_3 (dk_at dksX2_go_13 23 rfl rfl)
theorem dX2_go_326 : decode cX2_go 326 = .ok (.if_icmp .ne 10, 3) := dk_160 0 10 (dk_at dksX2_go_14 0 rfl rfl)
theorem dX2_go_329 : decode cX2_go 329 = .ok (.aload 13, 2) := dk_25 13 (dk_at dksX2_go_14 3 rfl rfl)
theorem dX2_go_331 : decode cX2_go 331 = .ok (.getfield 117, 3) := dk_180 0 117 (dk_at dksX2_go_14 5 rfl rfl)
theorem dX2_go_334 : decode cX2_go 334 = .ok (.istore 9, 2) := dk_54 9 (dk_at dksX2_go_14 8 rfl rfl)
theorem dX2_go_336 : decode cX2_go 336 = .ok (.goto 29, 3) := dk_167 0 29 (dk_at dksX2_go_14 10 rfl rfl)
theorem dX2_go_339 : decode cX2_go 339 = .ok (.aload 12, 2) := dk_25 12 (dk_at dksX2_go_14 13 rfl rfl)
theorem dX2_go_341 : decode cX2_go 341 = .ok (.instanceof 120, 3) := dk_193 0 120 (dk_at dksX2_go_14 15 rfl rfl)
theorem dX2_go_344 : decode cX2_go 344 = .ok (.ifCond .ne 11, 3) := dk_154 0 11 (dk_at dksX2_go_14 18 rfl rfl)
theorem dX2_go_347 : decode cX2_go 347 = .ok (.aload 12, 2) := dk_25 12 (dk_at dksX2_go_14 21 rfl rfl)
theorem dX2_go_349 : decode cX2_go 349 = .ok (.instanceof 122, 3) := dk_193 0 122 (dk_at dksX2_go_15 0 rfl rfl)
theorem dX2_go_352 : decode cX2_go 352 = .ok (.ifCond .eq 13, 3) := dk_153 0 13 (dk_at dksX2_go_15 3 rfl rfl)
theorem dX2_go_355 : decode cX2_go 355 = .ok (.aload_n 0, 1) := dk_42 (dk_at dksX2_go_15 6 rfl rfl)
theorem dX2_go_356 : decode cX2_go 356 = .ok (.iload_n 1, 1) := dk_27 (dk_at dksX2_go_15 7 rfl rfl)
theorem dX2_go_357 : decode cX2_go 357 = .ok (.aload 12, 2) := dk_25 12 (dk_at dksX2_go_15 8 rfl rfl)
theorem dX2_go_359 : decode cX2_go 359 = .ok (.lload 10, 2) := dk_22 10 (dk_at dksX2_go_15 10 rfl rfl)
theorem dX2_go_361 : decode cX2_go 361 = .ok (.invokevirtual 124, 3) := dk_182 0 124 (dk_at dksX2_go_15 12 rfl rfl)
theorem dX2_go_364 : decode cX2_go 364 = .ok (.return_, 1) := dk_177 (dk_at dksX2_go_15 15 rfl rfl)
theorem dX2_go_365 : decode cX2_go 365 = .ok (.iinc 9 1, 3) := dk_132 9 1 (dk_at dksX2_go_15 16 rfl rfl)
theorem dX2_go_368 : decode cX2_go 368 = .ok (.goto (-354), 3) := dk_167 254 158 (dk_at dksX2_go_15 19 rfl rfl)
theorem dX2_go_371 : decode cX2_go 371 = .ok (.aload_n 0, 1) := dk_42 (dk_at dksX2_go_15 22 rfl rfl)
theorem dX2_go_372 : decode cX2_go 372 = .ok (.invokevirtual 63, 3) := dk_182 0 63 (dk_at dksX2_go_16 0 rfl rfl)
theorem dX2_go_375 : decode cX2_go 375 = .ok (.ifCond .ne 11, 3) := dk_154 0 11 (dk_at dksX2_go_16 3 rfl rfl)
theorem dX2_go_378 : decode cX2_go 378 = .ok (.aload_n 0, 1) := dk_42 (dk_at dksX2_go_16 6 rfl rfl)
theorem dX2_go_379 : decode cX2_go 379 = .ok (.iload_n 1, 1) := dk_27 (dk_at dksX2_go_16 7 rfl rfl)
theorem dX2_go_380 : decode cX2_go 380 = .ok (.aconst_null, 1) := dk_1 (dk_at dksX2_go_16 8 rfl rfl)
theorem dX2_go_381 : decode cX2_go 381 = .ok (.lload 10, 2) := dk_22 10 (dk_at dksX2_go_16 9 rfl rfl)
theorem dX2_go_383 : decode cX2_go 383 = .ok (.invokevirtual 124, 3) := dk_182 0 124 (dk_at dksX2_go_16 11 rfl rfl)
theorem dX2_go_386 : decode cX2_go 386 = .ok (.return_, 1) := dk_177 (dk_at dksX2_go_16 14 rfl rfl)
abbrev cX2_lay : ByteArray := prog_25_method_6_code
def yX2_lay : MethodName := ⟨RX2, "lay", "(ILBlindCards$Lay;I)V"⟩
def dkwX2_lay_5 : List UInt8 := [132, 6, 255, 167, 255, 187, 132, 4, 1, 167, 255, 134, 177]
abbrev dktX2_lay_5 : List UInt8 := dkwX2_lay_5 ++ []
def dkwX2_lay_4 : List UInt8 := [47, 80, 42, 180, 0, 3, 180, 0, 32, 27, 50, 17, 1, 0, 21, 4, 104, 21, 6, 96, 9, 80]
abbrev dktX2_lay_4 : List UInt8 := dkwX2_lay_4 ++ dktX2_lay_5
def dkwX2_lay_3 : List UInt8 := [21, 6, 21, 5, 128, 96, 42, 180, 0, 3, 180, 0, 32, 27, 50, 17, 1, 0, 21, 4, 104, 21, 6, 96]
abbrev dktX2_lay_3 : List UInt8 := dkwX2_lay_3 ++ dktX2_lay_4
def dkwX2_lay_2 : List UInt8 := [100, 54, 6, 21, 6, 155, 0, 70, 42, 180, 0, 3, 180, 0, 32, 27, 50, 17, 1, 0, 21, 4, 104]
abbrev dktX2_lay_2 : List UInt8 := dkwX2_lay_2 ++ dktX2_lay_3
def dkwX2_lay_1 : List UInt8 := [180, 0, 15, 42, 180, 0, 128, 182, 0, 131, 54, 5, 21, 5, 154, 0, 6, 167, 0, 82, 4, 29, 120, 4]
abbrev dktX2_lay_1 : List UInt8 := dkwX2_lay_1 ++ dktX2_lay_2
def dkwX2_lay_0 : List UInt8 := [3, 54, 4, 21, 4, 42, 180, 0, 3, 180, 0, 36, 182, 0, 40, 162, 0, 113, 44, 29, 21, 4, 42]
abbrev dktX2_lay_0 : List UInt8 := dkwX2_lay_0 ++ dktX2_lay_1
theorem dksX2_lay_0 : cX2_lay.data.toList.drop 0 = dktX2_lay_0 := by decide +kernel
theorem dksX2_lay_1 : cX2_lay.data.toList.drop 23 = dktX2_lay_1 := dk_seg dksX2_lay_0 23 rfl rfl
theorem dksX2_lay_2 : cX2_lay.data.toList.drop 47 = dktX2_lay_2 := dk_seg dksX2_lay_1 24 rfl rfl
theorem dksX2_lay_3 : cX2_lay.data.toList.drop 70 = dktX2_lay_3 := dk_seg dksX2_lay_2 23 rfl rfl
theorem dksX2_lay_4 : cX2_lay.data.toList.drop 94 = dktX2_lay_4 := dk_seg dksX2_lay_3 24 rfl rfl
theorem dksX2_lay_5 : cX2_lay.data.toList.drop 116 = dktX2_lay_5 := dk_seg dksX2_lay_4 22 rfl rfl
theorem dX2_lay_0 : decode cX2_lay 0 = .ok (.iconst 0, 1) := dk_3 (dk_at dksX2_lay_0 0 rfl rfl)
theorem dX2_lay_1 : decode cX2_lay 1 = .ok (.istore 4, 2) := dk_54 4 (dk_at dksX2_lay_0 1 rfl rfl)
theorem dX2_lay_3 : decode cX2_lay 3 = .ok (.iload 4, 2) := dk_21 4 (dk_at dksX2_lay_0 3 rfl rfl)
theorem dX2_lay_5 : decode cX2_lay 5 = .ok (.aload_n 0, 1) := dk_42 (dk_at dksX2_lay_0 5 rfl rfl)
theorem dX2_lay_6 : decode cX2_lay 6 = .ok (.getfield 3, 3) := dk_180 0 3 (dk_at dksX2_lay_0 6 rfl rfl)
theorem dX2_lay_9 : decode cX2_lay 9 = .ok (.getfield 36, 3) := dk_180 0 36 (dk_at dksX2_lay_0 9 rfl rfl)
theorem dX2_lay_12 : decode cX2_lay 12 = .ok (.invokevirtual 40, 3) := dk_182 0 40 (dk_at dksX2_lay_0 12 rfl rfl)
theorem dX2_lay_15 : decode cX2_lay 15 = .ok (.if_icmp .ge 113, 3) := dk_162 0 113 (dk_at dksX2_lay_0 15 rfl rfl)
theorem dX2_lay_18 : decode cX2_lay 18 = .ok (.aload_n 2, 1) := dk_44 (dk_at dksX2_lay_0 18 rfl rfl)
theorem dX2_lay_19 : decode cX2_lay 19 = .ok (.iload_n 3, 1) := dk_29 (dk_at dksX2_lay_0 19 rfl rfl)
theorem dX2_lay_20 : decode cX2_lay 20 = .ok (.iload 4, 2) := dk_21 4 (dk_at dksX2_lay_0 20 rfl rfl)
theorem dX2_lay_22 : decode cX2_lay 22 = .ok (.aload_n 0, 1) := dk_42 (dk_at dksX2_lay_0 22 rfl rfl)
theorem dX2_lay_23 : decode cX2_lay 23 = .ok (.getfield 15, 3) := dk_180 0 15 (dk_at dksX2_lay_1 0 rfl rfl)
theorem dX2_lay_26 : decode cX2_lay 26 = .ok (.aload_n 0, 1) := dk_42 (dk_at dksX2_lay_1 3 rfl rfl)
theorem dX2_lay_27 : decode cX2_lay 27 = .ok (.getfield 128, 3) := dk_180 0 128 (dk_at dksX2_lay_1 4 rfl rfl)
theorem dX2_lay_30 : decode cX2_lay 30 = .ok (.invokevirtual 131, 3) := dk_182 0 131 (dk_at dksX2_lay_1 7 rfl rfl)
theorem dX2_lay_33 : decode cX2_lay 33 = .ok (.istore 5, 2) := dk_54 5 (dk_at dksX2_lay_1 10 rfl rfl)
theorem dX2_lay_35 : decode cX2_lay 35 = .ok (.iload 5, 2) := dk_21 5 (dk_at dksX2_lay_1 12 rfl rfl)
theorem dX2_lay_37 : decode cX2_lay 37 = .ok (.ifCond .ne 6, 3) := dk_154 0 6 (dk_at dksX2_lay_1 14 rfl rfl)
theorem dX2_lay_40 : decode cX2_lay 40 = .ok (.goto 82, 3) := dk_167 0 82 (dk_at dksX2_lay_1 17 rfl rfl)
theorem dX2_lay_43 : decode cX2_lay 43 = .ok (.iconst 1, 1) := dk_4 (dk_at dksX2_lay_1 20 rfl rfl)
theorem dX2_lay_44 : decode cX2_lay 44 = .ok (.iload_n 3, 1) := dk_29 (dk_at dksX2_lay_1 21 rfl rfl)
theorem dX2_lay_45 : decode cX2_lay 45 = .ok (.ishl, 1) := dk_120 (dk_at dksX2_lay_1 22 rfl rfl)
theorem dX2_lay_46 : decode cX2_lay 46 = .ok (.iconst 1, 1) := dk_4 (dk_at dksX2_lay_1 23 rfl rfl)
theorem dX2_lay_47 : decode cX2_lay 47 = .ok (.isub, 1) := dk_100 (dk_at dksX2_lay_2 0 rfl rfl)
theorem dX2_lay_48 : decode cX2_lay 48 = .ok (.istore 6, 2) := dk_54 6 (dk_at dksX2_lay_2 1 rfl rfl)
theorem dX2_lay_50 : decode cX2_lay 50 = .ok (.iload 6, 2) := dk_21 6 (dk_at dksX2_lay_2 3 rfl rfl)
theorem dX2_lay_52 : decode cX2_lay 52 = .ok (.ifCond .lt 70, 3) := dk_155 0 70 (dk_at dksX2_lay_2 5 rfl rfl)
theorem dX2_lay_55 : decode cX2_lay 55 = .ok (.aload_n 0, 1) := dk_42 (dk_at dksX2_lay_2 8 rfl rfl)
theorem dX2_lay_56 : decode cX2_lay 56 = .ok (.getfield 3, 3) := dk_180 0 3 (dk_at dksX2_lay_2 9 rfl rfl)
theorem dX2_lay_59 : decode cX2_lay 59 = .ok (.getfield 32, 3) := dk_180 0 32 (dk_at dksX2_lay_2 12 rfl rfl)
theorem dX2_lay_62 : decode cX2_lay 62 = .ok (.iload_n 1, 1) := dk_27 (dk_at dksX2_lay_2 15 rfl rfl)
theorem dX2_lay_63 : decode cX2_lay 63 = .ok (.aaload, 1) := dk_50 (dk_at dksX2_lay_2 16 rfl rfl)
theorem dX2_lay_64 : decode cX2_lay 64 = .ok (.sipush 256, 3) := dk_17 1 0 (dk_at dksX2_lay_2 17 rfl rfl)
theorem dX2_lay_67 : decode cX2_lay 67 = .ok (.iload 4, 2) := dk_21 4 (dk_at dksX2_lay_2 20 rfl rfl)
theorem dX2_lay_69 : decode cX2_lay 69 = .ok (.imul, 1) := dk_104 (dk_at dksX2_lay_2 22 rfl rfl)
theorem dX2_lay_70 : decode cX2_lay 70 = .ok (.iload 6, 2) := dk_21 6 (dk_at dksX2_lay_3 0 rfl rfl)
theorem dX2_lay_72 : decode cX2_lay 72 = .ok (.iload 5, 2) := dk_21 5 (dk_at dksX2_lay_3 2 rfl rfl)
theorem dX2_lay_74 : decode cX2_lay 74 = .ok (.ior, 1) := dk_128 (dk_at dksX2_lay_3 4 rfl rfl)
theorem dX2_lay_75 : decode cX2_lay 75 = .ok (.iadd, 1) := dk_96 (dk_at dksX2_lay_3 5 rfl rfl)
theorem dX2_lay_76 : decode cX2_lay 76 = .ok (.aload_n 0, 1) := dk_42 (dk_at dksX2_lay_3 6 rfl rfl)
theorem dX2_lay_77 : decode cX2_lay 77 = .ok (.getfield 3, 3) := dk_180 0 3 (dk_at dksX2_lay_3 7 rfl rfl)
theorem dX2_lay_80 : decode cX2_lay 80 = .ok (.getfield 32, 3) := dk_180 0 32 (dk_at dksX2_lay_3 10 rfl rfl)
theorem dX2_lay_83 : decode cX2_lay 83 = .ok (.iload_n 1, 1) := dk_27 (dk_at dksX2_lay_3 13 rfl rfl)
theorem dX2_lay_84 : decode cX2_lay 84 = .ok (.aaload, 1) := dk_50 (dk_at dksX2_lay_3 14 rfl rfl)
theorem dX2_lay_85 : decode cX2_lay 85 = .ok (.sipush 256, 3) := dk_17 1 0 (dk_at dksX2_lay_3 15 rfl rfl)
theorem dX2_lay_88 : decode cX2_lay 88 = .ok (.iload 4, 2) := dk_21 4 (dk_at dksX2_lay_3 18 rfl rfl)
theorem dX2_lay_90 : decode cX2_lay 90 = .ok (.imul, 1) := dk_104 (dk_at dksX2_lay_3 20 rfl rfl)
theorem dX2_lay_91 : decode cX2_lay 91 = .ok (.iload 6, 2) := dk_21 6 (dk_at dksX2_lay_3 21 rfl rfl)
theorem dX2_lay_93 : decode cX2_lay 93 = .ok (.iadd, 1) := dk_96 (dk_at dksX2_lay_3 23 rfl rfl)
theorem dX2_lay_94 : decode cX2_lay 94 = .ok (.laload, 1) := dk_47 (dk_at dksX2_lay_4 0 rfl rfl)
theorem dX2_lay_95 : decode cX2_lay 95 = .ok (.lastore, 1) := dk_80 (dk_at dksX2_lay_4 1 rfl rfl)
theorem dX2_lay_96 : decode cX2_lay 96 = .ok (.aload_n 0, 1) := dk_42 (dk_at dksX2_lay_4 2 rfl rfl)
theorem dX2_lay_97 : decode cX2_lay 97 = .ok (.getfield 3, 3) := dk_180 0 3 (dk_at dksX2_lay_4 3 rfl rfl)
theorem dX2_lay_100 : decode cX2_lay 100 = .ok (.getfield 32, 3) := dk_180 0 32 (dk_at dksX2_lay_4 6 rfl rfl)
theorem dX2_lay_103 : decode cX2_lay 103 = .ok (.iload_n 1, 1) := dk_27 (dk_at dksX2_lay_4 9 rfl rfl)
theorem dX2_lay_104 : decode cX2_lay 104 = .ok (.aaload, 1) := dk_50 (dk_at dksX2_lay_4 10 rfl rfl)
theorem dX2_lay_105 : decode cX2_lay 105 = .ok (.sipush 256, 3) := dk_17 1 0 (dk_at dksX2_lay_4 11 rfl rfl)
theorem dX2_lay_108 : decode cX2_lay 108 = .ok (.iload 4, 2) := dk_21 4 (dk_at dksX2_lay_4 14 rfl rfl)
theorem dX2_lay_110 : decode cX2_lay 110 = .ok (.imul, 1) := dk_104 (dk_at dksX2_lay_4 16 rfl rfl)
theorem dX2_lay_111 : decode cX2_lay 111 = .ok (.iload 6, 2) := dk_21 6 (dk_at dksX2_lay_4 17 rfl rfl)
theorem dX2_lay_113 : decode cX2_lay 113 = .ok (.iadd, 1) := dk_96 (dk_at dksX2_lay_4 19 rfl rfl)
theorem dX2_lay_114 : decode cX2_lay 114 = .ok (.lconst 0, 1) := dk_9 (dk_at dksX2_lay_4 20 rfl rfl)
theorem dX2_lay_115 : decode cX2_lay 115 = .ok (.lastore, 1) := dk_80 (dk_at dksX2_lay_4 21 rfl rfl)
theorem dX2_lay_116 : decode cX2_lay 116 = .ok (.iinc 6 (-1), 3) := dk_132 6 255 (dk_at dksX2_lay_5 0 rfl rfl)
theorem dX2_lay_119 : decode cX2_lay 119 = .ok (.goto (-69), 3) := dk_167 255 187 (dk_at dksX2_lay_5 3 rfl rfl)
theorem dX2_lay_122 : decode cX2_lay 122 = .ok (.iinc 4 1, 3) := dk_132 4 1 (dk_at dksX2_lay_5 6 rfl rfl)
theorem dX2_lay_125 : decode cX2_lay 125 = .ok (.goto (-122), 3) := dk_167 255 134 (dk_at dksX2_lay_5 9 rfl rfl)
theorem dX2_lay_128 : decode cX2_lay 128 = .ok (.return_, 1) := dk_177 (dk_at dksX2_lay_5 12 rfl rfl)
abbrev cX2_part : ByteArray := prog_25_method_8_code
def yX2_part : MethodName := ⟨RX2, "part", "(IILBlindCards$Move;IJI)V"⟩
def dkwX2_part_12 : List UInt8 := [27, 4, 96, 28, 4, 96, 21, 4, 22, 5, 21, 10, 182, 0, 50, 132, 8, 1, 167, 254, 218, 177]
abbrev dktX2_part_12 : List UInt8 := dkwX2_part_12 ++ []
def dkwX2_part_11 : List UInt8 := [180, 0, 46, 27, 50, 3, 42, 180, 0, 3, 180, 0, 46, 27, 4, 96, 50, 3, 16, 8, 184, 0, 142, 42]
abbrev dktX2_part_11 : List UInt8 := dkwX2_part_11 ++ dktX2_part_12
def dkwX2_part_10 : List UInt8 := [132, 12, 1, 167, 255, 148, 132, 11, 1, 167, 255, 74, 21, 9, 154, 0, 6, 167, 0, 46, 42, 180, 0, 3]
abbrev dktX2_part_10 : List UInt8 := dkwX2_part_10 ++ dktX2_part_11
def dkwX2_part_9 : List UInt8 := [180, 0, 32, 27, 50, 17, 1, 0, 21, 12, 104, 21, 13, 96, 47, 97, 80, 132, 13, 1, 167, 255, 172]
abbrev dktX2_part_9 : List UInt8 := dkwX2_part_9 ++ dktX2_part_10
def dkwX2_part_8 : List UInt8 := [96, 50, 17, 1, 0, 21, 12, 104, 45, 21, 13, 21, 11, 182, 0, 139, 96, 92, 47, 42, 180, 0, 3]
abbrev dktX2_part_8 : List UInt8 := dkwX2_part_8 ++ dktX2_part_9
def dkwX2_part_7 : List UInt8 := [17, 1, 0, 21, 12, 104, 21, 13, 96, 47, 9, 148, 158, 0, 52, 42, 180, 0, 3, 180, 0, 32, 27, 4]
abbrev dktX2_part_7 : List UInt8 := dkwX2_part_7 ++ dktX2_part_8
def dkwX2_part_6 : List UInt8 := [162, 0, 99, 3, 54, 13, 21, 13, 17, 1, 0, 162, 0, 82, 42, 180, 0, 3, 180, 0, 32, 27, 50]
abbrev dktX2_part_6 : List UInt8 := dkwX2_part_6 ++ dktX2_part_7
def dkwX2_part_5 : List UInt8 := [21, 11, 182, 0, 98, 54, 10, 3, 54, 12, 21, 12, 42, 180, 0, 3, 180, 0, 36, 182, 0, 40]
abbrev dktX2_part_5 : List UInt8 := dkwX2_part_5 ++ dktX2_part_6
def dkwX2_part_4 : List UInt8 := [21, 8, 159, 0, 6, 167, 0, 139, 4, 54, 9, 21, 7, 156, 0, 7, 2, 167, 0, 11, 45, 21, 7]
abbrev dktX2_part_4 : List UInt8 := dkwX2_part_4 ++ dktX2_part_5
def dkwX2_part_3 : List UInt8 := [180, 0, 22, 160, 0, 13, 21, 11, 21, 8, 159, 0, 22, 167, 0, 155, 45, 21, 7, 21, 11, 182, 0, 98]
abbrev dktX2_part_3 : List UInt8 := dkwX2_part_3 ++ dktX2_part_4
def dkwX2_part_2 : List UInt8 := [132, 10, 1, 167, 255, 230, 2, 54, 10, 3, 54, 11, 21, 11, 45, 182, 0, 87, 162, 0, 179, 28, 42]
abbrev dktX2_part_2 : List UInt8 := dkwX2_part_2 ++ dktX2_part_3
def dkwX2_part_1 : List UInt8 := [21, 10, 17, 8, 0, 162, 0, 24, 42, 180, 0, 3, 180, 0, 32, 27, 4, 96, 50, 21, 10, 9, 80]
abbrev dktX2_part_1 : List UInt8 := dkwX2_part_1 ++ dktX2_part_2
def dkwX2_part_0 : List UInt8 := [3, 54, 8, 21, 8, 45, 182, 0, 87, 16, 8, 184, 0, 148, 162, 1, 30, 3, 54, 9, 3, 54, 10]
abbrev dktX2_part_0 : List UInt8 := dkwX2_part_0 ++ dktX2_part_1
theorem dksX2_part_0 : cX2_part.data.toList.drop 0 = dktX2_part_0 := by decide +kernel
theorem dksX2_part_1 : cX2_part.data.toList.drop 23 = dktX2_part_1 := dk_seg dksX2_part_0 23 rfl rfl
theorem dksX2_part_2 : cX2_part.data.toList.drop 46 = dktX2_part_2 := dk_seg dksX2_part_1 23 rfl rfl
theorem dksX2_part_3 : cX2_part.data.toList.drop 69 = dktX2_part_3 := dk_seg dksX2_part_2 23 rfl rfl
theorem dksX2_part_4 : cX2_part.data.toList.drop 93 = dktX2_part_4 := dk_seg dksX2_part_3 24 rfl rfl
theorem dksX2_part_5 : cX2_part.data.toList.drop 116 = dktX2_part_5 := dk_seg dksX2_part_4 23 rfl rfl
theorem dksX2_part_6 : cX2_part.data.toList.drop 138 = dktX2_part_6 := dk_seg dksX2_part_5 22 rfl rfl
theorem dksX2_part_7 : cX2_part.data.toList.drop 161 = dktX2_part_7 := dk_seg dksX2_part_6 23 rfl rfl
theorem dksX2_part_8 : cX2_part.data.toList.drop 185 = dktX2_part_8 := dk_seg dksX2_part_7 24 rfl rfl
theorem dksX2_part_9 : cX2_part.data.toList.drop 208 = dktX2_part_9 := dk_seg dksX2_part_8 23 rfl rfl
theorem dksX2_part_10 : cX2_part.data.toList.drop 231 = dktX2_part_10 := dk_seg dksX2_part_9 23 rfl rfl
theorem dksX2_part_11 : cX2_part.data.toList.drop 255 = dktX2_part_11 := dk_seg dksX2_part_10 24 rfl rfl
theorem dksX2_part_12 : cX2_part.data.toList.drop 279 = dktX2_part_12 := dk_seg dksX2_part_11 24 rfl rfl
theorem dX2_part_0 : decode cX2_part 0 = .ok (.iconst 0, 1) := dk_3 (dk_at dksX2_part_0 0 rfl rfl)
theorem dX2_part_1 : decode cX2_part 1 = .ok (.istore 8, 2) := dk_54 8 (dk_at dksX2_part_0 1 rfl rfl)
theorem dX2_part_3 : decode cX2_part 3 = .ok (.iload 8, 2) := dk_21 8 (dk_at dksX2_part_0 3 rfl rfl)
theorem dX2_part_5 : decode cX2_part 5 = .ok (.aload_n 3, 1) := dk_45 (dk_at dksX2_part_0 5 rfl rfl)
theorem dX2_part_6 : decode cX2_part 6 = .ok (.invokevirtual 87, 3) := dk_182 0 87 (dk_at dksX2_part_0 6 rfl rfl)
theorem dX2_part_9 : decode cX2_part 9 = .ok (.bipush 8, 2) := dk_16 8 (dk_at dksX2_part_0 9 rfl rfl)
theorem dX2_part_11 : decode cX2_part 11 = .ok (.invokestatic 148, 3) := dk_184 0 148 (dk_at dksX2_part_0 11 rfl rfl)
theorem dX2_part_14 : decode cX2_part 14 = .ok (.if_icmp .ge 286, 3) := dk_162 1 30 (dk_at dksX2_part_0 14 rfl rfl)
theorem dX2_part_17 : decode cX2_part 17 = .ok (.iconst 0, 1) := dk_3 (dk_at dksX2_part_0 17 rfl rfl)
theorem dX2_part_18 : decode cX2_part 18 = .ok (.istore 9, 2) := dk_54 9 (dk_at dksX2_part_0 18 rfl rfl)
theorem dX2_part_20 : decode cX2_part 20 = .ok (.iconst 0, 1) := dk_3 (dk_at dksX2_part_0 20 rfl rfl)
theorem dX2_part_21 : decode cX2_part 21 = .ok (.istore 10, 2) := dk_54 10 (dk_at dksX2_part_0 21 rfl rfl)
theorem dX2_part_23 : decode cX2_part 23 = .ok (.iload 10, 2) := dk_21 10 (dk_at dksX2_part_1 0 rfl rfl)
theorem dX2_part_25 : decode cX2_part 25 = .ok (.sipush 2048, 3) := dk_17 8 0 (dk_at dksX2_part_1 2 rfl rfl)
theorem dX2_part_28 : decode cX2_part 28 = .ok (.if_icmp .ge 24, 3) := dk_162 0 24 (dk_at dksX2_part_1 5 rfl rfl)
theorem dX2_part_31 : decode cX2_part 31 = .ok (.aload_n 0, 1) := dk_42 (dk_at dksX2_part_1 8 rfl rfl)
theorem dX2_part_32 : decode cX2_part 32 = .ok (.getfield 3, 3) := dk_180 0 3 (dk_at dksX2_part_1 9 rfl rfl)
theorem dX2_part_35 : decode cX2_part 35 = .ok (.getfield 32, 3) := dk_180 0 32 (dk_at dksX2_part_1 12 rfl rfl)
theorem dX2_part_38 : decode cX2_part 38 = .ok (.iload_n 1, 1) := dk_27 (dk_at dksX2_part_1 15 rfl rfl)
theorem dX2_part_39 : decode cX2_part 39 = .ok (.iconst 1, 1) := dk_4 (dk_at dksX2_part_1 16 rfl rfl)
theorem dX2_part_40 : decode cX2_part 40 = .ok (.iadd, 1) := dk_96 (dk_at dksX2_part_1 17 rfl rfl)
theorem dX2_part_41 : decode cX2_part 41 = .ok (.aaload, 1) := dk_50 (dk_at dksX2_part_1 18 rfl rfl)
theorem dX2_part_42 : decode cX2_part 42 = .ok (.iload 10, 2) := dk_21 10 (dk_at dksX2_part_1 19 rfl rfl)
theorem dX2_part_44 : decode cX2_part 44 = .ok (.lconst 0, 1) := dk_9 (dk_at dksX2_part_1 21 rfl rfl)
theorem dX2_part_45 : decode cX2_part 45 = .ok (.lastore, 1) := dk_80 (dk_at dksX2_part_1 22 rfl rfl)
theorem dX2_part_46 : decode cX2_part 46 = .ok (.iinc 10 1, 3) := dk_132 10 1 (dk_at dksX2_part_2 0 rfl rfl)
theorem dX2_part_49 : decode cX2_part 49 = .ok (.goto (-26), 3) := dk_167 255 230 (dk_at dksX2_part_2 3 rfl rfl)
theorem dX2_part_52 : decode cX2_part 52 = .ok (.iconst (-1), 1) := dk_2 (dk_at dksX2_part_2 6 rfl rfl)
theorem dX2_part_53 : decode cX2_part 53 = .ok (.istore 10, 2) := dk_54 10 (dk_at dksX2_part_2 7 rfl rfl)
theorem dX2_part_55 : decode cX2_part 55 = .ok (.iconst 0, 1) := dk_3 (dk_at dksX2_part_2 9 rfl rfl)
theorem dX2_part_56 : decode cX2_part 56 = .ok (.istore 11, 2) := dk_54 11 (dk_at dksX2_part_2 10 rfl rfl)
theorem dX2_part_58 : decode cX2_part 58 = .ok (.iload 11, 2) := dk_21 11 (dk_at dksX2_part_2 12 rfl rfl)
theorem dX2_part_60 : decode cX2_part 60 = .ok (.aload_n 3, 1) := dk_45 (dk_at dksX2_part_2 14 rfl rfl)
theorem dX2_part_61 : decode cX2_part 61 = .ok (.invokevirtual 87, 3) := dk_182 0 87 (dk_at dksX2_part_2 15 rfl rfl)
theorem dX2_part_64 : decode cX2_part 64 = .ok (.if_icmp .ge 179, 3) := dk_162 0 179 (dk_at dksX2_part_2 18 rfl rfl)
theorem dX2_part_67 : decode cX2_part 67 = .ok (.iload_n 2, 1) := dk_28 (dk_at dksX2_part_2 21 rfl rfl)
theorem dX2_part_68 : decode cX2_part 68 = .ok (.aload_n 0, 1) := dk_42 (dk_at dksX2_part_2 22 rfl rfl)
theorem dX2_part_69 : decode cX2_part 69 = .ok (.getfield 22, 3) := dk_180 0 22 (dk_at dksX2_part_3 0 rfl rfl)
theorem dX2_part_72 : decode cX2_part 72 = .ok (.if_icmp .ne 13, 3) := dk_160 0 13 (dk_at dksX2_part_3 3 rfl rfl)
theorem dX2_part_75 : decode cX2_part 75 = .ok (.iload 11, 2) := dk_21 11 (dk_at dksX2_part_3 6 rfl rfl)
theorem dX2_part_77 : decode cX2_part 77 = .ok (.iload 8, 2) := dk_21 8 (dk_at dksX2_part_3 8 rfl rfl)
theorem dX2_part_79 : decode cX2_part 79 = .ok (.if_icmp .eq 22, 3) := dk_159 0 22 (dk_at dksX2_part_3 10 rfl rfl)
theorem dX2_part_82 : decode cX2_part 82 = .ok (.goto 155, 3) := dk_167 0 155 (dk_at dksX2_part_3 13 rfl rfl)
theorem dX2_part_85 : decode cX2_part 85 = .ok (.aload_n 3, 1) := dk_45 (dk_at dksX2_part_3 16 rfl rfl)
theorem dX2_part_86 : decode cX2_part 86 = .ok (.iload 7, 2) := dk_21 7 (dk_at dksX2_part_3 17 rfl rfl)
theorem dX2_part_88 : decode cX2_part 88 = .ok (.iload 11, 2) := dk_21 11 (dk_at dksX2_part_3 19 rfl rfl)
theorem dX2_part_90 : decode cX2_part 90 = .ok (.invokevirtual 98, 3) := dk_182 0 98 (dk_at dksX2_part_3 21 rfl rfl)
theorem dX2_part_93 : decode cX2_part 93 = .ok (.iload 8, 2) := dk_21 8 (dk_at dksX2_part_4 0 rfl rfl)
theorem dX2_part_95 : decode cX2_part 95 = .ok (.if_icmp .eq 6, 3) := dk_159 0 6 (dk_at dksX2_part_4 2 rfl rfl)
theorem dX2_part_98 : decode cX2_part 98 = .ok (.goto 139, 3) := dk_167 0 139 (dk_at dksX2_part_4 5 rfl rfl)
theorem dX2_part_101 : decode cX2_part 101 = .ok (.iconst 1, 1) := dk_4 (dk_at dksX2_part_4 8 rfl rfl)
theorem dX2_part_102 : decode cX2_part 102 = .ok (.istore 9, 2) := dk_54 9 (dk_at dksX2_part_4 9 rfl rfl)
theorem dX2_part_104 : decode cX2_part 104 = .ok (.iload 7, 2) := dk_21 7 (dk_at dksX2_part_4 11 rfl rfl)
theorem dX2_part_106 : decode cX2_part 106 = .ok (.ifCond .ge 7, 3) := dk_156 0 7 (dk_at dksX2_part_4 13 rfl rfl)
theorem dX2_part_109 : decode cX2_part 109 = .ok (.iconst (-1), 1) := dk_2 (dk_at dksX2_part_4 16 rfl rfl)
theorem dX2_part_110 : decode cX2_part 110 = .ok (.goto 11, 3) := dk_167 0 11 (dk_at dksX2_part_4 17 rfl rfl)
theorem dX2_part_113 : decode cX2_part 113 = .ok (.aload_n 3, 1) := dk_45 (dk_at dksX2_part_4 20 rfl rfl)
theorem dX2_part_114 : decode cX2_part 114 = .ok (.iload 7, 2) := dk_21 7 (dk_at dksX2_part_4 21 rfl rfl)
theorem dX2_part_116 : decode cX2_part 116 = .ok (.iload 11, 2) := dk_21 11 (dk_at dksX2_part_5 0 rfl rfl)
theorem dX2_part_118 : decode cX2_part 118 = .ok (.invokevirtual 98, 3) := dk_182 0 98 (dk_at dksX2_part_5 2 rfl rfl)
theorem dX2_part_121 : decode cX2_part 121 = .ok (.istore 10, 2) := dk_54 10 (dk_at dksX2_part_5 5 rfl rfl)
theorem dX2_part_123 : decode cX2_part 123 = .ok (.iconst 0, 1) := dk_3 (dk_at dksX2_part_5 7 rfl rfl)
theorem dX2_part_124 : decode cX2_part 124 = .ok (.istore 12, 2) := dk_54 12 (dk_at dksX2_part_5 8 rfl rfl)
theorem dX2_part_126 : decode cX2_part 126 = .ok (.iload 12, 2) := dk_21 12 (dk_at dksX2_part_5 10 rfl rfl)
theorem dX2_part_128 : decode cX2_part 128 = .ok (.aload_n 0, 1) := dk_42 (dk_at dksX2_part_5 12 rfl rfl)
theorem dX2_part_129 : decode cX2_part 129 = .ok (.getfield 3, 3) := dk_180 0 3 (dk_at dksX2_part_5 13 rfl rfl)
theorem dX2_part_132 : decode cX2_part 132 = .ok (.getfield 36, 3) := dk_180 0 36 (dk_at dksX2_part_5 16 rfl rfl)
theorem dX2_part_135 : decode cX2_part 135 = .ok (.invokevirtual 40, 3) := dk_182 0 40 (dk_at dksX2_part_5 19 rfl rfl)
theorem dX2_part_138 : decode cX2_part 138 = .ok (.if_icmp .ge 99, 3) := dk_162 0 99 (dk_at dksX2_part_6 0 rfl rfl)
theorem dX2_part_141 : decode cX2_part 141 = .ok (.iconst 0, 1) := dk_3 (dk_at dksX2_part_6 3 rfl rfl)
theorem dX2_part_142 : decode cX2_part 142 = .ok (.istore 13, 2) := dk_54 13 (dk_at dksX2_part_6 4 rfl rfl)
theorem dX2_part_144 : decode cX2_part 144 = .ok (.iload 13, 2) := dk_21 13 (dk_at dksX2_part_6 6 rfl rfl)
theorem dX2_part_146 : decode cX2_part 146 = .ok (.sipush 256, 3) := dk_17 1 0 (dk_at dksX2_part_6 8 rfl rfl)
theorem dX2_part_149 : decode cX2_part 149 = .ok (.if_icmp .ge 82, 3) := dk_162 0 82 (dk_at dksX2_part_6 11 rfl rfl)
theorem dX2_part_152 : decode cX2_part 152 = .ok (.aload_n 0, 1) := dk_42 (dk_at dksX2_part_6 14 rfl rfl)
theorem dX2_part_153 : decode cX2_part 153 = .ok (.getfield 3, 3) := dk_180 0 3 (dk_at dksX2_part_6 15 rfl rfl)
theorem dX2_part_156 : decode cX2_part 156 = .ok (.getfield 32, 3) := dk_180 0 32 (dk_at dksX2_part_6 18 rfl rfl)
theorem dX2_part_159 : decode cX2_part 159 = .ok (.iload_n 1, 1) := dk_27 (dk_at dksX2_part_6 21 rfl rfl)
theorem dX2_part_160 : decode cX2_part 160 = .ok (.aaload, 1) := dk_50 (dk_at dksX2_part_6 22 rfl rfl)
theorem dX2_part_161 : decode cX2_part 161 = .ok (.sipush 256, 3) := dk_17 1 0 (dk_at dksX2_part_7 0 rfl rfl)
theorem dX2_part_164 : decode cX2_part 164 = .ok (.iload 12, 2) := dk_21 12 (dk_at dksX2_part_7 3 rfl rfl)
theorem dX2_part_166 : decode cX2_part 166 = .ok (.imul, 1) := dk_104 (dk_at dksX2_part_7 5 rfl rfl)
theorem dX2_part_167 : decode cX2_part 167 = .ok (.iload 13, 2) := dk_21 13 (dk_at dksX2_part_7 6 rfl rfl)
theorem dX2_part_169 : decode cX2_part 169 = .ok (.iadd, 1) := dk_96 (dk_at dksX2_part_7 8 rfl rfl)
theorem dX2_part_170 : decode cX2_part 170 = .ok (.laload, 1) := dk_47 (dk_at dksX2_part_7 9 rfl rfl)
theorem dX2_part_171 : decode cX2_part 171 = .ok (.lconst 0, 1) := dk_9 (dk_at dksX2_part_7 10 rfl rfl)
theorem dX2_part_172 : decode cX2_part 172 = .ok (.lcmp, 1) := dk_148 (dk_at dksX2_part_7 11 rfl rfl)
theorem dX2_part_173 : decode cX2_part 173 = .ok (.ifCond .le 52, 3) := dk_158 0 52 (dk_at dksX2_part_7 12 rfl rfl)
theorem dX2_part_176 : decode cX2_part 176 = .ok (.aload_n 0, 1) := dk_42 (dk_at dksX2_part_7 15 rfl rfl)
theorem dX2_part_177 : decode cX2_part 177 = .ok (.getfield 3, 3) := dk_180 0 3 (dk_at dksX2_part_7 16 rfl rfl)
theorem dX2_part_180 : decode cX2_part 180 = .ok (.getfield 32, 3) := dk_180 0 32 (dk_at dksX2_part_7 19 rfl rfl)
theorem dX2_part_183 : decode cX2_part 183 = .ok (.iload_n 1, 1) := dk_27 (dk_at dksX2_part_7 22 rfl rfl)
theorem dX2_part_184 : decode cX2_part 184 = .ok (.iconst 1, 1) := dk_4 (dk_at dksX2_part_7 23 rfl rfl)
theorem dX2_part_185 : decode cX2_part 185 = .ok (.iadd, 1) := dk_96 (dk_at dksX2_part_8 0 rfl rfl)
theorem dX2_part_186 : decode cX2_part 186 = .ok (.aaload, 1) := dk_50 (dk_at dksX2_part_8 1 rfl rfl)
theorem dX2_part_187 : decode cX2_part 187 = .ok (.sipush 256, 3) := dk_17 1 0 (dk_at dksX2_part_8 2 rfl rfl)
theorem dX2_part_190 : decode cX2_part 190 = .ok (.iload 12, 2) := dk_21 12 (dk_at dksX2_part_8 5 rfl rfl)
theorem dX2_part_192 : decode cX2_part 192 = .ok (.imul, 1) := dk_104 (dk_at dksX2_part_8 7 rfl rfl)
theorem dX2_part_193 : decode cX2_part 193 = .ok (.aload_n 3, 1) := dk_45 (dk_at dksX2_part_8 8 rfl rfl)
theorem dX2_part_194 : decode cX2_part 194 = .ok (.iload 13, 2) := dk_21 13 (dk_at dksX2_part_8 9 rfl rfl)
theorem dX2_part_196 : decode cX2_part 196 = .ok (.iload 11, 2) := dk_21 11 (dk_at dksX2_part_8 11 rfl rfl)
theorem dX2_part_198 : decode cX2_part 198 = .ok (.invokevirtual 139, 3) := dk_182 0 139 (dk_at dksX2_part_8 13 rfl rfl)
theorem dX2_part_201 : decode cX2_part 201 = .ok (.iadd, 1) := dk_96 (dk_at dksX2_part_8 16 rfl rfl)
theorem dX2_part_202 : decode cX2_part 202 = .ok (.dup2, 1) := dk_92 (dk_at dksX2_part_8 17 rfl rfl)
theorem dX2_part_203 : decode cX2_part 203 = .ok (.laload, 1) := dk_47 (dk_at dksX2_part_8 18 rfl rfl)
theorem dX2_part_204 : decode cX2_part 204 = .ok (.aload_n 0, 1) := dk_42 (dk_at dksX2_part_8 19 rfl rfl)
theorem dX2_part_205 : decode cX2_part 205 = .ok (.getfield 3, 3) := dk_180 0 3 (dk_at dksX2_part_8 20 rfl rfl)
theorem dX2_part_208 : decode cX2_part 208 = .ok (.getfield 32, 3) := dk_180 0 32 (dk_at dksX2_part_9 0 rfl rfl)
theorem dX2_part_211 : decode cX2_part 211 = .ok (.iload_n 1, 1) := dk_27 (dk_at dksX2_part_9 3 rfl rfl)
theorem dX2_part_212 : decode cX2_part 212 = .ok (.aaload, 1) := dk_50 (dk_at dksX2_part_9 4 rfl rfl)
theorem dX2_part_213 : decode cX2_part 213 = .ok (.sipush 256, 3) := dk_17 1 0 (dk_at dksX2_part_9 5 rfl rfl)
theorem dX2_part_216 : decode cX2_part 216 = .ok (.iload 12, 2) := dk_21 12 (dk_at dksX2_part_9 8 rfl rfl)
theorem dX2_part_218 : decode cX2_part 218 = .ok (.imul, 1) := dk_104 (dk_at dksX2_part_9 10 rfl rfl)
theorem dX2_part_219 : decode cX2_part 219 = .ok (.iload 13, 2) := dk_21 13 (dk_at dksX2_part_9 11 rfl rfl)
theorem dX2_part_221 : decode cX2_part 221 = .ok (.iadd, 1) := dk_96 (dk_at dksX2_part_9 13 rfl rfl)
theorem dX2_part_222 : decode cX2_part 222 = .ok (.laload, 1) := dk_47 (dk_at dksX2_part_9 14 rfl rfl)
theorem dX2_part_223 : decode cX2_part 223 = .ok (.ladd, 1) := dk_97 (dk_at dksX2_part_9 15 rfl rfl)
theorem dX2_part_224 : decode cX2_part 224 = .ok (.lastore, 1) := dk_80 (dk_at dksX2_part_9 16 rfl rfl)
theorem dX2_part_225 : decode cX2_part 225 = .ok (.iinc 13 1, 3) := dk_132 13 1 (dk_at dksX2_part_9 17 rfl rfl)
theorem dX2_part_228 : decode cX2_part 228 = .ok (.goto (-84), 3) := dk_167 255 172 (dk_at dksX2_part_9 20 rfl rfl)
theorem dX2_part_231 : decode cX2_part 231 = .ok (.iinc 12 1, 3) := dk_132 12 1 (dk_at dksX2_part_10 0 rfl rfl)
theorem dX2_part_234 : decode cX2_part 234 = .ok (.goto (-108), 3) := dk_167 255 148 (dk_at dksX2_part_10 3 rfl rfl)
theorem dX2_part_237 : decode cX2_part 237 = .ok (.iinc 11 1, 3) := dk_132 11 1 (dk_at dksX2_part_10 6 rfl rfl)
theorem dX2_part_240 : decode cX2_part 240 = .ok (.goto (-182), 3) := dk_167 255 74 (dk_at dksX2_part_10 9 rfl rfl)
theorem dX2_part_243 : decode cX2_part 243 = .ok (.iload 9, 2) := dk_21 9 (dk_at dksX2_part_10 12 rfl rfl)
theorem dX2_part_245 : decode cX2_part 245 = .ok (.ifCond .ne 6, 3) := dk_154 0 6 (dk_at dksX2_part_10 14 rfl rfl)
theorem dX2_part_248 : decode cX2_part 248 = .ok (.goto 46, 3) := dk_167 0 46 (dk_at dksX2_part_10 17 rfl rfl)
theorem dX2_part_251 : decode cX2_part 251 = .ok (.aload_n 0, 1) := dk_42 (dk_at dksX2_part_10 20 rfl rfl)
theorem dX2_part_252 : decode cX2_part 252 = .ok (.getfield 3, 3) := dk_180 0 3 (dk_at dksX2_part_10 21 rfl rfl)
theorem dX2_part_255 : decode cX2_part 255 = .ok (.getfield 46, 3) := dk_180 0 46 (dk_at dksX2_part_11 0 rfl rfl)
theorem dX2_part_258 : decode cX2_part 258 = .ok (.iload_n 1, 1) := dk_27 (dk_at dksX2_part_11 3 rfl rfl)
theorem dX2_part_259 : decode cX2_part 259 = .ok (.aaload, 1) := dk_50 (dk_at dksX2_part_11 4 rfl rfl)
theorem dX2_part_260 : decode cX2_part 260 = .ok (.iconst 0, 1) := dk_3 (dk_at dksX2_part_11 5 rfl rfl)
theorem dX2_part_261 : decode cX2_part 261 = .ok (.aload_n 0, 1) := dk_42 (dk_at dksX2_part_11 6 rfl rfl)
theorem dX2_part_262 : decode cX2_part 262 = .ok (.getfield 3, 3) := dk_180 0 3 (dk_at dksX2_part_11 7 rfl rfl)
theorem dX2_part_265 : decode cX2_part 265 = .ok (.getfield 46, 3) := dk_180 0 46 (dk_at dksX2_part_11 10 rfl rfl)
theorem dX2_part_268 : decode cX2_part 268 = .ok (.iload_n 1, 1) := dk_27 (dk_at dksX2_part_11 13 rfl rfl)
theorem dX2_part_269 : decode cX2_part 269 = .ok (.iconst 1, 1) := dk_4 (dk_at dksX2_part_11 14 rfl rfl)
theorem dX2_part_270 : decode cX2_part 270 = .ok (.iadd, 1) := dk_96 (dk_at dksX2_part_11 15 rfl rfl)
theorem dX2_part_271 : decode cX2_part 271 = .ok (.aaload, 1) := dk_50 (dk_at dksX2_part_11 16 rfl rfl)
theorem dX2_part_272 : decode cX2_part 272 = .ok (.iconst 0, 1) := dk_3 (dk_at dksX2_part_11 17 rfl rfl)
theorem dX2_part_273 : decode cX2_part 273 = .ok (.bipush 8, 2) := dk_16 8 (dk_at dksX2_part_11 18 rfl rfl)
theorem dX2_part_275 : decode cX2_part 275 = .ok (.invokestatic 142, 3) := dk_184 0 142 (dk_at dksX2_part_11 20 rfl rfl)
theorem dX2_part_278 : decode cX2_part 278 = .ok (.aload_n 0, 1) := dk_42 (dk_at dksX2_part_11 23 rfl rfl)
theorem dX2_part_279 : decode cX2_part 279 = .ok (.iload_n 1, 1) := dk_27 (dk_at dksX2_part_12 0 rfl rfl)
theorem dX2_part_280 : decode cX2_part 280 = .ok (.iconst 1, 1) := dk_4 (dk_at dksX2_part_12 1 rfl rfl)
theorem dX2_part_281 : decode cX2_part 281 = .ok (.iadd, 1) := dk_96 (dk_at dksX2_part_12 2 rfl rfl)
theorem dX2_part_282 : decode cX2_part 282 = .ok (.iload_n 2, 1) := dk_28 (dk_at dksX2_part_12 3 rfl rfl)
theorem dX2_part_283 : decode cX2_part 283 = .ok (.iconst 1, 1) := dk_4 (dk_at dksX2_part_12 4 rfl rfl)
theorem dX2_part_284 : decode cX2_part 284 = .ok (.iadd, 1) := dk_96 (dk_at dksX2_part_12 5 rfl rfl)
theorem dX2_part_285 : decode cX2_part 285 = .ok (.iload 4, 2) := dk_21 4 (dk_at dksX2_part_12 6 rfl rfl)
theorem dX2_part_287 : decode cX2_part 287 = .ok (.lload 5, 2) := dk_22 5 (dk_at dksX2_part_12 8 rfl rfl)
theorem dX2_part_289 : decode cX2_part 289 = .ok (.iload 10, 2) := dk_21 10 (dk_at dksX2_part_12 10 rfl rfl)
theorem dX2_part_291 : decode cX2_part 291 = .ok (.invokevirtual 50, 3) := dk_182 0 50 (dk_at dksX2_part_12 12 rfl rfl)
theorem dX2_part_294 : decode cX2_part 294 = .ok (.iinc 8 1, 3) := dk_132 8 1 (dk_at dksX2_part_12 15 rfl rfl)
theorem dX2_part_297 : decode cX2_part 297 = .ok (.goto (-294), 3) := dk_167 254 218 (dk_at dksX2_part_12 18 rfl rfl)
theorem dX2_part_300 : decode cX2_part 300 = .ok (.return_, 1) := dk_177 (dk_at dksX2_part_12 21 rfl rfl)
abbrev cX2_move : ByteArray := prog_25_method_7_code
def yX2_move : MethodName := ⟨RX2, "move", "(ILBlindCards$Move;)V"⟩
def dkwX2_move_7 : List UInt8 := [180, 0, 32, 27, 50, 3, 17, 8, 0, 184, 0, 142, 177]
abbrev dktX2_move_7 : List UInt8 := dkwX2_move_7 ++ []
def dkwX2_move_6 : List UInt8 := [132, 4, 1, 167, 255, 158, 132, 3, 1, 167, 255, 135, 42, 180, 0, 3, 180, 0, 135, 3, 42, 180, 0, 3]
abbrev dktX2_move_6 : List UInt8 := dkwX2_move_6 ++ dktX2_move_7
def dkwX2_move_5 : List UInt8 := [180, 0, 32, 27, 50, 17, 1, 0, 29, 104, 21, 4, 96, 47, 97, 80, 132, 5, 1, 167, 255, 201]
abbrev dktX2_move_5 : List UInt8 := dkwX2_move_5 ++ dktX2_move_6
def dkwX2_move_4 : List UInt8 := [180, 0, 135, 17, 1, 0, 29, 104, 44, 21, 4, 21, 5, 182, 0, 139, 96, 92, 47, 42, 180, 0, 3]
abbrev dktX2_move_4 : List UInt8 := dkwX2_move_4 ++ dktX2_move_5
def dkwX2_move_3 : List UInt8 := [9, 148, 154, 0, 6, 167, 0, 64, 3, 54, 5, 21, 5, 44, 182, 0, 87, 162, 0, 52, 42, 180, 0, 3]
abbrev dktX2_move_3 : List UInt8 := dkwX2_move_3 ++ dktX2_move_4
def dkwX2_move_2 : List UInt8 := [17, 1, 0, 162, 0, 96, 42, 180, 0, 3, 180, 0, 32, 27, 50, 17, 1, 0, 29, 104, 21, 4, 96, 47]
abbrev dktX2_move_2 : List UInt8 := dkwX2_move_2 ++ dktX2_move_3
def dkwX2_move_1 : List UInt8 := [167, 255, 236, 3, 62, 29, 42, 180, 0, 3, 180, 0, 36, 182, 0, 40, 162, 0, 113, 3, 54, 4, 21, 4]
abbrev dktX2_move_1 : List UInt8 := dkwX2_move_1 ++ dktX2_move_2
def dkwX2_move_0 : List UInt8 := [3, 62, 29, 17, 8, 0, 162, 0, 19, 42, 180, 0, 3, 180, 0, 135, 29, 9, 80, 132, 3, 1]
abbrev dktX2_move_0 : List UInt8 := dkwX2_move_0 ++ dktX2_move_1
theorem dksX2_move_0 : cX2_move.data.toList.drop 0 = dktX2_move_0 := by decide +kernel
theorem dksX2_move_1 : cX2_move.data.toList.drop 22 = dktX2_move_1 := dk_seg dksX2_move_0 22 rfl rfl
theorem dksX2_move_2 : cX2_move.data.toList.drop 46 = dktX2_move_2 := dk_seg dksX2_move_1 24 rfl rfl
theorem dksX2_move_3 : cX2_move.data.toList.drop 70 = dktX2_move_3 := dk_seg dksX2_move_2 24 rfl rfl
theorem dksX2_move_4 : cX2_move.data.toList.drop 94 = dktX2_move_4 := dk_seg dksX2_move_3 24 rfl rfl
theorem dksX2_move_5 : cX2_move.data.toList.drop 117 = dktX2_move_5 := dk_seg dksX2_move_4 23 rfl rfl
theorem dksX2_move_6 : cX2_move.data.toList.drop 139 = dktX2_move_6 := dk_seg dksX2_move_5 22 rfl rfl
theorem dksX2_move_7 : cX2_move.data.toList.drop 163 = dktX2_move_7 := dk_seg dksX2_move_6 24 rfl rfl
theorem dX2_move_0 : decode cX2_move 0 = .ok (.iconst 0, 1) := dk_3 (dk_at dksX2_move_0 0 rfl rfl)
theorem dX2_move_1 : decode cX2_move 1 = .ok (.istore_n 3, 1) := dk_62 (dk_at dksX2_move_0 1 rfl rfl)
theorem dX2_move_2 : decode cX2_move 2 = .ok (.iload_n 3, 1) := dk_29 (dk_at dksX2_move_0 2 rfl rfl)
theorem dX2_move_3 : decode cX2_move 3 = .ok (.sipush 2048, 3) := dk_17 8 0 (dk_at dksX2_move_0 3 rfl rfl)
theorem dX2_move_6 : decode cX2_move 6 = .ok (.if_icmp .ge 19, 3) := dk_162 0 19 (dk_at dksX2_move_0 6 rfl rfl)
theorem dX2_move_9 : decode cX2_move 9 = .ok (.aload_n 0, 1) := dk_42 (dk_at dksX2_move_0 9 rfl rfl)
theorem dX2_move_10 : decode cX2_move 10 = .ok (.getfield 3, 3) := dk_180 0 3 (dk_at dksX2_move_0 10 rfl rfl)
theorem dX2_move_13 : decode cX2_move 13 = .ok (.getfield 135, 3) := dk_180 0 135 (dk_at dksX2_move_0 13 rfl rfl)
theorem dX2_move_16 : decode cX2_move 16 = .ok (.iload_n 3, 1) := dk_29 (dk_at dksX2_move_0 16 rfl rfl)
theorem dX2_move_17 : decode cX2_move 17 = .ok (.lconst 0, 1) := dk_9 (dk_at dksX2_move_0 17 rfl rfl)
theorem dX2_move_18 : decode cX2_move 18 = .ok (.lastore, 1) := dk_80 (dk_at dksX2_move_0 18 rfl rfl)
theorem dX2_move_19 : decode cX2_move 19 = .ok (.iinc 3 1, 3) := dk_132 3 1 (dk_at dksX2_move_0 19 rfl rfl)
theorem dX2_move_22 : decode cX2_move 22 = .ok (.goto (-20), 3) := dk_167 255 236 (dk_at dksX2_move_1 0 rfl rfl)
theorem dX2_move_25 : decode cX2_move 25 = .ok (.iconst 0, 1) := dk_3 (dk_at dksX2_move_1 3 rfl rfl)
theorem dX2_move_26 : decode cX2_move 26 = .ok (.istore_n 3, 1) := dk_62 (dk_at dksX2_move_1 4 rfl rfl)
theorem dX2_move_27 : decode cX2_move 27 = .ok (.iload_n 3, 1) := dk_29 (dk_at dksX2_move_1 5 rfl rfl)
theorem dX2_move_28 : decode cX2_move 28 = .ok (.aload_n 0, 1) := dk_42 (dk_at dksX2_move_1 6 rfl rfl)
theorem dX2_move_29 : decode cX2_move 29 = .ok (.getfield 3, 3) := dk_180 0 3 (dk_at dksX2_move_1 7 rfl rfl)
theorem dX2_move_32 : decode cX2_move 32 = .ok (.getfield 36, 3) := dk_180 0 36 (dk_at dksX2_move_1 10 rfl rfl)
theorem dX2_move_35 : decode cX2_move 35 = .ok (.invokevirtual 40, 3) := dk_182 0 40 (dk_at dksX2_move_1 13 rfl rfl)
theorem dX2_move_38 : decode cX2_move 38 = .ok (.if_icmp .ge 113, 3) := dk_162 0 113 (dk_at dksX2_move_1 16 rfl rfl)
theorem dX2_move_41 : decode cX2_move 41 = .ok (.iconst 0, 1) := dk_3 (dk_at dksX2_move_1 19 rfl rfl)
theorem dX2_move_42 : decode cX2_move 42 = .ok (.istore 4, 2) := dk_54 4 (dk_at dksX2_move_1 20 rfl rfl)
theorem dX2_move_44 : decode cX2_move 44 = .ok (.iload 4, 2) := dk_21 4 (dk_at dksX2_move_1 22 rfl rfl)
theorem dX2_move_46 : decode cX2_move 46 = .ok (.sipush 256, 3) := dk_17 1 0 (dk_at dksX2_move_2 0 rfl rfl)
theorem dX2_move_49 : decode cX2_move 49 = .ok (.if_icmp .ge 96, 3) := dk_162 0 96 (dk_at dksX2_move_2 3 rfl rfl)
theorem dX2_move_52 : decode cX2_move 52 = .ok (.aload_n 0, 1) := dk_42 (dk_at dksX2_move_2 6 rfl rfl)
theorem dX2_move_53 : decode cX2_move 53 = .ok (.getfield 3, 3) := dk_180 0 3 (dk_at dksX2_move_2 7 rfl rfl)
theorem dX2_move_56 : decode cX2_move 56 = .ok (.getfield 32, 3) := dk_180 0 32 (dk_at dksX2_move_2 10 rfl rfl)
theorem dX2_move_59 : decode cX2_move 59 = .ok (.iload_n 1, 1) := dk_27 (dk_at dksX2_move_2 13 rfl rfl)
theorem dX2_move_60 : decode cX2_move 60 = .ok (.aaload, 1) := dk_50 (dk_at dksX2_move_2 14 rfl rfl)
theorem dX2_move_61 : decode cX2_move 61 = .ok (.sipush 256, 3) := dk_17 1 0 (dk_at dksX2_move_2 15 rfl rfl)
theorem dX2_move_64 : decode cX2_move 64 = .ok (.iload_n 3, 1) := dk_29 (dk_at dksX2_move_2 18 rfl rfl)
theorem dX2_move_65 : decode cX2_move 65 = .ok (.imul, 1) := dk_104 (dk_at dksX2_move_2 19 rfl rfl)
theorem dX2_move_66 : decode cX2_move 66 = .ok (.iload 4, 2) := dk_21 4 (dk_at dksX2_move_2 20 rfl rfl)
theorem dX2_move_68 : decode cX2_move 68 = .ok (.iadd, 1) := dk_96 (dk_at dksX2_move_2 22 rfl rfl)
theorem dX2_move_69 : decode cX2_move 69 = .ok (.laload, 1) := dk_47 (dk_at dksX2_move_2 23 rfl rfl)
theorem dX2_move_70 : decode cX2_move 70 = .ok (.lconst 0, 1) := dk_9 (dk_at dksX2_move_3 0 rfl rfl)
theorem dX2_move_71 : decode cX2_move 71 = .ok (.lcmp, 1) := dk_148 (dk_at dksX2_move_3 1 rfl rfl)
theorem dX2_move_72 : decode cX2_move 72 = .ok (.ifCond .ne 6, 3) := dk_154 0 6 (dk_at dksX2_move_3 2 rfl rfl)
theorem dX2_move_75 : decode cX2_move 75 = .ok (.goto 64, 3) := dk_167 0 64 (dk_at dksX2_move_3 5 rfl rfl)
theorem dX2_move_78 : decode cX2_move 78 = .ok (.iconst 0, 1) := dk_3 (dk_at dksX2_move_3 8 rfl rfl)
theorem dX2_move_79 : decode cX2_move 79 = .ok (.istore 5, 2) := dk_54 5 (dk_at dksX2_move_3 9 rfl rfl)
theorem dX2_move_81 : decode cX2_move 81 = .ok (.iload 5, 2) := dk_21 5 (dk_at dksX2_move_3 11 rfl rfl)
theorem dX2_move_83 : decode cX2_move 83 = .ok (.aload_n 2, 1) := dk_44 (dk_at dksX2_move_3 13 rfl rfl)
theorem dX2_move_84 : decode cX2_move 84 = .ok (.invokevirtual 87, 3) := dk_182 0 87 (dk_at dksX2_move_3 14 rfl rfl)
theorem dX2_move_87 : decode cX2_move 87 = .ok (.if_icmp .ge 52, 3) := dk_162 0 52 (dk_at dksX2_move_3 17 rfl rfl)
theorem dX2_move_90 : decode cX2_move 90 = .ok (.aload_n 0, 1) := dk_42 (dk_at dksX2_move_3 20 rfl rfl)
theorem dX2_move_91 : decode cX2_move 91 = .ok (.getfield 3, 3) := dk_180 0 3 (dk_at dksX2_move_3 21 rfl rfl)
theorem dX2_move_94 : decode cX2_move 94 = .ok (.getfield 135, 3) := dk_180 0 135 (dk_at dksX2_move_4 0 rfl rfl)
theorem dX2_move_97 : decode cX2_move 97 = .ok (.sipush 256, 3) := dk_17 1 0 (dk_at dksX2_move_4 3 rfl rfl)
theorem dX2_move_100 : decode cX2_move 100 = .ok (.iload_n 3, 1) := dk_29 (dk_at dksX2_move_4 6 rfl rfl)
theorem dX2_move_101 : decode cX2_move 101 = .ok (.imul, 1) := dk_104 (dk_at dksX2_move_4 7 rfl rfl)
theorem dX2_move_102 : decode cX2_move 102 = .ok (.aload_n 2, 1) := dk_44 (dk_at dksX2_move_4 8 rfl rfl)
theorem dX2_move_103 : decode cX2_move 103 = .ok (.iload 4, 2) := dk_21 4 (dk_at dksX2_move_4 9 rfl rfl)
theorem dX2_move_105 : decode cX2_move 105 = .ok (.iload 5, 2) := dk_21 5 (dk_at dksX2_move_4 11 rfl rfl)
theorem dX2_move_107 : decode cX2_move 107 = .ok (.invokevirtual 139, 3) := dk_182 0 139 (dk_at dksX2_move_4 13 rfl rfl)
theorem dX2_move_110 : decode cX2_move 110 = .ok (.iadd, 1) := dk_96 (dk_at dksX2_move_4 16 rfl rfl)
theorem dX2_move_111 : decode cX2_move 111 = .ok (.dup2, 1) := dk_92 (dk_at dksX2_move_4 17 rfl rfl)
theorem dX2_move_112 : decode cX2_move 112 = .ok (.laload, 1) := dk_47 (dk_at dksX2_move_4 18 rfl rfl)
theorem dX2_move_113 : decode cX2_move 113 = .ok (.aload_n 0, 1) := dk_42 (dk_at dksX2_move_4 19 rfl rfl)
theorem dX2_move_114 : decode cX2_move 114 = .ok (.getfield 3, 3) := dk_180 0 3 (dk_at dksX2_move_4 20 rfl rfl)
theorem dX2_move_117 : decode cX2_move 117 = .ok (.getfield 32, 3) := dk_180 0 32 (dk_at dksX2_move_5 0 rfl rfl)
theorem dX2_move_120 : decode cX2_move 120 = .ok (.iload_n 1, 1) := dk_27 (dk_at dksX2_move_5 3 rfl rfl)
theorem dX2_move_121 : decode cX2_move 121 = .ok (.aaload, 1) := dk_50 (dk_at dksX2_move_5 4 rfl rfl)
theorem dX2_move_122 : decode cX2_move 122 = .ok (.sipush 256, 3) := dk_17 1 0 (dk_at dksX2_move_5 5 rfl rfl)
theorem dX2_move_125 : decode cX2_move 125 = .ok (.iload_n 3, 1) := dk_29 (dk_at dksX2_move_5 8 rfl rfl)
theorem dX2_move_126 : decode cX2_move 126 = .ok (.imul, 1) := dk_104 (dk_at dksX2_move_5 9 rfl rfl)
theorem dX2_move_127 : decode cX2_move 127 = .ok (.iload 4, 2) := dk_21 4 (dk_at dksX2_move_5 10 rfl rfl)
theorem dX2_move_129 : decode cX2_move 129 = .ok (.iadd, 1) := dk_96 (dk_at dksX2_move_5 12 rfl rfl)
theorem dX2_move_130 : decode cX2_move 130 = .ok (.laload, 1) := dk_47 (dk_at dksX2_move_5 13 rfl rfl)
theorem dX2_move_131 : decode cX2_move 131 = .ok (.ladd, 1) := dk_97 (dk_at dksX2_move_5 14 rfl rfl)
theorem dX2_move_132 : decode cX2_move 132 = .ok (.lastore, 1) := dk_80 (dk_at dksX2_move_5 15 rfl rfl)
theorem dX2_move_133 : decode cX2_move 133 = .ok (.iinc 5 1, 3) := dk_132 5 1 (dk_at dksX2_move_5 16 rfl rfl)
theorem dX2_move_136 : decode cX2_move 136 = .ok (.goto (-55), 3) := dk_167 255 201 (dk_at dksX2_move_5 19 rfl rfl)
theorem dX2_move_139 : decode cX2_move 139 = .ok (.iinc 4 1, 3) := dk_132 4 1 (dk_at dksX2_move_6 0 rfl rfl)
theorem dX2_move_142 : decode cX2_move 142 = .ok (.goto (-98), 3) := dk_167 255 158 (dk_at dksX2_move_6 3 rfl rfl)
theorem dX2_move_145 : decode cX2_move 145 = .ok (.iinc 3 1, 3) := dk_132 3 1 (dk_at dksX2_move_6 6 rfl rfl)
theorem dX2_move_148 : decode cX2_move 148 = .ok (.goto (-121), 3) := dk_167 255 135 (dk_at dksX2_move_6 9 rfl rfl)
theorem dX2_move_151 : decode cX2_move 151 = .ok (.aload_n 0, 1) := dk_42 (dk_at dksX2_move_6 12 rfl rfl)
theorem dX2_move_152 : decode cX2_move 152 = .ok (.getfield 3, 3) := dk_180 0 3 (dk_at dksX2_move_6 13 rfl rfl)
theorem dX2_move_155 : decode cX2_move 155 = .ok (.getfield 135, 3) := dk_180 0 135 (dk_at dksX2_move_6 16 rfl rfl)
theorem dX2_move_158 : decode cX2_move 158 = .ok (.iconst 0, 1) := dk_3 (dk_at dksX2_move_6 19 rfl rfl)
theorem dX2_move_159 : decode cX2_move 159 = .ok (.aload_n 0, 1) := dk_42 (dk_at dksX2_move_6 20 rfl rfl)
theorem dX2_move_160 : decode cX2_move 160 = .ok (.getfield 3, 3) := dk_180 0 3 (dk_at dksX2_move_6 21 rfl rfl)
theorem dX2_move_163 : decode cX2_move 163 = .ok (.getfield 32, 3) := dk_180 0 32 (dk_at dksX2_move_7 0 rfl rfl)
theorem dX2_move_166 : decode cX2_move 166 = .ok (.iload_n 1, 1) := dk_27 (dk_at dksX2_move_7 3 rfl rfl)
theorem dX2_move_167 : decode cX2_move 167 = .ok (.aaload, 1) := dk_50 (dk_at dksX2_move_7 4 rfl rfl)
theorem dX2_move_168 : decode cX2_move 168 = .ok (.iconst 0, 1) := dk_3 (dk_at dksX2_move_7 5 rfl rfl)
theorem dX2_move_169 : decode cX2_move 169 = .ok (.sipush 2048, 3) := dk_17 8 0 (dk_at dksX2_move_7 6 rfl rfl)
theorem dX2_move_172 : decode cX2_move 172 = .ok (.invokestatic 142, 3) := dk_184 0 142 (dk_at dksX2_move_7 9 rfl rfl)
theorem dX2_move_175 : decode cX2_move 175 = .ok (.return_, 1) := dk_177 (dk_at dksX2_move_7 12 rfl rfl)
abbrev cX2_see : ByteArray := prog_25_method_9_code
def yX2_see : MethodName := ⟨RX2, "see", "(IILBlindCards$Open;IJI)V"⟩
def dkwX2_see_12 : List UInt8 := [182, 0, 50, 132, 9, 1, 167, 254, 234, 42, 21, 8, 181, 0, 29, 177]
abbrev dktX2_see_12 : List UInt8 := dkwX2_see_12 ++ []
def dkwX2_see_11 : List UInt8 := [21, 9, 79, 42, 21, 8, 4, 96, 181, 0, 29, 42, 27, 4, 96, 28, 4, 96, 21, 4, 22, 5, 21, 7]
abbrev dktX2_see_11 : List UInt8 := dkwX2_see_11 ++ dktX2_see_12
def dkwX2_see_10 : List UInt8 := [21, 11, 46, 21, 9, 21, 11, 122, 4, 126, 79, 132, 11, 1, 167, 255, 218, 42, 180, 0, 25, 21, 8]
abbrev dktX2_see_10 : List UInt8 := dkwX2_see_10 ++ dktX2_see_11
def dkwX2_see_9 : List UInt8 := [21, 11, 45, 180, 0, 153, 162, 0, 35, 42, 180, 0, 3, 180, 0, 46, 27, 4, 96, 50, 45, 180, 0, 158]
abbrev dktX2_see_9 : List UInt8 := dkwX2_see_9 ++ dktX2_see_10
def dkwX2_see_8 : List UInt8 := [27, 50, 3, 42, 180, 0, 3, 180, 0, 46, 27, 4, 96, 50, 3, 16, 8, 184, 0, 142, 3, 54, 11]
abbrev dktX2_see_8 : List UInt8 := dkwX2_see_8 ++ dktX2_see_9
def dkwX2_see_7 : List UInt8 := [167, 255, 137, 132, 11, 1, 167, 255, 113, 21, 10, 154, 0, 6, 167, 0, 107, 42, 180, 0, 3, 180, 0, 46]
abbrev dktX2_see_7 : List UInt8 := dkwX2_see_7 ++ dktX2_see_8
def dkwX2_see_6 : List UInt8 := [180, 0, 32, 27, 50, 17, 1, 0, 21, 11, 104, 21, 12, 96, 47, 167, 0, 4, 9, 80, 132, 12, 1]
abbrev dktX2_see_6 : List UInt8 := dkwX2_see_6 ++ dktX2_see_7
def dkwX2_see_5 : List UInt8 := [27, 4, 96, 50, 17, 1, 0, 21, 11, 104, 21, 12, 96, 21, 13, 153, 0, 25, 42, 180, 0, 3]
abbrev dktX2_see_5 : List UInt8 := dkwX2_see_5 ++ dktX2_see_6
def dkwX2_see_4 : List UInt8 := [104, 21, 12, 96, 47, 9, 148, 158, 0, 7, 4, 167, 0, 4, 3, 54, 10, 42, 180, 0, 3, 180, 0, 32]
abbrev dktX2_see_4 : List UInt8 := dkwX2_see_4 ++ dktX2_see_5
def dkwX2_see_3 : List UInt8 := [21, 10, 154, 0, 32, 21, 13, 153, 0, 31, 42, 180, 0, 3, 180, 0, 32, 27, 50, 17, 1, 0, 21, 11]
abbrev dktX2_see_3 : List UInt8 := dkwX2_see_3 ++ dktX2_see_4
def dkwX2_see_2 : List UInt8 := [17, 1, 0, 162, 0, 117, 45, 21, 12, 182, 0, 155, 21, 9, 160, 0, 7, 4, 167, 0, 4, 3, 54, 13]
abbrev dktX2_see_2 : List UInt8 := dkwX2_see_2 ++ dktX2_see_3
def dkwX2_see_1 : List UInt8 := [54, 11, 21, 11, 42, 180, 0, 3, 180, 0, 36, 182, 0, 40, 162, 0, 134, 3, 54, 12, 21, 12]
abbrev dktX2_see_1 : List UInt8 := dkwX2_see_1 ++ dktX2_see_2
def dkwX2_see_0 : List UInt8 := [42, 180, 0, 29, 54, 8, 3, 54, 9, 21, 9, 4, 45, 180, 0, 153, 120, 162, 1, 17, 3, 54, 10, 3]
abbrev dktX2_see_0 : List UInt8 := dkwX2_see_0 ++ dktX2_see_1
theorem dksX2_see_0 : cX2_see.data.toList.drop 0 = dktX2_see_0 := by decide +kernel
theorem dksX2_see_1 : cX2_see.data.toList.drop 24 = dktX2_see_1 := dk_seg dksX2_see_0 24 rfl rfl
theorem dksX2_see_2 : cX2_see.data.toList.drop 46 = dktX2_see_2 := dk_seg dksX2_see_1 22 rfl rfl
theorem dksX2_see_3 : cX2_see.data.toList.drop 70 = dktX2_see_3 := dk_seg dksX2_see_2 24 rfl rfl
theorem dksX2_see_4 : cX2_see.data.toList.drop 94 = dktX2_see_4 := dk_seg dksX2_see_3 24 rfl rfl
theorem dksX2_see_5 : cX2_see.data.toList.drop 118 = dktX2_see_5 := dk_seg dksX2_see_4 24 rfl rfl
theorem dksX2_see_6 : cX2_see.data.toList.drop 140 = dktX2_see_6 := dk_seg dksX2_see_5 22 rfl rfl
theorem dksX2_see_7 : cX2_see.data.toList.drop 163 = dktX2_see_7 := dk_seg dksX2_see_6 23 rfl rfl
theorem dksX2_see_8 : cX2_see.data.toList.drop 187 = dktX2_see_8 := dk_seg dksX2_see_7 24 rfl rfl
theorem dksX2_see_9 : cX2_see.data.toList.drop 210 = dktX2_see_9 := dk_seg dksX2_see_8 23 rfl rfl
theorem dksX2_see_10 : cX2_see.data.toList.drop 234 = dktX2_see_10 := dk_seg dksX2_see_9 24 rfl rfl
theorem dksX2_see_11 : cX2_see.data.toList.drop 257 = dktX2_see_11 := dk_seg dksX2_see_10 23 rfl rfl
theorem dksX2_see_12 : cX2_see.data.toList.drop 281 = dktX2_see_12 := dk_seg dksX2_see_11 24 rfl rfl
theorem dX2_see_0 : decode cX2_see 0 = .ok (.aload_n 0, 1) := dk_42 (dk_at dksX2_see_0 0 rfl rfl)
theorem dX2_see_1 : decode cX2_see 1 = .ok (.getfield 29, 3) := dk_180 0 29 (dk_at dksX2_see_0 1 rfl rfl)
theorem dX2_see_4 : decode cX2_see 4 = .ok (.istore 8, 2) := dk_54 8 (dk_at dksX2_see_0 4 rfl rfl)
theorem dX2_see_6 : decode cX2_see 6 = .ok (.iconst 0, 1) := dk_3 (dk_at dksX2_see_0 6 rfl rfl)
theorem dX2_see_7 : decode cX2_see 7 = .ok (.istore 9, 2) := dk_54 9 (dk_at dksX2_see_0 7 rfl rfl)
theorem dX2_see_9 : decode cX2_see 9 = .ok (.iload 9, 2) := dk_21 9 (dk_at dksX2_see_0 9 rfl rfl)
theorem dX2_see_11 : decode cX2_see 11 = .ok (.iconst 1, 1) := dk_4 (dk_at dksX2_see_0 11 rfl rfl)
theorem dX2_see_12 : decode cX2_see 12 = .ok (.aload_n 3, 1) := dk_45 (dk_at dksX2_see_0 12 rfl rfl)
theorem dX2_see_13 : decode cX2_see 13 = .ok (.getfield 153, 3) := dk_180 0 153 (dk_at dksX2_see_0 13 rfl rfl)
theorem dX2_see_16 : decode cX2_see 16 = .ok (.ishl, 1) := dk_120 (dk_at dksX2_see_0 16 rfl rfl)
theorem dX2_see_17 : decode cX2_see 17 = .ok (.if_icmp .ge 273, 3) := dk_162 1 17 (dk_at dksX2_see_0 17 rfl rfl)
theorem dX2_see_20 : decode cX2_see 20 = .ok (.iconst 0, 1) := dk_3 (dk_at dksX2_see_0 20 rfl rfl)
theorem dX2_see_21 : decode cX2_see 21 = .ok (.istore 10, 2) := dk_54 10 (dk_at dksX2_see_0 21 rfl rfl)
theorem dX2_see_23 : decode cX2_see 23 = .ok (.iconst 0, 1) := dk_3 (dk_at dksX2_see_0 23 rfl rfl)
theorem dX2_see_24 : decode cX2_see 24 = .ok (.istore 11, 2) := dk_54 11 (dk_at dksX2_see_1 0 rfl rfl)
theorem dX2_see_26 : decode cX2_see 26 = .ok (.iload 11, 2) := dk_21 11 (dk_at dksX2_see_1 2 rfl rfl)
theorem dX2_see_28 : decode cX2_see 28 = .ok (.aload_n 0, 1) := dk_42 (dk_at dksX2_see_1 4 rfl rfl)
theorem dX2_see_29 : decode cX2_see 29 = .ok (.getfield 3, 3) := dk_180 0 3 (dk_at dksX2_see_1 5 rfl rfl)
theorem dX2_see_32 : decode cX2_see 32 = .ok (.getfield 36, 3) := dk_180 0 36 (dk_at dksX2_see_1 8 rfl rfl)
theorem dX2_see_35 : decode cX2_see 35 = .ok (.invokevirtual 40, 3) := dk_182 0 40 (dk_at dksX2_see_1 11 rfl rfl)
theorem dX2_see_38 : decode cX2_see 38 = .ok (.if_icmp .ge 134, 3) := dk_162 0 134 (dk_at dksX2_see_1 14 rfl rfl)
theorem dX2_see_41 : decode cX2_see 41 = .ok (.iconst 0, 1) := dk_3 (dk_at dksX2_see_1 17 rfl rfl)
theorem dX2_see_42 : decode cX2_see 42 = .ok (.istore 12, 2) := dk_54 12 (dk_at dksX2_see_1 18 rfl rfl)
theorem dX2_see_44 : decode cX2_see 44 = .ok (.iload 12, 2) := dk_21 12 (dk_at dksX2_see_1 20 rfl rfl)
theorem dX2_see_46 : decode cX2_see 46 = .ok (.sipush 256, 3) := dk_17 1 0 (dk_at dksX2_see_2 0 rfl rfl)
theorem dX2_see_49 : decode cX2_see 49 = .ok (.if_icmp .ge 117, 3) := dk_162 0 117 (dk_at dksX2_see_2 3 rfl rfl)
theorem dX2_see_52 : decode cX2_see 52 = .ok (.aload_n 3, 1) := dk_45 (dk_at dksX2_see_2 6 rfl rfl)
theorem dX2_see_53 : decode cX2_see 53 = .ok (.iload 12, 2) := dk_21 12 (dk_at dksX2_see_2 7 rfl rfl)
theorem dX2_see_55 : decode cX2_see 55 = .ok (.invokevirtual 155, 3) := dk_182 0 155 (dk_at dksX2_see_2 9 rfl rfl)
theorem dX2_see_58 : decode cX2_see 58 = .ok (.iload 9, 2) := dk_21 9 (dk_at dksX2_see_2 12 rfl rfl)
theorem dX2_see_60 : decode cX2_see 60 = .ok (.if_icmp .ne 7, 3) := dk_160 0 7 (dk_at dksX2_see_2 14 rfl rfl)
theorem dX2_see_63 : decode cX2_see 63 = .ok (.iconst 1, 1) := dk_4 (dk_at dksX2_see_2 17 rfl rfl)
theorem dX2_see_64 : decode cX2_see 64 = .ok (.goto 4, 3) := dk_167 0 4 (dk_at dksX2_see_2 18 rfl rfl)
theorem dX2_see_67 : decode cX2_see 67 = .ok (.iconst 0, 1) := dk_3 (dk_at dksX2_see_2 21 rfl rfl)
theorem dX2_see_68 : decode cX2_see 68 = .ok (.istore 13, 2) := dk_54 13 (dk_at dksX2_see_2 22 rfl rfl)
theorem dX2_see_70 : decode cX2_see 70 = .ok (.iload 10, 2) := dk_21 10 (dk_at dksX2_see_3 0 rfl rfl)
theorem dX2_see_72 : decode cX2_see 72 = .ok (.ifCond .ne 32, 3) := dk_154 0 32 (dk_at dksX2_see_3 2 rfl rfl)
theorem dX2_see_75 : decode cX2_see 75 = .ok (.iload 13, 2) := dk_21 13 (dk_at dksX2_see_3 5 rfl rfl)
theorem dX2_see_77 : decode cX2_see 77 = .ok (.ifCond .eq 31, 3) := dk_153 0 31 (dk_at dksX2_see_3 7 rfl rfl)
theorem dX2_see_80 : decode cX2_see 80 = .ok (.aload_n 0, 1) := dk_42 (dk_at dksX2_see_3 10 rfl rfl)
theorem dX2_see_81 : decode cX2_see 81 = .ok (.getfield 3, 3) := dk_180 0 3 (dk_at dksX2_see_3 11 rfl rfl)
theorem dX2_see_84 : decode cX2_see 84 = .ok (.getfield 32, 3) := dk_180 0 32 (dk_at dksX2_see_3 14 rfl rfl)
theorem dX2_see_87 : decode cX2_see 87 = .ok (.iload_n 1, 1) := dk_27 (dk_at dksX2_see_3 17 rfl rfl)
theorem dX2_see_88 : decode cX2_see 88 = .ok (.aaload, 1) := dk_50 (dk_at dksX2_see_3 18 rfl rfl)
theorem dX2_see_89 : decode cX2_see 89 = .ok (.sipush 256, 3) := dk_17 1 0 (dk_at dksX2_see_3 19 rfl rfl)
theorem dX2_see_92 : decode cX2_see 92 = .ok (.iload 11, 2) := dk_21 11 (dk_at dksX2_see_3 22 rfl rfl)
theorem dX2_see_94 : decode cX2_see 94 = .ok (.imul, 1) := dk_104 (dk_at dksX2_see_4 0 rfl rfl)
theorem dX2_see_95 : decode cX2_see 95 = .ok (.iload 12, 2) := dk_21 12 (dk_at dksX2_see_4 1 rfl rfl)
theorem dX2_see_97 : decode cX2_see 97 = .ok (.iadd, 1) := dk_96 (dk_at dksX2_see_4 3 rfl rfl)
theorem dX2_see_98 : decode cX2_see 98 = .ok (.laload, 1) := dk_47 (dk_at dksX2_see_4 4 rfl rfl)
theorem dX2_see_99 : decode cX2_see 99 = .ok (.lconst 0, 1) := dk_9 (dk_at dksX2_see_4 5 rfl rfl)
theorem dX2_see_100 : decode cX2_see 100 = .ok (.lcmp, 1) := dk_148 (dk_at dksX2_see_4 6 rfl rfl)
theorem dX2_see_101 : decode cX2_see 101 = .ok (.ifCond .le 7, 3) := dk_158 0 7 (dk_at dksX2_see_4 7 rfl rfl)
theorem dX2_see_104 : decode cX2_see 104 = .ok (.iconst 1, 1) := dk_4 (dk_at dksX2_see_4 10 rfl rfl)
theorem dX2_see_105 : decode cX2_see 105 = .ok (.goto 4, 3) := dk_167 0 4 (dk_at dksX2_see_4 11 rfl rfl)
theorem dX2_see_108 : decode cX2_see 108 = .ok (.iconst 0, 1) := dk_3 (dk_at dksX2_see_4 14 rfl rfl)
theorem dX2_see_109 : decode cX2_see 109 = .ok (.istore 10, 2) := dk_54 10 (dk_at dksX2_see_4 15 rfl rfl)
theorem dX2_see_111 : decode cX2_see 111 = .ok (.aload_n 0, 1) := dk_42 (dk_at dksX2_see_4 17 rfl rfl)
theorem dX2_see_112 : decode cX2_see 112 = .ok (.getfield 3, 3) := dk_180 0 3 (dk_at dksX2_see_4 18 rfl rfl)
theorem dX2_see_115 : decode cX2_see 115 = .ok (.getfield 32, 3) := dk_180 0 32 (dk_at dksX2_see_4 21 rfl rfl)
theorem dX2_see_118 : decode cX2_see 118 = .ok (.iload_n 1, 1) := dk_27 (dk_at dksX2_see_5 0 rfl rfl)
theorem dX2_see_119 : decode cX2_see 119 = .ok (.iconst 1, 1) := dk_4 (dk_at dksX2_see_5 1 rfl rfl)
theorem dX2_see_120 : decode cX2_see 120 = .ok (.iadd, 1) := dk_96 (dk_at dksX2_see_5 2 rfl rfl)
theorem dX2_see_121 : decode cX2_see 121 = .ok (.aaload, 1) := dk_50 (dk_at dksX2_see_5 3 rfl rfl)
theorem dX2_see_122 : decode cX2_see 122 = .ok (.sipush 256, 3) := dk_17 1 0 (dk_at dksX2_see_5 4 rfl rfl)
theorem dX2_see_125 : decode cX2_see 125 = .ok (.iload 11, 2) := dk_21 11 (dk_at dksX2_see_5 7 rfl rfl)
theorem dX2_see_127 : decode cX2_see 127 = .ok (.imul, 1) := dk_104 (dk_at dksX2_see_5 9 rfl rfl)
theorem dX2_see_128 : decode cX2_see 128 = .ok (.iload 12, 2) := dk_21 12 (dk_at dksX2_see_5 10 rfl rfl)
theorem dX2_see_130 : decode cX2_see 130 = .ok (.iadd, 1) := dk_96 (dk_at dksX2_see_5 12 rfl rfl)
theorem dX2_see_131 : decode cX2_see 131 = .ok (.iload 13, 2) := dk_21 13 (dk_at dksX2_see_5 13 rfl rfl)
theorem dX2_see_133 : decode cX2_see 133 = .ok (.ifCond .eq 25, 3) := dk_153 0 25 (dk_at dksX2_see_5 15 rfl rfl)
theorem dX2_see_136 : decode cX2_see 136 = .ok (.aload_n 0, 1) := dk_42 (dk_at dksX2_see_5 18 rfl rfl)
theorem dX2_see_137 : decode cX2_see 137 = .ok (.getfield 3, 3) := dk_180 0 3 (dk_at dksX2_see_5 19 rfl rfl)
theorem dX2_see_140 : decode cX2_see 140 = .ok (.getfield 32, 3) := dk_180 0 32 (dk_at dksX2_see_6 0 rfl rfl)
theorem dX2_see_143 : decode cX2_see 143 = .ok (.iload_n 1, 1) := dk_27 (dk_at dksX2_see_6 3 rfl rfl)
theorem dX2_see_144 : decode cX2_see 144 = .ok (.aaload, 1) := dk_50 (dk_at dksX2_see_6 4 rfl rfl)
theorem dX2_see_145 : decode cX2_see 145 = .ok (.sipush 256, 3) := dk_17 1 0 (dk_at dksX2_see_6 5 rfl rfl)
theorem dX2_see_148 : decode cX2_see 148 = .ok (.iload 11, 2) := dk_21 11 (dk_at dksX2_see_6 8 rfl rfl)
theorem dX2_see_150 : decode cX2_see 150 = .ok (.imul, 1) := dk_104 (dk_at dksX2_see_6 10 rfl rfl)
theorem dX2_see_151 : decode cX2_see 151 = .ok (.iload 12, 2) := dk_21 12 (dk_at dksX2_see_6 11 rfl rfl)
theorem dX2_see_153 : decode cX2_see 153 = .ok (.iadd, 1) := dk_96 (dk_at dksX2_see_6 13 rfl rfl)
theorem dX2_see_154 : decode cX2_see 154 = .ok (.laload, 1) := dk_47 (dk_at dksX2_see_6 14 rfl rfl)
theorem dX2_see_155 : decode cX2_see 155 = .ok (.goto 4, 3) := dk_167 0 4 (dk_at dksX2_see_6 15 rfl rfl)
theorem dX2_see_158 : decode cX2_see 158 = .ok (.lconst 0, 1) := dk_9 (dk_at dksX2_see_6 18 rfl rfl)
theorem dX2_see_159 : decode cX2_see 159 = .ok (.lastore, 1) := dk_80 (dk_at dksX2_see_6 19 rfl rfl)
theorem dX2_see_160 : decode cX2_see 160 = .ok (.iinc 12 1, 3) := dk_132 12 1 (dk_at dksX2_see_6 20 rfl rfl)
theorem dX2_see_163 : decode cX2_see 163 = .ok (.goto (-119), 3) := dk_167 255 137 (dk_at dksX2_see_7 0 rfl rfl)
theorem dX2_see_166 : decode cX2_see 166 = .ok (.iinc 11 1, 3) := dk_132 11 1 (dk_at dksX2_see_7 3 rfl rfl)
theorem dX2_see_169 : decode cX2_see 169 = .ok (.goto (-143), 3) := dk_167 255 113 (dk_at dksX2_see_7 6 rfl rfl)
theorem dX2_see_172 : decode cX2_see 172 = .ok (.iload 10, 2) := dk_21 10 (dk_at dksX2_see_7 9 rfl rfl)
theorem dX2_see_174 : decode cX2_see 174 = .ok (.ifCond .ne 6, 3) := dk_154 0 6 (dk_at dksX2_see_7 11 rfl rfl)
theorem dX2_see_177 : decode cX2_see 177 = .ok (.goto 107, 3) := dk_167 0 107 (dk_at dksX2_see_7 14 rfl rfl)
theorem dX2_see_180 : decode cX2_see 180 = .ok (.aload_n 0, 1) := dk_42 (dk_at dksX2_see_7 17 rfl rfl)
theorem dX2_see_181 : decode cX2_see 181 = .ok (.getfield 3, 3) := dk_180 0 3 (dk_at dksX2_see_7 18 rfl rfl)
theorem dX2_see_184 : decode cX2_see 184 = .ok (.getfield 46, 3) := dk_180 0 46 (dk_at dksX2_see_7 21 rfl rfl)
theorem dX2_see_187 : decode cX2_see 187 = .ok (.iload_n 1, 1) := dk_27 (dk_at dksX2_see_8 0 rfl rfl)
theorem dX2_see_188 : decode cX2_see 188 = .ok (.aaload, 1) := dk_50 (dk_at dksX2_see_8 1 rfl rfl)
theorem dX2_see_189 : decode cX2_see 189 = .ok (.iconst 0, 1) := dk_3 (dk_at dksX2_see_8 2 rfl rfl)
theorem dX2_see_190 : decode cX2_see 190 = .ok (.aload_n 0, 1) := dk_42 (dk_at dksX2_see_8 3 rfl rfl)
theorem dX2_see_191 : decode cX2_see 191 = .ok (.getfield 3, 3) := dk_180 0 3 (dk_at dksX2_see_8 4 rfl rfl)
theorem dX2_see_194 : decode cX2_see 194 = .ok (.getfield 46, 3) := dk_180 0 46 (dk_at dksX2_see_8 7 rfl rfl)
theorem dX2_see_197 : decode cX2_see 197 = .ok (.iload_n 1, 1) := dk_27 (dk_at dksX2_see_8 10 rfl rfl)
theorem dX2_see_198 : decode cX2_see 198 = .ok (.iconst 1, 1) := dk_4 (dk_at dksX2_see_8 11 rfl rfl)
theorem dX2_see_199 : decode cX2_see 199 = .ok (.iadd, 1) := dk_96 (dk_at dksX2_see_8 12 rfl rfl)
theorem dX2_see_200 : decode cX2_see 200 = .ok (.aaload, 1) := dk_50 (dk_at dksX2_see_8 13 rfl rfl)
theorem dX2_see_201 : decode cX2_see 201 = .ok (.iconst 0, 1) := dk_3 (dk_at dksX2_see_8 14 rfl rfl)
theorem dX2_see_202 : decode cX2_see 202 = .ok (.bipush 8, 2) := dk_16 8 (dk_at dksX2_see_8 15 rfl rfl)
theorem dX2_see_204 : decode cX2_see 204 = .ok (.invokestatic 142, 3) := dk_184 0 142 (dk_at dksX2_see_8 17 rfl rfl)
theorem dX2_see_207 : decode cX2_see 207 = .ok (.iconst 0, 1) := dk_3 (dk_at dksX2_see_8 20 rfl rfl)
theorem dX2_see_208 : decode cX2_see 208 = .ok (.istore 11, 2) := dk_54 11 (dk_at dksX2_see_8 21 rfl rfl)
theorem dX2_see_210 : decode cX2_see 210 = .ok (.iload 11, 2) := dk_21 11 (dk_at dksX2_see_9 0 rfl rfl)
theorem dX2_see_212 : decode cX2_see 212 = .ok (.aload_n 3, 1) := dk_45 (dk_at dksX2_see_9 2 rfl rfl)
theorem dX2_see_213 : decode cX2_see 213 = .ok (.getfield 153, 3) := dk_180 0 153 (dk_at dksX2_see_9 3 rfl rfl)
theorem dX2_see_216 : decode cX2_see 216 = .ok (.if_icmp .ge 35, 3) := dk_162 0 35 (dk_at dksX2_see_9 6 rfl rfl)
theorem dX2_see_219 : decode cX2_see 219 = .ok (.aload_n 0, 1) := dk_42 (dk_at dksX2_see_9 9 rfl rfl)
theorem dX2_see_220 : decode cX2_see 220 = .ok (.getfield 3, 3) := dk_180 0 3 (dk_at dksX2_see_9 10 rfl rfl)
theorem dX2_see_223 : decode cX2_see 223 = .ok (.getfield 46, 3) := dk_180 0 46 (dk_at dksX2_see_9 13 rfl rfl)
theorem dX2_see_226 : decode cX2_see 226 = .ok (.iload_n 1, 1) := dk_27 (dk_at dksX2_see_9 16 rfl rfl)
theorem dX2_see_227 : decode cX2_see 227 = .ok (.iconst 1, 1) := dk_4 (dk_at dksX2_see_9 17 rfl rfl)
theorem dX2_see_228 : decode cX2_see 228 = .ok (.iadd, 1) := dk_96 (dk_at dksX2_see_9 18 rfl rfl)
theorem dX2_see_229 : decode cX2_see 229 = .ok (.aaload, 1) := dk_50 (dk_at dksX2_see_9 19 rfl rfl)
theorem dX2_see_230 : decode cX2_see 230 = .ok (.aload_n 3, 1) := dk_45 (dk_at dksX2_see_9 20 rfl rfl)
theorem dX2_see_231 : decode cX2_see 231 = .ok (.getfield 158, 3) := dk_180 0 158 (dk_at dksX2_see_9 21 rfl rfl)
theorem dX2_see_234 : decode cX2_see 234 = .ok (.iload 11, 2) := dk_21 11 (dk_at dksX2_see_10 0 rfl rfl)
theorem dX2_see_236 : decode cX2_see 236 = .ok (.iaload, 1) := dk_46 (dk_at dksX2_see_10 2 rfl rfl)
theorem dX2_see_237 : decode cX2_see 237 = .ok (.iload 9, 2) := dk_21 9 (dk_at dksX2_see_10 3 rfl rfl)
theorem dX2_see_239 : decode cX2_see 239 = .ok (.iload 11, 2) := dk_21 11 (dk_at dksX2_see_10 5 rfl rfl)
theorem dX2_see_241 : decode cX2_see 241 = .ok (.ishr, 1) := dk_122 (dk_at dksX2_see_10 7 rfl rfl)
theorem dX2_see_242 : decode cX2_see 242 = .ok (.iconst 1, 1) := dk_4 (dk_at dksX2_see_10 8 rfl rfl)
theorem dX2_see_243 : decode cX2_see 243 = .ok (.iand, 1) := dk_126 (dk_at dksX2_see_10 9 rfl rfl)
theorem dX2_see_244 : decode cX2_see 244 = .ok (.iastore, 1) := dk_79 (dk_at dksX2_see_10 10 rfl rfl)
theorem dX2_see_245 : decode cX2_see 245 = .ok (.iinc 11 1, 3) := dk_132 11 1 (dk_at dksX2_see_10 11 rfl rfl)
theorem dX2_see_248 : decode cX2_see 248 = .ok (.goto (-38), 3) := dk_167 255 218 (dk_at dksX2_see_10 14 rfl rfl)
theorem dX2_see_251 : decode cX2_see 251 = .ok (.aload_n 0, 1) := dk_42 (dk_at dksX2_see_10 17 rfl rfl)
theorem dX2_see_252 : decode cX2_see 252 = .ok (.getfield 25, 3) := dk_180 0 25 (dk_at dksX2_see_10 18 rfl rfl)
theorem dX2_see_255 : decode cX2_see 255 = .ok (.iload 8, 2) := dk_21 8 (dk_at dksX2_see_10 21 rfl rfl)
theorem dX2_see_257 : decode cX2_see 257 = .ok (.iload 9, 2) := dk_21 9 (dk_at dksX2_see_11 0 rfl rfl)
theorem dX2_see_259 : decode cX2_see 259 = .ok (.iastore, 1) := dk_79 (dk_at dksX2_see_11 2 rfl rfl)
theorem dX2_see_260 : decode cX2_see 260 = .ok (.aload_n 0, 1) := dk_42 (dk_at dksX2_see_11 3 rfl rfl)
theorem dX2_see_261 : decode cX2_see 261 = .ok (.iload 8, 2) := dk_21 8 (dk_at dksX2_see_11 4 rfl rfl)
theorem dX2_see_263 : decode cX2_see 263 = .ok (.iconst 1, 1) := dk_4 (dk_at dksX2_see_11 6 rfl rfl)
theorem dX2_see_264 : decode cX2_see 264 = .ok (.iadd, 1) := dk_96 (dk_at dksX2_see_11 7 rfl rfl)
theorem dX2_see_265 : decode cX2_see 265 = .ok (.putfield 29, 3) := dk_181 0 29 (dk_at dksX2_see_11 8 rfl rfl)
theorem dX2_see_268 : decode cX2_see 268 = .ok (.aload_n 0, 1) := dk_42 (dk_at dksX2_see_11 11 rfl rfl)
theorem dX2_see_269 : decode cX2_see 269 = .ok (.iload_n 1, 1) := dk_27 (dk_at dksX2_see_11 12 rfl rfl)
theorem dX2_see_270 : decode cX2_see 270 = .ok (.iconst 1, 1) := dk_4 (dk_at dksX2_see_11 13 rfl rfl)
theorem dX2_see_271 : decode cX2_see 271 = .ok (.iadd, 1) := dk_96 (dk_at dksX2_see_11 14 rfl rfl)
theorem dX2_see_272 : decode cX2_see 272 = .ok (.iload_n 2, 1) := dk_28 (dk_at dksX2_see_11 15 rfl rfl)
theorem dX2_see_273 : decode cX2_see 273 = .ok (.iconst 1, 1) := dk_4 (dk_at dksX2_see_11 16 rfl rfl)
theorem dX2_see_274 : decode cX2_see 274 = .ok (.iadd, 1) := dk_96 (dk_at dksX2_see_11 17 rfl rfl)
theorem dX2_see_275 : decode cX2_see 275 = .ok (.iload 4, 2) := dk_21 4 (dk_at dksX2_see_11 18 rfl rfl)
theorem dX2_see_277 : decode cX2_see 277 = .ok (.lload 5, 2) := dk_22 5 (dk_at dksX2_see_11 20 rfl rfl)
theorem dX2_see_279 : decode cX2_see 279 = .ok (.iload 7, 2) := dk_21 7 (dk_at dksX2_see_11 22 rfl rfl)
theorem dX2_see_281 : decode cX2_see 281 = .ok (.invokevirtual 50, 3) := dk_182 0 50 (dk_at dksX2_see_12 0 rfl rfl)
theorem dX2_see_284 : decode cX2_see 284 = .ok (.iinc 9 1, 3) := dk_132 9 1 (dk_at dksX2_see_12 3 rfl rfl)
theorem dX2_see_287 : decode cX2_see 287 = .ok (.goto (-278), 3) := dk_167 254 234 (dk_at dksX2_see_12 6 rfl rfl)
theorem dX2_see_290 : decode cX2_see 290 = .ok (.aload_n 0, 1) := dk_42 (dk_at dksX2_see_12 9 rfl rfl)
theorem dX2_see_291 : decode cX2_see 291 = .ok (.iload 8, 2) := dk_21 8 (dk_at dksX2_see_12 10 rfl rfl)
theorem dX2_see_293 : decode cX2_see 293 = .ok (.putfield 29, 3) := dk_181 0 29 (dk_at dksX2_see_12 12 rfl rfl)
theorem dX2_see_296 : decode cX2_see 296 = .ok (.return_, 1) := dk_177 (dk_at dksX2_see_12 15 rfl rfl)
abbrev cX2_answers : ByteArray := prog_25_method_11_code
def yX2_answers : MethodName := ⟨RX2, "answers", "(ILBlindCards$Step;I)I"⟩
def dkwX2_answers_2 : List UInt8 := [184, 0, 165, 120, 167, 0, 4, 3, 128, 54, 4, 132, 5, 1, 167, 255, 202, 21, 4, 172]
abbrev dktX2_answers_2 : List UInt8 := dkwX2_answers_2 ++ []
def dkwX2_answers_1 : List UInt8 := [50, 17, 1, 0, 29, 104, 21, 5, 96, 47, 9, 148, 158, 0, 17, 4, 44, 21, 5, 184, 0, 161]
abbrev dktX2_answers_1 : List UInt8 := dkwX2_answers_1 ++ dktX2_answers_2
def dkwX2_answers_0 : List UInt8 := [3, 54, 4, 3, 54, 5, 21, 5, 17, 1, 0, 162, 0, 52, 21, 4, 42, 180, 0, 3, 180, 0, 32, 27]
abbrev dktX2_answers_0 : List UInt8 := dkwX2_answers_0 ++ dktX2_answers_1
theorem dksX2_answers_0 : cX2_answers.data.toList.drop 0 = dktX2_answers_0 := by decide +kernel
theorem dksX2_answers_1 : cX2_answers.data.toList.drop 24 = dktX2_answers_1 := dk_seg dksX2_answers_0 24 rfl rfl
theorem dksX2_answers_2 : cX2_answers.data.toList.drop 46 = dktX2_answers_2 := dk_seg dksX2_answers_1 22 rfl rfl
theorem dX2_answers_0 : decode cX2_answers 0 = .ok (.iconst 0, 1) := dk_3 (dk_at dksX2_answers_0 0 rfl rfl)
theorem dX2_answers_1 : decode cX2_answers 1 = .ok (.istore 4, 2) := dk_54 4 (dk_at dksX2_answers_0 1 rfl rfl)
theorem dX2_answers_3 : decode cX2_answers 3 = .ok (.iconst 0, 1) := dk_3 (dk_at dksX2_answers_0 3 rfl rfl)
theorem dX2_answers_4 : decode cX2_answers 4 = .ok (.istore 5, 2) := dk_54 5 (dk_at dksX2_answers_0 4 rfl rfl)
theorem dX2_answers_6 : decode cX2_answers 6 = .ok (.iload 5, 2) := dk_21 5 (dk_at dksX2_answers_0 6 rfl rfl)
theorem dX2_answers_8 : decode cX2_answers 8 = .ok (.sipush 256, 3) := dk_17 1 0 (dk_at dksX2_answers_0 8 rfl rfl)
theorem dX2_answers_11 : decode cX2_answers 11 = .ok (.if_icmp .ge 52, 3) := dk_162 0 52 (dk_at dksX2_answers_0 11 rfl rfl)
theorem dX2_answers_14 : decode cX2_answers 14 = .ok (.iload 4, 2) := dk_21 4 (dk_at dksX2_answers_0 14 rfl rfl)
theorem dX2_answers_16 : decode cX2_answers 16 = .ok (.aload_n 0, 1) := dk_42 (dk_at dksX2_answers_0 16 rfl rfl)
theorem dX2_answers_17 : decode cX2_answers 17 = .ok (.getfield 3, 3) := dk_180 0 3 (dk_at dksX2_answers_0 17 rfl rfl)
theorem dX2_answers_20 : decode cX2_answers 20 = .ok (.getfield 32, 3) := dk_180 0 32 (dk_at dksX2_answers_0 20 rfl rfl)
theorem dX2_answers_23 : decode cX2_answers 23 = .ok (.iload_n 1, 1) := dk_27 (dk_at dksX2_answers_0 23 rfl rfl)
theorem dX2_answers_24 : decode cX2_answers 24 = .ok (.aaload, 1) := dk_50 (dk_at dksX2_answers_1 0 rfl rfl)
theorem dX2_answers_25 : decode cX2_answers 25 = .ok (.sipush 256, 3) := dk_17 1 0 (dk_at dksX2_answers_1 1 rfl rfl)
theorem dX2_answers_28 : decode cX2_answers 28 = .ok (.iload_n 3, 1) := dk_29 (dk_at dksX2_answers_1 4 rfl rfl)
theorem dX2_answers_29 : decode cX2_answers 29 = .ok (.imul, 1) := dk_104 (dk_at dksX2_answers_1 5 rfl rfl)
theorem dX2_answers_30 : decode cX2_answers 30 = .ok (.iload 5, 2) := dk_21 5 (dk_at dksX2_answers_1 6 rfl rfl)
theorem dX2_answers_32 : decode cX2_answers 32 = .ok (.iadd, 1) := dk_96 (dk_at dksX2_answers_1 8 rfl rfl)
theorem dX2_answers_33 : decode cX2_answers 33 = .ok (.laload, 1) := dk_47 (dk_at dksX2_answers_1 9 rfl rfl)
theorem dX2_answers_34 : decode cX2_answers 34 = .ok (.lconst 0, 1) := dk_9 (dk_at dksX2_answers_1 10 rfl rfl)
theorem dX2_answers_35 : decode cX2_answers 35 = .ok (.lcmp, 1) := dk_148 (dk_at dksX2_answers_1 11 rfl rfl)
theorem dX2_answers_36 : decode cX2_answers 36 = .ok (.ifCond .le 17, 3) := dk_158 0 17 (dk_at dksX2_answers_1 12 rfl rfl)
theorem dX2_answers_39 : decode cX2_answers 39 = .ok (.iconst 1, 1) := dk_4 (dk_at dksX2_answers_1 15 rfl rfl)
theorem dX2_answers_40 : decode cX2_answers 40 = .ok (.aload_n 2, 1) := dk_44 (dk_at dksX2_answers_1 16 rfl rfl)
theorem dX2_answers_41 : decode cX2_answers 41 = .ok (.iload 5, 2) := dk_21 5 (dk_at dksX2_answers_1 17 rfl rfl)
theorem dX2_answers_43 : decode cX2_answers 43 = .ok (.invokestatic 161, 3) := dk_184 0 161 (dk_at dksX2_answers_1 19 rfl rfl)
theorem dX2_answers_46 : decode cX2_answers 46 = .ok (.invokestatic 165, 3) := dk_184 0 165 (dk_at dksX2_answers_2 0 rfl rfl)
theorem dX2_answers_49 : decode cX2_answers 49 = .ok (.ishl, 1) := dk_120 (dk_at dksX2_answers_2 3 rfl rfl)
theorem dX2_answers_50 : decode cX2_answers 50 = .ok (.goto 4, 3) := dk_167 0 4 (dk_at dksX2_answers_2 4 rfl rfl)
theorem dX2_answers_53 : decode cX2_answers 53 = .ok (.iconst 0, 1) := dk_3 (dk_at dksX2_answers_2 7 rfl rfl)
theorem dX2_answers_54 : decode cX2_answers 54 = .ok (.ior, 1) := dk_128 (dk_at dksX2_answers_2 8 rfl rfl)
theorem dX2_answers_55 : decode cX2_answers 55 = .ok (.istore 4, 2) := dk_54 4 (dk_at dksX2_answers_2 9 rfl rfl)
theorem dX2_answers_57 : decode cX2_answers 57 = .ok (.iinc 5 1, 3) := dk_132 5 1 (dk_at dksX2_answers_2 11 rfl rfl)
theorem dX2_answers_60 : decode cX2_answers 60 = .ok (.goto (-54), 3) := dk_167 255 202 (dk_at dksX2_answers_2 14 rfl rfl)
theorem dX2_answers_63 : decode cX2_answers 63 = .ok (.iload 4, 2) := dk_21 4 (dk_at dksX2_answers_2 17 rfl rfl)
theorem dX2_answers_65 : decode cX2_answers 65 = .ok (.ireturn, 1) := dk_172 (dk_at dksX2_answers_2 19 rfl rfl)
abbrev cX2_sum : ByteArray := prog_25_method_10_code
def yX2_sum : MethodName := ⟨RX2, "sum", "(II)J"⟩
def dkwX2_sum_1 : List UInt8 := [17, 1, 0, 28, 104, 21, 5, 96, 47, 97, 66, 132, 5, 1, 167, 255, 224, 33, 173]
abbrev dktX2_sum_1 : List UInt8 := dkwX2_sum_1 ++ []
def dkwX2_sum_0 : List UInt8 := [9, 66, 3, 54, 5, 21, 5, 17, 1, 0, 162, 0, 30, 33, 42, 180, 0, 3, 180, 0, 32, 27, 50]
abbrev dktX2_sum_0 : List UInt8 := dkwX2_sum_0 ++ dktX2_sum_1
theorem dksX2_sum_0 : cX2_sum.data.toList.drop 0 = dktX2_sum_0 := by decide +kernel
theorem dksX2_sum_1 : cX2_sum.data.toList.drop 23 = dktX2_sum_1 := dk_seg dksX2_sum_0 23 rfl rfl
theorem dX2_sum_0 : decode cX2_sum 0 = .ok (.lconst 0, 1) := dk_9 (dk_at dksX2_sum_0 0 rfl rfl)
theorem dX2_sum_1 : decode cX2_sum 1 = .ok (.lstore_n 3, 1) := dk_66 (dk_at dksX2_sum_0 1 rfl rfl)
theorem dX2_sum_2 : decode cX2_sum 2 = .ok (.iconst 0, 1) := dk_3 (dk_at dksX2_sum_0 2 rfl rfl)
theorem dX2_sum_3 : decode cX2_sum 3 = .ok (.istore 5, 2) := dk_54 5 (dk_at dksX2_sum_0 3 rfl rfl)
theorem dX2_sum_5 : decode cX2_sum 5 = .ok (.iload 5, 2) := dk_21 5 (dk_at dksX2_sum_0 5 rfl rfl)
theorem dX2_sum_7 : decode cX2_sum 7 = .ok (.sipush 256, 3) := dk_17 1 0 (dk_at dksX2_sum_0 7 rfl rfl)
theorem dX2_sum_10 : decode cX2_sum 10 = .ok (.if_icmp .ge 30, 3) := dk_162 0 30 (dk_at dksX2_sum_0 10 rfl rfl)
theorem dX2_sum_13 : decode cX2_sum 13 = .ok (.lload_n 3, 1) := dk_33 (dk_at dksX2_sum_0 13 rfl rfl)
theorem dX2_sum_14 : decode cX2_sum 14 = .ok (.aload_n 0, 1) := dk_42 (dk_at dksX2_sum_0 14 rfl rfl)
theorem dX2_sum_15 : decode cX2_sum 15 = .ok (.getfield 3, 3) := dk_180 0 3 (dk_at dksX2_sum_0 15 rfl rfl)
theorem dX2_sum_18 : decode cX2_sum 18 = .ok (.getfield 32, 3) := dk_180 0 32 (dk_at dksX2_sum_0 18 rfl rfl)
theorem dX2_sum_21 : decode cX2_sum 21 = .ok (.iload_n 1, 1) := dk_27 (dk_at dksX2_sum_0 21 rfl rfl)
theorem dX2_sum_22 : decode cX2_sum 22 = .ok (.aaload, 1) := dk_50 (dk_at dksX2_sum_0 22 rfl rfl)
theorem dX2_sum_23 : decode cX2_sum 23 = .ok (.sipush 256, 3) := dk_17 1 0 (dk_at dksX2_sum_1 0 rfl rfl)
theorem dX2_sum_26 : decode cX2_sum 26 = .ok (.iload_n 2, 1) := dk_28 (dk_at dksX2_sum_1 3 rfl rfl)
theorem dX2_sum_27 : decode cX2_sum 27 = .ok (.imul, 1) := dk_104 (dk_at dksX2_sum_1 4 rfl rfl)
theorem dX2_sum_28 : decode cX2_sum 28 = .ok (.iload 5, 2) := dk_21 5 (dk_at dksX2_sum_1 5 rfl rfl)
theorem dX2_sum_30 : decode cX2_sum 30 = .ok (.iadd, 1) := dk_96 (dk_at dksX2_sum_1 7 rfl rfl)
theorem dX2_sum_31 : decode cX2_sum 31 = .ok (.laload, 1) := dk_47 (dk_at dksX2_sum_1 8 rfl rfl)
theorem dX2_sum_32 : decode cX2_sum 32 = .ok (.ladd, 1) := dk_97 (dk_at dksX2_sum_1 9 rfl rfl)
theorem dX2_sum_33 : decode cX2_sum 33 = .ok (.lstore_n 3, 1) := dk_66 (dk_at dksX2_sum_1 10 rfl rfl)
theorem dX2_sum_34 : decode cX2_sum 34 = .ok (.iinc 5 1, 3) := dk_132 5 1 (dk_at dksX2_sum_1 11 rfl rfl)
theorem dX2_sum_37 : decode cX2_sum 37 = .ok (.goto (-32), 3) := dk_167 255 224 (dk_at dksX2_sum_1 14 rfl rfl)
theorem dX2_sum_40 : decode cX2_sum 40 = .ok (.lload_n 3, 1) := dk_33 (dk_at dksX2_sum_1 17 rfl rfl)
theorem dX2_sum_41 : decode cX2_sum 41 = .ok (.lreturn, 1) := dk_173 (dk_at dksX2_sum_1 18 rfl rfl)
theorem q130 : (Jvm.Cond.initialized "BlindCards$Runs") ∈ lw_all := lw_g (lw_at lw_m1 6 rfl) rfl
theorem q219 : (Jvm.Cond.fieldLink "BlindCards$Runs" (54 : Nat) "BlindCards$Recipe" "steps" "Ljava/util/ArrayList;") ∈ lw_all := lw_g (lw_at lw_m1 95 rfl) rfl
theorem q266 : (Jvm.Cond.instanceMethod ({ cls := "BlindCards$Runs", name := "<init>", desc := "(LBlindCards;)V" } : Jvm.MethodName)) ∈ lw_all := lw_g (lw_at lw_m1 142 rfl) rfl
theorem q267 : (Jvm.Cond.code ({ cls := "BlindCards$Runs", name := "<init>", desc := "(LBlindCards;)V" } : Jvm.MethodName) prog_25_method_1_code (2 : Nat) (Option.none : Option Jvm.ClassFile.FieldType)) ∈ lw_all := lw_g (lw_at lw_m1 143 rfl) rfl
theorem q268 : (Jvm.Cond.methodLink "BlindCards$Runs" (9 : Nat) ({ cls := "java/lang/Object", name := "<init>", desc := "()V" } : Jvm.MethodName)) ∈ lw_all := lw_g (lw_at lw_m1 144 rfl) rfl
theorem q286 : (Jvm.Cond.fieldLink "BlindCards$Runs" (15 : Nat) "BlindCards$Runs" "cheat" "I") ∈ lw_all := lw_g (lw_at lw_m1 162 rfl) rfl
theorem q289 : (Jvm.Cond.fieldLink "BlindCards$Runs" (19 : Nat) "BlindCards$Runs" "bent" "I") ∈ lw_all := lw_g (lw_at lw_m1 165 rfl) rfl
theorem q292 : (Jvm.Cond.fieldLink "BlindCards$Runs" (22 : Nat) "BlindCards$Runs" "counted" "I") ∈ lw_all := lw_g (lw_at lw_m1 168 rfl) rfl
theorem q297 : (Jvm.Cond.fieldLink "BlindCards$Runs" (128 : Nat) "BlindCards$Runs" "cheatsRed" "Z") ∈ lw_all := lw_g (lw_at lw_m1 173 rfl) rfl
theorem q298 : (Jvm.Cond.fieldLink "BlindCards$Runs" (25 : Nat) "BlindCards$Runs" "looks" "[I") ∈ lw_all := lw_g (lw_at lw_m1 174 rfl) rfl
theorem q301 : (Jvm.Cond.fieldLink "BlindCards$Runs" (29 : Nat) "BlindCards$Runs" "lookMany" "I") ∈ lw_all := lw_g (lw_at lw_m1 177 rfl) rfl
theorem q304 : (Jvm.Cond.fieldLink "BlindCards$Runs" (3 : Nat) "BlindCards$Runs" "this$0" "LBlindCards;") ∈ lw_all := lw_g (lw_at lw_m1 180 rfl) rfl
theorem q324 : (Jvm.Cond.soleField "BlindCards$Runs" "cheat") ∈ lw_all := lw_g (lw_at lw_m1 200 rfl) rfl
theorem q326 : (Jvm.Cond.soleField "BlindCards$Runs" "bent") ∈ lw_all := lw_g (lw_at lw_m1 202 rfl) rfl
theorem q328 : (Jvm.Cond.soleField "BlindCards$Runs" "counted") ∈ lw_all := lw_g (lw_at lw_m1 204 rfl) rfl
theorem q330 : (Jvm.Cond.soleField "BlindCards$Runs" "cheatsRed") ∈ lw_all := lw_g (lw_at lw_m1 206 rfl) rfl
theorem q332 : (Jvm.Cond.soleField "BlindCards$Runs" "looks") ∈ lw_all := lw_g (lw_at lw_m1 208 rfl) rfl
theorem q334 : (Jvm.Cond.soleField "BlindCards$Runs" "lookMany") ∈ lw_all := lw_g (lw_at lw_m1 210 rfl) rfl
theorem q336 : (Jvm.Cond.soleField "BlindCards$Runs" "this$0") ∈ lw_all := lw_g (lw_at lw_m1 212 rfl) rfl
theorem q475 : (Jvm.Cond.declares ({ cls := "BlindCards$Runs", name := "begin", desc := "()V" } : Jvm.MethodName)) ∈ lw_tbl := lw_at lw_m2 111 rfl
theorem q477 : (Jvm.Cond.instanceMethod ({ cls := "BlindCards$Runs", name := "begin", desc := "()V" } : Jvm.MethodName)) ∈ lw_all := lw_g (lw_at lw_m2 113 rfl) rfl
theorem q478 : (Jvm.Cond.code ({ cls := "BlindCards$Runs", name := "begin", desc := "()V" } : Jvm.MethodName) prog_25_method_4_code (2 : Nat) (Option.none : Option Jvm.ClassFile.FieldType)) ∈ lw_all := lw_g (lw_at lw_m2 114 rfl) rfl
theorem q479 : (Jvm.Cond.methodLink "BlindCards$Runs" (40 : Nat) ({ cls := "BlindCards$Recipe", name := "inputs", desc := "()I" } : Jvm.MethodName)) ∈ lw_all := lw_g (lw_at lw_m2 115 rfl) rfl
theorem q483 : (Jvm.Cond.methodLink "BlindCards$Runs" (50 : Nat) ({ cls := "BlindCards$Runs", name := "go", desc := "(IIIJI)V" } : Jvm.MethodName)) ∈ lw_all := lw_g (lw_at lw_m2 119 rfl) rfl
theorem q484 : (Jvm.Cond.privateMethod ({ cls := "BlindCards$Runs", name := "go", desc := "(IIIJI)V" } : Jvm.MethodName)) ∈ lw_tbl := lw_at lw_m2 120 rfl
theorem q485 : (Jvm.Cond.instanceMethod ({ cls := "BlindCards$Runs", name := "go", desc := "(IIIJI)V" } : Jvm.MethodName)) ∈ lw_all := lw_g (lw_at lw_m2 121 rfl) rfl
theorem q486 : (Jvm.Cond.code ({ cls := "BlindCards$Runs", name := "go", desc := "(IIIJI)V" } : Jvm.MethodName) prog_25_method_5_code (14 : Nat) (Option.none : Option Jvm.ClassFile.FieldType)) ∈ lw_all := lw_g (lw_at lw_m2 122 rfl) rfl
theorem q487 : (Jvm.Cond.methodLink "BlindCards$Runs" (58 : Nat) ({ cls := "java/util/ArrayList", name := "size", desc := "()I" } : Jvm.MethodName)) ∈ lw_all := lw_g (lw_at lw_m2 123 rfl) rfl
theorem q491 : (Jvm.Cond.methodLink "BlindCards$Runs" (63 : Nat) ({ cls := "BlindCards$Runs", name := "isDone", desc := "()Z" } : Jvm.MethodName)) ∈ lw_all := lw_g (lw_at lw_m2 127 rfl) rfl
theorem q492 : (Jvm.Cond.declares ({ cls := "BlindCards$Runs", name := "isDone", desc := "()Z" } : Jvm.MethodName)) ∈ lw_tbl := lw_at lw_m2 128 rfl
theorem q493 : (Jvm.Cond.sameMethod "BlindCards$Runs" "BlindCards$Runs" "isDone" "()Z") ∈ lw_all := lw_g (lw_at lw_m2 129 rfl) rfl
theorem q503 : (Jvm.Cond.methodLink "BlindCards$Runs" (67 : Nat) ({ cls := "java/util/ArrayList", name := "get", desc := "(I)Ljava/lang/Object;" } : Jvm.MethodName)) ∈ lw_all := lw_g (lw_at lw_m2 139 rfl) rfl
theorem q517 : (Jvm.Cond.classLink "BlindCards$Runs" (71 : Nat) "BlindCards$Step") ∈ lw_all := lw_g (lw_at lw_m2 153 rfl) rfl
theorem q518 : (Jvm.Cond.methodLink "BlindCards$Runs" (73 : Nat) ({ cls := "BlindCards$Step", name := "needs", desc := "()I" } : Jvm.MethodName)) ∈ lw_all := lw_g (lw_at lw_m2 154 rfl) rfl
theorem q541 : (Jvm.Cond.classLink "BlindCards$Runs" (76 : Nat) "BlindCards$Lay") ∈ lw_all := lw_g (lw_at lw_m2 177 rfl) rfl
theorem q542 : (Jvm.Cond.methodLink "BlindCards$Runs" (78 : Nat) ({ cls := "BlindCards$Lay", name := "many", desc := "()I" } : Jvm.MethodName)) ∈ lw_all := lw_g (lw_at lw_m2 178 rfl) rfl
theorem q546 : (Jvm.Cond.methodLink "BlindCards$Runs" (81 : Nat) ({ cls := "BlindCards$Runs", name := "lay", desc := "(ILBlindCards$Lay;I)V" } : Jvm.MethodName)) ∈ lw_all := lw_g (lw_at lw_m2 182 rfl) rfl
theorem q547 : (Jvm.Cond.privateMethod ({ cls := "BlindCards$Runs", name := "lay", desc := "(ILBlindCards$Lay;I)V" } : Jvm.MethodName)) ∈ lw_tbl := lw_at lw_m2 183 rfl
theorem q548 : (Jvm.Cond.instanceMethod ({ cls := "BlindCards$Runs", name := "lay", desc := "(ILBlindCards$Lay;I)V" } : Jvm.MethodName)) ∈ lw_all := lw_g (lw_at lw_m2 184 rfl) rfl
theorem q549 : (Jvm.Cond.code ({ cls := "BlindCards$Runs", name := "lay", desc := "(ILBlindCards$Lay;I)V" } : Jvm.MethodName) prog_25_method_6_code (7 : Nat) (Option.none : Option Jvm.ClassFile.FieldType)) ∈ lw_all := lw_g (lw_at lw_m2 185 rfl) rfl
theorem q550 : (Jvm.Cond.methodLink "BlindCards$Runs" (131 : Nat) ({ cls := "BlindCards$Lay", name := "cards", desc := "(IIIZ)I" } : Jvm.MethodName)) ∈ lw_all := lw_g (lw_at lw_m2 186 rfl) rfl
theorem q554 : (Jvm.Cond.classLink "BlindCards$Runs" (85 : Nat) "BlindCards$Move") ∈ lw_all := lw_g (lw_at lw_m2 190 rfl) rfl
theorem q555 : (Jvm.Cond.methodLink "BlindCards$Runs" (87 : Nat) ({ cls := "BlindCards$Move", name := "ways", desc := "()I" } : Jvm.MethodName)) ∈ lw_all := lw_g (lw_at lw_m2 191 rfl) rfl
theorem q570 : (Jvm.Cond.methodLink "BlindCards$Runs" (90 : Nat) ({ cls := "BlindCards$Runs", name := "part", desc := "(IILBlindCards$Move;IJI)V" } : Jvm.MethodName)) ∈ lw_all := lw_g (lw_at lw_m2 206 rfl) rfl
theorem q571 : (Jvm.Cond.privateMethod ({ cls := "BlindCards$Runs", name := "part", desc := "(IILBlindCards$Move;IJI)V" } : Jvm.MethodName)) ∈ lw_tbl := lw_at lw_m2 207 rfl
theorem q572 : (Jvm.Cond.instanceMethod ({ cls := "BlindCards$Runs", name := "part", desc := "(IILBlindCards$Move;IJI)V" } : Jvm.MethodName)) ∈ lw_all := lw_g (lw_at lw_m2 208 rfl) rfl
theorem q573 : (Jvm.Cond.code ({ cls := "BlindCards$Runs", name := "part", desc := "(IILBlindCards$Move;IJI)V" } : Jvm.MethodName) prog_25_method_8_code (14 : Nat) (Option.none : Option Jvm.ClassFile.FieldType)) ∈ lw_all := lw_g (lw_at lw_m2 209 rfl) rfl
theorem q574 : (Jvm.Cond.methodLink "BlindCards$Runs" (148 : Nat) ({ cls := "java/lang/Math", name := "max", desc := "(II)I" } : Jvm.MethodName)) ∈ lw_all := lw_g (lw_at lw_m2 210 rfl) rfl
theorem q575 : (Jvm.Cond.methodLink "BlindCards$Runs" (98 : Nat) ({ cls := "BlindCards$Move", name := "to", desc := "(II)I" } : Jvm.MethodName)) ∈ lw_all := lw_g (lw_at lw_m2 211 rfl) rfl
theorem q595 : (Jvm.Cond.methodLink "BlindCards$Runs" (139 : Nat) ({ cls := "BlindCards$Move", name := "row", desc := "(II)I" } : Jvm.MethodName)) ∈ lw_all := lw_g (lw_at lw_m2 231 rfl) rfl
theorem q604 : (Jvm.Cond.methodLink "BlindCards$Runs" (142 : Nat) ({ cls := "java/lang/System", name := "arraycopy", desc := "(Ljava/lang/Object;ILjava/lang/Object;II)V" } : Jvm.MethodName)) ∈ lw_all := lw_g (lw_at lw_m3 0 rfl) rfl
theorem q605 : (Jvm.Cond.methodLink "BlindCards$Runs" (94 : Nat) ({ cls := "BlindCards$Runs", name := "move", desc := "(ILBlindCards$Move;)V" } : Jvm.MethodName)) ∈ lw_all := lw_g (lw_at lw_m3 1 rfl) rfl
theorem q606 : (Jvm.Cond.privateMethod ({ cls := "BlindCards$Runs", name := "move", desc := "(ILBlindCards$Move;)V" } : Jvm.MethodName)) ∈ lw_tbl := lw_at lw_m3 2 rfl
theorem q607 : (Jvm.Cond.instanceMethod ({ cls := "BlindCards$Runs", name := "move", desc := "(ILBlindCards$Move;)V" } : Jvm.MethodName)) ∈ lw_all := lw_g (lw_at lw_m3 3 rfl) rfl
theorem q608 : (Jvm.Cond.code ({ cls := "BlindCards$Runs", name := "move", desc := "(ILBlindCards$Move;)V" } : Jvm.MethodName) prog_25_method_7_code (6 : Nat) (Option.none : Option Jvm.ClassFile.FieldType)) ∈ lw_all := lw_g (lw_at lw_m3 4 rfl) rfl
theorem q609 : (Jvm.Cond.classLink "BlindCards$Runs" (102 : Nat) "BlindCards$Open") ∈ lw_all := lw_g (lw_at lw_m3 5 rfl) rfl
theorem q610 : (Jvm.Cond.methodLink "BlindCards$Runs" (104 : Nat) ({ cls := "BlindCards$Runs", name := "see", desc := "(IILBlindCards$Open;IJI)V" } : Jvm.MethodName)) ∈ lw_all := lw_g (lw_at lw_m3 6 rfl) rfl
theorem q611 : (Jvm.Cond.privateMethod ({ cls := "BlindCards$Runs", name := "see", desc := "(IILBlindCards$Open;IJI)V" } : Jvm.MethodName)) ∈ lw_tbl := lw_at lw_m3 7 rfl
theorem q612 : (Jvm.Cond.instanceMethod ({ cls := "BlindCards$Runs", name := "see", desc := "(IILBlindCards$Open;IJI)V" } : Jvm.MethodName)) ∈ lw_all := lw_g (lw_at lw_m3 8 rfl) rfl
theorem q613 : (Jvm.Cond.code ({ cls := "BlindCards$Runs", name := "see", desc := "(IILBlindCards$Open;IJI)V" } : Jvm.MethodName) prog_25_method_9_code (14 : Nat) (Option.none : Option Jvm.ClassFile.FieldType)) ∈ lw_all := lw_g (lw_at lw_m3 9 rfl) rfl
theorem q614 : (Jvm.Cond.methodLink "BlindCards$Runs" (155 : Nat) ({ cls := "BlindCards$Open", name := "seen", desc := "(I)I" } : Jvm.MethodName)) ∈ lw_all := lw_g (lw_at lw_m3 10 rfl) rfl
theorem q618 : (Jvm.Cond.classLink "BlindCards$Runs" (108 : Nat) "BlindCards$If") ∈ lw_all := lw_g (lw_at lw_m3 14 rfl) rfl
theorem q619 : (Jvm.Cond.classLink "BlindCards$Runs" (120 : Nat) "BlindCards$End") ∈ lw_all := lw_g (lw_at lw_m3 15 rfl) rfl
theorem q620 : (Jvm.Cond.classLink "BlindCards$Runs" (122 : Nat) "BlindCards$Says") ∈ lw_all := lw_g (lw_at lw_m3 16 rfl) rfl
theorem q621 : (Jvm.Cond.methodLink "BlindCards$Runs" (124 : Nat) ({ cls := "BlindCards$Runs", name := "end", desc := "(ILBlindCards$Step;J)V" } : Jvm.MethodName)) ∈ lw_all := lw_g (lw_at lw_m3 17 rfl) rfl
theorem q622 : (Jvm.Cond.declares ({ cls := "BlindCards$Runs", name := "end", desc := "(ILBlindCards$Step;J)V" } : Jvm.MethodName)) ∈ lw_tbl := lw_at lw_m3 18 rfl
theorem q623 : (Jvm.Cond.sameMethod "BlindCards$Runs" "BlindCards$Runs" "end" "(ILBlindCards$Step;J)V") ∈ lw_all := lw_g (lw_at lw_m3 19 rfl) rfl
theorem q630 : (Jvm.Cond.declares ({ cls := "BlindCards$Runs", name := "answers", desc := "(ILBlindCards$Step;I)I" } : Jvm.MethodName)) ∈ lw_tbl := lw_at lw_m3 26 rfl
theorem q632 : (Jvm.Cond.instanceMethod ({ cls := "BlindCards$Runs", name := "answers", desc := "(ILBlindCards$Step;I)I" } : Jvm.MethodName)) ∈ lw_all := lw_g (lw_at lw_m3 28 rfl) rfl
theorem q633 : (Jvm.Cond.code ({ cls := "BlindCards$Runs", name := "answers", desc := "(ILBlindCards$Step;I)I" } : Jvm.MethodName) prog_25_method_11_code (6 : Nat) (Option.some Jvm.ClassFile.FieldType.int)) ∈ lw_all := lw_g (lw_at lw_m3 29 rfl) rfl
theorem q634 : (Jvm.Cond.methodLinkNest "BlindCards$Runs" (161 : Nat) ({ cls := "BlindCards", name := "answer", desc := "(LBlindCards$Step;I)I" } : Jvm.MethodName) "BlindCards") ∈ lw_tbl := lw_at lw_m3 30 rfl
theorem q643 : (Jvm.Cond.methodLinkNest "BlindCards$Runs" (165 : Nat) ({ cls := "BlindCards", name := "bitOf", desc := "(I)I" } : Jvm.MethodName) "BlindCards") ∈ lw_tbl := lw_at lw_m3 39 rfl
theorem q716 : (Jvm.Cond.declares ({ cls := "BlindCards$Runs", name := "sum", desc := "(II)J" } : Jvm.MethodName)) ∈ lw_tbl := lw_at lw_m3 112 rfl
theorem q718 : (Jvm.Cond.instanceMethod ({ cls := "BlindCards$Runs", name := "sum", desc := "(II)J" } : Jvm.MethodName)) ∈ lw_all := lw_g (lw_at lw_m3 114 rfl) rfl
theorem q719 : (Jvm.Cond.code ({ cls := "BlindCards$Runs", name := "sum", desc := "(II)J" } : Jvm.MethodName) prog_25_method_10_code (6 : Nat) (Option.some Jvm.ClassFile.FieldType.long)) ∈ lw_all := lw_g (lw_at lw_m3 115 rfl) rfl
theorem q741 : (Jvm.Cond.fieldLinkNest "BlindCards$Runs" (32 : Nat) "BlindCards" "often" "[[J" "BlindCards") ∈ lw_tbl := lw_at lw_m3 137 rfl
theorem q744 : (Jvm.Cond.fieldLinkNest "BlindCards$Runs" (46 : Nat) "BlindCards" "seen" "[[I" "BlindCards") ∈ lw_tbl := lw_at lw_m3 140 rfl
theorem q746 : (Jvm.Cond.fieldLinkNest "BlindCards$Runs" (135 : Nat) "BlindCards" "spare" "[J" "BlindCards") ∈ lw_tbl := lw_at lw_m3 142 rfl
theorem q756 : (Jvm.Cond.fieldLinkNest "BlindCards$Runs" (36 : Nat) "BlindCards" "recipe" "LBlindCards$Recipe;" "BlindCards") ∈ lw_tbl := lw_at lw_m3 152 rfl
theorem q1376 : (Jvm.Cond.fieldLink "BlindCards$Runs" (158 : Nat) "BlindCards$Open" "places" "[I") ∈ lw_all := lw_g (lw_at lw_m6 52 rfl) rfl
theorem q1380 : (Jvm.Cond.fieldLink "BlindCards$Runs" (153 : Nat) "BlindCards$Open" "many" "I") ∈ lw_all := lw_g (lw_at lw_m6 56 rfl) rfl
theorem q1506 : (Jvm.Cond.fieldLink "BlindCards$Runs" (110 : Nat) "BlindCards$If" "at" "I") ∈ lw_all := lw_g (lw_at lw_m6 182 rfl) rfl
theorem q1509 : (Jvm.Cond.fieldLink "BlindCards$Runs" (113 : Nat) "BlindCards$If" "isRed" "Z") ∈ lw_all := lw_g (lw_at lw_m6 185 rfl) rfl
theorem q1516 : (Jvm.Cond.fieldLink "BlindCards$Runs" (117 : Nat) "BlindCards$If" "goes" "I") ∈ lw_all := lw_g (lw_at lw_m6 192 rfl) rfl
theorem q2552 : (Jvm.Cond.sameMethod "BlindCards$Runs" "BlindCards$Runs" "go" "(IIIJI)V") ∈ lw_all := lw_g (lw_at lw_m11 28 rfl) rfl
theorem q2553 : (Jvm.Cond.sameMethod "BlindCards$Runs" "BlindCards$Runs" "lay" "(ILBlindCards$Lay;I)V") ∈ lw_all := lw_g (lw_at lw_m11 29 rfl) rfl
theorem q2554 : (Jvm.Cond.sameMethod "BlindCards$Runs" "BlindCards$Runs" "part" "(IILBlindCards$Move;IJI)V") ∈ lw_all := lw_g (lw_at lw_m11 30 rfl) rfl
theorem q2555 : (Jvm.Cond.sameMethod "BlindCards$Runs" "BlindCards$Runs" "move" "(ILBlindCards$Move;)V") ∈ lw_all := lw_g (lw_at lw_m11 31 rfl) rfl
theorem q2556 : (Jvm.Cond.sameMethod "BlindCards$Runs" "BlindCards$Runs" "see" "(IILBlindCards$Open;IJI)V") ∈ lw_all := lw_g (lw_at lw_m11 32 rfl) rfl
