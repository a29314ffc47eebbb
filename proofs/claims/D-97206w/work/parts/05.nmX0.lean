/-! YoungerBack -/
set_option maxRecDepth 100000
def RX0 : String := "YoungerBack"
def TX0 : u_T := fun k => match k with
  | 0 => ("YoungerBack", "rows", "[LYoungerBack$Row;", true)
  | 1 => ("YoungerBack", "tape", "[B", true)
  | 2 => ("YoungerBack", "taped", "I", false)
  | 3 => ("YoungerBack", "faultKind", "I", false)
  | 4 => ("YoungerBack", "league", "LYoungerBack$League;", true)
  | 5 => ("YoungerBack", "past", "[LYoungerBack$League;", true)
  | 6 => ("YoungerBack", "acts", "I", false)
  | 7 => ("YoungerBack", "images", "[LYoungerBack$League;", true)
  | 8 => ("YoungerBack", "trail", "LYoungerBack$Trail;", false)
  | 9 => ("YoungerBack", "status", "I", false)
  | 10 => ("YoungerBack", "gain", "[J", true)
  | _ => ("YoungerBack", "gainOther", "[J", true)
def tyX0 : Nat → FieldType := fun k => match k with
  | 0 => .array (.object "YoungerBack$Row")
  | 1 => .array .byte
  | 2 => .int
  | 3 => .int
  | 4 => .object "YoungerBack$League"
  | 5 => .array (.object "YoungerBack$League")
  | 6 => .int
  | 7 => .array (.object "YoungerBack$League")
  | 8 => .object "YoungerBack$Trail"
  | 9 => .int
  | 10 => .array .long
  | _ => .array .long
abbrev wsX00 : List Cond := u_ws RX0 TX0 12
theorem nmX0 : ∀ a, a < 12 → ∀ b, b < 12 → a ≠ b → (TX0 a).2.1 ≠ (TX0 b).2.1 := by decide +kernel
theorem tyX0_ok : ∀ k, k < 12 → parseFieldDescriptor (TX0 k).2.2.1 = some (tyX0 k) := by decide +kernel
abbrev cX0_init : ByteArray := prog_1_method_3_code
def yX0_init : MethodName := ⟨RX0, "<init>", "()V"⟩
def dkwX0_init_3 : List UInt8 := [17, 0, 205, 188, 11, 181, 0, 61, 177]
abbrev dktX0_init_3 : List UInt8 := dkwX0_init_3 ++ []
def dkwX0_init_2 : List UInt8 := [181, 0, 47, 42, 187, 0, 50, 89, 183, 0, 52, 181, 0, 53, 42, 17, 0, 205, 188, 11, 181, 0, 57, 42]
abbrev dktX0_init_2 : List UInt8 := dkwX0_init_2 ++ dktX0_init_3
def dkwX0_init_1 : List UInt8 := [187, 0, 36, 89, 183, 0, 38, 181, 0, 39, 42, 16, 24, 189, 0, 36, 181, 0, 43, 42, 5, 189, 0, 36]
abbrev dktX0_init_1 : List UInt8 := dkwX0_init_1 ++ dktX0_init_2
def dkwX0_init_0 : List UInt8 := [42, 183, 0, 21, 42, 16, 8, 189, 0, 26, 181, 0, 28, 42, 17, 1, 144, 188, 8, 181, 0, 32, 42]
abbrev dktX0_init_0 : List UInt8 := dkwX0_init_0 ++ dktX0_init_1
theorem dksX0_init_0 : cX0_init.data.toList.drop 0 = dktX0_init_0 := by decide +kernel
theorem dksX0_init_1 : cX0_init.data.toList.drop 23 = dktX0_init_1 := dk_seg dksX0_init_0 23 rfl rfl
theorem dksX0_init_2 : cX0_init.data.toList.drop 47 = dktX0_init_2 := dk_seg dksX0_init_1 24 rfl rfl
theorem dksX0_init_3 : cX0_init.data.toList.drop 71 = dktX0_init_3 := dk_seg dksX0_init_2 24 rfl rfl
theorem dX0_init_0 : decode cX0_init 0 = .ok (.aload_n 0, 1) := dk_42 (dk_at dksX0_init_0 0 rfl rfl)
theorem dX0_init_1 : decode cX0_init 1 = .ok (.invokespecial 21, 3) := dk_183 0 21 (dk_at dksX0_init_0 1 rfl rfl)
theorem dX0_init_4 : decode cX0_init 4 = .ok (.aload_n 0, 1) := dk_42 (dk_at dksX0_init_0 4 rfl rfl)
theorem dX0_init_5 : decode cX0_init 5 = .ok (.bipush 8, 2) := dk_16 8 (dk_at dksX0_init_0 5 rfl rfl)
theorem dX0_init_7 : decode cX0_init 7 = .ok (.anewarray 26, 3) := dk_189 0 26 (dk_at dksX0_init_0 7 rfl rfl)
theorem dX0_init_10 : decode cX0_init 10 = .ok (.putfield 28, 3) := dk_181 0 28 (dk_at dksX0_init_0 10 rfl rfl)
theorem dX0_init_13 : decode cX0_init 13 = .ok (.aload_n 0, 1) := dk_42 (dk_at dksX0_init_0 13 rfl rfl)
theorem dX0_init_14 : decode cX0_init 14 = .ok (.sipush 400, 3) := dk_17 1 144 (dk_at dksX0_init_0 14 rfl rfl)
theorem dX0_init_17 : decode cX0_init 17 = .ok (.newarray .byte, 2) := dk_188_8 (dk_at dksX0_init_0 17 rfl rfl)
theorem dX0_init_19 : decode cX0_init 19 = .ok (.putfield 32, 3) := dk_181 0 32 (dk_at dksX0_init_0 19 rfl rfl)
theorem dX0_init_22 : decode cX0_init 22 = .ok (.aload_n 0, 1) := dk_42 (dk_at dksX0_init_0 22 rfl rfl)
theorem dX0_init_23 : decode cX0_init 23 = .ok (.new 36, 3) := dk_187 0 36 (dk_at dksX0_init_1 0 rfl rfl)
theorem dX0_init_26 : decode cX0_init 26 = .ok (.dup, 1) := dk_89 (dk_at dksX0_init_1 3 rfl rfl)
theorem dX0_init_27 : decode cX0_init 27 = .ok (.invokespecial 38, 3) := dk_183 0 38 (dk_at dksX0_init_1 4 rfl rfl)
theorem dX0_init_30 : decode cX0_init 30 = .ok (.putfield 39, 3) := dk_181 0 39 (dk_at dksX0_init_1 7 rfl rfl)
theorem dX0_init_33 : decode cX0_init 33 = .ok (.aload_n 0, 1) := dk_42 (dk_at dksX0_init_1 10 rfl rfl)
theorem dX0_init_34 : decode cX0_init 34 = .ok (.bipush 24, 2) := dk_16 24 (dk_at dksX0_init_1 11 rfl rfl)
theorem dX0_init_36 : decode cX0_init 36 = .ok (.anewarray 36, 3) := dk_189 0 36 (dk_at dksX0_init_1 13 rfl rfl)
theorem dX0_init_39 : decode cX0_init 39 = .ok (.putfield 43, 3) := dk_181 0 43 (dk_at dksX0_init_1 16 rfl rfl)
theorem dX0_init_42 : decode cX0_init 42 = .ok (.aload_n 0, 1) := dk_42 (dk_at dksX0_init_1 19 rfl rfl)
theorem dX0_init_43 : decode cX0_init 43 = .ok (.iconst 2, 1) := dk_5 (dk_at dksX0_init_1 20 rfl rfl)
theorem dX0_init_44 : decode cX0_init 44 = .ok (.anewarray 36, 3) := dk_189 0 36 (dk_at dksX0_init_1 21 rfl rfl)
theorem dX0_init_47 : decode cX0_init 47 = .ok (.putfield 47, 3) := dk_181 0 47 (dk_at dksX0_init_2 0 rfl rfl)
theorem dX0_init_50 : decode cX0_init 50 = .ok (.aload_n 0, 1) := dk_42 (dk_at dksX0_init_2 3 rfl rfl)
theorem dX0_init_51 : decode cX0_init 51 = .ok (.new 50, 3) := dk_187 0 50 (dk_at dksX0_init_2 4 rfl rfl)
theorem dX0_init_54 : decode cX0_init 54 = .ok (.dup, 1) := dk_89 (dk_at dksX0_init_2 7 rfl rfl)
theorem dX0_init_55 : decode cX0_init 55 = .ok (.invokespecial 52, 3) := dk_183 0 52 (dk_at dksX0_init_2 8 rfl rfl)
theorem dX0_init_58 : decode cX0_init 58 = .ok (.putfield 53, 3) := dk_181 0 53 (dk_at dksX0_init_2 11 rfl rfl)
theorem dX0_init_61 : decode cX0_init 61 = .ok (.aload_n 0, 1) := dk_42 (dk_at dksX0_init_2 14 rfl rfl)
theorem dX0_init_62 : decode cX0_init 62 = .ok (.sipush 205, 3) := dk_17 0 205 (dk_at dksX0_init_2 15 rfl rfl)
theorem dX0_init_65 : decode cX0_init 65 = .ok (.newarray .long, 2) := dk_188_11 (dk_at dksX0_init_2 18 rfl rfl)
theorem dX0_init_67 : decode cX0_init 67 = .ok (.putfield 57, 3) := dk_181 0 57 (dk_at dksX0_init_2 20 rfl rfl)
theorem dX0_init_70 : decode cX0_init 70 = .ok (.aload_n 0, 1) := dk_42 (dk_at dksX0_init_2 23 rfl rfl)
theorem dX0_init_71 : decode cX0_init 71 = .ok (.sipush 205, 3) := dk_17 0 205 (dk_at dksX0_init_3 0 rfl rfl)
theorem dX0_init_74 : decode cX0_init 74 = .ok (.newarray .long, 2) := dk_188_11 (dk_at dksX0_init_3 3 rfl rfl)
theorem dX0_init_76 : decode cX0_init 76 = .ok (.putfield 61, 3) := dk_181 0 61 (dk_at dksX0_init_3 5 rfl rfl)
theorem dX0_init_79 : decode cX0_init 79 = .ok (.return_, 1) := dk_177 (dk_at dksX0_init_3 8 rfl rfl)
abbrev cX0_row : ByteArray := prog_1_method_9_code
def yX0_row : MethodName := ⟨RX0, "row", "(III)I"⟩
def dkwX0_row_3 : List UInt8 := [172]
abbrev dktX0_row_3 : List UInt8 := dkwX0_row_3 ++ []
def dkwX0_row_2 : List UInt8 := [187, 0, 26, 89, 28, 29, 183, 0, 94, 83, 42, 29, 182, 0, 95, 172, 58, 4, 42, 25, 4, 182, 0, 99]
abbrev dktX0_row_2 : List UInt8 := dkwX0_row_2 ++ dktX0_row_3
def dkwX0_row_1 : List UInt8 := [164, 0, 6, 18, 93, 172, 29, 155, 0, 7, 4, 167, 0, 4, 3, 7, 184, 0, 83, 42, 180, 0, 28, 27]
abbrev dktX0_row_1 : List UInt8 := dkwX0_row_1 ++ dktX0_row_2
def dkwX0_row_0 : List UInt8 := [27, 184, 0, 87, 153, 0, 21, 28, 133, 9, 20, 0, 91, 184, 0, 79, 153, 0, 9, 29, 16, 40]
abbrev dktX0_row_0 : List UInt8 := dkwX0_row_0 ++ dktX0_row_1
theorem dksX0_row_0 : cX0_row.data.toList.drop 0 = dktX0_row_0 := by decide +kernel
theorem dksX0_row_1 : cX0_row.data.toList.drop 22 = dktX0_row_1 := dk_seg dksX0_row_0 22 rfl rfl
theorem dksX0_row_2 : cX0_row.data.toList.drop 46 = dktX0_row_2 := dk_seg dksX0_row_1 24 rfl rfl
theorem dksX0_row_3 : cX0_row.data.toList.drop 70 = dktX0_row_3 := dk_seg dksX0_row_2 24 rfl rfl
theorem dX0_row_0 : decode cX0_row 0 = .ok (.iload_n 1, 1) := dk_27 (dk_at dksX0_row_0 0 rfl rfl)
theorem dX0_row_1 : decode cX0_row 1 = .ok (.invokestatic 87, 3) := dk_184 0 87 (dk_at dksX0_row_0 1 rfl rfl)
theorem dX0_row_4 : decode cX0_row 4 = .ok (.ifCond .eq 21, 3) := dk_153 0 21 (dk_at dksX0_row_0 4 rfl rfl)
theorem dX0_row_7 : decode cX0_row 7 = .ok (.iload_n 2, 1) := dk_28 (dk_at dksX0_row_0 7 rfl rfl)
theorem dX0_row_8 : decode cX0_row 8 = .ok (.i2l, 1) := dk_133 (dk_at dksX0_row_0 8 rfl rfl)
theorem dX0_row_9 : decode cX0_row 9 = .ok (.lconst 0, 1) := dk_9 (dk_at dksX0_row_0 9 rfl rfl)
theorem dX0_row_10 : decode cX0_row 10 = .ok (.ldc2_w 91, 3) := dk_20 0 91 (dk_at dksX0_row_0 10 rfl rfl)
theorem dX0_row_13 : decode cX0_row 13 = .ok (.invokestatic 79, 3) := dk_184 0 79 (dk_at dksX0_row_0 13 rfl rfl)
theorem dX0_row_16 : decode cX0_row 16 = .ok (.ifCond .eq 9, 3) := dk_153 0 9 (dk_at dksX0_row_0 16 rfl rfl)
theorem dX0_row_19 : decode cX0_row 19 = .ok (.iload_n 3, 1) := dk_29 (dk_at dksX0_row_0 19 rfl rfl)
theorem dX0_row_20 : decode cX0_row 20 = .ok (.bipush 40, 2) := dk_16 40 (dk_at dksX0_row_0 20 rfl rfl)
theorem dX0_row_22 : decode cX0_row 22 = .ok (.if_icmp .le 6, 3) := dk_164 0 6 (dk_at dksX0_row_1 0 rfl rfl)
theorem dX0_row_25 : decode cX0_row 25 = .ok (.ldc 93, 2) := dk_18 93 (dk_at dksX0_row_1 3 rfl rfl)
theorem dX0_row_27 : decode cX0_row 27 = .ok (.ireturn, 1) := dk_172 (dk_at dksX0_row_1 5 rfl rfl)
theorem dX0_row_28 : decode cX0_row 28 = .ok (.iload_n 3, 1) := dk_29 (dk_at dksX0_row_1 6 rfl rfl)
theorem dX0_row_29 : decode cX0_row 29 = .ok (.ifCond .lt 7, 3) := dk_155 0 7 (dk_at dksX0_row_1 7 rfl rfl)
theorem dX0_row_32 : decode cX0_row 32 = .ok (.iconst 1, 1) := dk_4 (dk_at dksX0_row_1 10 rfl rfl)
theorem dX0_row_33 : decode cX0_row 33 = .ok (.goto 4, 3) := dk_167 0 4 (dk_at dksX0_row_1 11 rfl rfl)
theorem dX0_row_36 : decode cX0_row 36 = .ok (.iconst 0, 1) := dk_3 (dk_at dksX0_row_1 14 rfl rfl)
theorem dX0_row_37 : decode cX0_row 37 = .ok (.iconst 4, 1) := dk_7 (dk_at dksX0_row_1 15 rfl rfl)
theorem dX0_row_38 : decode cX0_row 38 = .ok (.invokestatic 83, 3) := dk_184 0 83 (dk_at dksX0_row_1 16 rfl rfl)
theorem dX0_row_41 : decode cX0_row 41 = .ok (.aload_n 0, 1) := dk_42 (dk_at dksX0_row_1 19 rfl rfl)
theorem dX0_row_42 : decode cX0_row 42 = .ok (.getfield 28, 3) := dk_180 0 28 (dk_at dksX0_row_1 20 rfl rfl)
theorem dX0_row_45 : decode cX0_row 45 = .ok (.iload_n 1, 1) := dk_27 (dk_at dksX0_row_1 23 rfl rfl)
theorem dX0_row_46 : decode cX0_row 46 = .ok (.new 26, 3) := dk_187 0 26 (dk_at dksX0_row_2 0 rfl rfl)
theorem dX0_row_49 : decode cX0_row 49 = .ok (.dup, 1) := dk_89 (dk_at dksX0_row_2 3 rfl rfl)
theorem dX0_row_50 : decode cX0_row 50 = .ok (.iload_n 2, 1) := dk_28 (dk_at dksX0_row_2 4 rfl rfl)
theorem dX0_row_51 : decode cX0_row 51 = .ok (.iload_n 3, 1) := dk_29 (dk_at dksX0_row_2 5 rfl rfl)
theorem dX0_row_52 : decode cX0_row 52 = .ok (.invokespecial 94, 3) := dk_183 0 94 (dk_at dksX0_row_2 6 rfl rfl)
theorem dX0_row_55 : decode cX0_row 55 = .ok (.aastore, 1) := dk_83 (dk_at dksX0_row_2 9 rfl rfl)
theorem dX0_row_56 : decode cX0_row 56 = .ok (.aload_n 0, 1) := dk_42 (dk_at dksX0_row_2 10 rfl rfl)
theorem dX0_row_57 : decode cX0_row 57 = .ok (.iload_n 3, 1) := dk_29 (dk_at dksX0_row_2 11 rfl rfl)
theorem dX0_row_58 : decode cX0_row 58 = .ok (.invokevirtual 95, 3) := dk_182 0 95 (dk_at dksX0_row_2 12 rfl rfl)
theorem dX0_row_61 : decode cX0_row 61 = .ok (.ireturn, 1) := dk_172 (dk_at dksX0_row_2 15 rfl rfl)
theorem dX0_row_62 : decode cX0_row 62 = .ok (.astore 4, 2) := dk_58 4 (dk_at dksX0_row_2 16 rfl rfl)
theorem dX0_row_64 : decode cX0_row 64 = .ok (.aload_n 0, 1) := dk_42 (dk_at dksX0_row_2 18 rfl rfl)
theorem dX0_row_65 : decode cX0_row 65 = .ok (.aload 4, 2) := dk_25 4 (dk_at dksX0_row_2 19 rfl rfl)
theorem dX0_row_67 : decode cX0_row 67 = .ok (.invokevirtual 99, 3) := dk_182 0 99 (dk_at dksX0_row_2 21 rfl rfl)
theorem dX0_row_70 : decode cX0_row 70 = .ok (.ireturn, 1) := dk_172 (dk_at dksX0_row_3 0 rfl rfl)
abbrev cX0_isRow : ByteArray := prog_1_method_7_code
def yX0_isRow : MethodName := ⟨RX0, "isRow", "(I)Z"⟩
def dkwX0_isRow_0 : List UInt8 := [26, 133, 9, 20, 0, 77, 184, 0, 79, 172]
abbrev dktX0_isRow_0 : List UInt8 := dkwX0_isRow_0 ++ []
theorem dksX0_isRow_0 : cX0_isRow.data.toList.drop 0 = dktX0_isRow_0 := by decide +kernel
theorem dX0_isRow_0 : decode cX0_isRow 0 = .ok (.iload_n 0, 1) := dk_26 (dk_at dksX0_isRow_0 0 rfl rfl)
theorem dX0_isRow_1 : decode cX0_isRow 1 = .ok (.i2l, 1) := dk_133 (dk_at dksX0_isRow_0 1 rfl rfl)
theorem dX0_isRow_2 : decode cX0_isRow 2 = .ok (.lconst 0, 1) := dk_9 (dk_at dksX0_isRow_0 2 rfl rfl)
theorem dX0_isRow_3 : decode cX0_isRow 3 = .ok (.ldc2_w 77, 3) := dk_20 0 77 (dk_at dksX0_isRow_0 3 rfl rfl)
theorem dX0_isRow_6 : decode cX0_isRow 6 = .ok (.invokestatic 79, 3) := dk_184 0 79 (dk_at dksX0_isRow_0 6 rfl rfl)
theorem dX0_isRow_9 : decode cX0_isRow 9 = .ok (.ireturn, 1) := dk_172 (dk_at dksX0_isRow_0 9 rfl rfl)
abbrev cX0_isIn : ByteArray := prog_1_method_1_code
def yX0_isIn : MethodName := ⟨RX0, "isIn", "(JJJ)Z"⟩
def dkwX0_isIn_0 : List UInt8 := [30, 32, 148, 155, 0, 14, 30, 22, 4, 148, 157, 0, 7, 4, 167, 0, 4, 3, 172]
abbrev dktX0_isIn_0 : List UInt8 := dkwX0_isIn_0 ++ []
theorem dksX0_isIn_0 : cX0_isIn.data.toList.drop 0 = dktX0_isIn_0 := by decide +kernel
theorem dX0_isIn_0 : decode cX0_isIn 0 = .ok (.lload_n 0, 1) := dk_30 (dk_at dksX0_isIn_0 0 rfl rfl)
theorem dX0_isIn_1 : decode cX0_isIn 1 = .ok (.lload_n 2, 1) := dk_32 (dk_at dksX0_isIn_0 1 rfl rfl)
theorem dX0_isIn_2 : decode cX0_isIn 2 = .ok (.lcmp, 1) := dk_148 (dk_at dksX0_isIn_0 2 rfl rfl)
theorem dX0_isIn_3 : decode cX0_isIn 3 = .ok (.ifCond .lt 14, 3) := dk_155 0 14 (dk_at dksX0_isIn_0 3 rfl rfl)
theorem dX0_isIn_6 : decode cX0_isIn 6 = .ok (.lload_n 0, 1) := dk_30 (dk_at dksX0_isIn_0 6 rfl rfl)
theorem dX0_isIn_7 : decode cX0_isIn 7 = .ok (.lload 4, 2) := dk_22 4 (dk_at dksX0_isIn_0 7 rfl rfl)
theorem dX0_isIn_9 : decode cX0_isIn 9 = .ok (.lcmp, 1) := dk_148 (dk_at dksX0_isIn_0 9 rfl rfl)
theorem dX0_isIn_10 : decode cX0_isIn 10 = .ok (.ifCond .gt 7, 3) := dk_157 0 7 (dk_at dksX0_isIn_0 10 rfl rfl)
theorem dX0_isIn_13 : decode cX0_isIn 13 = .ok (.iconst 1, 1) := dk_4 (dk_at dksX0_isIn_0 13 rfl rfl)
theorem dX0_isIn_14 : decode cX0_isIn 14 = .ok (.goto 4, 3) := dk_167 0 4 (dk_at dksX0_isIn_0 14 rfl rfl)
theorem dX0_isIn_17 : decode cX0_isIn 17 = .ok (.iconst 0, 1) := dk_3 (dk_at dksX0_isIn_0 17 rfl rfl)
theorem dX0_isIn_18 : decode cX0_isIn 18 = .ok (.ireturn, 1) := dk_172 (dk_at dksX0_isIn_0 18 rfl rfl)
abbrev cX0_must : ByteArray := prog_1_method_6_code
def yX0_must : MethodName := ⟨RX0, "must", "(ZI)V"⟩
def dkwX0_must_0 : List UInt8 := [26, 154, 0, 12, 187, 0, 65, 89, 27, 183, 0, 74, 191, 177]
abbrev dktX0_must_0 : List UInt8 := dkwX0_must_0 ++ []
theorem dksX0_must_0 : cX0_must.data.toList.drop 0 = dktX0_must_0 := by decide +kernel
theorem dX0_must_0 : decode cX0_must 0 = .ok (.iload_n 0, 1) := dk_26 (dk_at dksX0_must_0 0 rfl rfl)
theorem dX0_must_1 : decode cX0_must 1 = .ok (.ifCond .ne 12, 3) := dk_154 0 12 (dk_at dksX0_must_0 1 rfl rfl)
theorem dX0_must_4 : decode cX0_must 4 = .ok (.new 65, 3) := dk_187 0 65 (dk_at dksX0_must_0 4 rfl rfl)
theorem dX0_must_7 : decode cX0_must 7 = .ok (.dup, 1) := dk_89 (dk_at dksX0_must_0 7 rfl rfl)
theorem dX0_must_8 : decode cX0_must 8 = .ok (.iload_n 1, 1) := dk_27 (dk_at dksX0_must_0 8 rfl rfl)
theorem dX0_must_9 : decode cX0_must 9 = .ok (.invokespecial 74, 3) := dk_183 0 74 (dk_at dksX0_must_0 9 rfl rfl)
theorem dX0_must_12 : decode cX0_must 12 = .ok (.athrow, 1) := dk_191 (dk_at dksX0_must_0 12 rfl rfl)
theorem dX0_must_13 : decode cX0_must 13 = .ok (.return_, 1) := dk_177 (dk_at dksX0_must_0 13 rfl rfl)
abbrev cX0_well : ByteArray := prog_1_method_5_code
def yX0_well : MethodName := ⟨RX0, "well", "(I)I"⟩
def dkwX0_well_0 : List UInt8 := [42, 3, 181, 0, 70, 27, 172]
abbrev dktX0_well_0 : List UInt8 := dkwX0_well_0 ++ []
theorem dksX0_well_0 : cX0_well.data.toList.drop 0 = dktX0_well_0 := by decide +kernel
theorem dX0_well_0 : decode cX0_well 0 = .ok (.aload_n 0, 1) := dk_42 (dk_at dksX0_well_0 0 rfl rfl)
theorem dX0_well_1 : decode cX0_well 1 = .ok (.iconst 0, 1) := dk_3 (dk_at dksX0_well_0 1 rfl rfl)
theorem dX0_well_2 : decode cX0_well 2 = .ok (.putfield 70, 3) := dk_181 0 70 (dk_at dksX0_well_0 2 rfl rfl)
theorem dX0_well_5 : decode cX0_well 5 = .ok (.iload_n 1, 1) := dk_27 (dk_at dksX0_well_0 5 rfl rfl)
theorem dX0_well_6 : decode cX0_well 6 = .ok (.ireturn, 1) := dk_172 (dk_at dksX0_well_0 6 rfl rfl)
abbrev cX0_found : ByteArray := prog_1_method_4_code
def yX0_found : MethodName := ⟨RX0, "found", "(LYoungerBack$Finding;)I"⟩
def dkwX0_found_0 : List UInt8 := [42, 43, 180, 0, 64, 181, 0, 70, 18, 73, 43, 180, 0, 64, 100, 172]
abbrev dktX0_found_0 : List UInt8 := dkwX0_found_0 ++ []
theorem dksX0_found_0 : cX0_found.data.toList.drop 0 = dktX0_found_0 := by decide +kernel
theorem dX0_found_0 : decode cX0_found 0 = .ok (.aload_n 0, 1) := dk_42 (dk_at dksX0_found_0 0 rfl rfl)
theorem dX0_found_1 : decode cX0_found 1 = .ok (.aload_n 1, 1) := dk_43 (dk_at dksX0_found_0 1 rfl rfl)
theorem dX0_found_2 : decode cX0_found 2 = .ok (.getfield 64, 3) := dk_180 0 64 (dk_at dksX0_found_0 2 rfl rfl)
theorem dX0_found_5 : decode cX0_found 5 = .ok (.putfield 70, 3) := dk_181 0 70 (dk_at dksX0_found_0 5 rfl rfl)
theorem dX0_found_8 : decode cX0_found 8 = .ok (.ldc 73, 2) := dk_18 73 (dk_at dksX0_found_0 8 rfl rfl)
theorem dX0_found_10 : decode cX0_found 10 = .ok (.aload_n 1, 1) := dk_43 (dk_at dksX0_found_0 10 rfl rfl)
theorem dX0_found_11 : decode cX0_found 11 = .ok (.getfield 64, 3) := dk_180 0 64 (dk_at dksX0_found_0 11 rfl rfl)
theorem dX0_found_14 : decode cX0_found 14 = .ok (.isub, 1) := dk_100 (dk_at dksX0_found_0 14 rfl rfl)
theorem dX0_found_15 : decode cX0_found 15 = .ok (.ireturn, 1) := dk_172 (dk_at dksX0_found_0 15 rfl rfl)
abbrev cX0_set : ByteArray := prog_1_method_10_code
def yX0_set : MethodName := ⟨RX0, "set", "(III)I"⟩
def dkwX0_set_3 : List UInt8 := [172]
abbrev dktX0_set_3 : List UInt8 := dkwX0_set_3 ++ []
def dkwX0_set_2 : List UInt8 := [182, 0, 111, 79, 42, 25, 4, 180, 0, 107, 28, 46, 182, 0, 95, 172, 58, 4, 42, 25, 4, 182, 0, 99]
abbrev dktX0_set_2 : List UInt8 := dkwX0_set_2 ++ dktX0_set_3
def dkwX0_set_1 : List UInt8 := [180, 0, 107, 190, 4, 100, 133, 184, 0, 79, 5, 184, 0, 83, 25, 4, 180, 0, 107, 28, 25, 4, 29]
abbrev dktX0_set_1 : List UInt8 := dkwX0_set_1 ++ dktX0_set_2
def dkwX0_set_0 : List UInt8 := [27, 184, 0, 87, 154, 0, 6, 18, 93, 172, 42, 27, 182, 0, 103, 58, 4, 28, 133, 9, 25, 4]
abbrev dktX0_set_0 : List UInt8 := dkwX0_set_0 ++ dktX0_set_1
theorem dksX0_set_0 : cX0_set.data.toList.drop 0 = dktX0_set_0 := by decide +kernel
theorem dksX0_set_1 : cX0_set.data.toList.drop 22 = dktX0_set_1 := dk_seg dksX0_set_0 22 rfl rfl
theorem dksX0_set_2 : cX0_set.data.toList.drop 45 = dktX0_set_2 := dk_seg dksX0_set_1 23 rfl rfl
theorem dksX0_set_3 : cX0_set.data.toList.drop 69 = dktX0_set_3 := dk_seg dksX0_set_2 24 rfl rfl
theorem dX0_set_0 : decode cX0_set 0 = .ok (.iload_n 1, 1) := dk_27 (dk_at dksX0_set_0 0 rfl rfl)
theorem dX0_set_1 : decode cX0_set 1 = .ok (.invokestatic 87, 3) := dk_184 0 87 (dk_at dksX0_set_0 1 rfl rfl)
theorem dX0_set_4 : decode cX0_set 4 = .ok (.ifCond .ne 6, 3) := dk_154 0 6 (dk_at dksX0_set_0 4 rfl rfl)
theorem dX0_set_7 : decode cX0_set 7 = .ok (.ldc 93, 2) := dk_18 93 (dk_at dksX0_set_0 7 rfl rfl)
theorem dX0_set_9 : decode cX0_set 9 = .ok (.ireturn, 1) := dk_172 (dk_at dksX0_set_0 9 rfl rfl)
theorem dX0_set_10 : decode cX0_set 10 = .ok (.aload_n 0, 1) := dk_42 (dk_at dksX0_set_0 10 rfl rfl)
theorem dX0_set_11 : decode cX0_set 11 = .ok (.iload_n 1, 1) := dk_27 (dk_at dksX0_set_0 11 rfl rfl)
theorem dX0_set_12 : decode cX0_set 12 = .ok (.invokevirtual 103, 3) := dk_182 0 103 (dk_at dksX0_set_0 12 rfl rfl)
theorem dX0_set_15 : decode cX0_set 15 = .ok (.astore 4, 2) := dk_58 4 (dk_at dksX0_set_0 15 rfl rfl)
theorem dX0_set_17 : decode cX0_set 17 = .ok (.iload_n 2, 1) := dk_28 (dk_at dksX0_set_0 17 rfl rfl)
theorem dX0_set_18 : decode cX0_set 18 = .ok (.i2l, 1) := dk_133 (dk_at dksX0_set_0 18 rfl rfl)
theorem dX0_set_19 : decode cX0_set 19 = .ok (.lconst 0, 1) := dk_9 (dk_at dksX0_set_0 19 rfl rfl)
theorem dX0_set_20 : decode cX0_set 20 = .ok (.aload 4, 2) := dk_25 4 (dk_at dksX0_set_0 20 rfl rfl)
theorem dX0_set_22 : decode cX0_set 22 = .ok (.getfield 107, 3) := dk_180 0 107 (dk_at dksX0_set_1 0 rfl rfl)
theorem dX0_set_25 : decode cX0_set 25 = .ok (.arraylength, 1) := dk_190 (dk_at dksX0_set_1 3 rfl rfl)
theorem dX0_set_26 : decode cX0_set 26 = .ok (.iconst 1, 1) := dk_4 (dk_at dksX0_set_1 4 rfl rfl)
theorem dX0_set_27 : decode cX0_set 27 = .ok (.isub, 1) := dk_100 (dk_at dksX0_set_1 5 rfl rfl)
theorem dX0_set_28 : decode cX0_set 28 = .ok (.i2l, 1) := dk_133 (dk_at dksX0_set_1 6 rfl rfl)
theorem dX0_set_29 : decode cX0_set 29 = .ok (.invokestatic 79, 3) := dk_184 0 79 (dk_at dksX0_set_1 7 rfl rfl)
theorem dX0_set_32 : decode cX0_set 32 = .ok (.iconst 2, 1) := dk_5 (dk_at dksX0_set_1 10 rfl rfl)
theorem dX0_set_33 : decode cX0_set 33 = .ok (.invokestatic 83, 3) := dk_184 0 83 (dk_at dksX0_set_1 11 rfl rfl)
theorem dX0_set_36 : decode cX0_set 36 = .ok (.aload 4, 2) := dk_25 4 (dk_at dksX0_set_1 14 rfl rfl)
theorem dX0_set_38 : decode cX0_set 38 = .ok (.getfield 107, 3) := dk_180 0 107 (dk_at dksX0_set_1 16 rfl rfl)
theorem dX0_set_41 : decode cX0_set 41 = .ok (.iload_n 2, 1) := dk_28 (dk_at dksX0_set_1 19 rfl rfl)
theorem dX0_set_42 : decode cX0_set 42 = .ok (.aload 4, 2) := dk_25 4 (dk_at dksX0_set_1 20 rfl rfl)
theorem dX0_set_44 : decode cX0_set 44 = .ok (.iload_n 3, 1) := dk_29 (dk_at dksX0_set_1 22 rfl rfl)
theorem dX0_set_45 : decode cX0_set 45 = .ok (.invokevirtual 111, 3) := dk_182 0 111 (dk_at dksX0_set_2 0 rfl rfl)
theorem dX0_set_48 : decode cX0_set 48 = .ok (.iastore, 1) := dk_79 (dk_at dksX0_set_2 3 rfl rfl)
theorem dX0_set_49 : decode cX0_set 49 = .ok (.aload_n 0, 1) := dk_42 (dk_at dksX0_set_2 4 rfl rfl)
theorem dX0_set_50 : decode cX0_set 50 = .ok (.aload 4, 2) := dk_25 4 (dk_at dksX0_set_2 5 rfl rfl)
theorem dX0_set_52 : decode cX0_set 52 = .ok (.getfield 107, 3) := dk_180 0 107 (dk_at dksX0_set_2 7 rfl rfl)
theorem dX0_set_55 : decode cX0_set 55 = .ok (.iload_n 2, 1) := dk_28 (dk_at dksX0_set_2 10 rfl rfl)
theorem dX0_set_56 : decode cX0_set 56 = .ok (.iaload, 1) := dk_46 (dk_at dksX0_set_2 11 rfl rfl)
theorem dX0_set_57 : decode cX0_set 57 = .ok (.invokevirtual 95, 3) := dk_182 0 95 (dk_at dksX0_set_2 12 rfl rfl)
theorem dX0_set_60 : decode cX0_set 60 = .ok (.ireturn, 1) := dk_172 (dk_at dksX0_set_2 15 rfl rfl)
theorem dX0_set_61 : decode cX0_set 61 = .ok (.astore 4, 2) := dk_58 4 (dk_at dksX0_set_2 16 rfl rfl)
theorem dX0_set_63 : decode cX0_set 63 = .ok (.aload_n 0, 1) := dk_42 (dk_at dksX0_set_2 18 rfl rfl)
theorem dX0_set_64 : decode cX0_set 64 = .ok (.aload 4, 2) := dk_25 4 (dk_at dksX0_set_2 19 rfl rfl)
theorem dX0_set_66 : decode cX0_set 66 = .ok (.invokevirtual 99, 3) := dk_182 0 99 (dk_at dksX0_set_2 21 rfl rfl)
theorem dX0_set_69 : decode cX0_set 69 = .ok (.ireturn, 1) := dk_172 (dk_at dksX0_set_3 0 rfl rfl)
abbrev cX0_rowAt : ByteArray := prog_1_method_8_code
def yX0_rowAt : MethodName := ⟨RX0, "rowAt", "(I)LYoungerBack$Row;"⟩
def dkwX0_rowAt_1 : List UInt8 := [176]
abbrev dktX0_rowAt_1 : List UInt8 := dkwX0_rowAt_1 ++ []
def dkwX0_rowAt_0 : List UInt8 := [42, 180, 0, 28, 27, 50, 198, 0, 7, 4, 167, 0, 4, 3, 4, 184, 0, 83, 42, 180, 0, 28, 27, 50]
abbrev dktX0_rowAt_0 : List UInt8 := dkwX0_rowAt_0 ++ dktX0_rowAt_1
theorem dksX0_rowAt_0 : cX0_rowAt.data.toList.drop 0 = dktX0_rowAt_0 := by decide +kernel
theorem dksX0_rowAt_1 : cX0_rowAt.data.toList.drop 24 = dktX0_rowAt_1 := dk_seg dksX0_rowAt_0 24 rfl rfl
theorem dX0_rowAt_0 : decode cX0_rowAt 0 = .ok (.aload_n 0, 1) := dk_42 (dk_at dksX0_rowAt_0 0 rfl rfl)
theorem dX0_rowAt_1 : decode cX0_rowAt 1 = .ok (.getfield 28, 3) := dk_180 0 28 (dk_at dksX0_rowAt_0 1 rfl rfl)
theorem dX0_rowAt_4 : decode cX0_rowAt 4 = .ok (.iload_n 1, 1) := dk_27 (dk_at dksX0_rowAt_0 4 rfl rfl)
theorem dX0_rowAt_5 : decode cX0_rowAt 5 = .ok (.aaload, 1) := dk_50 (dk_at dksX0_rowAt_0 5 rfl rfl)
theorem dX0_rowAt_6 : decode cX0_rowAt 6 = .ok (.ifnull 7, 3) := dk_198 0 7 (dk_at dksX0_rowAt_0 6 rfl rfl)
theorem dX0_rowAt_9 : decode cX0_rowAt 9 = .ok (.iconst 1, 1) := dk_4 (dk_at dksX0_rowAt_0 9 rfl rfl)
theorem dX0_rowAt_10 : decode cX0_rowAt 10 = .ok (.goto 4, 3) := dk_167 0 4 (dk_at dksX0_rowAt_0 10 rfl rfl)
theorem dX0_rowAt_13 : decode cX0_rowAt 13 = .ok (.iconst 0, 1) := dk_3 (dk_at dksX0_rowAt_0 13 rfl rfl)
theorem dX0_rowAt_14 : decode cX0_rowAt 14 = .ok (.iconst 1, 1) := dk_4 (dk_at dksX0_rowAt_0 14 rfl rfl)
theorem dX0_rowAt_15 : decode cX0_rowAt 15 = .ok (.invokestatic 83, 3) := dk_184 0 83 (dk_at dksX0_rowAt_0 15 rfl rfl)
theorem dX0_rowAt_18 : decode cX0_rowAt 18 = .ok (.aload_n 0, 1) := dk_42 (dk_at dksX0_rowAt_0 18 rfl rfl)
theorem dX0_rowAt_19 : decode cX0_rowAt 19 = .ok (.getfield 28, 3) := dk_180 0 28 (dk_at dksX0_rowAt_0 19 rfl rfl)
theorem dX0_rowAt_22 : decode cX0_rowAt 22 = .ok (.iload_n 1, 1) := dk_27 (dk_at dksX0_rowAt_0 22 rfl rfl)
theorem dX0_rowAt_23 : decode cX0_rowAt 23 = .ok (.aaload, 1) := dk_50 (dk_at dksX0_rowAt_0 23 rfl rfl)
theorem dX0_rowAt_24 : decode cX0_rowAt 24 = .ok (.areturn, 1) := dk_176 (dk_at dksX0_rowAt_1 0 rfl rfl)
abbrev cX0_copy : ByteArray := prog_1_method_11_code
def yX0_copy : MethodName := ⟨RX0, "copy", "(IIIII)I"⟩
def dkwX0_copy_4 : List UInt8 := [25, 6, 182, 0, 99, 172]
abbrev dktX0_copy_4 : List UInt8 := dkwX0_copy_4 ++ []
def dkwX0_copy_3 : List UInt8 := [167, 0, 14, 58, 8, 187, 0, 65, 89, 5, 183, 0, 74, 191, 42, 21, 5, 182, 0, 95, 172, 58, 6, 42]
abbrev dktX0_copy_3 : List UInt8 := dkwX0_copy_3 ++ dktX0_copy_4
def dkwX0_copy_2 : List UInt8 := [3, 8, 184, 0, 83, 25, 6, 180, 0, 107, 28, 25, 7, 180, 0, 107, 21, 4, 21, 5, 184, 0, 117]
abbrev dktX0_copy_2 : List UInt8 := dkwX0_copy_2 ++ dktX0_copy_3
def dkwX0_copy_1 : List UInt8 := [42, 29, 182, 0, 103, 58, 7, 25, 6, 180, 0, 114, 25, 7, 180, 0, 114, 160, 0, 7, 4, 167, 0, 4]
abbrev dktX0_copy_1 : List UInt8 := dkwX0_copy_1 ++ dktX0_copy_2
def dkwX0_copy_0 : List UInt8 := [27, 184, 0, 87, 153, 0, 10, 29, 184, 0, 87, 154, 0, 6, 18, 93, 172, 42, 27, 182, 0, 103, 58, 6]
abbrev dktX0_copy_0 : List UInt8 := dkwX0_copy_0 ++ dktX0_copy_1
theorem dksX0_copy_0 : cX0_copy.data.toList.drop 0 = dktX0_copy_0 := by decide +kernel
theorem dksX0_copy_1 : cX0_copy.data.toList.drop 24 = dktX0_copy_1 := dk_seg dksX0_copy_0 24 rfl rfl
theorem dksX0_copy_2 : cX0_copy.data.toList.drop 48 = dktX0_copy_2 := dk_seg dksX0_copy_1 24 rfl rfl
theorem dksX0_copy_3 : cX0_copy.data.toList.drop 71 = dktX0_copy_3 := dk_seg dksX0_copy_2 23 rfl rfl
theorem dksX0_copy_4 : cX0_copy.data.toList.drop 95 = dktX0_copy_4 := dk_seg dksX0_copy_3 24 rfl rfl
theorem dX0_copy_0 : decode cX0_copy 0 = .ok (.iload_n 1, 1) := dk_27 (dk_at dksX0_copy_0 0 rfl rfl)
theorem dX0_copy_1 : decode cX0_copy 1 = .ok (.invokestatic 87, 3) := dk_184 0 87 (dk_at dksX0_copy_0 1 rfl rfl)
theorem dX0_copy_4 : decode cX0_copy 4 = .ok (.ifCond .eq 10, 3) := dk_153 0 10 (dk_at dksX0_copy_0 4 rfl rfl)
theorem dX0_copy_7 : decode cX0_copy 7 = .ok (.iload_n 3, 1) := dk_29 (dk_at dksX0_copy_0 7 rfl rfl)
theorem dX0_copy_8 : decode cX0_copy 8 = .ok (.invokestatic 87, 3) := dk_184 0 87 (dk_at dksX0_copy_0 8 rfl rfl)
theorem dX0_copy_11 : decode cX0_copy 11 = .ok (.ifCond .ne 6, 3) := dk_154 0 6 (dk_at dksX0_copy_0 11 rfl rfl)
theorem dX0_copy_14 : decode cX0_copy 14 = .ok (.ldc 93, 2) := dk_18 93 (dk_at dksX0_copy_0 14 rfl rfl)
theorem dX0_copy_16 : decode cX0_copy 16 = .ok (.ireturn, 1) := dk_172 (dk_at dksX0_copy_0 16 rfl rfl)
theorem dX0_copy_17 : decode cX0_copy 17 = .ok (.aload_n 0, 1) := dk_42 (dk_at dksX0_copy_0 17 rfl rfl)
theorem dX0_copy_18 : decode cX0_copy 18 = .ok (.iload_n 1, 1) := dk_27 (dk_at dksX0_copy_0 18 rfl rfl)
theorem dX0_copy_19 : decode cX0_copy 19 = .ok (.invokevirtual 103, 3) := dk_182 0 103 (dk_at dksX0_copy_0 19 rfl rfl)
theorem dX0_copy_22 : decode cX0_copy 22 = .ok (.astore 6, 2) := dk_58 6 (dk_at dksX0_copy_0 22 rfl rfl)
theorem dX0_copy_24 : decode cX0_copy 24 = .ok (.aload_n 0, 1) := dk_42 (dk_at dksX0_copy_1 0 rfl rfl)
theorem dX0_copy_25 : decode cX0_copy 25 = .ok (.iload_n 3, 1) := dk_29 (dk_at dksX0_copy_1 1 rfl rfl)
theorem dX0_copy_26 : decode cX0_copy 26 = .ok (.invokevirtual 103, 3) := dk_182 0 103 (dk_at dksX0_copy_1 2 rfl rfl)
theorem dX0_copy_29 : decode cX0_copy 29 = .ok (.astore 7, 2) := dk_58 7 (dk_at dksX0_copy_1 5 rfl rfl)
theorem dX0_copy_31 : decode cX0_copy 31 = .ok (.aload 6, 2) := dk_25 6 (dk_at dksX0_copy_1 7 rfl rfl)
theorem dX0_copy_33 : decode cX0_copy 33 = .ok (.getfield 114, 3) := dk_180 0 114 (dk_at dksX0_copy_1 9 rfl rfl)
theorem dX0_copy_36 : decode cX0_copy 36 = .ok (.aload 7, 2) := dk_25 7 (dk_at dksX0_copy_1 12 rfl rfl)
theorem dX0_copy_38 : decode cX0_copy 38 = .ok (.getfield 114, 3) := dk_180 0 114 (dk_at dksX0_copy_1 14 rfl rfl)
theorem dX0_copy_41 : decode cX0_copy 41 = .ok (.if_icmp .ne 7, 3) := dk_160 0 7 (dk_at dksX0_copy_1 17 rfl rfl)
theorem dX0_copy_44 : decode cX0_copy 44 = .ok (.iconst 1, 1) := dk_4 (dk_at dksX0_copy_1 20 rfl rfl)
theorem dX0_copy_45 : decode cX0_copy 45 = .ok (.goto 4, 3) := dk_167 0 4 (dk_at dksX0_copy_1 21 rfl rfl)
theorem dX0_copy_48 : decode cX0_copy 48 = .ok (.iconst 0, 1) := dk_3 (dk_at dksX0_copy_2 0 rfl rfl)
theorem dX0_copy_49 : decode cX0_copy 49 = .ok (.iconst 5, 1) := dk_8 (dk_at dksX0_copy_2 1 rfl rfl)
theorem dX0_copy_50 : decode cX0_copy 50 = .ok (.invokestatic 83, 3) := dk_184 0 83 (dk_at dksX0_copy_2 2 rfl rfl)
theorem dX0_copy_53 : decode cX0_copy 53 = .ok (.aload 6, 2) := dk_25 6 (dk_at dksX0_copy_2 5 rfl rfl)
theorem dX0_copy_55 : decode cX0_copy 55 = .ok (.getfield 107, 3) := dk_180 0 107 (dk_at dksX0_copy_2 7 rfl rfl)
theorem dX0_copy_58 : decode cX0_copy 58 = .ok (.iload_n 2, 1) := dk_28 (dk_at dksX0_copy_2 10 rfl rfl)
theorem dX0_copy_59 : decode cX0_copy 59 = .ok (.aload 7, 2) := dk_25 7 (dk_at dksX0_copy_2 11 rfl rfl)
theorem dX0_copy_61 : decode cX0_copy 61 = .ok (.getfield 107, 3) := dk_180 0 107 (dk_at dksX0_copy_2 13 rfl rfl)
theorem dX0_copy_64 : decode cX0_copy 64 = .ok (.iload 4, 2) := dk_21 4 (dk_at dksX0_copy_2 16 rfl rfl)
theorem dX0_copy_66 : decode cX0_copy 66 = .ok (.iload 5, 2) := dk_21 5 (dk_at dksX0_copy_2 18 rfl rfl)
theorem dX0_copy_68 : decode cX0_copy 68 = .ok (.invokestatic 117, 3) := dk_184 0 117 (dk_at dksX0_copy_2 20 rfl rfl)
theorem dX0_copy_71 : decode cX0_copy 71 = .ok (.goto 14, 3) := dk_167 0 14 (dk_at dksX0_copy_3 0 rfl rfl)
theorem dX0_copy_74 : decode cX0_copy 74 = .ok (.astore 8, 2) := dk_58 8 (dk_at dksX0_copy_3 3 rfl rfl)
theorem dX0_copy_76 : decode cX0_copy 76 = .ok (.new 65, 3) := dk_187 0 65 (dk_at dksX0_copy_3 5 rfl rfl)
theorem dX0_copy_79 : decode cX0_copy 79 = .ok (.dup, 1) := dk_89 (dk_at dksX0_copy_3 8 rfl rfl)
theorem dX0_copy_80 : decode cX0_copy 80 = .ok (.iconst 2, 1) := dk_5 (dk_at dksX0_copy_3 9 rfl rfl)
theorem dX0_copy_81 : decode cX0_copy 81 = .ok (.invokespecial 74, 3) := dk_183 0 74 (dk_at dksX0_copy_3 10 rfl rfl)
theorem dX0_copy_84 : decode cX0_copy 84 = .ok (.athrow, 1) := dk_191 (dk_at dksX0_copy_3 13 rfl rfl)
theorem dX0_copy_85 : decode cX0_copy 85 = .ok (.aload_n 0, 1) := dk_42 (dk_at dksX0_copy_3 14 rfl rfl)
theorem dX0_copy_86 : decode cX0_copy 86 = .ok (.iload 5, 2) := dk_21 5 (dk_at dksX0_copy_3 15 rfl rfl)
theorem dX0_copy_88 : decode cX0_copy 88 = .ok (.invokevirtual 95, 3) := dk_182 0 95 (dk_at dksX0_copy_3 17 rfl rfl)
theorem dX0_copy_91 : decode cX0_copy 91 = .ok (.ireturn, 1) := dk_172 (dk_at dksX0_copy_3 20 rfl rfl)
theorem dX0_copy_92 : decode cX0_copy 92 = .ok (.astore 6, 2) := dk_58 6 (dk_at dksX0_copy_3 21 rfl rfl)
theorem dX0_copy_94 : decode cX0_copy 94 = .ok (.aload_n 0, 1) := dk_42 (dk_at dksX0_copy_3 23 rfl rfl)
theorem dX0_copy_95 : decode cX0_copy 95 = .ok (.aload 6, 2) := dk_25 6 (dk_at dksX0_copy_4 0 rfl rfl)
theorem dX0_copy_97 : decode cX0_copy 97 = .ok (.invokevirtual 99, 3) := dk_182 0 99 (dk_at dksX0_copy_4 2 rfl rfl)
theorem dX0_copy_100 : decode cX0_copy 100 = .ok (.ireturn, 1) := dk_172 (dk_at dksX0_copy_4 5 rfl rfl)
abbrev cX0_drop : ByteArray := prog_1_method_12_code
def yX0_drop : MethodName := ⟨RX0, "drop", "(I)I"⟩
def dkwX0_drop_1 : List UInt8 := [27, 1, 83, 42, 28, 182, 0, 95, 172, 77, 42, 44, 182, 0, 99, 172]
abbrev dktX0_drop_1 : List UInt8 := dkwX0_drop_1 ++ []
def dkwX0_drop_0 : List UInt8 := [27, 184, 0, 87, 154, 0, 6, 18, 93, 172, 42, 27, 182, 0, 103, 180, 0, 107, 190, 61, 42, 180, 0, 28]
abbrev dktX0_drop_0 : List UInt8 := dkwX0_drop_0 ++ dktX0_drop_1
theorem dksX0_drop_0 : cX0_drop.data.toList.drop 0 = dktX0_drop_0 := by decide +kernel
theorem dksX0_drop_1 : cX0_drop.data.toList.drop 24 = dktX0_drop_1 := dk_seg dksX0_drop_0 24 rfl rfl
theorem dX0_drop_0 : decode cX0_drop 0 = .ok (.iload_n 1, 1) := dk_27 (dk_at dksX0_drop_0 0 rfl rfl)
theorem dX0_drop_1 : decode cX0_drop 1 = .ok (.invokestatic 87, 3) := dk_184 0 87 (dk_at dksX0_drop_0 1 rfl rfl)
theorem dX0_drop_4 : decode cX0_drop 4 = .ok (.ifCond .ne 6, 3) := dk_154 0 6 (dk_at dksX0_drop_0 4 rfl rfl)
theorem dX0_drop_7 : decode cX0_drop 7 = .ok (.ldc 93, 2) := dk_18 93 (dk_at dksX0_drop_0 7 rfl rfl)
theorem dX0_drop_9 : decode cX0_drop 9 = .ok (.ireturn, 1) := dk_172 (dk_at dksX0_drop_0 9 rfl rfl)
theorem dX0_drop_10 : decode cX0_drop 10 = .ok (.aload_n 0, 1) := dk_42 (dk_at dksX0_drop_0 10 rfl rfl)
theorem dX0_drop_11 : decode cX0_drop 11 = .ok (.iload_n 1, 1) := dk_27 (dk_at dksX0_drop_0 11 rfl rfl)
theorem dX0_drop_12 : decode cX0_drop 12 = .ok (.invokevirtual 103, 3) := dk_182 0 103 (dk_at dksX0_drop_0 12 rfl rfl)
theorem dX0_drop_15 : decode cX0_drop 15 = .ok (.getfield 107, 3) := dk_180 0 107 (dk_at dksX0_drop_0 15 rfl rfl)
theorem dX0_drop_18 : decode cX0_drop 18 = .ok (.arraylength, 1) := dk_190 (dk_at dksX0_drop_0 18 rfl rfl)
theorem dX0_drop_19 : decode cX0_drop 19 = .ok (.istore_n 2, 1) := dk_61 (dk_at dksX0_drop_0 19 rfl rfl)
theorem dX0_drop_20 : decode cX0_drop 20 = .ok (.aload_n 0, 1) := dk_42 (dk_at dksX0_drop_0 20 rfl rfl)
theorem dX0_drop_21 : decode cX0_drop 21 = .ok (.getfield 28, 3) := dk_180 0 28 (dk_at dksX0_drop_0 21 rfl rfl)
theorem dX0_drop_24 : decode cX0_drop 24 = .ok (.iload_n 1, 1) := dk_27 (dk_at dksX0_drop_1 0 rfl rfl)
theorem dX0_drop_25 : decode cX0_drop 25 = .ok (.aconst_null, 1) := dk_1 (dk_at dksX0_drop_1 1 rfl rfl)
theorem dX0_drop_26 : decode cX0_drop 26 = .ok (.aastore, 1) := dk_83 (dk_at dksX0_drop_1 2 rfl rfl)
theorem dX0_drop_27 : decode cX0_drop 27 = .ok (.aload_n 0, 1) := dk_42 (dk_at dksX0_drop_1 3 rfl rfl)
theorem dX0_drop_28 : decode cX0_drop 28 = .ok (.iload_n 2, 1) := dk_28 (dk_at dksX0_drop_1 4 rfl rfl)
theorem dX0_drop_29 : decode cX0_drop 29 = .ok (.invokevirtual 95, 3) := dk_182 0 95 (dk_at dksX0_drop_1 5 rfl rfl)
theorem dX0_drop_32 : decode cX0_drop 32 = .ok (.ireturn, 1) := dk_172 (dk_at dksX0_drop_1 8 rfl rfl)
theorem dX0_drop_33 : decode cX0_drop 33 = .ok (.astore_n 2, 1) := dk_77 (dk_at dksX0_drop_1 9 rfl rfl)
theorem dX0_drop_34 : decode cX0_drop 34 = .ok (.aload_n 0, 1) := dk_42 (dk_at dksX0_drop_1 10 rfl rfl)
theorem dX0_drop_35 : decode cX0_drop 35 = .ok (.aload_n 2, 1) := dk_44 (dk_at dksX0_drop_1 11 rfl rfl)
theorem dX0_drop_36 : decode cX0_drop 36 = .ok (.invokevirtual 99, 3) := dk_182 0 99 (dk_at dksX0_drop_1 12 rfl rfl)
theorem dX0_drop_39 : decode cX0_drop 39 = .ok (.ireturn, 1) := dk_172 (dk_at dksX0_drop_1 15 rfl rfl)
abbrev cX0_feed : ByteArray := prog_1_method_13_code
def yX0_feed : MethodName := ⟨RX0, "feed", "(JI)I"⟩
def dkwX0_feed_3 : List UInt8 := [167, 255, 223, 42, 180, 0, 127, 172]
abbrev dktX0_feed_3 : List UInt8 := dkwX0_feed_3 ++ []
def dkwX0_feed_2 : List UInt8 := [180, 0, 127, 90, 4, 96, 181, 0, 127, 31, 16, 8, 21, 4, 104, 123, 136, 145, 84, 132, 4, 255]
abbrev dktX0_feed_2 : List UInt8 := dkwX0_feed_2 ++ dktX0_feed_3
def dkwX0_feed_1 : List UInt8 := [164, 0, 6, 18, 130, 172, 29, 4, 100, 54, 4, 21, 4, 155, 0, 34, 42, 180, 0, 32, 42, 89]
abbrev dktX0_feed_1 : List UInt8 := dkwX0_feed_1 ++ dktX0_feed_2
def dkwX0_feed_0 : List UInt8 := [29, 133, 10, 20, 0, 125, 184, 0, 79, 154, 0, 6, 18, 93, 172, 42, 180, 0, 127, 29, 96, 17, 1, 144]
abbrev dktX0_feed_0 : List UInt8 := dkwX0_feed_0 ++ dktX0_feed_1
theorem dksX0_feed_0 : cX0_feed.data.toList.drop 0 = dktX0_feed_0 := by decide +kernel
theorem dksX0_feed_1 : cX0_feed.data.toList.drop 24 = dktX0_feed_1 := dk_seg dksX0_feed_0 24 rfl rfl
theorem dksX0_feed_2 : cX0_feed.data.toList.drop 46 = dktX0_feed_2 := dk_seg dksX0_feed_1 22 rfl rfl
theorem dksX0_feed_3 : cX0_feed.data.toList.drop 68 = dktX0_feed_3 := dk_seg dksX0_feed_2 22 rfl rfl
theorem dX0_feed_0 : decode cX0_feed 0 = .ok (.iload_n 3, 1) := dk_29 (dk_at dksX0_feed_0 0 rfl rfl)
theorem dX0_feed_1 : decode cX0_feed 1 = .ok (.i2l, 1) := dk_133 (dk_at dksX0_feed_0 1 rfl rfl)
theorem dX0_feed_2 : decode cX0_feed 2 = .ok (.lconst 1, 1) := dk_10 (dk_at dksX0_feed_0 2 rfl rfl)
theorem dX0_feed_3 : decode cX0_feed 3 = .ok (.ldc2_w 125, 3) := dk_20 0 125 (dk_at dksX0_feed_0 3 rfl rfl)
theorem dX0_feed_6 : decode cX0_feed 6 = .ok (.invokestatic 79, 3) := dk_184 0 79 (dk_at dksX0_feed_0 6 rfl rfl)
theorem dX0_feed_9 : decode cX0_feed 9 = .ok (.ifCond .ne 6, 3) := dk_154 0 6 (dk_at dksX0_feed_0 9 rfl rfl)
theorem dX0_feed_12 : decode cX0_feed 12 = .ok (.ldc 93, 2) := dk_18 93 (dk_at dksX0_feed_0 12 rfl rfl)
theorem dX0_feed_14 : decode cX0_feed 14 = .ok (.ireturn, 1) := dk_172 (dk_at dksX0_feed_0 14 rfl rfl)
theorem dX0_feed_15 : decode cX0_feed 15 = .ok (.aload_n 0, 1) := dk_42 (dk_at dksX0_feed_0 15 rfl rfl)
theorem dX0_feed_16 : decode cX0_feed 16 = .ok (.getfield 127, 3) := dk_180 0 127 (dk_at dksX0_feed_0 16 rfl rfl)
theorem dX0_feed_19 : decode cX0_feed 19 = .ok (.iload_n 3, 1) := dk_29 (dk_at dksX0_feed_0 19 rfl rfl)
theorem dX0_feed_20 : decode cX0_feed 20 = .ok (.iadd, 1) := dk_96 (dk_at dksX0_feed_0 20 rfl rfl)
theorem dX0_feed_21 : decode cX0_feed 21 = .ok (.sipush 400, 3) := dk_17 1 144 (dk_at dksX0_feed_0 21 rfl rfl)
theorem dX0_feed_24 : decode cX0_feed 24 = .ok (.if_icmp .le 6, 3) := dk_164 0 6 (dk_at dksX0_feed_1 0 rfl rfl)
theorem dX0_feed_27 : decode cX0_feed 27 = .ok (.ldc 130, 2) := dk_18 130 (dk_at dksX0_feed_1 3 rfl rfl)
theorem dX0_feed_29 : decode cX0_feed 29 = .ok (.ireturn, 1) := dk_172 (dk_at dksX0_feed_1 5 rfl rfl)
theorem dX0_feed_30 : decode cX0_feed 30 = .ok (.iload_n 3, 1) := dk_29 (dk_at dksX0_feed_1 6 rfl rfl)
theorem dX0_feed_31 : decode cX0_feed 31 = .ok (.iconst 1, 1) := dk_4 (dk_at dksX0_feed_1 7 rfl rfl)
theorem dX0_feed_32 : decode cX0_feed 32 = .ok (.isub, 1) := dk_100 (dk_at dksX0_feed_1 8 rfl rfl)
theorem dX0_feed_33 : decode cX0_feed 33 = .ok (.istore 4, 2) := dk_54 4 (dk_at dksX0_feed_1 9 rfl rfl)
theorem dX0_feed_35 : decode cX0_feed 35 = .ok (.iload 4, 2) := dk_21 4 (dk_at dksX0_feed_1 11 rfl rfl)
theorem dX0_feed_37 : decode cX0_feed 37 = .ok (.ifCond .lt 34, 3) := dk_155 0 34 (dk_at dksX0_feed_1 13 rfl rfl)
theorem dX0_feed_40 : decode cX0_feed 40 = .ok (.aload_n 0, 1) := dk_42 (dk_at dksX0_feed_1 16 rfl rfl)
theorem dX0_feed_41 : decode cX0_feed 41 = .ok (.getfield 32, 3) := dk_180 0 32 (dk_at dksX0_feed_1 17 rfl rfl)
theorem dX0_feed_44 : decode cX0_feed 44 = .ok (.aload_n 0, 1) := dk_42 (dk_at dksX0_feed_1 20 rfl rfl)
theorem dX0_feed_45 : decode cX0_feed 45 = .ok (.dup, 1) := dk_89 (dk_at dksX0_feed_1 21 rfl rfl)
theorem dX0_feed_46 : decode cX0_feed 46 = .ok (.getfield 127, 3) := dk_180 0 127 (dk_at dksX0_feed_2 0 rfl rfl)
theorem dX0_feed_49 : decode cX0_feed 49 = .ok (.dup_x1, 1) := dk_90 (dk_at dksX0_feed_2 3 rfl rfl)
theorem dX0_feed_50 : decode cX0_feed 50 = .ok (.iconst 1, 1) := dk_4 (dk_at dksX0_feed_2 4 rfl rfl)
theorem dX0_feed_51 : decode cX0_feed 51 = .ok (.iadd, 1) := dk_96 (dk_at dksX0_feed_2 5 rfl rfl)
theorem dX0_feed_52 : decode cX0_feed 52 = .ok (.putfield 127, 3) := dk_181 0 127 (dk_at dksX0_feed_2 6 rfl rfl)
theorem dX0_feed_55 : decode cX0_feed 55 = .ok (.lload_n 1, 1) := dk_31 (dk_at dksX0_feed_2 9 rfl rfl)
theorem dX0_feed_56 : decode cX0_feed 56 = .ok (.bipush 8, 2) := dk_16 8 (dk_at dksX0_feed_2 10 rfl rfl)
theorem dX0_feed_58 : decode cX0_feed 58 = .ok (.iload 4, 2) := dk_21 4 (dk_at dksX0_feed_2 12 rfl rfl)
theorem dX0_feed_60 : decode cX0_feed 60 = .ok (.imul, 1) := dk_104 (dk_at dksX0_feed_2 14 rfl rfl)
theorem dX0_feed_61 : decode cX0_feed 61 = .ok (.lshr, 1) := dk_123 (dk_at dksX0_feed_2 15 rfl rfl)
theorem dX0_feed_62 : decode cX0_feed 62 = .ok (.l2i, 1) := dk_136 (dk_at dksX0_feed_2 16 rfl rfl)
theorem dX0_feed_63 : decode cX0_feed 63 = .ok (.i2b, 1) := dk_145 (dk_at dksX0_feed_2 17 rfl rfl)
theorem dX0_feed_64 : decode cX0_feed 64 = .ok (.bastore, 1) := dk_84 (dk_at dksX0_feed_2 18 rfl rfl)
theorem dX0_feed_65 : decode cX0_feed 65 = .ok (.iinc 4 (-1), 3) := dk_132 4 255 (dk_at dksX0_feed_2 19 rfl rfl)
theorem dX0_feed_68 : decode cX0_feed 68 = .ok (.goto (-33), 3) := dk_167 255 223 (dk_at dksX0_feed_3 0 rfl rfl)
theorem dX0_feed_71 : decode cX0_feed 71 = .ok (.aload_n 0, 1) := dk_42 (dk_at dksX0_feed_3 3 rfl rfl)
theorem dX0_feed_72 : decode cX0_feed 72 = .ok (.getfield 127, 3) := dk_180 0 127 (dk_at dksX0_feed_3 4 rfl rfl)
theorem dX0_feed_75 : decode cX0_feed 75 = .ok (.ireturn, 1) := dk_172 (dk_at dksX0_feed_3 7 rfl rfl)
abbrev cX0_league : ByteArray := prog_1_method_14_code
def yX0_league : MethodName := ⟨RX0, "league", "()I"⟩
def dkwX0_league_2 : List UInt8 := [180, 0, 39, 43, 180, 0, 151, 182, 0, 154, 87, 42, 3, 181, 0, 158, 42, 180, 0, 39, 182, 0, 161, 172]
abbrev dktX0_league_2 : List UInt8 := dkwX0_league_2 ++ []
def dkwX0_league_1 : List UInt8 := [182, 0, 136, 167, 0, 20, 77, 42, 44, 180, 0, 141, 181, 0, 144, 18, 147, 44, 180, 0, 148, 100, 172, 42]
abbrev dktX0_league_1 : List UInt8 := dkwX0_league_1 ++ dktX0_league_2
def dkwX0_league_0 : List UInt8 := [187, 0, 131, 89, 42, 180, 0, 32, 42, 180, 0, 127, 183, 0, 133, 76, 42, 3, 181, 0, 127, 43]
abbrev dktX0_league_0 : List UInt8 := dkwX0_league_0 ++ dktX0_league_1
theorem dksX0_league_0 : cX0_league.data.toList.drop 0 = dktX0_league_0 := by decide +kernel
theorem dksX0_league_1 : cX0_league.data.toList.drop 22 = dktX0_league_1 := dk_seg dksX0_league_0 22 rfl rfl
theorem dksX0_league_2 : cX0_league.data.toList.drop 46 = dktX0_league_2 := dk_seg dksX0_league_1 24 rfl rfl
theorem dX0_league_0 : decode cX0_league 0 = .ok (.new 131, 3) := dk_187 0 131 (dk_at dksX0_league_0 0 rfl rfl)
theorem dX0_league_3 : decode cX0_league 3 = .ok (.dup, 1) := dk_89 (dk_at dksX0_league_0 3 rfl rfl)
theorem dX0_league_4 : decode cX0_league 4 = .ok (.aload_n 0, 1) := dk_42 (dk_at dksX0_league_0 4 rfl rfl)
theorem dX0_league_5 : decode cX0_league 5 = .ok (.getfield 32, 3) := dk_180 0 32 (dk_at dksX0_league_0 5 rfl rfl)
theorem dX0_league_8 : decode cX0_league 8 = .ok (.aload_n 0, 1) := dk_42 (dk_at dksX0_league_0 8 rfl rfl)
theorem dX0_league_9 : decode cX0_league 9 = .ok (.getfield 127, 3) := dk_180 0 127 (dk_at dksX0_league_0 9 rfl rfl)
theorem dX0_league_12 : decode cX0_league 12 = .ok (.invokespecial 133, 3) := dk_183 0 133 (dk_at dksX0_league_0 12 rfl rfl)
theorem dX0_league_15 : decode cX0_league 15 = .ok (.astore_n 1, 1) := dk_76 (dk_at dksX0_league_0 15 rfl rfl)
theorem dX0_league_16 : decode cX0_league 16 = .ok (.aload_n 0, 1) := dk_42 (dk_at dksX0_league_0 16 rfl rfl)
theorem dX0_league_17 : decode cX0_league 17 = .ok (.iconst 0, 1) := dk_3 (dk_at dksX0_league_0 17 rfl rfl)
theorem dX0_league_18 : decode cX0_league 18 = .ok (.putfield 127, 3) := dk_181 0 127 (dk_at dksX0_league_0 18 rfl rfl)
theorem dX0_league_21 : decode cX0_league 21 = .ok (.aload_n 1, 1) := dk_43 (dk_at dksX0_league_0 21 rfl rfl)
theorem dX0_league_22 : decode cX0_league 22 = .ok (.invokevirtual 136, 3) := dk_182 0 136 (dk_at dksX0_league_1 0 rfl rfl)
theorem dX0_league_25 : decode cX0_league 25 = .ok (.goto 20, 3) := dk_167 0 20 (dk_at dksX0_league_1 3 rfl rfl)
theorem dX0_league_28 : decode cX0_league 28 = .ok (.astore_n 2, 1) := dk_77 (dk_at dksX0_league_1 6 rfl rfl)
theorem dX0_league_29 : decode cX0_league 29 = .ok (.aload_n 0, 1) := dk_42 (dk_at dksX0_league_1 7 rfl rfl)
theorem dX0_league_30 : decode cX0_league 30 = .ok (.aload_n 2, 1) := dk_44 (dk_at dksX0_league_1 8 rfl rfl)
theorem dX0_league_31 : decode cX0_league 31 = .ok (.getfield 141, 3) := dk_180 0 141 (dk_at dksX0_league_1 9 rfl rfl)
theorem dX0_league_34 : decode cX0_league 34 = .ok (.putfield 144, 3) := dk_181 0 144 (dk_at dksX0_league_1 12 rfl rfl)
theorem dX0_league_37 : decode cX0_league 37 = .ok (.ldc 147, 2) := dk_18 147 (dk_at dksX0_league_1 15 rfl rfl)
theorem dX0_league_39 : decode cX0_league 39 = .ok (.aload_n 2, 1) := dk_44 (dk_at dksX0_league_1 17 rfl rfl)
theorem dX0_league_40 : decode cX0_league 40 = .ok (.getfield 148, 3) := dk_180 0 148 (dk_at dksX0_league_1 18 rfl rfl)
theorem dX0_league_43 : decode cX0_league 43 = .ok (.isub, 1) := dk_100 (dk_at dksX0_league_1 21 rfl rfl)
theorem dX0_league_44 : decode cX0_league 44 = .ok (.ireturn, 1) := dk_172 (dk_at dksX0_league_1 22 rfl rfl)
theorem dX0_league_45 : decode cX0_league 45 = .ok (.aload_n 0, 1) := dk_42 (dk_at dksX0_league_1 23 rfl rfl)
theorem dX0_league_46 : decode cX0_league 46 = .ok (.getfield 39, 3) := dk_180 0 39 (dk_at dksX0_league_2 0 rfl rfl)
theorem dX0_league_49 : decode cX0_league 49 = .ok (.aload_n 1, 1) := dk_43 (dk_at dksX0_league_2 3 rfl rfl)
theorem dX0_league_50 : decode cX0_league 50 = .ok (.getfield 151, 3) := dk_180 0 151 (dk_at dksX0_league_2 4 rfl rfl)
theorem dX0_league_53 : decode cX0_league 53 = .ok (.invokevirtual 154, 3) := dk_182 0 154 (dk_at dksX0_league_2 7 rfl rfl)
theorem dX0_league_56 : decode cX0_league 56 = .ok (.pop, 1) := dk_87 (dk_at dksX0_league_2 10 rfl rfl)
theorem dX0_league_57 : decode cX0_league 57 = .ok (.aload_n 0, 1) := dk_42 (dk_at dksX0_league_2 11 rfl rfl)
theorem dX0_league_58 : decode cX0_league 58 = .ok (.iconst 0, 1) := dk_3 (dk_at dksX0_league_2 12 rfl rfl)
theorem dX0_league_59 : decode cX0_league 59 = .ok (.putfield 158, 3) := dk_181 0 158 (dk_at dksX0_league_2 13 rfl rfl)
theorem dX0_league_62 : decode cX0_league 62 = .ok (.aload_n 0, 1) := dk_42 (dk_at dksX0_league_2 16 rfl rfl)
theorem dX0_league_63 : decode cX0_league 63 = .ok (.getfield 39, 3) := dk_180 0 39 (dk_at dksX0_league_2 17 rfl rfl)
theorem dX0_league_66 : decode cX0_league 66 = .ok (.invokevirtual 161, 3) := dk_182 0 161 (dk_at dksX0_league_2 20 rfl rfl)
theorem dX0_league_69 : decode cX0_league 69 = .ok (.ireturn, 1) := dk_172 (dk_at dksX0_league_2 23 rfl rfl)
abbrev cX0_personBy : ByteArray := prog_1_method_2_code
def yX0_personBy : MethodName := ⟨RX0, "personBy", "(III)LYoungerBack$Person;"⟩
def dkwX0_personBy_4 : List UInt8 := [183, 0, 20, 176]
abbrev dktX0_personBy_4 : List UInt8 := dkwX0_personBy_4 ++ []
def dkwX0_personBy_3 : List UInt8 := [27, 28, 183, 0, 14, 176, 187, 0, 15, 89, 27, 28, 183, 0, 17, 176, 187, 0, 18, 89, 27, 28]
abbrev dktX0_personBy_3 : List UInt8 := dkwX0_personBy_3 ++ dktX0_personBy_4
def dkwX0_personBy_2 : List UInt8 := [187, 0, 3, 89, 27, 28, 183, 0, 5, 176, 187, 0, 9, 89, 27, 28, 183, 0, 11, 176, 187, 0, 12, 89]
abbrev dktX0_personBy_2 : List UInt8 := dkwX0_personBy_2 ++ dktX0_personBy_3
def dkwX0_personBy_1 : List UInt8 := [170, 0, 0, 0, 0, 0, 71, 0, 0, 0, 0, 0, 0, 0, 3, 0, 0, 0, 31, 0, 0, 0, 41, 0, 0, 0, 51, 0, 0, 0, 61]
abbrev dktX0_personBy_1 : List UInt8 := dkwX0_personBy_1 ++ dktX0_personBy_2
def dkwX0_personBy_0 : List UInt8 := [26]
abbrev dktX0_personBy_0 : List UInt8 := dkwX0_personBy_0 ++ dktX0_personBy_1
theorem dksX0_personBy_0 : cX0_personBy.data.toList.drop 0 = dktX0_personBy_0 := by decide +kernel
theorem dksX0_personBy_1 : cX0_personBy.data.toList.drop 1 = dktX0_personBy_1 := dk_seg dksX0_personBy_0 1 rfl rfl
theorem dksX0_personBy_2 : cX0_personBy.data.toList.drop 32 = dktX0_personBy_2 := dk_seg dksX0_personBy_1 31 rfl rfl
theorem dksX0_personBy_3 : cX0_personBy.data.toList.drop 56 = dktX0_personBy_3 := dk_seg dksX0_personBy_2 24 rfl rfl
theorem dksX0_personBy_4 : cX0_personBy.data.toList.drop 78 = dktX0_personBy_4 := dk_seg dksX0_personBy_3 22 rfl rfl
theorem dX0_personBy_0 : decode cX0_personBy 0 = .ok (.iload_n 0, 1) := dk_26 (dk_at dksX0_personBy_0 0 rfl rfl)
theorem dX0_personBy_1 : decode cX0_personBy 1 = .ok (.tableswitch 71 0 3 #[31, 41, 51, 61], 31) := by decide +kernel
theorem dX0_personBy_32 : decode cX0_personBy 32 = .ok (.new 3, 3) := dk_187 0 3 (dk_at dksX0_personBy_2 0 rfl rfl)
theorem dX0_personBy_35 : decode cX0_personBy 35 = .ok (.dup, 1) := dk_89 (dk_at dksX0_personBy_2 3 rfl rfl)
theorem dX0_personBy_36 : decode cX0_personBy 36 = .ok (.iload_n 1, 1) := dk_27 (dk_at dksX0_personBy_2 4 rfl rfl)
theorem dX0_personBy_37 : decode cX0_personBy 37 = .ok (.iload_n 2, 1) := dk_28 (dk_at dksX0_personBy_2 5 rfl rfl)
theorem dX0_personBy_38 : decode cX0_personBy 38 = .ok (.invokespecial 5, 3) := dk_183 0 5 (dk_at dksX0_personBy_2 6 rfl rfl)
theorem dX0_personBy_41 : decode cX0_personBy 41 = .ok (.areturn, 1) := dk_176 (dk_at dksX0_personBy_2 9 rfl rfl)
theorem dX0_personBy_42 : decode cX0_personBy 42 = .ok (.new 9, 3) := dk_187 0 9 (dk_at dksX0_personBy_2 10 rfl rfl)
theorem dX0_personBy_45 : decode cX0_personBy 45 = .ok (.dup, 1) := dk_89 (dk_at dksX0_personBy_2 13 rfl rfl)
theorem dX0_personBy_46 : decode cX0_personBy 46 = .ok (.iload_n 1, 1) := dk_27 (dk_at dksX0_personBy_2 14 rfl rfl)
theorem dX0_personBy_47 : decode cX0_personBy 47 = .ok (.iload_n 2, 1) := dk_28 (dk_at dksX0_personBy_2 15 rfl rfl)
theorem dX0_personBy_48 : decode cX0_personBy 48 = .ok (.invokespecial 11, 3) := dk_183 0 11 (dk_at dksX0_personBy_2 16 rfl rfl)
theorem dX0_personBy_51 : decode cX0_personBy 51 = .ok (.areturn, 1) := dk_176 (dk_at dksX0_personBy_2 19 rfl rfl)
theorem dX0_personBy_52 : decode cX0_personBy 52 = .ok (.new 12, 3) := dk_187 0 12 (dk_at dksX0_personBy_2 20 rfl rfl)
theorem dX0_personBy_55 : decode cX0_personBy 55 = .ok (.dup, 1) := dk_89 (dk_at dksX0_personBy_2 23 rfl rfl)
theorem dX0_personBy_56 : decode cX0_personBy 56 = .ok (.iload_n 1, 1) := dk_27 (dk_at dksX0_personBy_3 0 rfl rfl)
theorem dX0_personBy_57 : decode cX0_personBy 57 = .ok (.iload_n 2, 1) := dk_28 (dk_at dksX0_personBy_3 1 rfl rfl)
theorem dX0_personBy_58 : decode cX0_personBy 58 = .ok (.invokespecial 14, 3) := dk_183 0 14 (dk_at dksX0_personBy_3 2 rfl rfl)
theorem dX0_personBy_61 : decode cX0_personBy 61 = .ok (.areturn, 1) := dk_176 (dk_at dksX0_personBy_3 5 rfl rfl)
theorem dX0_personBy_62 : decode cX0_personBy 62 = .ok (.new 15, 3) := dk_187 0 15 (dk_at dksX0_personBy_3 6 rfl rfl)
theorem dX0_personBy_65 : decode cX0_personBy 65 = .ok (.dup, 1) := dk_89 (dk_at dksX0_personBy_3 9 rfl rfl)
theorem dX0_personBy_66 : decode cX0_personBy 66 = .ok (.iload_n 1, 1) := dk_27 (dk_at dksX0_personBy_3 10 rfl rfl)
theorem dX0_personBy_67 : decode cX0_personBy 67 = .ok (.iload_n 2, 1) := dk_28 (dk_at dksX0_personBy_3 11 rfl rfl)
theorem dX0_personBy_68 : decode cX0_personBy 68 = .ok (.invokespecial 17, 3) := dk_183 0 17 (dk_at dksX0_personBy_3 12 rfl rfl)
theorem dX0_personBy_71 : decode cX0_personBy 71 = .ok (.areturn, 1) := dk_176 (dk_at dksX0_personBy_3 15 rfl rfl)
theorem dX0_personBy_72 : decode cX0_personBy 72 = .ok (.new 18, 3) := dk_187 0 18 (dk_at dksX0_personBy_3 16 rfl rfl)
theorem dX0_personBy_75 : decode cX0_personBy 75 = .ok (.dup, 1) := dk_89 (dk_at dksX0_personBy_3 19 rfl rfl)
theorem dX0_personBy_76 : decode cX0_personBy 76 = .ok (.iload_n 1, 1) := dk_27 (dk_at dksX0_personBy_3 20 rfl rfl)
theorem dX0_personBy_77 : decode cX0_personBy 77 = .ok (.iload_n 2, 1) := dk_28 (dk_at dksX0_personBy_3 21 rfl rfl)
theorem dX0_personBy_78 : decode cX0_personBy 78 = .ok (.invokespecial 20, 3) := dk_183 0 20 (dk_at dksX0_personBy_4 0 rfl rfl)
theorem dX0_personBy_81 : decode cX0_personBy 81 = .ok (.areturn, 1) := dk_176 (dk_at dksX0_personBy_4 3 rfl rfl)
abbrev cX0_fault : ByteArray := prog_1_method_15_code
def yX0_fault : MethodName := ⟨RX0, "fault", "()I"⟩
theorem dX0_fault_0 : decode cX0_fault 0 = .ok (.aload_n 0, 1) := by decide +kernel
theorem dX0_fault_1 : decode cX0_fault 1 = .ok (.getfield 144, 3) := by decide +kernel
theorem dX0_fault_4 : decode cX0_fault 4 = .ok (.ireturn, 1) := by decide +kernel
abbrev cX0_sail : ByteArray := prog_1_method_25_code
def yX0_sail : MethodName := ⟨RX0, "sail", "(II)I"⟩
def dkwX0_sail_3 : List UInt8 := [180, 0, 174, 27, 46, 172]
abbrev dktX0_sail_3 : List UInt8 := dkwX0_sail_3 ++ []
def dkwX0_sail_2 : List UInt8 := [153, 0, 6, 18, 130, 172, 42, 182, 0, 199, 42, 180, 0, 39, 27, 28, 182, 0, 202, 42, 180, 0, 39]
abbrev dktX0_sail_2 : List UInt8 := dkwX0_sail_2 ++ dktX0_sail_3
def dkwX0_sail_1 : List UInt8 := [182, 0, 188, 154, 0, 6, 18, 192, 172, 42, 27, 42, 180, 0, 39, 180, 0, 193, 28, 46, 182, 0, 196]
abbrev dktX0_sail_1 : List UInt8 := dkwX0_sail_1 ++ dktX0_sail_2
def dkwX0_sail_0 : List UInt8 := [42, 27, 182, 0, 168, 153, 0, 11, 42, 28, 182, 0, 185, 154, 0, 6, 18, 93, 172, 42, 27, 28]
abbrev dktX0_sail_0 : List UInt8 := dkwX0_sail_0 ++ dktX0_sail_1
theorem dksX0_sail_0 : cX0_sail.data.toList.drop 0 = dktX0_sail_0 := by decide +kernel
theorem dksX0_sail_1 : cX0_sail.data.toList.drop 22 = dktX0_sail_1 := dk_seg dksX0_sail_0 22 rfl rfl
theorem dksX0_sail_2 : cX0_sail.data.toList.drop 45 = dktX0_sail_2 := dk_seg dksX0_sail_1 23 rfl rfl
theorem dksX0_sail_3 : cX0_sail.data.toList.drop 68 = dktX0_sail_3 := dk_seg dksX0_sail_2 23 rfl rfl
theorem dX0_sail_0 : decode cX0_sail 0 = .ok (.aload_n 0, 1) := dk_42 (dk_at dksX0_sail_0 0 rfl rfl)
theorem dX0_sail_1 : decode cX0_sail 1 = .ok (.iload_n 1, 1) := dk_27 (dk_at dksX0_sail_0 1 rfl rfl)
theorem dX0_sail_2 : decode cX0_sail 2 = .ok (.invokevirtual 168, 3) := dk_182 0 168 (dk_at dksX0_sail_0 2 rfl rfl)
theorem dX0_sail_5 : decode cX0_sail 5 = .ok (.ifCond .eq 11, 3) := dk_153 0 11 (dk_at dksX0_sail_0 5 rfl rfl)
theorem dX0_sail_8 : decode cX0_sail 8 = .ok (.aload_n 0, 1) := dk_42 (dk_at dksX0_sail_0 8 rfl rfl)
theorem dX0_sail_9 : decode cX0_sail 9 = .ok (.iload_n 2, 1) := dk_28 (dk_at dksX0_sail_0 9 rfl rfl)
theorem dX0_sail_10 : decode cX0_sail 10 = .ok (.invokevirtual 185, 3) := dk_182 0 185 (dk_at dksX0_sail_0 10 rfl rfl)
theorem dX0_sail_13 : decode cX0_sail 13 = .ok (.ifCond .ne 6, 3) := dk_154 0 6 (dk_at dksX0_sail_0 13 rfl rfl)
theorem dX0_sail_16 : decode cX0_sail 16 = .ok (.ldc 93, 2) := dk_18 93 (dk_at dksX0_sail_0 16 rfl rfl)
theorem dX0_sail_18 : decode cX0_sail 18 = .ok (.ireturn, 1) := dk_172 (dk_at dksX0_sail_0 18 rfl rfl)
theorem dX0_sail_19 : decode cX0_sail 19 = .ok (.aload_n 0, 1) := dk_42 (dk_at dksX0_sail_0 19 rfl rfl)
theorem dX0_sail_20 : decode cX0_sail 20 = .ok (.iload_n 1, 1) := dk_27 (dk_at dksX0_sail_0 20 rfl rfl)
theorem dX0_sail_21 : decode cX0_sail 21 = .ok (.iload_n 2, 1) := dk_28 (dk_at dksX0_sail_0 21 rfl rfl)
theorem dX0_sail_22 : decode cX0_sail 22 = .ok (.invokevirtual 188, 3) := dk_182 0 188 (dk_at dksX0_sail_1 0 rfl rfl)
theorem dX0_sail_25 : decode cX0_sail 25 = .ok (.ifCond .ne 6, 3) := dk_154 0 6 (dk_at dksX0_sail_1 3 rfl rfl)
theorem dX0_sail_28 : decode cX0_sail 28 = .ok (.ldc 192, 2) := dk_18 192 (dk_at dksX0_sail_1 6 rfl rfl)
theorem dX0_sail_30 : decode cX0_sail 30 = .ok (.ireturn, 1) := dk_172 (dk_at dksX0_sail_1 8 rfl rfl)
theorem dX0_sail_31 : decode cX0_sail 31 = .ok (.aload_n 0, 1) := dk_42 (dk_at dksX0_sail_1 9 rfl rfl)
theorem dX0_sail_32 : decode cX0_sail 32 = .ok (.iload_n 1, 1) := dk_27 (dk_at dksX0_sail_1 10 rfl rfl)
theorem dX0_sail_33 : decode cX0_sail 33 = .ok (.aload_n 0, 1) := dk_42 (dk_at dksX0_sail_1 11 rfl rfl)
theorem dX0_sail_34 : decode cX0_sail 34 = .ok (.getfield 39, 3) := dk_180 0 39 (dk_at dksX0_sail_1 12 rfl rfl)
theorem dX0_sail_37 : decode cX0_sail 37 = .ok (.getfield 193, 3) := dk_180 0 193 (dk_at dksX0_sail_1 15 rfl rfl)
theorem dX0_sail_40 : decode cX0_sail 40 = .ok (.iload_n 2, 1) := dk_28 (dk_at dksX0_sail_1 18 rfl rfl)
theorem dX0_sail_41 : decode cX0_sail 41 = .ok (.iaload, 1) := dk_46 (dk_at dksX0_sail_1 19 rfl rfl)
theorem dX0_sail_42 : decode cX0_sail 42 = .ok (.invokevirtual 196, 3) := dk_182 0 196 (dk_at dksX0_sail_1 20 rfl rfl)
theorem dX0_sail_45 : decode cX0_sail 45 = .ok (.ifCond .eq 6, 3) := dk_153 0 6 (dk_at dksX0_sail_2 0 rfl rfl)
theorem dX0_sail_48 : decode cX0_sail 48 = .ok (.ldc 130, 2) := dk_18 130 (dk_at dksX0_sail_2 3 rfl rfl)
theorem dX0_sail_50 : decode cX0_sail 50 = .ok (.ireturn, 1) := dk_172 (dk_at dksX0_sail_2 5 rfl rfl)
theorem dX0_sail_51 : decode cX0_sail 51 = .ok (.aload_n 0, 1) := dk_42 (dk_at dksX0_sail_2 6 rfl rfl)
theorem dX0_sail_52 : decode cX0_sail 52 = .ok (.invokevirtual 199, 3) := dk_182 0 199 (dk_at dksX0_sail_2 7 rfl rfl)
theorem dX0_sail_55 : decode cX0_sail 55 = .ok (.aload_n 0, 1) := dk_42 (dk_at dksX0_sail_2 10 rfl rfl)
theorem dX0_sail_56 : decode cX0_sail 56 = .ok (.getfield 39, 3) := dk_180 0 39 (dk_at dksX0_sail_2 11 rfl rfl)
theorem dX0_sail_59 : decode cX0_sail 59 = .ok (.iload_n 1, 1) := dk_27 (dk_at dksX0_sail_2 14 rfl rfl)
theorem dX0_sail_60 : decode cX0_sail 60 = .ok (.iload_n 2, 1) := dk_28 (dk_at dksX0_sail_2 15 rfl rfl)
theorem dX0_sail_61 : decode cX0_sail 61 = .ok (.invokevirtual 202, 3) := dk_182 0 202 (dk_at dksX0_sail_2 16 rfl rfl)
theorem dX0_sail_64 : decode cX0_sail 64 = .ok (.aload_n 0, 1) := dk_42 (dk_at dksX0_sail_2 19 rfl rfl)
theorem dX0_sail_65 : decode cX0_sail 65 = .ok (.getfield 39, 3) := dk_180 0 39 (dk_at dksX0_sail_2 20 rfl rfl)
theorem dX0_sail_68 : decode cX0_sail 68 = .ok (.getfield 174, 3) := dk_180 0 174 (dk_at dksX0_sail_3 0 rfl rfl)
theorem dX0_sail_71 : decode cX0_sail 71 = .ok (.iload_n 1, 1) := dk_27 (dk_at dksX0_sail_3 3 rfl rfl)
theorem dX0_sail_72 : decode cX0_sail 72 = .ok (.iaload, 1) := dk_46 (dk_at dksX0_sail_3 4 rfl rfl)
theorem dX0_sail_73 : decode cX0_sail 73 = .ok (.ireturn, 1) := dk_172 (dk_at dksX0_sail_3 5 rfl rfl)
abbrev cX0_isPerson : ByteArray := prog_1_method_17_code
def yX0_isPerson : MethodName := ⟨RX0, "isPerson", "(I)Z"⟩
def dkwX0_isPerson_0 : List UInt8 := [27, 133, 9, 42, 180, 0, 39, 182, 0, 161, 4, 100, 133, 184, 0, 79, 172]
abbrev dktX0_isPerson_0 : List UInt8 := dkwX0_isPerson_0 ++ []
theorem dksX0_isPerson_0 : cX0_isPerson.data.toList.drop 0 = dktX0_isPerson_0 := by decide +kernel
theorem dX0_isPerson_0 : decode cX0_isPerson 0 = .ok (.iload_n 1, 1) := dk_27 (dk_at dksX0_isPerson_0 0 rfl rfl)
theorem dX0_isPerson_1 : decode cX0_isPerson 1 = .ok (.i2l, 1) := dk_133 (dk_at dksX0_isPerson_0 1 rfl rfl)
theorem dX0_isPerson_2 : decode cX0_isPerson 2 = .ok (.lconst 0, 1) := dk_9 (dk_at dksX0_isPerson_0 2 rfl rfl)
theorem dX0_isPerson_3 : decode cX0_isPerson 3 = .ok (.aload_n 0, 1) := dk_42 (dk_at dksX0_isPerson_0 3 rfl rfl)
theorem dX0_isPerson_4 : decode cX0_isPerson 4 = .ok (.getfield 39, 3) := dk_180 0 39 (dk_at dksX0_isPerson_0 4 rfl rfl)
theorem dX0_isPerson_7 : decode cX0_isPerson 7 = .ok (.invokevirtual 161, 3) := dk_182 0 161 (dk_at dksX0_isPerson_0 7 rfl rfl)
theorem dX0_isPerson_10 : decode cX0_isPerson 10 = .ok (.iconst 1, 1) := dk_4 (dk_at dksX0_isPerson_0 10 rfl rfl)
theorem dX0_isPerson_11 : decode cX0_isPerson 11 = .ok (.isub, 1) := dk_100 (dk_at dksX0_isPerson_0 11 rfl rfl)
theorem dX0_isPerson_12 : decode cX0_isPerson 12 = .ok (.i2l, 1) := dk_133 (dk_at dksX0_isPerson_0 12 rfl rfl)
theorem dX0_isPerson_13 : decode cX0_isPerson 13 = .ok (.invokestatic 79, 3) := dk_184 0 79 (dk_at dksX0_isPerson_0 13 rfl rfl)
theorem dX0_isPerson_16 : decode cX0_isPerson 16 = .ok (.ireturn, 1) := dk_172 (dk_at dksX0_isPerson_0 16 rfl rfl)
abbrev cX0_isWay : ByteArray := prog_1_method_20_code
def yX0_isWay : MethodName := ⟨RX0, "isWay", "(I)Z"⟩
def dkwX0_isWay_0 : List UInt8 := [27, 133, 9, 42, 180, 0, 39, 180, 0, 171, 4, 100, 133, 184, 0, 79, 172]
abbrev dktX0_isWay_0 : List UInt8 := dkwX0_isWay_0 ++ []
theorem dksX0_isWay_0 : cX0_isWay.data.toList.drop 0 = dktX0_isWay_0 := by decide +kernel
theorem dX0_isWay_0 : decode cX0_isWay 0 = .ok (.iload_n 1, 1) := dk_27 (dk_at dksX0_isWay_0 0 rfl rfl)
theorem dX0_isWay_1 : decode cX0_isWay 1 = .ok (.i2l, 1) := dk_133 (dk_at dksX0_isWay_0 1 rfl rfl)
theorem dX0_isWay_2 : decode cX0_isWay 2 = .ok (.lconst 0, 1) := dk_9 (dk_at dksX0_isWay_0 2 rfl rfl)
theorem dX0_isWay_3 : decode cX0_isWay 3 = .ok (.aload_n 0, 1) := dk_42 (dk_at dksX0_isWay_0 3 rfl rfl)
theorem dX0_isWay_4 : decode cX0_isWay 4 = .ok (.getfield 39, 3) := dk_180 0 39 (dk_at dksX0_isWay_0 4 rfl rfl)
theorem dX0_isWay_7 : decode cX0_isWay 7 = .ok (.getfield 171, 3) := dk_180 0 171 (dk_at dksX0_isWay_0 7 rfl rfl)
theorem dX0_isWay_10 : decode cX0_isWay 10 = .ok (.iconst 1, 1) := dk_4 (dk_at dksX0_isWay_0 10 rfl rfl)
theorem dX0_isWay_11 : decode cX0_isWay 11 = .ok (.isub, 1) := dk_100 (dk_at dksX0_isWay_0 11 rfl rfl)
theorem dX0_isWay_12 : decode cX0_isWay 12 = .ok (.i2l, 1) := dk_133 (dk_at dksX0_isWay_0 12 rfl rfl)
theorem dX0_isWay_13 : decode cX0_isWay 13 = .ok (.invokestatic 79, 3) := dk_184 0 79 (dk_at dksX0_isWay_0 13 rfl rfl)
theorem dX0_isWay_16 : decode cX0_isWay 16 = .ok (.ireturn, 1) := dk_172 (dk_at dksX0_isWay_0 16 rfl rfl)
abbrev cX0_canSail : ByteArray := prog_1_method_23_code
def yX0_canSail : MethodName := ⟨RX0, "canSail", "(II)Z"⟩
def dkwX0_canSail_1 : List UInt8 := [167, 0, 4, 3, 172]
abbrev dktX0_canSail_1 : List UInt8 := dkwX0_canSail_1 ++ []
def dkwX0_canSail_0 : List UInt8 := [42, 180, 0, 39, 27, 28, 42, 180, 0, 39, 180, 0, 174, 27, 46, 182, 0, 177, 18, 181, 159, 0, 7, 4]
abbrev dktX0_canSail_0 : List UInt8 := dkwX0_canSail_0 ++ dktX0_canSail_1
theorem dksX0_canSail_0 : cX0_canSail.data.toList.drop 0 = dktX0_canSail_0 := by decide +kernel
theorem dksX0_canSail_1 : cX0_canSail.data.toList.drop 24 = dktX0_canSail_1 := dk_seg dksX0_canSail_0 24 rfl rfl
theorem dX0_canSail_0 : decode cX0_canSail 0 = .ok (.aload_n 0, 1) := dk_42 (dk_at dksX0_canSail_0 0 rfl rfl)
theorem dX0_canSail_1 : decode cX0_canSail 1 = .ok (.getfield 39, 3) := dk_180 0 39 (dk_at dksX0_canSail_0 1 rfl rfl)
theorem dX0_canSail_4 : decode cX0_canSail 4 = .ok (.iload_n 1, 1) := dk_27 (dk_at dksX0_canSail_0 4 rfl rfl)
theorem dX0_canSail_5 : decode cX0_canSail 5 = .ok (.iload_n 2, 1) := dk_28 (dk_at dksX0_canSail_0 5 rfl rfl)
theorem dX0_canSail_6 : decode cX0_canSail 6 = .ok (.aload_n 0, 1) := dk_42 (dk_at dksX0_canSail_0 6 rfl rfl)
theorem dX0_canSail_7 : decode cX0_canSail 7 = .ok (.getfield 39, 3) := dk_180 0 39 (dk_at dksX0_canSail_0 7 rfl rfl)
theorem dX0_canSail_10 : decode cX0_canSail 10 = .ok (.getfield 174, 3) := dk_180 0 174 (dk_at dksX0_canSail_0 10 rfl rfl)
theorem dX0_canSail_13 : decode cX0_canSail 13 = .ok (.iload_n 1, 1) := dk_27 (dk_at dksX0_canSail_0 13 rfl rfl)
theorem dX0_canSail_14 : decode cX0_canSail 14 = .ok (.iaload, 1) := dk_46 (dk_at dksX0_canSail_0 14 rfl rfl)
theorem dX0_canSail_15 : decode cX0_canSail 15 = .ok (.invokevirtual 177, 3) := dk_182 0 177 (dk_at dksX0_canSail_0 15 rfl rfl)
theorem dX0_canSail_18 : decode cX0_canSail 18 = .ok (.ldc 181, 2) := dk_18 181 (dk_at dksX0_canSail_0 18 rfl rfl)
theorem dX0_canSail_20 : decode cX0_canSail 20 = .ok (.if_icmp .eq 7, 3) := dk_159 0 7 (dk_at dksX0_canSail_0 20 rfl rfl)
theorem dX0_canSail_23 : decode cX0_canSail 23 = .ok (.iconst 1, 1) := dk_4 (dk_at dksX0_canSail_0 23 rfl rfl)
theorem dX0_canSail_24 : decode cX0_canSail 24 = .ok (.goto 4, 3) := dk_167 0 4 (dk_at dksX0_canSail_1 0 rfl rfl)
theorem dX0_canSail_27 : decode cX0_canSail 27 = .ok (.iconst 0, 1) := dk_3 (dk_at dksX0_canSail_1 3 rfl rfl)
theorem dX0_canSail_28 : decode cX0_canSail 28 = .ok (.ireturn, 1) := dk_172 (dk_at dksX0_canSail_1 4 rfl rfl)
abbrev cX0_isTooLate : ByteArray := prog_1_method_24_code
def yX0_isTooLate : MethodName := ⟨RX0, "isTooLate", "(II)Z"⟩
def dkwX0_isTooLate_0 : List UInt8 := [42, 180, 0, 39, 180, 0, 182, 27, 46, 28, 96, 17, 0, 200, 164, 0, 7, 4, 167, 0, 4, 3, 172]
abbrev dktX0_isTooLate_0 : List UInt8 := dkwX0_isTooLate_0 ++ []
theorem dksX0_isTooLate_0 : cX0_isTooLate.data.toList.drop 0 = dktX0_isTooLate_0 := by decide +kernel
theorem dX0_isTooLate_0 : decode cX0_isTooLate 0 = .ok (.aload_n 0, 1) := dk_42 (dk_at dksX0_isTooLate_0 0 rfl rfl)
theorem dX0_isTooLate_1 : decode cX0_isTooLate 1 = .ok (.getfield 39, 3) := dk_180 0 39 (dk_at dksX0_isTooLate_0 1 rfl rfl)
theorem dX0_isTooLate_4 : decode cX0_isTooLate 4 = .ok (.getfield 182, 3) := dk_180 0 182 (dk_at dksX0_isTooLate_0 4 rfl rfl)
theorem dX0_isTooLate_7 : decode cX0_isTooLate 7 = .ok (.iload_n 1, 1) := dk_27 (dk_at dksX0_isTooLate_0 7 rfl rfl)
theorem dX0_isTooLate_8 : decode cX0_isTooLate 8 = .ok (.iaload, 1) := dk_46 (dk_at dksX0_isTooLate_0 8 rfl rfl)
theorem dX0_isTooLate_9 : decode cX0_isTooLate 9 = .ok (.iload_n 2, 1) := dk_28 (dk_at dksX0_isTooLate_0 9 rfl rfl)
theorem dX0_isTooLate_10 : decode cX0_isTooLate 10 = .ok (.iadd, 1) := dk_96 (dk_at dksX0_isTooLate_0 10 rfl rfl)
theorem dX0_isTooLate_11 : decode cX0_isTooLate 11 = .ok (.sipush 200, 3) := dk_17 0 200 (dk_at dksX0_isTooLate_0 11 rfl rfl)
theorem dX0_isTooLate_14 : decode cX0_isTooLate 14 = .ok (.if_icmp .le 7, 3) := dk_164 0 7 (dk_at dksX0_isTooLate_0 14 rfl rfl)
theorem dX0_isTooLate_17 : decode cX0_isTooLate 17 = .ok (.iconst 1, 1) := dk_4 (dk_at dksX0_isTooLate_0 17 rfl rfl)
theorem dX0_isTooLate_18 : decode cX0_isTooLate 18 = .ok (.goto 4, 3) := dk_167 0 4 (dk_at dksX0_isTooLate_0 18 rfl rfl)
theorem dX0_isTooLate_21 : decode cX0_isTooLate 21 = .ok (.iconst 0, 1) := dk_3 (dk_at dksX0_isTooLate_0 21 rfl rfl)
theorem dX0_isTooLate_22 : decode cX0_isTooLate 22 = .ok (.ireturn, 1) := dk_172 (dk_at dksX0_isTooLate_0 22 rfl rfl)
abbrev cX0_keep : ByteArray := prog_1_method_22_code
def yX0_keep : MethodName := ⟨RX0, "keep", "()V"⟩
def dkwX0_keep_4 : List UInt8 := [180, 0, 158, 50, 42, 180, 0, 39, 182, 0, 154, 87, 42, 89, 180, 0, 158, 4, 96, 181, 0, 158, 177]
abbrev dktX0_keep_4 : List UInt8 := dkwX0_keep_4 ++ []
def dkwX0_keep_3 : List UInt8 := [199, 0, 19, 42, 180, 0, 43, 42, 180, 0, 158, 187, 0, 36, 89, 183, 0, 38, 83, 42, 180, 0, 43, 42]
abbrev dktX0_keep_3 : List UInt8 := dkwX0_keep_3 ++ dktX0_keep_4
def dkwX0_keep_2 : List UInt8 := [16, 23, 43, 83, 42, 89, 180, 0, 158, 4, 100, 181, 0, 158, 42, 180, 0, 43, 42, 180, 0, 158, 50]
abbrev dktX0_keep_2 : List UInt8 := dkwX0_keep_2 ++ dktX0_keep_3
def dkwX0_keep_1 : List UInt8 := [42, 180, 0, 43, 28, 4, 100, 42, 180, 0, 43, 28, 50, 83, 132, 2, 1, 167, 255, 233, 42, 180, 0, 43]
abbrev dktX0_keep_1 : List UInt8 := dkwX0_keep_1 ++ dktX0_keep_2
def dkwX0_keep_0 : List UInt8 := [42, 180, 0, 158, 16, 24, 160, 0, 56, 42, 180, 0, 43, 3, 50, 76, 4, 61, 28, 16, 24, 162, 0, 23]
abbrev dktX0_keep_0 : List UInt8 := dkwX0_keep_0 ++ dktX0_keep_1
theorem dksX0_keep_0 : cX0_keep.data.toList.drop 0 = dktX0_keep_0 := by decide +kernel
theorem dksX0_keep_1 : cX0_keep.data.toList.drop 24 = dktX0_keep_1 := dk_seg dksX0_keep_0 24 rfl rfl
theorem dksX0_keep_2 : cX0_keep.data.toList.drop 48 = dktX0_keep_2 := dk_seg dksX0_keep_1 24 rfl rfl
theorem dksX0_keep_3 : cX0_keep.data.toList.drop 71 = dktX0_keep_3 := dk_seg dksX0_keep_2 23 rfl rfl
theorem dksX0_keep_4 : cX0_keep.data.toList.drop 95 = dktX0_keep_4 := dk_seg dksX0_keep_3 24 rfl rfl
theorem dX0_keep_0 : decode cX0_keep 0 = .ok (.aload_n 0, 1) := dk_42 (dk_at dksX0_keep_0 0 rfl rfl)
theorem dX0_keep_1 : decode cX0_keep 1 = .ok (.getfield 158, 3) := dk_180 0 158 (dk_at dksX0_keep_0 1 rfl rfl)
theorem dX0_keep_4 : decode cX0_keep 4 = .ok (.bipush 24, 2) := dk_16 24 (dk_at dksX0_keep_0 4 rfl rfl)
theorem dX0_keep_6 : decode cX0_keep 6 = .ok (.if_icmp .ne 56, 3) := dk_160 0 56 (dk_at dksX0_keep_0 6 rfl rfl)
theorem dX0_keep_9 : decode cX0_keep 9 = .ok (.aload_n 0, 1) := dk_42 (dk_at dksX0_keep_0 9 rfl rfl)
theorem dX0_keep_10 : decode cX0_keep 10 = .ok (.getfield 43, 3) := dk_180 0 43 (dk_at dksX0_keep_0 10 rfl rfl)
theorem dX0_keep_13 : decode cX0_keep 13 = .ok (.iconst 0, 1) := dk_3 (dk_at dksX0_keep_0 13 rfl rfl)
theorem dX0_keep_14 : decode cX0_keep 14 = .ok (.aaload, 1) := dk_50 (dk_at dksX0_keep_0 14 rfl rfl)
theorem dX0_keep_15 : decode cX0_keep 15 = .ok (.astore_n 1, 1) := dk_76 (dk_at dksX0_keep_0 15 rfl rfl)
theorem dX0_keep_16 : decode cX0_keep 16 = .ok (.iconst 1, 1) := dk_4 (dk_at dksX0_keep_0 16 rfl rfl)
theorem dX0_keep_17 : decode cX0_keep 17 = .ok (.istore_n 2, 1) := dk_61 (dk_at dksX0_keep_0 17 rfl rfl)
theorem dX0_keep_18 : decode cX0_keep 18 = .ok (.iload_n 2, 1) := dk_28 (dk_at dksX0_keep_0 18 rfl rfl)
theorem dX0_keep_19 : decode cX0_keep 19 = .ok (.bipush 24, 2) := dk_16 24 (dk_at dksX0_keep_0 19 rfl rfl)
theorem dX0_keep_21 : decode cX0_keep 21 = .ok (.if_icmp .ge 23, 3) := dk_162 0 23 (dk_at dksX0_keep_0 21 rfl rfl)
theorem dX0_keep_24 : decode cX0_keep 24 = .ok (.aload_n 0, 1) := dk_42 (dk_at dksX0_keep_1 0 rfl rfl)
theorem dX0_keep_25 : decode cX0_keep 25 = .ok (.getfield 43, 3) := dk_180 0 43 (dk_at dksX0_keep_1 1 rfl rfl)
theorem dX0_keep_28 : decode cX0_keep 28 = .ok (.iload_n 2, 1) := dk_28 (dk_at dksX0_keep_1 4 rfl rfl)
theorem dX0_keep_29 : decode cX0_keep 29 = .ok (.iconst 1, 1) := dk_4 (dk_at dksX0_keep_1 5 rfl rfl)
theorem dX0_keep_30 : decode cX0_keep 30 = .ok (.isub, 1) := dk_100 (dk_at dksX0_keep_1 6 rfl rfl)
theorem dX0_keep_31 : decode cX0_keep 31 = .ok (.aload_n 0, 1) := dk_42 (dk_at dksX0_keep_1 7 rfl rfl)
theorem dX0_keep_32 : decode cX0_keep 32 = .ok (.getfield 43, 3) := dk_180 0 43 (dk_at dksX0_keep_1 8 rfl rfl)
theorem dX0_keep_35 : decode cX0_keep 35 = .ok (.iload_n 2, 1) := dk_28 (dk_at dksX0_keep_1 11 rfl rfl)
theorem dX0_keep_36 : decode cX0_keep 36 = .ok (.aaload, 1) := dk_50 (dk_at dksX0_keep_1 12 rfl rfl)
theorem dX0_keep_37 : decode cX0_keep 37 = .ok (.aastore, 1) := dk_83 (dk_at dksX0_keep_1 13 rfl rfl)
theorem dX0_keep_38 : decode cX0_keep 38 = .ok (.iinc 2 1, 3) := dk_132 2 1 (dk_at dksX0_keep_1 14 rfl rfl)
theorem dX0_keep_41 : decode cX0_keep 41 = .ok (.goto (-23), 3) := dk_167 255 233 (dk_at dksX0_keep_1 17 rfl rfl)
theorem dX0_keep_44 : decode cX0_keep 44 = .ok (.aload_n 0, 1) := dk_42 (dk_at dksX0_keep_1 20 rfl rfl)
theorem dX0_keep_45 : decode cX0_keep 45 = .ok (.getfield 43, 3) := dk_180 0 43 (dk_at dksX0_keep_1 21 rfl rfl)
theorem dX0_keep_48 : decode cX0_keep 48 = .ok (.bipush 23, 2) := dk_16 23 (dk_at dksX0_keep_2 0 rfl rfl)
theorem dX0_keep_50 : decode cX0_keep 50 = .ok (.aload_n 1, 1) := dk_43 (dk_at dksX0_keep_2 2 rfl rfl)
theorem dX0_keep_51 : decode cX0_keep 51 = .ok (.aastore, 1) := dk_83 (dk_at dksX0_keep_2 3 rfl rfl)
theorem dX0_keep_52 : decode cX0_keep 52 = .ok (.aload_n 0, 1) := dk_42 (dk_at dksX0_keep_2 4 rfl rfl)
theorem dX0_keep_53 : decode cX0_keep 53 = .ok (.dup, 1) := dk_89 (dk_at dksX0_keep_2 5 rfl rfl)
theorem dX0_keep_54 : decode cX0_keep 54 = .ok (.getfield 158, 3) := dk_180 0 158 (dk_at dksX0_keep_2 6 rfl rfl)
theorem dX0_keep_57 : decode cX0_keep 57 = .ok (.iconst 1, 1) := dk_4 (dk_at dksX0_keep_2 9 rfl rfl)
theorem dX0_keep_58 : decode cX0_keep 58 = .ok (.isub, 1) := dk_100 (dk_at dksX0_keep_2 10 rfl rfl)
theorem dX0_keep_59 : decode cX0_keep 59 = .ok (.putfield 158, 3) := dk_181 0 158 (dk_at dksX0_keep_2 11 rfl rfl)
theorem dX0_keep_62 : decode cX0_keep 62 = .ok (.aload_n 0, 1) := dk_42 (dk_at dksX0_keep_2 14 rfl rfl)
theorem dX0_keep_63 : decode cX0_keep 63 = .ok (.getfield 43, 3) := dk_180 0 43 (dk_at dksX0_keep_2 15 rfl rfl)
theorem dX0_keep_66 : decode cX0_keep 66 = .ok (.aload_n 0, 1) := dk_42 (dk_at dksX0_keep_2 18 rfl rfl)
theorem dX0_keep_67 : decode cX0_keep 67 = .ok (.getfield 158, 3) := dk_180 0 158 (dk_at dksX0_keep_2 19 rfl rfl)
theorem dX0_keep_70 : decode cX0_keep 70 = .ok (.aaload, 1) := dk_50 (dk_at dksX0_keep_2 22 rfl rfl)
theorem dX0_keep_71 : decode cX0_keep 71 = .ok (.ifnonnull 19, 3) := dk_199 0 19 (dk_at dksX0_keep_3 0 rfl rfl)
theorem dX0_keep_74 : decode cX0_keep 74 = .ok (.aload_n 0, 1) := dk_42 (dk_at dksX0_keep_3 3 rfl rfl)
theorem dX0_keep_75 : decode cX0_keep 75 = .ok (.getfield 43, 3) := dk_180 0 43 (dk_at dksX0_keep_3 4 rfl rfl)
theorem dX0_keep_78 : decode cX0_keep 78 = .ok (.aload_n 0, 1) := dk_42 (dk_at dksX0_keep_3 7 rfl rfl)
theorem dX0_keep_79 : decode cX0_keep 79 = .ok (.getfield 158, 3) := dk_180 0 158 (dk_at dksX0_keep_3 8 rfl rfl)
theorem dX0_keep_82 : decode cX0_keep 82 = .ok (.new 36, 3) := dk_187 0 36 (dk_at dksX0_keep_3 11 rfl rfl)
theorem dX0_keep_85 : decode cX0_keep 85 = .ok (.dup, 1) := dk_89 (dk_at dksX0_keep_3 14 rfl rfl)
theorem dX0_keep_86 : decode cX0_keep 86 = .ok (.invokespecial 38, 3) := dk_183 0 38 (dk_at dksX0_keep_3 15 rfl rfl)
theorem dX0_keep_89 : decode cX0_keep 89 = .ok (.aastore, 1) := dk_83 (dk_at dksX0_keep_3 18 rfl rfl)
theorem dX0_keep_90 : decode cX0_keep 90 = .ok (.aload_n 0, 1) := dk_42 (dk_at dksX0_keep_3 19 rfl rfl)
theorem dX0_keep_91 : decode cX0_keep 91 = .ok (.getfield 43, 3) := dk_180 0 43 (dk_at dksX0_keep_3 20 rfl rfl)
theorem dX0_keep_94 : decode cX0_keep 94 = .ok (.aload_n 0, 1) := dk_42 (dk_at dksX0_keep_3 23 rfl rfl)
theorem dX0_keep_95 : decode cX0_keep 95 = .ok (.getfield 158, 3) := dk_180 0 158 (dk_at dksX0_keep_4 0 rfl rfl)
theorem dX0_keep_98 : decode cX0_keep 98 = .ok (.aaload, 1) := dk_50 (dk_at dksX0_keep_4 3 rfl rfl)
theorem dX0_keep_99 : decode cX0_keep 99 = .ok (.aload_n 0, 1) := dk_42 (dk_at dksX0_keep_4 4 rfl rfl)
theorem dX0_keep_100 : decode cX0_keep 100 = .ok (.getfield 39, 3) := dk_180 0 39 (dk_at dksX0_keep_4 5 rfl rfl)
theorem dX0_keep_103 : decode cX0_keep 103 = .ok (.invokevirtual 154, 3) := dk_182 0 154 (dk_at dksX0_keep_4 8 rfl rfl)
theorem dX0_keep_106 : decode cX0_keep 106 = .ok (.pop, 1) := dk_87 (dk_at dksX0_keep_4 11 rfl rfl)
theorem dX0_keep_107 : decode cX0_keep 107 = .ok (.aload_n 0, 1) := dk_42 (dk_at dksX0_keep_4 12 rfl rfl)
theorem dX0_keep_108 : decode cX0_keep 108 = .ok (.dup, 1) := dk_89 (dk_at dksX0_keep_4 13 rfl rfl)
theorem dX0_keep_109 : decode cX0_keep 109 = .ok (.getfield 158, 3) := dk_180 0 158 (dk_at dksX0_keep_4 14 rfl rfl)
theorem dX0_keep_112 : decode cX0_keep 112 = .ok (.iconst 1, 1) := dk_4 (dk_at dksX0_keep_4 17 rfl rfl)
theorem dX0_keep_113 : decode cX0_keep 113 = .ok (.iadd, 1) := dk_96 (dk_at dksX0_keep_4 18 rfl rfl)
theorem dX0_keep_114 : decode cX0_keep 114 = .ok (.putfield 158, 3) := dk_181 0 158 (dk_at dksX0_keep_4 19 rfl rfl)
theorem dX0_keep_117 : decode cX0_keep 117 = .ok (.return_, 1) := dk_177 (dk_at dksX0_keep_4 22 rfl rfl)
abbrev cX0_sails : ByteArray := prog_1_method_26_code
def yX0_sails : MethodName := ⟨RX0, "sails", "(IIII)I"⟩
def dkwX0_sails_6 : List UInt8 := [167, 255, 195, 42, 21, 6, 182, 0, 95, 172, 58, 5, 42, 25, 5, 182, 0, 99, 172]
abbrev dktX0_sails_6 : List UInt8 := dkwX0_sails_6 ++ []
def dkwX0_sails_5 : List UInt8 := [154, 0, 26, 42, 182, 0, 199, 42, 180, 0, 39, 27, 25, 5, 21, 6, 46, 182, 0, 202, 132, 6, 1]
abbrev dktX0_sails_5 : List UInt8 := dkwX0_sails_5 ++ dktX0_sails_6
def dkwX0_sails_4 : List UInt8 := [182, 0, 188, 153, 0, 47, 42, 27, 42, 180, 0, 39, 180, 0, 193, 25, 5, 21, 6, 46, 46, 182, 0, 196]
abbrev dktX0_sails_4 : List UInt8 := dkwX0_sails_4 ++ dktX0_sails_5
def dkwX0_sails_3 : List UInt8 := [132, 6, 1, 167, 255, 231, 3, 54, 6, 21, 6, 21, 4, 162, 0, 60, 42, 27, 25, 5, 21, 6, 46]
abbrev dktX0_sails_3 : List UInt8 := dkwX0_sails_3 ++ dktX0_sails_4
def dkwX0_sails_2 : List UInt8 := [54, 6, 21, 6, 21, 4, 162, 0, 24, 42, 25, 5, 21, 6, 46, 182, 0, 185, 154, 0, 6, 18, 93, 172]
abbrev dktX0_sails_2 : List UInt8 := dkwX0_sails_2 ++ dktX0_sails_3
def dkwX0_sails_1 : List UInt8 := [182, 0, 168, 154, 0, 6, 18, 93, 172, 42, 28, 182, 0, 103, 29, 21, 4, 182, 0, 207, 58, 5, 3]
abbrev dktX0_sails_1 : List UInt8 := dkwX0_sails_1 ++ dktX0_sails_2
def dkwX0_sails_0 : List UInt8 := [28, 184, 0, 87, 153, 0, 24, 21, 4, 133, 10, 20, 0, 205, 184, 0, 79, 153, 0, 11, 42, 27]
abbrev dktX0_sails_0 : List UInt8 := dkwX0_sails_0 ++ dktX0_sails_1
theorem dksX0_sails_0 : cX0_sails.data.toList.drop 0 = dktX0_sails_0 := by decide +kernel
theorem dksX0_sails_1 : cX0_sails.data.toList.drop 22 = dktX0_sails_1 := dk_seg dksX0_sails_0 22 rfl rfl
theorem dksX0_sails_2 : cX0_sails.data.toList.drop 45 = dktX0_sails_2 := dk_seg dksX0_sails_1 23 rfl rfl
theorem dksX0_sails_3 : cX0_sails.data.toList.drop 69 = dktX0_sails_3 := dk_seg dksX0_sails_2 24 rfl rfl
theorem dksX0_sails_4 : cX0_sails.data.toList.drop 92 = dktX0_sails_4 := dk_seg dksX0_sails_3 23 rfl rfl
theorem dksX0_sails_5 : cX0_sails.data.toList.drop 116 = dktX0_sails_5 := dk_seg dksX0_sails_4 24 rfl rfl
theorem dksX0_sails_6 : cX0_sails.data.toList.drop 139 = dktX0_sails_6 := dk_seg dksX0_sails_5 23 rfl rfl
theorem dX0_sails_0 : decode cX0_sails 0 = .ok (.iload_n 2, 1) := dk_28 (dk_at dksX0_sails_0 0 rfl rfl)
theorem dX0_sails_1 : decode cX0_sails 1 = .ok (.invokestatic 87, 3) := dk_184 0 87 (dk_at dksX0_sails_0 1 rfl rfl)
theorem dX0_sails_4 : decode cX0_sails 4 = .ok (.ifCond .eq 24, 3) := dk_153 0 24 (dk_at dksX0_sails_0 4 rfl rfl)
theorem dX0_sails_7 : decode cX0_sails 7 = .ok (.iload 4, 2) := dk_21 4 (dk_at dksX0_sails_0 7 rfl rfl)
theorem dX0_sails_9 : decode cX0_sails 9 = .ok (.i2l, 1) := dk_133 (dk_at dksX0_sails_0 9 rfl rfl)
theorem dX0_sails_10 : decode cX0_sails 10 = .ok (.lconst 1, 1) := dk_10 (dk_at dksX0_sails_0 10 rfl rfl)
theorem dX0_sails_11 : decode cX0_sails 11 = .ok (.ldc2_w 205, 3) := dk_20 0 205 (dk_at dksX0_sails_0 11 rfl rfl)
theorem dX0_sails_14 : decode cX0_sails 14 = .ok (.invokestatic 79, 3) := dk_184 0 79 (dk_at dksX0_sails_0 14 rfl rfl)
theorem dX0_sails_17 : decode cX0_sails 17 = .ok (.ifCond .eq 11, 3) := dk_153 0 11 (dk_at dksX0_sails_0 17 rfl rfl)
theorem dX0_sails_20 : decode cX0_sails 20 = .ok (.aload_n 0, 1) := dk_42 (dk_at dksX0_sails_0 20 rfl rfl)
theorem dX0_sails_21 : decode cX0_sails 21 = .ok (.iload_n 1, 1) := dk_27 (dk_at dksX0_sails_0 21 rfl rfl)
theorem dX0_sails_22 : decode cX0_sails 22 = .ok (.invokevirtual 168, 3) := dk_182 0 168 (dk_at dksX0_sails_1 0 rfl rfl)
theorem dX0_sails_25 : decode cX0_sails 25 = .ok (.ifCond .ne 6, 3) := dk_154 0 6 (dk_at dksX0_sails_1 3 rfl rfl)
theorem dX0_sails_28 : decode cX0_sails 28 = .ok (.ldc 93, 2) := dk_18 93 (dk_at dksX0_sails_1 6 rfl rfl)
theorem dX0_sails_30 : decode cX0_sails 30 = .ok (.ireturn, 1) := dk_172 (dk_at dksX0_sails_1 8 rfl rfl)
theorem dX0_sails_31 : decode cX0_sails 31 = .ok (.aload_n 0, 1) := dk_42 (dk_at dksX0_sails_1 9 rfl rfl)
theorem dX0_sails_32 : decode cX0_sails 32 = .ok (.iload_n 2, 1) := dk_28 (dk_at dksX0_sails_1 10 rfl rfl)
theorem dX0_sails_33 : decode cX0_sails 33 = .ok (.invokevirtual 103, 3) := dk_182 0 103 (dk_at dksX0_sails_1 11 rfl rfl)
theorem dX0_sails_36 : decode cX0_sails 36 = .ok (.iload_n 3, 1) := dk_29 (dk_at dksX0_sails_1 14 rfl rfl)
theorem dX0_sails_37 : decode cX0_sails 37 = .ok (.iload 4, 2) := dk_21 4 (dk_at dksX0_sails_1 15 rfl rfl)
theorem dX0_sails_39 : decode cX0_sails 39 = .ok (.invokevirtual 207, 3) := dk_182 0 207 (dk_at dksX0_sails_1 17 rfl rfl)
theorem dX0_sails_42 : decode cX0_sails 42 = .ok (.astore 5, 2) := dk_58 5 (dk_at dksX0_sails_1 20 rfl rfl)
theorem dX0_sails_44 : decode cX0_sails 44 = .ok (.iconst 0, 1) := dk_3 (dk_at dksX0_sails_1 22 rfl rfl)
theorem dX0_sails_45 : decode cX0_sails 45 = .ok (.istore 6, 2) := dk_54 6 (dk_at dksX0_sails_2 0 rfl rfl)
theorem dX0_sails_47 : decode cX0_sails 47 = .ok (.iload 6, 2) := dk_21 6 (dk_at dksX0_sails_2 2 rfl rfl)
theorem dX0_sails_49 : decode cX0_sails 49 = .ok (.iload 4, 2) := dk_21 4 (dk_at dksX0_sails_2 4 rfl rfl)
theorem dX0_sails_51 : decode cX0_sails 51 = .ok (.if_icmp .ge 24, 3) := dk_162 0 24 (dk_at dksX0_sails_2 6 rfl rfl)
theorem dX0_sails_54 : decode cX0_sails 54 = .ok (.aload_n 0, 1) := dk_42 (dk_at dksX0_sails_2 9 rfl rfl)
theorem dX0_sails_55 : decode cX0_sails 55 = .ok (.aload 5, 2) := dk_25 5 (dk_at dksX0_sails_2 10 rfl rfl)
theorem dX0_sails_57 : decode cX0_sails 57 = .ok (.iload 6, 2) := dk_21 6 (dk_at dksX0_sails_2 12 rfl rfl)
theorem dX0_sails_59 : decode cX0_sails 59 = .ok (.iaload, 1) := dk_46 (dk_at dksX0_sails_2 14 rfl rfl)
theorem dX0_sails_60 : decode cX0_sails 60 = .ok (.invokevirtual 185, 3) := dk_182 0 185 (dk_at dksX0_sails_2 15 rfl rfl)
theorem dX0_sails_63 : decode cX0_sails 63 = .ok (.ifCond .ne 6, 3) := dk_154 0 6 (dk_at dksX0_sails_2 18 rfl rfl)
theorem dX0_sails_66 : decode cX0_sails 66 = .ok (.ldc 93, 2) := dk_18 93 (dk_at dksX0_sails_2 21 rfl rfl)
theorem dX0_sails_68 : decode cX0_sails 68 = .ok (.ireturn, 1) := dk_172 (dk_at dksX0_sails_2 23 rfl rfl)
theorem dX0_sails_69 : decode cX0_sails 69 = .ok (.iinc 6 1, 3) := dk_132 6 1 (dk_at dksX0_sails_3 0 rfl rfl)
theorem dX0_sails_72 : decode cX0_sails 72 = .ok (.goto (-25), 3) := dk_167 255 231 (dk_at dksX0_sails_3 3 rfl rfl)
theorem dX0_sails_75 : decode cX0_sails 75 = .ok (.iconst 0, 1) := dk_3 (dk_at dksX0_sails_3 6 rfl rfl)
theorem dX0_sails_76 : decode cX0_sails 76 = .ok (.istore 6, 2) := dk_54 6 (dk_at dksX0_sails_3 7 rfl rfl)
theorem dX0_sails_78 : decode cX0_sails 78 = .ok (.iload 6, 2) := dk_21 6 (dk_at dksX0_sails_3 9 rfl rfl)
theorem dX0_sails_80 : decode cX0_sails 80 = .ok (.iload 4, 2) := dk_21 4 (dk_at dksX0_sails_3 11 rfl rfl)
theorem dX0_sails_82 : decode cX0_sails 82 = .ok (.if_icmp .ge 60, 3) := dk_162 0 60 (dk_at dksX0_sails_3 13 rfl rfl)
theorem dX0_sails_85 : decode cX0_sails 85 = .ok (.aload_n 0, 1) := dk_42 (dk_at dksX0_sails_3 16 rfl rfl)
theorem dX0_sails_86 : decode cX0_sails 86 = .ok (.iload_n 1, 1) := dk_27 (dk_at dksX0_sails_3 17 rfl rfl)
theorem dX0_sails_87 : decode cX0_sails 87 = .ok (.aload 5, 2) := dk_25 5 (dk_at dksX0_sails_3 18 rfl rfl)
theorem dX0_sails_89 : decode cX0_sails 89 = .ok (.iload 6, 2) := dk_21 6 (dk_at dksX0_sails_3 20 rfl rfl)
theorem dX0_sails_91 : decode cX0_sails 91 = .ok (.iaload, 1) := dk_46 (dk_at dksX0_sails_3 22 rfl rfl)
theorem dX0_sails_92 : decode cX0_sails 92 = .ok (.invokevirtual 188, 3) := dk_182 0 188 (dk_at dksX0_sails_4 0 rfl rfl)
theorem dX0_sails_95 : decode cX0_sails 95 = .ok (.ifCond .eq 47, 3) := dk_153 0 47 (dk_at dksX0_sails_4 3 rfl rfl)
theorem dX0_sails_98 : decode cX0_sails 98 = .ok (.aload_n 0, 1) := dk_42 (dk_at dksX0_sails_4 6 rfl rfl)
theorem dX0_sails_99 : decode cX0_sails 99 = .ok (.iload_n 1, 1) := dk_27 (dk_at dksX0_sails_4 7 rfl rfl)
theorem dX0_sails_100 : decode cX0_sails 100 = .ok (.aload_n 0, 1) := dk_42 (dk_at dksX0_sails_4 8 rfl rfl)
theorem dX0_sails_101 : decode cX0_sails 101 = .ok (.getfield 39, 3) := dk_180 0 39 (dk_at dksX0_sails_4 9 rfl rfl)
theorem dX0_sails_104 : decode cX0_sails 104 = .ok (.getfield 193, 3) := dk_180 0 193 (dk_at dksX0_sails_4 12 rfl rfl)
theorem dX0_sails_107 : decode cX0_sails 107 = .ok (.aload 5, 2) := dk_25 5 (dk_at dksX0_sails_4 15 rfl rfl)
theorem dX0_sails_109 : decode cX0_sails 109 = .ok (.iload 6, 2) := dk_21 6 (dk_at dksX0_sails_4 17 rfl rfl)
theorem dX0_sails_111 : decode cX0_sails 111 = .ok (.iaload, 1) := dk_46 (dk_at dksX0_sails_4 19 rfl rfl)
theorem dX0_sails_112 : decode cX0_sails 112 = .ok (.iaload, 1) := dk_46 (dk_at dksX0_sails_4 20 rfl rfl)
theorem dX0_sails_113 : decode cX0_sails 113 = .ok (.invokevirtual 196, 3) := dk_182 0 196 (dk_at dksX0_sails_4 21 rfl rfl)
theorem dX0_sails_116 : decode cX0_sails 116 = .ok (.ifCond .ne 26, 3) := dk_154 0 26 (dk_at dksX0_sails_5 0 rfl rfl)
theorem dX0_sails_119 : decode cX0_sails 119 = .ok (.aload_n 0, 1) := dk_42 (dk_at dksX0_sails_5 3 rfl rfl)
theorem dX0_sails_120 : decode cX0_sails 120 = .ok (.invokevirtual 199, 3) := dk_182 0 199 (dk_at dksX0_sails_5 4 rfl rfl)
theorem dX0_sails_123 : decode cX0_sails 123 = .ok (.aload_n 0, 1) := dk_42 (dk_at dksX0_sails_5 7 rfl rfl)
theorem dX0_sails_124 : decode cX0_sails 124 = .ok (.getfield 39, 3) := dk_180 0 39 (dk_at dksX0_sails_5 8 rfl rfl)
theorem dX0_sails_127 : decode cX0_sails 127 = .ok (.iload_n 1, 1) := dk_27 (dk_at dksX0_sails_5 11 rfl rfl)
theorem dX0_sails_128 : decode cX0_sails 128 = .ok (.aload 5, 2) := dk_25 5 (dk_at dksX0_sails_5 12 rfl rfl)
theorem dX0_sails_130 : decode cX0_sails 130 = .ok (.iload 6, 2) := dk_21 6 (dk_at dksX0_sails_5 14 rfl rfl)
theorem dX0_sails_132 : decode cX0_sails 132 = .ok (.iaload, 1) := dk_46 (dk_at dksX0_sails_5 16 rfl rfl)
theorem dX0_sails_133 : decode cX0_sails 133 = .ok (.invokevirtual 202, 3) := dk_182 0 202 (dk_at dksX0_sails_5 17 rfl rfl)
theorem dX0_sails_136 : decode cX0_sails 136 = .ok (.iinc 6 1, 3) := dk_132 6 1 (dk_at dksX0_sails_5 20 rfl rfl)
theorem dX0_sails_139 : decode cX0_sails 139 = .ok (.goto (-61), 3) := dk_167 255 195 (dk_at dksX0_sails_6 0 rfl rfl)
theorem dX0_sails_142 : decode cX0_sails 142 = .ok (.aload_n 0, 1) := dk_42 (dk_at dksX0_sails_6 3 rfl rfl)
theorem dX0_sails_143 : decode cX0_sails 143 = .ok (.iload 6, 2) := dk_21 6 (dk_at dksX0_sails_6 4 rfl rfl)
theorem dX0_sails_145 : decode cX0_sails 145 = .ok (.invokevirtual 95, 3) := dk_182 0 95 (dk_at dksX0_sails_6 6 rfl rfl)
theorem dX0_sails_148 : decode cX0_sails 148 = .ok (.ireturn, 1) := dk_172 (dk_at dksX0_sails_6 9 rfl rfl)
theorem dX0_sails_149 : decode cX0_sails 149 = .ok (.astore 5, 2) := dk_58 5 (dk_at dksX0_sails_6 10 rfl rfl)
theorem dX0_sails_151 : decode cX0_sails 151 = .ok (.aload_n 0, 1) := dk_42 (dk_at dksX0_sails_6 12 rfl rfl)
theorem dX0_sails_152 : decode cX0_sails 152 = .ok (.aload 5, 2) := dk_25 5 (dk_at dksX0_sails_6 13 rfl rfl)
theorem dX0_sails_154 : decode cX0_sails 154 = .ok (.invokevirtual 99, 3) := dk_182 0 99 (dk_at dksX0_sails_6 15 rfl rfl)
theorem dX0_sails_157 : decode cX0_sails 157 = .ok (.ireturn, 1) := dk_172 (dk_at dksX0_sails_6 18 rfl rfl)
abbrev cX0_stay : ByteArray := prog_1_method_27_code
def yX0_stay : MethodName := ⟨RX0, "stay", "(II)I"⟩
def dkwX0_stay_2 : List UInt8 := [42, 180, 0, 39, 180, 0, 216, 27, 46, 172]
abbrev dktX0_stay_2 : List UInt8 := dkwX0_stay_2 ++ []
def dkwX0_stay_1 : List UInt8 := [27, 28, 182, 0, 196, 153, 0, 6, 18, 130, 172, 42, 182, 0, 199, 42, 180, 0, 39, 27, 28, 182, 0, 213]
abbrev dktX0_stay_1 : List UInt8 := dkwX0_stay_1 ++ dktX0_stay_2
def dkwX0_stay_0 : List UInt8 := [42, 27, 182, 0, 168, 153, 0, 15, 28, 133, 10, 20, 0, 211, 184, 0, 79, 154, 0, 6, 18, 93, 172, 42]
abbrev dktX0_stay_0 : List UInt8 := dkwX0_stay_0 ++ dktX0_stay_1
theorem dksX0_stay_0 : cX0_stay.data.toList.drop 0 = dktX0_stay_0 := by decide +kernel
theorem dksX0_stay_1 : cX0_stay.data.toList.drop 24 = dktX0_stay_1 := dk_seg dksX0_stay_0 24 rfl rfl
theorem dksX0_stay_2 : cX0_stay.data.toList.drop 48 = dktX0_stay_2 := dk_seg dksX0_stay_1 24 rfl rfl
theorem dX0_stay_0 : decode cX0_stay 0 = .ok (.aload_n 0, 1) := dk_42 (dk_at dksX0_stay_0 0 rfl rfl)
theorem dX0_stay_1 : decode cX0_stay 1 = .ok (.iload_n 1, 1) := dk_27 (dk_at dksX0_stay_0 1 rfl rfl)
theorem dX0_stay_2 : decode cX0_stay 2 = .ok (.invokevirtual 168, 3) := dk_182 0 168 (dk_at dksX0_stay_0 2 rfl rfl)
theorem dX0_stay_5 : decode cX0_stay 5 = .ok (.ifCond .eq 15, 3) := dk_153 0 15 (dk_at dksX0_stay_0 5 rfl rfl)
theorem dX0_stay_8 : decode cX0_stay 8 = .ok (.iload_n 2, 1) := dk_28 (dk_at dksX0_stay_0 8 rfl rfl)
theorem dX0_stay_9 : decode cX0_stay 9 = .ok (.i2l, 1) := dk_133 (dk_at dksX0_stay_0 9 rfl rfl)
theorem dX0_stay_10 : decode cX0_stay 10 = .ok (.lconst 1, 1) := dk_10 (dk_at dksX0_stay_0 10 rfl rfl)
theorem dX0_stay_11 : decode cX0_stay 11 = .ok (.ldc2_w 211, 3) := dk_20 0 211 (dk_at dksX0_stay_0 11 rfl rfl)
theorem dX0_stay_14 : decode cX0_stay 14 = .ok (.invokestatic 79, 3) := dk_184 0 79 (dk_at dksX0_stay_0 14 rfl rfl)
theorem dX0_stay_17 : decode cX0_stay 17 = .ok (.ifCond .ne 6, 3) := dk_154 0 6 (dk_at dksX0_stay_0 17 rfl rfl)
theorem dX0_stay_20 : decode cX0_stay 20 = .ok (.ldc 93, 2) := dk_18 93 (dk_at dksX0_stay_0 20 rfl rfl)
theorem dX0_stay_22 : decode cX0_stay 22 = .ok (.ireturn, 1) := dk_172 (dk_at dksX0_stay_0 22 rfl rfl)
theorem dX0_stay_23 : decode cX0_stay 23 = .ok (.aload_n 0, 1) := dk_42 (dk_at dksX0_stay_0 23 rfl rfl)
theorem dX0_stay_24 : decode cX0_stay 24 = .ok (.iload_n 1, 1) := dk_27 (dk_at dksX0_stay_1 0 rfl rfl)
theorem dX0_stay_25 : decode cX0_stay 25 = .ok (.iload_n 2, 1) := dk_28 (dk_at dksX0_stay_1 1 rfl rfl)
theorem dX0_stay_26 : decode cX0_stay 26 = .ok (.invokevirtual 196, 3) := dk_182 0 196 (dk_at dksX0_stay_1 2 rfl rfl)
theorem dX0_stay_29 : decode cX0_stay 29 = .ok (.ifCond .eq 6, 3) := dk_153 0 6 (dk_at dksX0_stay_1 5 rfl rfl)
theorem dX0_stay_32 : decode cX0_stay 32 = .ok (.ldc 130, 2) := dk_18 130 (dk_at dksX0_stay_1 8 rfl rfl)
theorem dX0_stay_34 : decode cX0_stay 34 = .ok (.ireturn, 1) := dk_172 (dk_at dksX0_stay_1 10 rfl rfl)
theorem dX0_stay_35 : decode cX0_stay 35 = .ok (.aload_n 0, 1) := dk_42 (dk_at dksX0_stay_1 11 rfl rfl)
theorem dX0_stay_36 : decode cX0_stay 36 = .ok (.invokevirtual 199, 3) := dk_182 0 199 (dk_at dksX0_stay_1 12 rfl rfl)
theorem dX0_stay_39 : decode cX0_stay 39 = .ok (.aload_n 0, 1) := dk_42 (dk_at dksX0_stay_1 15 rfl rfl)
theorem dX0_stay_40 : decode cX0_stay 40 = .ok (.getfield 39, 3) := dk_180 0 39 (dk_at dksX0_stay_1 16 rfl rfl)
theorem dX0_stay_43 : decode cX0_stay 43 = .ok (.iload_n 1, 1) := dk_27 (dk_at dksX0_stay_1 19 rfl rfl)
theorem dX0_stay_44 : decode cX0_stay 44 = .ok (.iload_n 2, 1) := dk_28 (dk_at dksX0_stay_1 20 rfl rfl)
theorem dX0_stay_45 : decode cX0_stay 45 = .ok (.invokevirtual 213, 3) := dk_182 0 213 (dk_at dksX0_stay_1 21 rfl rfl)
theorem dX0_stay_48 : decode cX0_stay 48 = .ok (.aload_n 0, 1) := dk_42 (dk_at dksX0_stay_2 0 rfl rfl)
theorem dX0_stay_49 : decode cX0_stay 49 = .ok (.getfield 39, 3) := dk_180 0 39 (dk_at dksX0_stay_2 1 rfl rfl)
theorem dX0_stay_52 : decode cX0_stay 52 = .ok (.getfield 216, 3) := dk_180 0 216 (dk_at dksX0_stay_2 4 rfl rfl)
theorem dX0_stay_55 : decode cX0_stay 55 = .ok (.iload_n 1, 1) := dk_27 (dk_at dksX0_stay_2 7 rfl rfl)
theorem dX0_stay_56 : decode cX0_stay 56 = .ok (.iaload, 1) := dk_46 (dk_at dksX0_stay_2 8 rfl rfl)
theorem dX0_stay_57 : decode cX0_stay 57 = .ok (.ireturn, 1) := dk_172 (dk_at dksX0_stay_2 9 rfl rfl)
abbrev cX0_meet : ByteArray := prog_1_method_28_code
def yX0_meet : MethodName := ⟨RX0, "meet", "(II)I"⟩
def dkwX0_meet_4 : List UInt8 := [180, 0, 216, 27, 46, 42, 180, 0, 39, 180, 0, 216, 28, 46, 100, 172]
abbrev dktX0_meet_4 : List UInt8 := dkwX0_meet_4 ++ []
def dkwX0_meet_3 : List UInt8 := [27, 29, 116, 182, 0, 213, 167, 0, 12, 42, 180, 0, 39, 28, 29, 182, 0, 213, 42, 180, 0, 39]
abbrev dktX0_meet_3 : List UInt8 := dkwX0_meet_3 ++ dktX0_meet_4
def dkwX0_meet_2 : List UInt8 := [180, 0, 182, 27, 46, 42, 180, 0, 39, 180, 0, 182, 28, 46, 100, 62, 29, 156, 0, 16, 42, 180, 0, 39]
abbrev dktX0_meet_2 : List UInt8 := dkwX0_meet_2 ++ dktX0_meet_3
def dkwX0_meet_1 : List UInt8 := [180, 0, 39, 180, 0, 174, 28, 46, 159, 0, 6, 18, 192, 172, 42, 182, 0, 199, 42, 180, 0, 39]
abbrev dktX0_meet_1 : List UInt8 := dkwX0_meet_1 ++ dktX0_meet_2
def dkwX0_meet_0 : List UInt8 := [42, 27, 28, 182, 0, 219, 154, 0, 6, 18, 93, 172, 42, 180, 0, 39, 180, 0, 174, 27, 46, 42]
abbrev dktX0_meet_0 : List UInt8 := dkwX0_meet_0 ++ dktX0_meet_1
theorem dksX0_meet_0 : cX0_meet.data.toList.drop 0 = dktX0_meet_0 := by decide +kernel
theorem dksX0_meet_1 : cX0_meet.data.toList.drop 22 = dktX0_meet_1 := dk_seg dksX0_meet_0 22 rfl rfl
theorem dksX0_meet_2 : cX0_meet.data.toList.drop 44 = dktX0_meet_2 := dk_seg dksX0_meet_1 22 rfl rfl
theorem dksX0_meet_3 : cX0_meet.data.toList.drop 68 = dktX0_meet_3 := dk_seg dksX0_meet_2 24 rfl rfl
theorem dksX0_meet_4 : cX0_meet.data.toList.drop 90 = dktX0_meet_4 := dk_seg dksX0_meet_3 22 rfl rfl
theorem dX0_meet_0 : decode cX0_meet 0 = .ok (.aload_n 0, 1) := dk_42 (dk_at dksX0_meet_0 0 rfl rfl)
theorem dX0_meet_1 : decode cX0_meet 1 = .ok (.iload_n 1, 1) := dk_27 (dk_at dksX0_meet_0 1 rfl rfl)
theorem dX0_meet_2 : decode cX0_meet 2 = .ok (.iload_n 2, 1) := dk_28 (dk_at dksX0_meet_0 2 rfl rfl)
theorem dX0_meet_3 : decode cX0_meet 3 = .ok (.invokevirtual 219, 3) := dk_182 0 219 (dk_at dksX0_meet_0 3 rfl rfl)
theorem dX0_meet_6 : decode cX0_meet 6 = .ok (.ifCond .ne 6, 3) := dk_154 0 6 (dk_at dksX0_meet_0 6 rfl rfl)
theorem dX0_meet_9 : decode cX0_meet 9 = .ok (.ldc 93, 2) := dk_18 93 (dk_at dksX0_meet_0 9 rfl rfl)
theorem dX0_meet_11 : decode cX0_meet 11 = .ok (.ireturn, 1) := dk_172 (dk_at dksX0_meet_0 11 rfl rfl)
theorem dX0_meet_12 : decode cX0_meet 12 = .ok (.aload_n 0, 1) := dk_42 (dk_at dksX0_meet_0 12 rfl rfl)
theorem dX0_meet_13 : decode cX0_meet 13 = .ok (.getfield 39, 3) := dk_180 0 39 (dk_at dksX0_meet_0 13 rfl rfl)
theorem dX0_meet_16 : decode cX0_meet 16 = .ok (.getfield 174, 3) := dk_180 0 174 (dk_at dksX0_meet_0 16 rfl rfl)
theorem dX0_meet_19 : decode cX0_meet 19 = .ok (.iload_n 1, 1) := dk_27 (dk_at dksX0_meet_0 19 rfl rfl)
theorem dX0_meet_20 : decode cX0_meet 20 = .ok (.iaload, 1) := dk_46 (dk_at dksX0_meet_0 20 rfl rfl)
theorem dX0_meet_21 : decode cX0_meet 21 = .ok (.aload_n 0, 1) := dk_42 (dk_at dksX0_meet_0 21 rfl rfl)
theorem dX0_meet_22 : decode cX0_meet 22 = .ok (.getfield 39, 3) := dk_180 0 39 (dk_at dksX0_meet_1 0 rfl rfl)
theorem dX0_meet_25 : decode cX0_meet 25 = .ok (.getfield 174, 3) := dk_180 0 174 (dk_at dksX0_meet_1 3 rfl rfl)
theorem dX0_meet_28 : decode cX0_meet 28 = .ok (.iload_n 2, 1) := dk_28 (dk_at dksX0_meet_1 6 rfl rfl)
theorem dX0_meet_29 : decode cX0_meet 29 = .ok (.iaload, 1) := dk_46 (dk_at dksX0_meet_1 7 rfl rfl)
theorem dX0_meet_30 : decode cX0_meet 30 = .ok (.if_icmp .eq 6, 3) := dk_159 0 6 (dk_at dksX0_meet_1 8 rfl rfl)
theorem dX0_meet_33 : decode cX0_meet 33 = .ok (.ldc 192, 2) := dk_18 192 (dk_at dksX0_meet_1 11 rfl rfl)
theorem dX0_meet_35 : decode cX0_meet 35 = .ok (.ireturn, 1) := dk_172 (dk_at dksX0_meet_1 13 rfl rfl)
theorem dX0_meet_36 : decode cX0_meet 36 = .ok (.aload_n 0, 1) := dk_42 (dk_at dksX0_meet_1 14 rfl rfl)
theorem dX0_meet_37 : decode cX0_meet 37 = .ok (.invokevirtual 199, 3) := dk_182 0 199 (dk_at dksX0_meet_1 15 rfl rfl)
theorem dX0_meet_40 : decode cX0_meet 40 = .ok (.aload_n 0, 1) := dk_42 (dk_at dksX0_meet_1 18 rfl rfl)
theorem dX0_meet_41 : decode cX0_meet 41 = .ok (.getfield 39, 3) := dk_180 0 39 (dk_at dksX0_meet_1 19 rfl rfl)
theorem dX0_meet_44 : decode cX0_meet 44 = .ok (.getfield 182, 3) := dk_180 0 182 (dk_at dksX0_meet_2 0 rfl rfl)
theorem dX0_meet_47 : decode cX0_meet 47 = .ok (.iload_n 1, 1) := dk_27 (dk_at dksX0_meet_2 3 rfl rfl)
theorem dX0_meet_48 : decode cX0_meet 48 = .ok (.iaload, 1) := dk_46 (dk_at dksX0_meet_2 4 rfl rfl)
theorem dX0_meet_49 : decode cX0_meet 49 = .ok (.aload_n 0, 1) := dk_42 (dk_at dksX0_meet_2 5 rfl rfl)
theorem dX0_meet_50 : decode cX0_meet 50 = .ok (.getfield 39, 3) := dk_180 0 39 (dk_at dksX0_meet_2 6 rfl rfl)
theorem dX0_meet_53 : decode cX0_meet 53 = .ok (.getfield 182, 3) := dk_180 0 182 (dk_at dksX0_meet_2 9 rfl rfl)
theorem dX0_meet_56 : decode cX0_meet 56 = .ok (.iload_n 2, 1) := dk_28 (dk_at dksX0_meet_2 12 rfl rfl)
theorem dX0_meet_57 : decode cX0_meet 57 = .ok (.iaload, 1) := dk_46 (dk_at dksX0_meet_2 13 rfl rfl)
theorem dX0_meet_58 : decode cX0_meet 58 = .ok (.isub, 1) := dk_100 (dk_at dksX0_meet_2 14 rfl rfl)
theorem dX0_meet_59 : decode cX0_meet 59 = .ok (.istore_n 3, 1) := dk_62 (dk_at dksX0_meet_2 15 rfl rfl)
theorem dX0_meet_60 : decode cX0_meet 60 = .ok (.iload_n 3, 1) := dk_29 (dk_at dksX0_meet_2 16 rfl rfl)
theorem dX0_meet_61 : decode cX0_meet 61 = .ok (.ifCond .ge 16, 3) := dk_156 0 16 (dk_at dksX0_meet_2 17 rfl rfl)
theorem dX0_meet_64 : decode cX0_meet 64 = .ok (.aload_n 0, 1) := dk_42 (dk_at dksX0_meet_2 20 rfl rfl)
theorem dX0_meet_65 : decode cX0_meet 65 = .ok (.getfield 39, 3) := dk_180 0 39 (dk_at dksX0_meet_2 21 rfl rfl)
theorem dX0_meet_68 : decode cX0_meet 68 = .ok (.iload_n 1, 1) := dk_27 (dk_at dksX0_meet_3 0 rfl rfl)
theorem dX0_meet_69 : decode cX0_meet 69 = .ok (.iload_n 3, 1) := dk_29 (dk_at dksX0_meet_3 1 rfl rfl)
theorem dX0_meet_70 : decode cX0_meet 70 = .ok (.ineg, 1) := dk_116 (dk_at dksX0_meet_3 2 rfl rfl)
theorem dX0_meet_71 : decode cX0_meet 71 = .ok (.invokevirtual 213, 3) := dk_182 0 213 (dk_at dksX0_meet_3 3 rfl rfl)
theorem dX0_meet_74 : decode cX0_meet 74 = .ok (.goto 12, 3) := dk_167 0 12 (dk_at dksX0_meet_3 6 rfl rfl)
theorem dX0_meet_77 : decode cX0_meet 77 = .ok (.aload_n 0, 1) := dk_42 (dk_at dksX0_meet_3 9 rfl rfl)
theorem dX0_meet_78 : decode cX0_meet 78 = .ok (.getfield 39, 3) := dk_180 0 39 (dk_at dksX0_meet_3 10 rfl rfl)
theorem dX0_meet_81 : decode cX0_meet 81 = .ok (.iload_n 2, 1) := dk_28 (dk_at dksX0_meet_3 13 rfl rfl)
theorem dX0_meet_82 : decode cX0_meet 82 = .ok (.iload_n 3, 1) := dk_29 (dk_at dksX0_meet_3 14 rfl rfl)
theorem dX0_meet_83 : decode cX0_meet 83 = .ok (.invokevirtual 213, 3) := dk_182 0 213 (dk_at dksX0_meet_3 15 rfl rfl)
theorem dX0_meet_86 : decode cX0_meet 86 = .ok (.aload_n 0, 1) := dk_42 (dk_at dksX0_meet_3 18 rfl rfl)
theorem dX0_meet_87 : decode cX0_meet 87 = .ok (.getfield 39, 3) := dk_180 0 39 (dk_at dksX0_meet_3 19 rfl rfl)
theorem dX0_meet_90 : decode cX0_meet 90 = .ok (.getfield 216, 3) := dk_180 0 216 (dk_at dksX0_meet_4 0 rfl rfl)
theorem dX0_meet_93 : decode cX0_meet 93 = .ok (.iload_n 1, 1) := dk_27 (dk_at dksX0_meet_4 3 rfl rfl)
theorem dX0_meet_94 : decode cX0_meet 94 = .ok (.iaload, 1) := dk_46 (dk_at dksX0_meet_4 4 rfl rfl)
theorem dX0_meet_95 : decode cX0_meet 95 = .ok (.aload_n 0, 1) := dk_42 (dk_at dksX0_meet_4 5 rfl rfl)
theorem dX0_meet_96 : decode cX0_meet 96 = .ok (.getfield 39, 3) := dk_180 0 39 (dk_at dksX0_meet_4 6 rfl rfl)
theorem dX0_meet_99 : decode cX0_meet 99 = .ok (.getfield 216, 3) := dk_180 0 216 (dk_at dksX0_meet_4 9 rfl rfl)
theorem dX0_meet_102 : decode cX0_meet 102 = .ok (.iload_n 2, 1) := dk_28 (dk_at dksX0_meet_4 12 rfl rfl)
theorem dX0_meet_103 : decode cX0_meet 103 = .ok (.iaload, 1) := dk_46 (dk_at dksX0_meet_4 13 rfl rfl)
theorem dX0_meet_104 : decode cX0_meet 104 = .ok (.isub, 1) := dk_100 (dk_at dksX0_meet_4 14 rfl rfl)
theorem dX0_meet_105 : decode cX0_meet 105 = .ok (.ireturn, 1) := dk_172 (dk_at dksX0_meet_4 15 rfl rfl)
abbrev cX0_areTwo : ByteArray := prog_1_method_18_code
def yX0_areTwo : MethodName := ⟨RX0, "areTwo", "(II)Z"⟩
def dkwX0_areTwo_1 : List UInt8 := [167, 0, 4, 3, 172]
abbrev dktX0_areTwo_1 : List UInt8 := dkwX0_areTwo_1 ++ []
def dkwX0_areTwo_0 : List UInt8 := [42, 27, 182, 0, 168, 153, 0, 20, 42, 28, 182, 0, 168, 153, 0, 12, 27, 28, 159, 0, 7, 4]
abbrev dktX0_areTwo_0 : List UInt8 := dkwX0_areTwo_0 ++ dktX0_areTwo_1
theorem dksX0_areTwo_0 : cX0_areTwo.data.toList.drop 0 = dktX0_areTwo_0 := by decide +kernel
theorem dksX0_areTwo_1 : cX0_areTwo.data.toList.drop 22 = dktX0_areTwo_1 := dk_seg dksX0_areTwo_0 22 rfl rfl
theorem dX0_areTwo_0 : decode cX0_areTwo 0 = .ok (.aload_n 0, 1) := dk_42 (dk_at dksX0_areTwo_0 0 rfl rfl)
theorem dX0_areTwo_1 : decode cX0_areTwo 1 = .ok (.iload_n 1, 1) := dk_27 (dk_at dksX0_areTwo_0 1 rfl rfl)
theorem dX0_areTwo_2 : decode cX0_areTwo 2 = .ok (.invokevirtual 168, 3) := dk_182 0 168 (dk_at dksX0_areTwo_0 2 rfl rfl)
theorem dX0_areTwo_5 : decode cX0_areTwo 5 = .ok (.ifCond .eq 20, 3) := dk_153 0 20 (dk_at dksX0_areTwo_0 5 rfl rfl)
theorem dX0_areTwo_8 : decode cX0_areTwo 8 = .ok (.aload_n 0, 1) := dk_42 (dk_at dksX0_areTwo_0 8 rfl rfl)
theorem dX0_areTwo_9 : decode cX0_areTwo 9 = .ok (.iload_n 2, 1) := dk_28 (dk_at dksX0_areTwo_0 9 rfl rfl)
theorem dX0_areTwo_10 : decode cX0_areTwo 10 = .ok (.invokevirtual 168, 3) := dk_182 0 168 (dk_at dksX0_areTwo_0 10 rfl rfl)
theorem dX0_areTwo_13 : decode cX0_areTwo 13 = .ok (.ifCond .eq 12, 3) := dk_153 0 12 (dk_at dksX0_areTwo_0 13 rfl rfl)
theorem dX0_areTwo_16 : decode cX0_areTwo 16 = .ok (.iload_n 1, 1) := dk_27 (dk_at dksX0_areTwo_0 16 rfl rfl)
theorem dX0_areTwo_17 : decode cX0_areTwo 17 = .ok (.iload_n 2, 1) := dk_28 (dk_at dksX0_areTwo_0 17 rfl rfl)
theorem dX0_areTwo_18 : decode cX0_areTwo 18 = .ok (.if_icmp .eq 7, 3) := dk_159 0 7 (dk_at dksX0_areTwo_0 18 rfl rfl)
theorem dX0_areTwo_21 : decode cX0_areTwo 21 = .ok (.iconst 1, 1) := dk_4 (dk_at dksX0_areTwo_0 21 rfl rfl)
theorem dX0_areTwo_22 : decode cX0_areTwo 22 = .ok (.goto 4, 3) := dk_167 0 4 (dk_at dksX0_areTwo_1 0 rfl rfl)
theorem dX0_areTwo_25 : decode cX0_areTwo 25 = .ok (.iconst 0, 1) := dk_3 (dk_at dksX0_areTwo_1 3 rfl rfl)
theorem dX0_areTwo_26 : decode cX0_areTwo 26 = .ok (.ireturn, 1) := dk_172 (dk_at dksX0_areTwo_1 4 rfl rfl)
abbrev cX0_borrow : ByteArray := prog_1_method_29_code
def yX0_borrow : MethodName := ⟨RX0, "borrow", "(II)I"⟩
def dkwX0_borrow_3 : List UInt8 := [27, 42, 180, 0, 39, 180, 0, 216, 27, 46, 79, 29, 172]
abbrev dktX0_borrow_3 : List UInt8 := dkwX0_borrow_3 ++ []
def dkwX0_borrow_2 : List UInt8 := [180, 0, 39, 180, 0, 230, 27, 42, 180, 0, 39, 180, 0, 182, 27, 46, 79, 42, 180, 0, 39, 180, 0, 233]
abbrev dktX0_borrow_2 : List UInt8 := dkwX0_borrow_2 ++ dktX0_borrow_3
def dkwX0_borrow_1 : List UInt8 := [182, 0, 199, 42, 180, 0, 39, 27, 182, 0, 224, 62, 42, 180, 0, 39, 180, 0, 227, 27, 28, 79, 42]
abbrev dktX0_borrow_1 : List UInt8 := dkwX0_borrow_1 ++ dktX0_borrow_2
def dkwX0_borrow_0 : List UInt8 := [42, 27, 182, 0, 168, 153, 0, 15, 28, 133, 10, 20, 0, 222, 184, 0, 79, 154, 0, 6, 18, 93, 172, 42]
abbrev dktX0_borrow_0 : List UInt8 := dkwX0_borrow_0 ++ dktX0_borrow_1
theorem dksX0_borrow_0 : cX0_borrow.data.toList.drop 0 = dktX0_borrow_0 := by decide +kernel
theorem dksX0_borrow_1 : cX0_borrow.data.toList.drop 24 = dktX0_borrow_1 := dk_seg dksX0_borrow_0 24 rfl rfl
theorem dksX0_borrow_2 : cX0_borrow.data.toList.drop 47 = dktX0_borrow_2 := dk_seg dksX0_borrow_1 23 rfl rfl
theorem dksX0_borrow_3 : cX0_borrow.data.toList.drop 71 = dktX0_borrow_3 := dk_seg dksX0_borrow_2 24 rfl rfl
theorem dX0_borrow_0 : decode cX0_borrow 0 = .ok (.aload_n 0, 1) := dk_42 (dk_at dksX0_borrow_0 0 rfl rfl)
theorem dX0_borrow_1 : decode cX0_borrow 1 = .ok (.iload_n 1, 1) := dk_27 (dk_at dksX0_borrow_0 1 rfl rfl)
theorem dX0_borrow_2 : decode cX0_borrow 2 = .ok (.invokevirtual 168, 3) := dk_182 0 168 (dk_at dksX0_borrow_0 2 rfl rfl)
theorem dX0_borrow_5 : decode cX0_borrow 5 = .ok (.ifCond .eq 15, 3) := dk_153 0 15 (dk_at dksX0_borrow_0 5 rfl rfl)
theorem dX0_borrow_8 : decode cX0_borrow 8 = .ok (.iload_n 2, 1) := dk_28 (dk_at dksX0_borrow_0 8 rfl rfl)
theorem dX0_borrow_9 : decode cX0_borrow 9 = .ok (.i2l, 1) := dk_133 (dk_at dksX0_borrow_0 9 rfl rfl)
theorem dX0_borrow_10 : decode cX0_borrow 10 = .ok (.lconst 1, 1) := dk_10 (dk_at dksX0_borrow_0 10 rfl rfl)
theorem dX0_borrow_11 : decode cX0_borrow 11 = .ok (.ldc2_w 222, 3) := dk_20 0 222 (dk_at dksX0_borrow_0 11 rfl rfl)
theorem dX0_borrow_14 : decode cX0_borrow 14 = .ok (.invokestatic 79, 3) := dk_184 0 79 (dk_at dksX0_borrow_0 14 rfl rfl)
theorem dX0_borrow_17 : decode cX0_borrow 17 = .ok (.ifCond .ne 6, 3) := dk_154 0 6 (dk_at dksX0_borrow_0 17 rfl rfl)
theorem dX0_borrow_20 : decode cX0_borrow 20 = .ok (.ldc 93, 2) := dk_18 93 (dk_at dksX0_borrow_0 20 rfl rfl)
theorem dX0_borrow_22 : decode cX0_borrow 22 = .ok (.ireturn, 1) := dk_172 (dk_at dksX0_borrow_0 22 rfl rfl)
theorem dX0_borrow_23 : decode cX0_borrow 23 = .ok (.aload_n 0, 1) := dk_42 (dk_at dksX0_borrow_0 23 rfl rfl)
theorem dX0_borrow_24 : decode cX0_borrow 24 = .ok (.invokevirtual 199, 3) := dk_182 0 199 (dk_at dksX0_borrow_1 0 rfl rfl)
theorem dX0_borrow_27 : decode cX0_borrow 27 = .ok (.aload_n 0, 1) := dk_42 (dk_at dksX0_borrow_1 3 rfl rfl)
theorem dX0_borrow_28 : decode cX0_borrow 28 = .ok (.getfield 39, 3) := dk_180 0 39 (dk_at dksX0_borrow_1 4 rfl rfl)
theorem dX0_borrow_31 : decode cX0_borrow 31 = .ok (.iload_n 1, 1) := dk_27 (dk_at dksX0_borrow_1 7 rfl rfl)
theorem dX0_borrow_32 : decode cX0_borrow 32 = .ok (.invokevirtual 224, 3) := dk_182 0 224 (dk_at dksX0_borrow_1 8 rfl rfl)
theorem dX0_borrow_35 : decode cX0_borrow 35 = .ok (.istore_n 3, 1) := dk_62 (dk_at dksX0_borrow_1 11 rfl rfl)
theorem dX0_borrow_36 : decode cX0_borrow 36 = .ok (.aload_n 0, 1) := dk_42 (dk_at dksX0_borrow_1 12 rfl rfl)
theorem dX0_borrow_37 : decode cX0_borrow 37 = .ok (.getfield 39, 3) := dk_180 0 39 (dk_at dksX0_borrow_1 13 rfl rfl)
theorem dX0_borrow_40 : decode cX0_borrow 40 = .ok (.getfield 227, 3) := dk_180 0 227 (dk_at dksX0_borrow_1 16 rfl rfl)
theorem dX0_borrow_43 : decode cX0_borrow 43 = .ok (.iload_n 1, 1) := dk_27 (dk_at dksX0_borrow_1 19 rfl rfl)
theorem dX0_borrow_44 : decode cX0_borrow 44 = .ok (.iload_n 2, 1) := dk_28 (dk_at dksX0_borrow_1 20 rfl rfl)
theorem dX0_borrow_45 : decode cX0_borrow 45 = .ok (.iastore, 1) := dk_79 (dk_at dksX0_borrow_1 21 rfl rfl)
theorem dX0_borrow_46 : decode cX0_borrow 46 = .ok (.aload_n 0, 1) := dk_42 (dk_at dksX0_borrow_1 22 rfl rfl)
theorem dX0_borrow_47 : decode cX0_borrow 47 = .ok (.getfield 39, 3) := dk_180 0 39 (dk_at dksX0_borrow_2 0 rfl rfl)
theorem dX0_borrow_50 : decode cX0_borrow 50 = .ok (.getfield 230, 3) := dk_180 0 230 (dk_at dksX0_borrow_2 3 rfl rfl)
theorem dX0_borrow_53 : decode cX0_borrow 53 = .ok (.iload_n 1, 1) := dk_27 (dk_at dksX0_borrow_2 6 rfl rfl)
theorem dX0_borrow_54 : decode cX0_borrow 54 = .ok (.aload_n 0, 1) := dk_42 (dk_at dksX0_borrow_2 7 rfl rfl)
theorem dX0_borrow_55 : decode cX0_borrow 55 = .ok (.getfield 39, 3) := dk_180 0 39 (dk_at dksX0_borrow_2 8 rfl rfl)
theorem dX0_borrow_58 : decode cX0_borrow 58 = .ok (.getfield 182, 3) := dk_180 0 182 (dk_at dksX0_borrow_2 11 rfl rfl)
theorem dX0_borrow_61 : decode cX0_borrow 61 = .ok (.iload_n 1, 1) := dk_27 (dk_at dksX0_borrow_2 14 rfl rfl)
theorem dX0_borrow_62 : decode cX0_borrow 62 = .ok (.iaload, 1) := dk_46 (dk_at dksX0_borrow_2 15 rfl rfl)
theorem dX0_borrow_63 : decode cX0_borrow 63 = .ok (.iastore, 1) := dk_79 (dk_at dksX0_borrow_2 16 rfl rfl)
theorem dX0_borrow_64 : decode cX0_borrow 64 = .ok (.aload_n 0, 1) := dk_42 (dk_at dksX0_borrow_2 17 rfl rfl)
theorem dX0_borrow_65 : decode cX0_borrow 65 = .ok (.getfield 39, 3) := dk_180 0 39 (dk_at dksX0_borrow_2 18 rfl rfl)
theorem dX0_borrow_68 : decode cX0_borrow 68 = .ok (.getfield 233, 3) := dk_180 0 233 (dk_at dksX0_borrow_2 21 rfl rfl)
theorem dX0_borrow_71 : decode cX0_borrow 71 = .ok (.iload_n 1, 1) := dk_27 (dk_at dksX0_borrow_3 0 rfl rfl)
theorem dX0_borrow_72 : decode cX0_borrow 72 = .ok (.aload_n 0, 1) := dk_42 (dk_at dksX0_borrow_3 1 rfl rfl)
theorem dX0_borrow_73 : decode cX0_borrow 73 = .ok (.getfield 39, 3) := dk_180 0 39 (dk_at dksX0_borrow_3 2 rfl rfl)
theorem dX0_borrow_76 : decode cX0_borrow 76 = .ok (.getfield 216, 3) := dk_180 0 216 (dk_at dksX0_borrow_3 5 rfl rfl)
theorem dX0_borrow_79 : decode cX0_borrow 79 = .ok (.iload_n 1, 1) := dk_27 (dk_at dksX0_borrow_3 8 rfl rfl)
theorem dX0_borrow_80 : decode cX0_borrow 80 = .ok (.iaload, 1) := dk_46 (dk_at dksX0_borrow_3 9 rfl rfl)
theorem dX0_borrow_81 : decode cX0_borrow 81 = .ok (.iastore, 1) := dk_79 (dk_at dksX0_borrow_3 10 rfl rfl)
theorem dX0_borrow_82 : decode cX0_borrow 82 = .ok (.iload_n 3, 1) := dk_29 (dk_at dksX0_borrow_3 11 rfl rfl)
theorem dX0_borrow_83 : decode cX0_borrow 83 = .ok (.ireturn, 1) := dk_172 (dk_at dksX0_borrow_3 12 rfl rfl)
abbrev cX0_undo : ByteArray := prog_1_method_30_code
def yX0_undo : MethodName := ⟨RX0, "undo", "()I"⟩
def dkwX0_undo_1 : List UInt8 := [42, 180, 0, 43, 42, 180, 0, 158, 50, 182, 0, 154, 87, 42, 180, 0, 158, 172]
abbrev dktX0_undo_1 : List UInt8 := dkwX0_undo_1 ++ []
def dkwX0_undo_0 : List UInt8 := [42, 180, 0, 158, 154, 0, 6, 18, 192, 172, 42, 89, 180, 0, 158, 4, 100, 181, 0, 158, 42, 180, 0, 39]
abbrev dktX0_undo_0 : List UInt8 := dkwX0_undo_0 ++ dktX0_undo_1
theorem dksX0_undo_0 : cX0_undo.data.toList.drop 0 = dktX0_undo_0 := by decide +kernel
theorem dksX0_undo_1 : cX0_undo.data.toList.drop 24 = dktX0_undo_1 := dk_seg dksX0_undo_0 24 rfl rfl
theorem dX0_undo_0 : decode cX0_undo 0 = .ok (.aload_n 0, 1) := dk_42 (dk_at dksX0_undo_0 0 rfl rfl)
theorem dX0_undo_1 : decode cX0_undo 1 = .ok (.getfield 158, 3) := dk_180 0 158 (dk_at dksX0_undo_0 1 rfl rfl)
theorem dX0_undo_4 : decode cX0_undo 4 = .ok (.ifCond .ne 6, 3) := dk_154 0 6 (dk_at dksX0_undo_0 4 rfl rfl)
theorem dX0_undo_7 : decode cX0_undo 7 = .ok (.ldc 192, 2) := dk_18 192 (dk_at dksX0_undo_0 7 rfl rfl)
theorem dX0_undo_9 : decode cX0_undo 9 = .ok (.ireturn, 1) := dk_172 (dk_at dksX0_undo_0 9 rfl rfl)
theorem dX0_undo_10 : decode cX0_undo 10 = .ok (.aload_n 0, 1) := dk_42 (dk_at dksX0_undo_0 10 rfl rfl)
theorem dX0_undo_11 : decode cX0_undo 11 = .ok (.dup, 1) := dk_89 (dk_at dksX0_undo_0 11 rfl rfl)
theorem dX0_undo_12 : decode cX0_undo 12 = .ok (.getfield 158, 3) := dk_180 0 158 (dk_at dksX0_undo_0 12 rfl rfl)
theorem dX0_undo_15 : decode cX0_undo 15 = .ok (.iconst 1, 1) := dk_4 (dk_at dksX0_undo_0 15 rfl rfl)
theorem dX0_undo_16 : decode cX0_undo 16 = .ok (.isub, 1) := dk_100 (dk_at dksX0_undo_0 16 rfl rfl)
theorem dX0_undo_17 : decode cX0_undo 17 = .ok (.putfield 158, 3) := dk_181 0 158 (dk_at dksX0_undo_0 17 rfl rfl)
theorem dX0_undo_20 : decode cX0_undo 20 = .ok (.aload_n 0, 1) := dk_42 (dk_at dksX0_undo_0 20 rfl rfl)
theorem dX0_undo_21 : decode cX0_undo 21 = .ok (.getfield 39, 3) := dk_180 0 39 (dk_at dksX0_undo_0 21 rfl rfl)
theorem dX0_undo_24 : decode cX0_undo 24 = .ok (.aload_n 0, 1) := dk_42 (dk_at dksX0_undo_1 0 rfl rfl)
theorem dX0_undo_25 : decode cX0_undo 25 = .ok (.getfield 43, 3) := dk_180 0 43 (dk_at dksX0_undo_1 1 rfl rfl)
theorem dX0_undo_28 : decode cX0_undo 28 = .ok (.aload_n 0, 1) := dk_42 (dk_at dksX0_undo_1 4 rfl rfl)
theorem dX0_undo_29 : decode cX0_undo 29 = .ok (.getfield 158, 3) := dk_180 0 158 (dk_at dksX0_undo_1 5 rfl rfl)
theorem dX0_undo_32 : decode cX0_undo 32 = .ok (.aaload, 1) := dk_50 (dk_at dksX0_undo_1 8 rfl rfl)
theorem dX0_undo_33 : decode cX0_undo 33 = .ok (.invokevirtual 154, 3) := dk_182 0 154 (dk_at dksX0_undo_1 9 rfl rfl)
theorem dX0_undo_36 : decode cX0_undo 36 = .ok (.pop, 1) := dk_87 (dk_at dksX0_undo_1 12 rfl rfl)
theorem dX0_undo_37 : decode cX0_undo 37 = .ok (.aload_n 0, 1) := dk_42 (dk_at dksX0_undo_1 13 rfl rfl)
theorem dX0_undo_38 : decode cX0_undo 38 = .ok (.getfield 158, 3) := dk_180 0 158 (dk_at dksX0_undo_1 14 rfl rfl)
theorem dX0_undo_41 : decode cX0_undo 41 = .ok (.ireturn, 1) := dk_172 (dk_at dksX0_undo_1 17 rfl rfl)
abbrev cX0_person : ByteArray := prog_1_method_31_code
def yX0_person : MethodName := ⟨RX0, "person", "(II)I"⟩
def dkwX0_person_5 : List UInt8 := [180, 0, 39, 27, 182, 0, 224, 172, 42, 180, 0, 39, 27, 182, 0, 250, 172, 18, 93, 172]
abbrev dktX0_person_5 : List UInt8 := dkwX0_person_5 ++ []
def dkwX0_person_4 : List UInt8 := [185, 0, 240, 2, 0, 192, 0, 246, 180, 0, 248, 96, 42, 180, 0, 39, 180, 0, 216, 27, 46, 100, 172, 42]
abbrev dktX0_person_4 : List UInt8 := dkwX0_person_4 ++ dktX0_person_5
def dkwX0_person_3 : List UInt8 := [180, 0, 216, 27, 46, 172, 42, 180, 0, 39, 180, 0, 182, 27, 46, 42, 180, 0, 39, 180, 0, 236, 27]
abbrev dktX0_person_3 : List UInt8 := dkwX0_person_3 ++ dktX0_person_4
def dkwX0_person_2 : List UInt8 := [42, 180, 0, 39, 180, 0, 174, 27, 46, 172, 42, 180, 0, 39, 180, 0, 182, 27, 46, 172, 42, 180, 0, 39]
abbrev dktX0_person_2 : List UInt8 := dkwX0_person_2 ++ dktX0_person_3
def dkwX0_person_1 : List UInt8 := [170, 0, 0, 0, 0, 0, 0, 128, 0, 0, 0, 0, 0, 0, 0, 5, 0, 0, 0, 40, 0, 0, 0, 50, 0, 0, 0, 60, 0, 0, 0, 70, 0, 0, 0, 110, 0, 0, 0, 119]
abbrev dktX0_person_1 : List UInt8 := dkwX0_person_1 ++ dktX0_person_2
def dkwX0_person_0 : List UInt8 := [42, 27, 182, 0, 168, 154, 0, 6, 18, 93, 172, 28]
abbrev dktX0_person_0 : List UInt8 := dkwX0_person_0 ++ dktX0_person_1
theorem dksX0_person_0 : cX0_person.data.toList.drop 0 = dktX0_person_0 := by decide +kernel
theorem dksX0_person_1 : cX0_person.data.toList.drop 12 = dktX0_person_1 := dk_seg dksX0_person_0 12 rfl rfl
theorem dksX0_person_2 : cX0_person.data.toList.drop 52 = dktX0_person_2 := dk_seg dksX0_person_1 40 rfl rfl
theorem dksX0_person_3 : cX0_person.data.toList.drop 76 = dktX0_person_3 := dk_seg dksX0_person_2 24 rfl rfl
theorem dksX0_person_4 : cX0_person.data.toList.drop 99 = dktX0_person_4 := dk_seg dksX0_person_3 23 rfl rfl
theorem dksX0_person_5 : cX0_person.data.toList.drop 123 = dktX0_person_5 := dk_seg dksX0_person_4 24 rfl rfl
theorem dX0_person_0 : decode cX0_person 0 = .ok (.aload_n 0, 1) := dk_42 (dk_at dksX0_person_0 0 rfl rfl)
theorem dX0_person_1 : decode cX0_person 1 = .ok (.iload_n 1, 1) := dk_27 (dk_at dksX0_person_0 1 rfl rfl)
theorem dX0_person_2 : decode cX0_person 2 = .ok (.invokevirtual 168, 3) := dk_182 0 168 (dk_at dksX0_person_0 2 rfl rfl)
theorem dX0_person_5 : decode cX0_person 5 = .ok (.ifCond .ne 6, 3) := dk_154 0 6 (dk_at dksX0_person_0 5 rfl rfl)
theorem dX0_person_8 : decode cX0_person 8 = .ok (.ldc 93, 2) := dk_18 93 (dk_at dksX0_person_0 8 rfl rfl)
theorem dX0_person_10 : decode cX0_person 10 = .ok (.ireturn, 1) := dk_172 (dk_at dksX0_person_0 10 rfl rfl)
theorem dX0_person_11 : decode cX0_person 11 = .ok (.iload_n 2, 1) := dk_28 (dk_at dksX0_person_0 11 rfl rfl)
theorem dX0_person_12 : decode cX0_person 12 = .ok (.tableswitch 128 0 5 #[40, 50, 60, 70, 110, 119], 40) := by decide +kernel
theorem dX0_person_52 : decode cX0_person 52 = .ok (.aload_n 0, 1) := dk_42 (dk_at dksX0_person_2 0 rfl rfl)
theorem dX0_person_53 : decode cX0_person 53 = .ok (.getfield 39, 3) := dk_180 0 39 (dk_at dksX0_person_2 1 rfl rfl)
theorem dX0_person_56 : decode cX0_person 56 = .ok (.getfield 174, 3) := dk_180 0 174 (dk_at dksX0_person_2 4 rfl rfl)
theorem dX0_person_59 : decode cX0_person 59 = .ok (.iload_n 1, 1) := dk_27 (dk_at dksX0_person_2 7 rfl rfl)
theorem dX0_person_60 : decode cX0_person 60 = .ok (.iaload, 1) := dk_46 (dk_at dksX0_person_2 8 rfl rfl)
theorem dX0_person_61 : decode cX0_person 61 = .ok (.ireturn, 1) := dk_172 (dk_at dksX0_person_2 9 rfl rfl)
theorem dX0_person_62 : decode cX0_person 62 = .ok (.aload_n 0, 1) := dk_42 (dk_at dksX0_person_2 10 rfl rfl)
theorem dX0_person_63 : decode cX0_person 63 = .ok (.getfield 39, 3) := dk_180 0 39 (dk_at dksX0_person_2 11 rfl rfl)
theorem dX0_person_66 : decode cX0_person 66 = .ok (.getfield 182, 3) := dk_180 0 182 (dk_at dksX0_person_2 14 rfl rfl)
theorem dX0_person_69 : decode cX0_person 69 = .ok (.iload_n 1, 1) := dk_27 (dk_at dksX0_person_2 17 rfl rfl)
theorem dX0_person_70 : decode cX0_person 70 = .ok (.iaload, 1) := dk_46 (dk_at dksX0_person_2 18 rfl rfl)
theorem dX0_person_71 : decode cX0_person 71 = .ok (.ireturn, 1) := dk_172 (dk_at dksX0_person_2 19 rfl rfl)
theorem dX0_person_72 : decode cX0_person 72 = .ok (.aload_n 0, 1) := dk_42 (dk_at dksX0_person_2 20 rfl rfl)
theorem dX0_person_73 : decode cX0_person 73 = .ok (.getfield 39, 3) := dk_180 0 39 (dk_at dksX0_person_2 21 rfl rfl)
theorem dX0_person_76 : decode cX0_person 76 = .ok (.getfield 216, 3) := dk_180 0 216 (dk_at dksX0_person_3 0 rfl rfl)
theorem dX0_person_79 : decode cX0_person 79 = .ok (.iload_n 1, 1) := dk_27 (dk_at dksX0_person_3 3 rfl rfl)
theorem dX0_person_80 : decode cX0_person 80 = .ok (.iaload, 1) := dk_46 (dk_at dksX0_person_3 4 rfl rfl)
theorem dX0_person_81 : decode cX0_person 81 = .ok (.ireturn, 1) := dk_172 (dk_at dksX0_person_3 5 rfl rfl)
theorem dX0_person_82 : decode cX0_person 82 = .ok (.aload_n 0, 1) := dk_42 (dk_at dksX0_person_3 6 rfl rfl)
theorem dX0_person_83 : decode cX0_person 83 = .ok (.getfield 39, 3) := dk_180 0 39 (dk_at dksX0_person_3 7 rfl rfl)
theorem dX0_person_86 : decode cX0_person 86 = .ok (.getfield 182, 3) := dk_180 0 182 (dk_at dksX0_person_3 10 rfl rfl)
theorem dX0_person_89 : decode cX0_person 89 = .ok (.iload_n 1, 1) := dk_27 (dk_at dksX0_person_3 13 rfl rfl)
theorem dX0_person_90 : decode cX0_person 90 = .ok (.iaload, 1) := dk_46 (dk_at dksX0_person_3 14 rfl rfl)
theorem dX0_person_91 : decode cX0_person 91 = .ok (.aload_n 0, 1) := dk_42 (dk_at dksX0_person_3 15 rfl rfl)
theorem dX0_person_92 : decode cX0_person 92 = .ok (.getfield 39, 3) := dk_180 0 39 (dk_at dksX0_person_3 16 rfl rfl)
theorem dX0_person_95 : decode cX0_person 95 = .ok (.getfield 236, 3) := dk_180 0 236 (dk_at dksX0_person_3 19 rfl rfl)
theorem dX0_person_98 : decode cX0_person 98 = .ok (.iload_n 1, 1) := dk_27 (dk_at dksX0_person_3 22 rfl rfl)
theorem dX0_person_99 : decode cX0_person 99 = .ok (.invokeinterface 240 2, 5) := by decide +kernel
theorem dX0_person_104 : decode cX0_person 104 = .ok (.checkcast 246, 3) := dk_192 0 246 (dk_at dksX0_person_4 5 rfl rfl)
theorem dX0_person_107 : decode cX0_person 107 = .ok (.getfield 248, 3) := dk_180 0 248 (dk_at dksX0_person_4 8 rfl rfl)
theorem dX0_person_110 : decode cX0_person 110 = .ok (.iadd, 1) := dk_96 (dk_at dksX0_person_4 11 rfl rfl)
theorem dX0_person_111 : decode cX0_person 111 = .ok (.aload_n 0, 1) := dk_42 (dk_at dksX0_person_4 12 rfl rfl)
theorem dX0_person_112 : decode cX0_person 112 = .ok (.getfield 39, 3) := dk_180 0 39 (dk_at dksX0_person_4 13 rfl rfl)
theorem dX0_person_115 : decode cX0_person 115 = .ok (.getfield 216, 3) := dk_180 0 216 (dk_at dksX0_person_4 16 rfl rfl)
theorem dX0_person_118 : decode cX0_person 118 = .ok (.iload_n 1, 1) := dk_27 (dk_at dksX0_person_4 19 rfl rfl)
theorem dX0_person_119 : decode cX0_person 119 = .ok (.iaload, 1) := dk_46 (dk_at dksX0_person_4 20 rfl rfl)
theorem dX0_person_120 : decode cX0_person 120 = .ok (.isub, 1) := dk_100 (dk_at dksX0_person_4 21 rfl rfl)
theorem dX0_person_121 : decode cX0_person 121 = .ok (.ireturn, 1) := dk_172 (dk_at dksX0_person_4 22 rfl rfl)
theorem dX0_person_122 : decode cX0_person 122 = .ok (.aload_n 0, 1) := dk_42 (dk_at dksX0_person_4 23 rfl rfl)
theorem dX0_person_123 : decode cX0_person 123 = .ok (.getfield 39, 3) := dk_180 0 39 (dk_at dksX0_person_5 0 rfl rfl)
theorem dX0_person_126 : decode cX0_person 126 = .ok (.iload_n 1, 1) := dk_27 (dk_at dksX0_person_5 3 rfl rfl)
theorem dX0_person_127 : decode cX0_person 127 = .ok (.invokevirtual 224, 3) := dk_182 0 224 (dk_at dksX0_person_5 4 rfl rfl)
theorem dX0_person_130 : decode cX0_person 130 = .ok (.ireturn, 1) := dk_172 (dk_at dksX0_person_5 7 rfl rfl)
theorem dX0_person_131 : decode cX0_person 131 = .ok (.aload_n 0, 1) := dk_42 (dk_at dksX0_person_5 8 rfl rfl)
theorem dX0_person_132 : decode cX0_person 132 = .ok (.getfield 39, 3) := dk_180 0 39 (dk_at dksX0_person_5 9 rfl rfl)
theorem dX0_person_135 : decode cX0_person 135 = .ok (.iload_n 1, 1) := dk_27 (dk_at dksX0_person_5 12 rfl rfl)
theorem dX0_person_136 : decode cX0_person 136 = .ok (.invokevirtual 250, 3) := dk_182 0 250 (dk_at dksX0_person_5 13 rfl rfl)
theorem dX0_person_139 : decode cX0_person 139 = .ok (.ireturn, 1) := dk_172 (dk_at dksX0_person_5 16 rfl rfl)
theorem dX0_person_140 : decode cX0_person 140 = .ok (.ldc 93, 2) := dk_18 93 (dk_at dksX0_person_5 17 rfl rfl)
theorem dX0_person_142 : decode cX0_person 142 = .ok (.ireturn, 1) := dk_172 (dk_at dksX0_person_5 19 rfl rfl)
abbrev cX0_gains : ByteArray := prog_1_method_33_code
def yX0_gains : MethodName := ⟨RX0, "gains", "(IIII)I"⟩
def dkwX0_gains_4 : List UInt8 := [22, 5, 184, 1, 16, 167, 0, 11, 16, 63, 22, 5, 184, 1, 19, 100, 172]
abbrev dktX0_gains_4 : List UInt8 := dkwX0_gains_4 ++ []
def dkwX0_gains_3 : List UInt8 := [22, 5, 184, 1, 10, 172, 22, 5, 9, 148, 154, 0, 8, 18, 181, 167, 0, 25, 21, 4, 4, 160, 0, 11]
abbrev dktX0_gains_3 : List UInt8 := dkwX0_gains_3 ++ dktX0_gains_4
def dkwX0_gains_2 : List UInt8 := [42, 180, 0, 57, 182, 1, 6, 42, 180, 0, 57, 8, 29, 104, 28, 96, 47, 55, 5, 21, 4, 154, 0, 9]
abbrev dktX0_gains_2 : List UInt8 := dkwX0_gains_2 ++ dktX0_gains_3
def dkwX0_gains_1 : List UInt8 := [184, 0, 79, 153, 0, 16, 21, 4, 133, 9, 20, 0, 91, 184, 0, 79, 154, 0, 6, 18, 93, 172, 42, 27]
abbrev dktX0_gains_1 : List UInt8 := dkwX0_gains_1 ++ dktX0_gains_2
def dkwX0_gains_0 : List UInt8 := [42, 27, 182, 0, 168, 153, 0, 36, 42, 28, 182, 1, 1, 153, 0, 28, 29, 133, 9, 20, 1, 4]
abbrev dktX0_gains_0 : List UInt8 := dkwX0_gains_0 ++ dktX0_gains_1
theorem dksX0_gains_0 : cX0_gains.data.toList.drop 0 = dktX0_gains_0 := by decide +kernel
theorem dksX0_gains_1 : cX0_gains.data.toList.drop 22 = dktX0_gains_1 := dk_seg dksX0_gains_0 22 rfl rfl
theorem dksX0_gains_2 : cX0_gains.data.toList.drop 46 = dktX0_gains_2 := dk_seg dksX0_gains_1 24 rfl rfl
theorem dksX0_gains_3 : cX0_gains.data.toList.drop 70 = dktX0_gains_3 := dk_seg dksX0_gains_2 24 rfl rfl
theorem dksX0_gains_4 : cX0_gains.data.toList.drop 94 = dktX0_gains_4 := dk_seg dksX0_gains_3 24 rfl rfl
theorem dX0_gains_0 : decode cX0_gains 0 = .ok (.aload_n 0, 1) := dk_42 (dk_at dksX0_gains_0 0 rfl rfl)
theorem dX0_gains_1 : decode cX0_gains 1 = .ok (.iload_n 1, 1) := dk_27 (dk_at dksX0_gains_0 1 rfl rfl)
theorem dX0_gains_2 : decode cX0_gains 2 = .ok (.invokevirtual 168, 3) := dk_182 0 168 (dk_at dksX0_gains_0 2 rfl rfl)
theorem dX0_gains_5 : decode cX0_gains 5 = .ok (.ifCond .eq 36, 3) := dk_153 0 36 (dk_at dksX0_gains_0 5 rfl rfl)
theorem dX0_gains_8 : decode cX0_gains 8 = .ok (.aload_n 0, 1) := dk_42 (dk_at dksX0_gains_0 8 rfl rfl)
theorem dX0_gains_9 : decode cX0_gains 9 = .ok (.iload_n 2, 1) := dk_28 (dk_at dksX0_gains_0 9 rfl rfl)
theorem dX0_gains_10 : decode cX0_gains 10 = .ok (.invokevirtual 257, 3) := dk_182 1 1 (dk_at dksX0_gains_0 10 rfl rfl)
theorem dX0_gains_13 : decode cX0_gains 13 = .ok (.ifCond .eq 28, 3) := dk_153 0 28 (dk_at dksX0_gains_0 13 rfl rfl)
theorem dX0_gains_16 : decode cX0_gains 16 = .ok (.iload_n 3, 1) := dk_29 (dk_at dksX0_gains_0 16 rfl rfl)
theorem dX0_gains_17 : decode cX0_gains 17 = .ok (.i2l, 1) := dk_133 (dk_at dksX0_gains_0 17 rfl rfl)
theorem dX0_gains_18 : decode cX0_gains 18 = .ok (.lconst 0, 1) := dk_9 (dk_at dksX0_gains_0 18 rfl rfl)
theorem dX0_gains_19 : decode cX0_gains 19 = .ok (.ldc2_w 260, 3) := dk_20 1 4 (dk_at dksX0_gains_0 19 rfl rfl)
theorem dX0_gains_22 : decode cX0_gains 22 = .ok (.invokestatic 79, 3) := dk_184 0 79 (dk_at dksX0_gains_1 0 rfl rfl)
theorem dX0_gains_25 : decode cX0_gains 25 = .ok (.ifCond .eq 16, 3) := dk_153 0 16 (dk_at dksX0_gains_1 3 rfl rfl)
theorem dX0_gains_28 : decode cX0_gains 28 = .ok (.iload 4, 2) := dk_21 4 (dk_at dksX0_gains_1 6 rfl rfl)
theorem dX0_gains_30 : decode cX0_gains 30 = .ok (.i2l, 1) := dk_133 (dk_at dksX0_gains_1 8 rfl rfl)
theorem dX0_gains_31 : decode cX0_gains 31 = .ok (.lconst 0, 1) := dk_9 (dk_at dksX0_gains_1 9 rfl rfl)
theorem dX0_gains_32 : decode cX0_gains 32 = .ok (.ldc2_w 91, 3) := dk_20 0 91 (dk_at dksX0_gains_1 10 rfl rfl)
theorem dX0_gains_35 : decode cX0_gains 35 = .ok (.invokestatic 79, 3) := dk_184 0 79 (dk_at dksX0_gains_1 13 rfl rfl)
theorem dX0_gains_38 : decode cX0_gains 38 = .ok (.ifCond .ne 6, 3) := dk_154 0 6 (dk_at dksX0_gains_1 16 rfl rfl)
theorem dX0_gains_41 : decode cX0_gains 41 = .ok (.ldc 93, 2) := dk_18 93 (dk_at dksX0_gains_1 19 rfl rfl)
theorem dX0_gains_43 : decode cX0_gains 43 = .ok (.ireturn, 1) := dk_172 (dk_at dksX0_gains_1 21 rfl rfl)
theorem dX0_gains_44 : decode cX0_gains 44 = .ok (.aload_n 0, 1) := dk_42 (dk_at dksX0_gains_1 22 rfl rfl)
theorem dX0_gains_45 : decode cX0_gains 45 = .ok (.iload_n 1, 1) := dk_27 (dk_at dksX0_gains_1 23 rfl rfl)
theorem dX0_gains_46 : decode cX0_gains 46 = .ok (.aload_n 0, 1) := dk_42 (dk_at dksX0_gains_2 0 rfl rfl)
theorem dX0_gains_47 : decode cX0_gains 47 = .ok (.getfield 57, 3) := dk_180 0 57 (dk_at dksX0_gains_2 1 rfl rfl)
theorem dX0_gains_50 : decode cX0_gains 50 = .ok (.invokevirtual 262, 3) := dk_182 1 6 (dk_at dksX0_gains_2 4 rfl rfl)
theorem dX0_gains_53 : decode cX0_gains 53 = .ok (.aload_n 0, 1) := dk_42 (dk_at dksX0_gains_2 7 rfl rfl)
theorem dX0_gains_54 : decode cX0_gains 54 = .ok (.getfield 57, 3) := dk_180 0 57 (dk_at dksX0_gains_2 8 rfl rfl)
theorem dX0_gains_57 : decode cX0_gains 57 = .ok (.iconst 5, 1) := dk_8 (dk_at dksX0_gains_2 11 rfl rfl)
theorem dX0_gains_58 : decode cX0_gains 58 = .ok (.iload_n 3, 1) := dk_29 (dk_at dksX0_gains_2 12 rfl rfl)
theorem dX0_gains_59 : decode cX0_gains 59 = .ok (.imul, 1) := dk_104 (dk_at dksX0_gains_2 13 rfl rfl)
theorem dX0_gains_60 : decode cX0_gains 60 = .ok (.iload_n 2, 1) := dk_28 (dk_at dksX0_gains_2 14 rfl rfl)
theorem dX0_gains_61 : decode cX0_gains 61 = .ok (.iadd, 1) := dk_96 (dk_at dksX0_gains_2 15 rfl rfl)
theorem dX0_gains_62 : decode cX0_gains 62 = .ok (.laload, 1) := dk_47 (dk_at dksX0_gains_2 16 rfl rfl)
theorem dX0_gains_63 : decode cX0_gains 63 = .ok (.lstore 5, 2) := dk_55 5 (dk_at dksX0_gains_2 17 rfl rfl)
theorem dX0_gains_65 : decode cX0_gains 65 = .ok (.iload 4, 2) := dk_21 4 (dk_at dksX0_gains_2 19 rfl rfl)
theorem dX0_gains_67 : decode cX0_gains 67 = .ok (.ifCond .ne 9, 3) := dk_154 0 9 (dk_at dksX0_gains_2 21 rfl rfl)
theorem dX0_gains_70 : decode cX0_gains 70 = .ok (.lload 5, 2) := dk_22 5 (dk_at dksX0_gains_3 0 rfl rfl)
theorem dX0_gains_72 : decode cX0_gains 72 = .ok (.invokestatic 266, 3) := dk_184 1 10 (dk_at dksX0_gains_3 2 rfl rfl)
theorem dX0_gains_75 : decode cX0_gains 75 = .ok (.ireturn, 1) := dk_172 (dk_at dksX0_gains_3 5 rfl rfl)
theorem dX0_gains_76 : decode cX0_gains 76 = .ok (.lload 5, 2) := dk_22 5 (dk_at dksX0_gains_3 6 rfl rfl)
theorem dX0_gains_78 : decode cX0_gains 78 = .ok (.lconst 0, 1) := dk_9 (dk_at dksX0_gains_3 8 rfl rfl)
theorem dX0_gains_79 : decode cX0_gains 79 = .ok (.lcmp, 1) := dk_148 (dk_at dksX0_gains_3 9 rfl rfl)
theorem dX0_gains_80 : decode cX0_gains 80 = .ok (.ifCond .ne 8, 3) := dk_154 0 8 (dk_at dksX0_gains_3 10 rfl rfl)
theorem dX0_gains_83 : decode cX0_gains 83 = .ok (.ldc 181, 2) := dk_18 181 (dk_at dksX0_gains_3 13 rfl rfl)
theorem dX0_gains_85 : decode cX0_gains 85 = .ok (.goto 25, 3) := dk_167 0 25 (dk_at dksX0_gains_3 15 rfl rfl)
theorem dX0_gains_88 : decode cX0_gains 88 = .ok (.iload 4, 2) := dk_21 4 (dk_at dksX0_gains_3 18 rfl rfl)
theorem dX0_gains_90 : decode cX0_gains 90 = .ok (.iconst 1, 1) := dk_4 (dk_at dksX0_gains_3 20 rfl rfl)
theorem dX0_gains_91 : decode cX0_gains 91 = .ok (.if_icmp .ne 11, 3) := dk_160 0 11 (dk_at dksX0_gains_3 21 rfl rfl)
theorem dX0_gains_94 : decode cX0_gains 94 = .ok (.lload 5, 2) := dk_22 5 (dk_at dksX0_gains_4 0 rfl rfl)
theorem dX0_gains_96 : decode cX0_gains 96 = .ok (.invokestatic 272, 3) := dk_184 1 16 (dk_at dksX0_gains_4 2 rfl rfl)
theorem dX0_gains_99 : decode cX0_gains 99 = .ok (.goto 11, 3) := dk_167 0 11 (dk_at dksX0_gains_4 5 rfl rfl)
theorem dX0_gains_102 : decode cX0_gains 102 = .ok (.bipush 63, 2) := dk_16 63 (dk_at dksX0_gains_4 8 rfl rfl)
theorem dX0_gains_104 : decode cX0_gains 104 = .ok (.lload 5, 2) := dk_22 5 (dk_at dksX0_gains_4 10 rfl rfl)
theorem dX0_gains_106 : decode cX0_gains 106 = .ok (.invokestatic 275, 3) := dk_184 1 19 (dk_at dksX0_gains_4 12 rfl rfl)
theorem dX0_gains_109 : decode cX0_gains 109 = .ok (.isub, 1) := dk_100 (dk_at dksX0_gains_4 15 rfl rfl)
theorem dX0_gains_110 : decode cX0_gains 110 = .ok (.ireturn, 1) := dk_172 (dk_at dksX0_gains_4 16 rfl rfl)
abbrev cX0_isHarbour : ByteArray := prog_1_method_19_code
def yX0_isHarbour : MethodName := ⟨RX0, "isHarbour", "(I)Z"⟩
def dkwX0_isHarbour_0 : List UInt8 := [27, 133, 9, 42, 180, 0, 39, 180, 0, 165, 4, 100, 133, 184, 0, 79, 172]
abbrev dktX0_isHarbour_0 : List UInt8 := dkwX0_isHarbour_0 ++ []
theorem dksX0_isHarbour_0 : cX0_isHarbour.data.toList.drop 0 = dktX0_isHarbour_0 := by decide +kernel
theorem dX0_isHarbour_0 : decode cX0_isHarbour 0 = .ok (.iload_n 1, 1) := dk_27 (dk_at dksX0_isHarbour_0 0 rfl rfl)
theorem dX0_isHarbour_1 : decode cX0_isHarbour 1 = .ok (.i2l, 1) := dk_133 (dk_at dksX0_isHarbour_0 1 rfl rfl)
theorem dX0_isHarbour_2 : decode cX0_isHarbour 2 = .ok (.lconst 0, 1) := dk_9 (dk_at dksX0_isHarbour_0 2 rfl rfl)
theorem dX0_isHarbour_3 : decode cX0_isHarbour 3 = .ok (.aload_n 0, 1) := dk_42 (dk_at dksX0_isHarbour_0 3 rfl rfl)
theorem dX0_isHarbour_4 : decode cX0_isHarbour 4 = .ok (.getfield 39, 3) := dk_180 0 39 (dk_at dksX0_isHarbour_0 4 rfl rfl)
theorem dX0_isHarbour_7 : decode cX0_isHarbour 7 = .ok (.getfield 165, 3) := dk_180 0 165 (dk_at dksX0_isHarbour_0 7 rfl rfl)
theorem dX0_isHarbour_10 : decode cX0_isHarbour 10 = .ok (.iconst 1, 1) := dk_4 (dk_at dksX0_isHarbour_0 10 rfl rfl)
theorem dX0_isHarbour_11 : decode cX0_isHarbour 11 = .ok (.isub, 1) := dk_100 (dk_at dksX0_isHarbour_0 11 rfl rfl)
theorem dX0_isHarbour_12 : decode cX0_isHarbour 12 = .ok (.i2l, 1) := dk_133 (dk_at dksX0_isHarbour_0 12 rfl rfl)
theorem dX0_isHarbour_13 : decode cX0_isHarbour 13 = .ok (.invokestatic 79, 3) := dk_184 0 79 (dk_at dksX0_isHarbour_0 13 rfl rfl)
theorem dX0_isHarbour_16 : decode cX0_isHarbour 16 = .ok (.ireturn, 1) := dk_172 (dk_at dksX0_isHarbour_0 16 rfl rfl)
abbrev cX0_lay : ByteArray := prog_1_method_32_code
def yX0_lay : MethodName := ⟨RX0, "lay", "(I[J)V"⟩
def dkwX0_lay_8 : List UInt8 := [167, 255, 107, 132, 3, 1, 167, 255, 92, 177]
abbrev dktX0_lay_8 : List UInt8 := dkwX0_lay_8 ++ []
def dkwX0_lay_7 : List UInt8 := [46, 42, 180, 0, 39, 27, 21, 7, 182, 0, 253, 100, 121, 129, 80, 132, 7, 1, 167, 255, 163, 132, 4, 1]
abbrev dktX0_lay_7 : List UInt8 := dkwX0_lay_7 ++ dktX0_lay_8
def dkwX0_lay_6 : List UInt8 := [163, 0, 39, 44, 8, 21, 9, 104, 21, 8, 96, 92, 47, 22, 5, 42, 180, 0, 39, 180, 0, 193, 21, 7]
abbrev dktX0_lay_6 : List UInt8 := dkwX0_lay_6 ++ dktX0_lay_7
def dkwX0_lay_5 : List UInt8 := [42, 180, 0, 39, 180, 0, 193, 21, 7, 46, 96, 54, 9, 21, 8, 18, 181, 159, 0, 46, 21, 9, 16, 40]
abbrev dktX0_lay_5 : List UInt8 := dkwX0_lay_5 ++ dktX0_lay_6
def dkwX0_lay_4 : List UInt8 := [180, 0, 39, 180, 0, 171, 162, 0, 87, 42, 180, 0, 39, 27, 21, 7, 21, 4, 182, 0, 177, 54, 8, 29]
abbrev dktX0_lay_4 : List UInt8 := dkwX0_lay_4 ++ dktX0_lay_5
def dkwX0_lay_3 : List UInt8 := [167, 0, 117, 44, 8, 29, 4, 96, 104, 21, 4, 96, 92, 47, 22, 5, 129, 80, 3, 54, 7, 21, 7, 42]
abbrev dktX0_lay_3 : List UInt8 := dkwX0_lay_3 ++ dktX0_lay_4
def dkwX0_lay_2 : List UInt8 := [180, 0, 165, 162, 0, 143, 44, 8, 29, 104, 21, 4, 96, 47, 55, 5, 22, 5, 9, 148, 154, 0, 6]
abbrev dktX0_lay_2 : List UInt8 := dkwX0_lay_2 ++ dktX0_lay_3
def dkwX0_lay_1 : List UInt8 := [180, 0, 174, 27, 46, 10, 80, 3, 62, 29, 16, 40, 162, 0, 164, 3, 54, 4, 21, 4, 42, 180, 0, 39]
abbrev dktX0_lay_1 : List UInt8 := dkwX0_lay_1 ++ dktX0_lay_2
def dkwX0_lay_0 : List UInt8 := [3, 62, 29, 44, 190, 162, 0, 13, 44, 29, 9, 80, 132, 3, 1, 167, 255, 243, 44, 42, 180, 0, 39]
abbrev dktX0_lay_0 : List UInt8 := dkwX0_lay_0 ++ dktX0_lay_1
theorem dksX0_lay_0 : cX0_lay.data.toList.drop 0 = dktX0_lay_0 := by decide +kernel
theorem dksX0_lay_1 : cX0_lay.data.toList.drop 23 = dktX0_lay_1 := dk_seg dksX0_lay_0 23 rfl rfl
theorem dksX0_lay_2 : cX0_lay.data.toList.drop 47 = dktX0_lay_2 := dk_seg dksX0_lay_1 24 rfl rfl
theorem dksX0_lay_3 : cX0_lay.data.toList.drop 70 = dktX0_lay_3 := dk_seg dksX0_lay_2 23 rfl rfl
theorem dksX0_lay_4 : cX0_lay.data.toList.drop 94 = dktX0_lay_4 := dk_seg dksX0_lay_3 24 rfl rfl
theorem dksX0_lay_5 : cX0_lay.data.toList.drop 118 = dktX0_lay_5 := dk_seg dksX0_lay_4 24 rfl rfl
theorem dksX0_lay_6 : cX0_lay.data.toList.drop 142 = dktX0_lay_6 := dk_seg dksX0_lay_5 24 rfl rfl
theorem dksX0_lay_7 : cX0_lay.data.toList.drop 166 = dktX0_lay_7 := dk_seg dksX0_lay_6 24 rfl rfl
theorem dksX0_lay_8 : cX0_lay.data.toList.drop 190 = dktX0_lay_8 := dk_seg dksX0_lay_7 24 rfl rfl
theorem dX0_lay_0 : decode cX0_lay 0 = .ok (.iconst 0, 1) := dk_3 (dk_at dksX0_lay_0 0 rfl rfl)
theorem dX0_lay_1 : decode cX0_lay 1 = .ok (.istore_n 3, 1) := dk_62 (dk_at dksX0_lay_0 1 rfl rfl)
theorem dX0_lay_2 : decode cX0_lay 2 = .ok (.iload_n 3, 1) := dk_29 (dk_at dksX0_lay_0 2 rfl rfl)
theorem dX0_lay_3 : decode cX0_lay 3 = .ok (.aload_n 2, 1) := dk_44 (dk_at dksX0_lay_0 3 rfl rfl)
theorem dX0_lay_4 : decode cX0_lay 4 = .ok (.arraylength, 1) := dk_190 (dk_at dksX0_lay_0 4 rfl rfl)
theorem dX0_lay_5 : decode cX0_lay 5 = .ok (.if_icmp .ge 13, 3) := dk_162 0 13 (dk_at dksX0_lay_0 5 rfl rfl)
theorem dX0_lay_8 : decode cX0_lay 8 = .ok (.aload_n 2, 1) := dk_44 (dk_at dksX0_lay_0 8 rfl rfl)
theorem dX0_lay_9 : decode cX0_lay 9 = .ok (.iload_n 3, 1) := dk_29 (dk_at dksX0_lay_0 9 rfl rfl)
theorem dX0_lay_10 : decode cX0_lay 10 = .ok (.lconst 0, 1) := dk_9 (dk_at dksX0_lay_0 10 rfl rfl)
theorem dX0_lay_11 : decode cX0_lay 11 = .ok (.lastore, 1) := dk_80 (dk_at dksX0_lay_0 11 rfl rfl)
theorem dX0_lay_12 : decode cX0_lay 12 = .ok (.iinc 3 1, 3) := dk_132 3 1 (dk_at dksX0_lay_0 12 rfl rfl)
theorem dX0_lay_15 : decode cX0_lay 15 = .ok (.goto (-13), 3) := dk_167 255 243 (dk_at dksX0_lay_0 15 rfl rfl)
theorem dX0_lay_18 : decode cX0_lay 18 = .ok (.aload_n 2, 1) := dk_44 (dk_at dksX0_lay_0 18 rfl rfl)
theorem dX0_lay_19 : decode cX0_lay 19 = .ok (.aload_n 0, 1) := dk_42 (dk_at dksX0_lay_0 19 rfl rfl)
theorem dX0_lay_20 : decode cX0_lay 20 = .ok (.getfield 39, 3) := dk_180 0 39 (dk_at dksX0_lay_0 20 rfl rfl)
theorem dX0_lay_23 : decode cX0_lay 23 = .ok (.getfield 174, 3) := dk_180 0 174 (dk_at dksX0_lay_1 0 rfl rfl)
theorem dX0_lay_26 : decode cX0_lay 26 = .ok (.iload_n 1, 1) := dk_27 (dk_at dksX0_lay_1 3 rfl rfl)
theorem dX0_lay_27 : decode cX0_lay 27 = .ok (.iaload, 1) := dk_46 (dk_at dksX0_lay_1 4 rfl rfl)
theorem dX0_lay_28 : decode cX0_lay 28 = .ok (.lconst 1, 1) := dk_10 (dk_at dksX0_lay_1 5 rfl rfl)
theorem dX0_lay_29 : decode cX0_lay 29 = .ok (.lastore, 1) := dk_80 (dk_at dksX0_lay_1 6 rfl rfl)
theorem dX0_lay_30 : decode cX0_lay 30 = .ok (.iconst 0, 1) := dk_3 (dk_at dksX0_lay_1 7 rfl rfl)
theorem dX0_lay_31 : decode cX0_lay 31 = .ok (.istore_n 3, 1) := dk_62 (dk_at dksX0_lay_1 8 rfl rfl)
theorem dX0_lay_32 : decode cX0_lay 32 = .ok (.iload_n 3, 1) := dk_29 (dk_at dksX0_lay_1 9 rfl rfl)
theorem dX0_lay_33 : decode cX0_lay 33 = .ok (.bipush 40, 2) := dk_16 40 (dk_at dksX0_lay_1 10 rfl rfl)
theorem dX0_lay_35 : decode cX0_lay 35 = .ok (.if_icmp .ge 164, 3) := dk_162 0 164 (dk_at dksX0_lay_1 12 rfl rfl)
theorem dX0_lay_38 : decode cX0_lay 38 = .ok (.iconst 0, 1) := dk_3 (dk_at dksX0_lay_1 15 rfl rfl)
theorem dX0_lay_39 : decode cX0_lay 39 = .ok (.istore 4, 2) := dk_54 4 (dk_at dksX0_lay_1 16 rfl rfl)
theorem dX0_lay_41 : decode cX0_lay 41 = .ok (.iload 4, 2) := dk_21 4 (dk_at dksX0_lay_1 18 rfl rfl)
theorem dX0_lay_43 : decode cX0_lay 43 = .ok (.aload_n 0, 1) := dk_42 (dk_at dksX0_lay_1 20 rfl rfl)
theorem dX0_lay_44 : decode cX0_lay 44 = .ok (.getfield 39, 3) := dk_180 0 39 (dk_at dksX0_lay_1 21 rfl rfl)
theorem dX0_lay_47 : decode cX0_lay 47 = .ok (.getfield 165, 3) := dk_180 0 165 (dk_at dksX0_lay_2 0 rfl rfl)
theorem dX0_lay_50 : decode cX0_lay 50 = .ok (.if_icmp .ge 143, 3) := dk_162 0 143 (dk_at dksX0_lay_2 3 rfl rfl)
theorem dX0_lay_53 : decode cX0_lay 53 = .ok (.aload_n 2, 1) := dk_44 (dk_at dksX0_lay_2 6 rfl rfl)
theorem dX0_lay_54 : decode cX0_lay 54 = .ok (.iconst 5, 1) := dk_8 (dk_at dksX0_lay_2 7 rfl rfl)
theorem dX0_lay_55 : decode cX0_lay 55 = .ok (.iload_n 3, 1) := dk_29 (dk_at dksX0_lay_2 8 rfl rfl)
theorem dX0_lay_56 : decode cX0_lay 56 = .ok (.imul, 1) := dk_104 (dk_at dksX0_lay_2 9 rfl rfl)
theorem dX0_lay_57 : decode cX0_lay 57 = .ok (.iload 4, 2) := dk_21 4 (dk_at dksX0_lay_2 10 rfl rfl)
theorem dX0_lay_59 : decode cX0_lay 59 = .ok (.iadd, 1) := dk_96 (dk_at dksX0_lay_2 12 rfl rfl)
theorem dX0_lay_60 : decode cX0_lay 60 = .ok (.laload, 1) := dk_47 (dk_at dksX0_lay_2 13 rfl rfl)
theorem dX0_lay_61 : decode cX0_lay 61 = .ok (.lstore 5, 2) := dk_55 5 (dk_at dksX0_lay_2 14 rfl rfl)
theorem dX0_lay_63 : decode cX0_lay 63 = .ok (.lload 5, 2) := dk_22 5 (dk_at dksX0_lay_2 16 rfl rfl)
theorem dX0_lay_65 : decode cX0_lay 65 = .ok (.lconst 0, 1) := dk_9 (dk_at dksX0_lay_2 18 rfl rfl)
theorem dX0_lay_66 : decode cX0_lay 66 = .ok (.lcmp, 1) := dk_148 (dk_at dksX0_lay_2 19 rfl rfl)
theorem dX0_lay_67 : decode cX0_lay 67 = .ok (.ifCond .ne 6, 3) := dk_154 0 6 (dk_at dksX0_lay_2 20 rfl rfl)
theorem dX0_lay_70 : decode cX0_lay 70 = .ok (.goto 117, 3) := dk_167 0 117 (dk_at dksX0_lay_3 0 rfl rfl)
theorem dX0_lay_73 : decode cX0_lay 73 = .ok (.aload_n 2, 1) := dk_44 (dk_at dksX0_lay_3 3 rfl rfl)
theorem dX0_lay_74 : decode cX0_lay 74 = .ok (.iconst 5, 1) := dk_8 (dk_at dksX0_lay_3 4 rfl rfl)
theorem dX0_lay_75 : decode cX0_lay 75 = .ok (.iload_n 3, 1) := dk_29 (dk_at dksX0_lay_3 5 rfl rfl)
theorem dX0_lay_76 : decode cX0_lay 76 = .ok (.iconst 1, 1) := dk_4 (dk_at dksX0_lay_3 6 rfl rfl)
theorem dX0_lay_77 : decode cX0_lay 77 = .ok (.iadd, 1) := dk_96 (dk_at dksX0_lay_3 7 rfl rfl)
theorem dX0_lay_78 : decode cX0_lay 78 = .ok (.imul, 1) := dk_104 (dk_at dksX0_lay_3 8 rfl rfl)
theorem dX0_lay_79 : decode cX0_lay 79 = .ok (.iload 4, 2) := dk_21 4 (dk_at dksX0_lay_3 9 rfl rfl)
theorem dX0_lay_81 : decode cX0_lay 81 = .ok (.iadd, 1) := dk_96 (dk_at dksX0_lay_3 11 rfl rfl)
theorem dX0_lay_82 : decode cX0_lay 82 = .ok (.dup2, 1) := dk_92 (dk_at dksX0_lay_3 12 rfl rfl)
theorem dX0_lay_83 : decode cX0_lay 83 = .ok (.laload, 1) := dk_47 (dk_at dksX0_lay_3 13 rfl rfl)
theorem dX0_lay_84 : decode cX0_lay 84 = .ok (.lload 5, 2) := dk_22 5 (dk_at dksX0_lay_3 14 rfl rfl)
theorem dX0_lay_86 : decode cX0_lay 86 = .ok (.lor, 1) := dk_129 (dk_at dksX0_lay_3 16 rfl rfl)
theorem dX0_lay_87 : decode cX0_lay 87 = .ok (.lastore, 1) := dk_80 (dk_at dksX0_lay_3 17 rfl rfl)
theorem dX0_lay_88 : decode cX0_lay 88 = .ok (.iconst 0, 1) := dk_3 (dk_at dksX0_lay_3 18 rfl rfl)
theorem dX0_lay_89 : decode cX0_lay 89 = .ok (.istore 7, 2) := dk_54 7 (dk_at dksX0_lay_3 19 rfl rfl)
theorem dX0_lay_91 : decode cX0_lay 91 = .ok (.iload 7, 2) := dk_21 7 (dk_at dksX0_lay_3 21 rfl rfl)
theorem dX0_lay_93 : decode cX0_lay 93 = .ok (.aload_n 0, 1) := dk_42 (dk_at dksX0_lay_3 23 rfl rfl)
theorem dX0_lay_94 : decode cX0_lay 94 = .ok (.getfield 39, 3) := dk_180 0 39 (dk_at dksX0_lay_4 0 rfl rfl)
theorem dX0_lay_97 : decode cX0_lay 97 = .ok (.getfield 171, 3) := dk_180 0 171 (dk_at dksX0_lay_4 3 rfl rfl)
theorem dX0_lay_100 : decode cX0_lay 100 = .ok (.if_icmp .ge 87, 3) := dk_162 0 87 (dk_at dksX0_lay_4 6 rfl rfl)
theorem dX0_lay_103 : decode cX0_lay 103 = .ok (.aload_n 0, 1) := dk_42 (dk_at dksX0_lay_4 9 rfl rfl)
theorem dX0_lay_104 : decode cX0_lay 104 = .ok (.getfield 39, 3) := dk_180 0 39 (dk_at dksX0_lay_4 10 rfl rfl)
theorem dX0_lay_107 : decode cX0_lay 107 = .ok (.iload_n 1, 1) := dk_27 (dk_at dksX0_lay_4 13 rfl rfl)
theorem dX0_lay_108 : decode cX0_lay 108 = .ok (.iload 7, 2) := dk_21 7 (dk_at dksX0_lay_4 14 rfl rfl)
theorem dX0_lay_110 : decode cX0_lay 110 = .ok (.iload 4, 2) := dk_21 4 (dk_at dksX0_lay_4 16 rfl rfl)
theorem dX0_lay_112 : decode cX0_lay 112 = .ok (.invokevirtual 177, 3) := dk_182 0 177 (dk_at dksX0_lay_4 18 rfl rfl)
theorem dX0_lay_115 : decode cX0_lay 115 = .ok (.istore 8, 2) := dk_54 8 (dk_at dksX0_lay_4 21 rfl rfl)
theorem dX0_lay_117 : decode cX0_lay 117 = .ok (.iload_n 3, 1) := dk_29 (dk_at dksX0_lay_4 23 rfl rfl)
theorem dX0_lay_118 : decode cX0_lay 118 = .ok (.aload_n 0, 1) := dk_42 (dk_at dksX0_lay_5 0 rfl rfl)
theorem dX0_lay_119 : decode cX0_lay 119 = .ok (.getfield 39, 3) := dk_180 0 39 (dk_at dksX0_lay_5 1 rfl rfl)
theorem dX0_lay_122 : decode cX0_lay 122 = .ok (.getfield 193, 3) := dk_180 0 193 (dk_at dksX0_lay_5 4 rfl rfl)
theorem dX0_lay_125 : decode cX0_lay 125 = .ok (.iload 7, 2) := dk_21 7 (dk_at dksX0_lay_5 7 rfl rfl)
theorem dX0_lay_127 : decode cX0_lay 127 = .ok (.iaload, 1) := dk_46 (dk_at dksX0_lay_5 9 rfl rfl)
theorem dX0_lay_128 : decode cX0_lay 128 = .ok (.iadd, 1) := dk_96 (dk_at dksX0_lay_5 10 rfl rfl)
theorem dX0_lay_129 : decode cX0_lay 129 = .ok (.istore 9, 2) := dk_54 9 (dk_at dksX0_lay_5 11 rfl rfl)
theorem dX0_lay_131 : decode cX0_lay 131 = .ok (.iload 8, 2) := dk_21 8 (dk_at dksX0_lay_5 13 rfl rfl)
theorem dX0_lay_133 : decode cX0_lay 133 = .ok (.ldc 181, 2) := dk_18 181 (dk_at dksX0_lay_5 15 rfl rfl)
theorem dX0_lay_135 : decode cX0_lay 135 = .ok (.if_icmp .eq 46, 3) := dk_159 0 46 (dk_at dksX0_lay_5 17 rfl rfl)
theorem dX0_lay_138 : decode cX0_lay 138 = .ok (.iload 9, 2) := dk_21 9 (dk_at dksX0_lay_5 20 rfl rfl)
theorem dX0_lay_140 : decode cX0_lay 140 = .ok (.bipush 40, 2) := dk_16 40 (dk_at dksX0_lay_5 22 rfl rfl)
theorem dX0_lay_142 : decode cX0_lay 142 = .ok (.if_icmp .gt 39, 3) := dk_163 0 39 (dk_at dksX0_lay_6 0 rfl rfl)
theorem dX0_lay_145 : decode cX0_lay 145 = .ok (.aload_n 2, 1) := dk_44 (dk_at dksX0_lay_6 3 rfl rfl)
theorem dX0_lay_146 : decode cX0_lay 146 = .ok (.iconst 5, 1) := dk_8 (dk_at dksX0_lay_6 4 rfl rfl)
theorem dX0_lay_147 : decode cX0_lay 147 = .ok (.iload 9, 2) := dk_21 9 (dk_at dksX0_lay_6 5 rfl rfl)
theorem dX0_lay_149 : decode cX0_lay 149 = .ok (.imul, 1) := dk_104 (dk_at dksX0_lay_6 7 rfl rfl)
theorem dX0_lay_150 : decode cX0_lay 150 = .ok (.iload 8, 2) := dk_21 8 (dk_at dksX0_lay_6 8 rfl rfl)
theorem dX0_lay_152 : decode cX0_lay 152 = .ok (.iadd, 1) := dk_96 (dk_at dksX0_lay_6 10 rfl rfl)
theorem dX0_lay_153 : decode cX0_lay 153 = .ok (.dup2, 1) := dk_92 (dk_at dksX0_lay_6 11 rfl rfl)
theorem dX0_lay_154 : decode cX0_lay 154 = .ok (.laload, 1) := dk_47 (dk_at dksX0_lay_6 12 rfl rfl)
theorem dX0_lay_155 : decode cX0_lay 155 = .ok (.lload 5, 2) := dk_22 5 (dk_at dksX0_lay_6 13 rfl rfl)
theorem dX0_lay_157 : decode cX0_lay 157 = .ok (.aload_n 0, 1) := dk_42 (dk_at dksX0_lay_6 15 rfl rfl)
theorem dX0_lay_158 : decode cX0_lay 158 = .ok (.getfield 39, 3) := dk_180 0 39 (dk_at dksX0_lay_6 16 rfl rfl)
theorem dX0_lay_161 : decode cX0_lay 161 = .ok (.getfield 193, 3) := dk_180 0 193 (dk_at dksX0_lay_6 19 rfl rfl)
theorem dX0_lay_164 : decode cX0_lay 164 = .ok (.iload 7, 2) := dk_21 7 (dk_at dksX0_lay_6 22 rfl rfl)
theorem dX0_lay_166 : decode cX0_lay 166 = .ok (.iaload, 1) := dk_46 (dk_at dksX0_lay_7 0 rfl rfl)
theorem dX0_lay_167 : decode cX0_lay 167 = .ok (.aload_n 0, 1) := dk_42 (dk_at dksX0_lay_7 1 rfl rfl)
theorem dX0_lay_168 : decode cX0_lay 168 = .ok (.getfield 39, 3) := dk_180 0 39 (dk_at dksX0_lay_7 2 rfl rfl)
theorem dX0_lay_171 : decode cX0_lay 171 = .ok (.iload_n 1, 1) := dk_27 (dk_at dksX0_lay_7 5 rfl rfl)
theorem dX0_lay_172 : decode cX0_lay 172 = .ok (.iload 7, 2) := dk_21 7 (dk_at dksX0_lay_7 6 rfl rfl)
theorem dX0_lay_174 : decode cX0_lay 174 = .ok (.invokevirtual 253, 3) := dk_182 0 253 (dk_at dksX0_lay_7 8 rfl rfl)
theorem dX0_lay_177 : decode cX0_lay 177 = .ok (.isub, 1) := dk_100 (dk_at dksX0_lay_7 11 rfl rfl)
theorem dX0_lay_178 : decode cX0_lay 178 = .ok (.lshl, 1) := dk_121 (dk_at dksX0_lay_7 12 rfl rfl)
theorem dX0_lay_179 : decode cX0_lay 179 = .ok (.lor, 1) := dk_129 (dk_at dksX0_lay_7 13 rfl rfl)
theorem dX0_lay_180 : decode cX0_lay 180 = .ok (.lastore, 1) := dk_80 (dk_at dksX0_lay_7 14 rfl rfl)
theorem dX0_lay_181 : decode cX0_lay 181 = .ok (.iinc 7 1, 3) := dk_132 7 1 (dk_at dksX0_lay_7 15 rfl rfl)
theorem dX0_lay_184 : decode cX0_lay 184 = .ok (.goto (-93), 3) := dk_167 255 163 (dk_at dksX0_lay_7 18 rfl rfl)
theorem dX0_lay_187 : decode cX0_lay 187 = .ok (.iinc 4 1, 3) := dk_132 4 1 (dk_at dksX0_lay_7 21 rfl rfl)
theorem dX0_lay_190 : decode cX0_lay 190 = .ok (.goto (-149), 3) := dk_167 255 107 (dk_at dksX0_lay_8 0 rfl rfl)
theorem dX0_lay_193 : decode cX0_lay 193 = .ok (.iinc 3 1, 3) := dk_132 3 1 (dk_at dksX0_lay_8 3 rfl rfl)
theorem dX0_lay_196 : decode cX0_lay 196 = .ok (.goto (-164), 3) := dk_167 255 92 (dk_at dksX0_lay_8 6 rfl rfl)
theorem dX0_lay_199 : decode cX0_lay 199 = .ok (.return_, 1) := dk_177 (dk_at dksX0_lay_8 9 rfl rfl)
abbrev cX0_soonest : ByteArray := prog_1_method_34_code
def yX0_soonest : MethodName := ⟨RX0, "soonest", "(III)I"⟩
def dkwX0_soonest_3 : List UInt8 := [154, 0, 6, 21, 4, 172, 132, 4, 1, 167, 255, 223, 18, 181, 172]
abbrev dktX0_soonest_3 : List UInt8 := dkwX0_soonest_3 ++ []
def dkwX0_soonest_2 : List UInt8 := [16, 40, 163, 0, 32, 42, 180, 0, 57, 8, 21, 4, 104, 28, 96, 47, 29, 123, 10, 127, 10, 148]
abbrev dktX0_soonest_2 : List UInt8 := dkwX0_soonest_2 ++ dktX0_soonest_3
def dkwX0_soonest_1 : List UInt8 := [184, 0, 79, 154, 0, 6, 18, 93, 172, 42, 27, 42, 180, 0, 57, 182, 1, 6, 3, 54, 4, 21, 4]
abbrev dktX0_soonest_1 : List UInt8 := dkwX0_soonest_1 ++ dktX0_soonest_2
def dkwX0_soonest_0 : List UInt8 := [42, 27, 182, 0, 168, 153, 0, 23, 42, 28, 182, 1, 1, 153, 0, 15, 29, 133, 9, 20, 1, 4]
abbrev dktX0_soonest_0 : List UInt8 := dkwX0_soonest_0 ++ dktX0_soonest_1
theorem dksX0_soonest_0 : cX0_soonest.data.toList.drop 0 = dktX0_soonest_0 := by decide +kernel
theorem dksX0_soonest_1 : cX0_soonest.data.toList.drop 22 = dktX0_soonest_1 := dk_seg dksX0_soonest_0 22 rfl rfl
theorem dksX0_soonest_2 : cX0_soonest.data.toList.drop 45 = dktX0_soonest_2 := dk_seg dksX0_soonest_1 23 rfl rfl
theorem dksX0_soonest_3 : cX0_soonest.data.toList.drop 67 = dktX0_soonest_3 := dk_seg dksX0_soonest_2 22 rfl rfl
theorem dX0_soonest_0 : decode cX0_soonest 0 = .ok (.aload_n 0, 1) := dk_42 (dk_at dksX0_soonest_0 0 rfl rfl)
theorem dX0_soonest_1 : decode cX0_soonest 1 = .ok (.iload_n 1, 1) := dk_27 (dk_at dksX0_soonest_0 1 rfl rfl)
theorem dX0_soonest_2 : decode cX0_soonest 2 = .ok (.invokevirtual 168, 3) := dk_182 0 168 (dk_at dksX0_soonest_0 2 rfl rfl)
theorem dX0_soonest_5 : decode cX0_soonest 5 = .ok (.ifCond .eq 23, 3) := dk_153 0 23 (dk_at dksX0_soonest_0 5 rfl rfl)
theorem dX0_soonest_8 : decode cX0_soonest 8 = .ok (.aload_n 0, 1) := dk_42 (dk_at dksX0_soonest_0 8 rfl rfl)
theorem dX0_soonest_9 : decode cX0_soonest 9 = .ok (.iload_n 2, 1) := dk_28 (dk_at dksX0_soonest_0 9 rfl rfl)
theorem dX0_soonest_10 : decode cX0_soonest 10 = .ok (.invokevirtual 257, 3) := dk_182 1 1 (dk_at dksX0_soonest_0 10 rfl rfl)
theorem dX0_soonest_13 : decode cX0_soonest 13 = .ok (.ifCond .eq 15, 3) := dk_153 0 15 (dk_at dksX0_soonest_0 13 rfl rfl)
theorem dX0_soonest_16 : decode cX0_soonest 16 = .ok (.iload_n 3, 1) := dk_29 (dk_at dksX0_soonest_0 16 rfl rfl)
theorem dX0_soonest_17 : decode cX0_soonest 17 = .ok (.i2l, 1) := dk_133 (dk_at dksX0_soonest_0 17 rfl rfl)
theorem dX0_soonest_18 : decode cX0_soonest 18 = .ok (.lconst 0, 1) := dk_9 (dk_at dksX0_soonest_0 18 rfl rfl)
theorem dX0_soonest_19 : decode cX0_soonest 19 = .ok (.ldc2_w 260, 3) := dk_20 1 4 (dk_at dksX0_soonest_0 19 rfl rfl)
theorem dX0_soonest_22 : decode cX0_soonest 22 = .ok (.invokestatic 79, 3) := dk_184 0 79 (dk_at dksX0_soonest_1 0 rfl rfl)
theorem dX0_soonest_25 : decode cX0_soonest 25 = .ok (.ifCond .ne 6, 3) := dk_154 0 6 (dk_at dksX0_soonest_1 3 rfl rfl)
theorem dX0_soonest_28 : decode cX0_soonest 28 = .ok (.ldc 93, 2) := dk_18 93 (dk_at dksX0_soonest_1 6 rfl rfl)
theorem dX0_soonest_30 : decode cX0_soonest 30 = .ok (.ireturn, 1) := dk_172 (dk_at dksX0_soonest_1 8 rfl rfl)
theorem dX0_soonest_31 : decode cX0_soonest 31 = .ok (.aload_n 0, 1) := dk_42 (dk_at dksX0_soonest_1 9 rfl rfl)
theorem dX0_soonest_32 : decode cX0_soonest 32 = .ok (.iload_n 1, 1) := dk_27 (dk_at dksX0_soonest_1 10 rfl rfl)
theorem dX0_soonest_33 : decode cX0_soonest 33 = .ok (.aload_n 0, 1) := dk_42 (dk_at dksX0_soonest_1 11 rfl rfl)
theorem dX0_soonest_34 : decode cX0_soonest 34 = .ok (.getfield 57, 3) := dk_180 0 57 (dk_at dksX0_soonest_1 12 rfl rfl)
theorem dX0_soonest_37 : decode cX0_soonest 37 = .ok (.invokevirtual 262, 3) := dk_182 1 6 (dk_at dksX0_soonest_1 15 rfl rfl)
theorem dX0_soonest_40 : decode cX0_soonest 40 = .ok (.iconst 0, 1) := dk_3 (dk_at dksX0_soonest_1 18 rfl rfl)
theorem dX0_soonest_41 : decode cX0_soonest 41 = .ok (.istore 4, 2) := dk_54 4 (dk_at dksX0_soonest_1 19 rfl rfl)
theorem dX0_soonest_43 : decode cX0_soonest 43 = .ok (.iload 4, 2) := dk_21 4 (dk_at dksX0_soonest_1 21 rfl rfl)
theorem dX0_soonest_45 : decode cX0_soonest 45 = .ok (.bipush 40, 2) := dk_16 40 (dk_at dksX0_soonest_2 0 rfl rfl)
theorem dX0_soonest_47 : decode cX0_soonest 47 = .ok (.if_icmp .gt 32, 3) := dk_163 0 32 (dk_at dksX0_soonest_2 2 rfl rfl)
theorem dX0_soonest_50 : decode cX0_soonest 50 = .ok (.aload_n 0, 1) := dk_42 (dk_at dksX0_soonest_2 5 rfl rfl)
theorem dX0_soonest_51 : decode cX0_soonest 51 = .ok (.getfield 57, 3) := dk_180 0 57 (dk_at dksX0_soonest_2 6 rfl rfl)
theorem dX0_soonest_54 : decode cX0_soonest 54 = .ok (.iconst 5, 1) := dk_8 (dk_at dksX0_soonest_2 9 rfl rfl)
theorem dX0_soonest_55 : decode cX0_soonest 55 = .ok (.iload 4, 2) := dk_21 4 (dk_at dksX0_soonest_2 10 rfl rfl)
theorem dX0_soonest_57 : decode cX0_soonest 57 = .ok (.imul, 1) := dk_104 (dk_at dksX0_soonest_2 12 rfl rfl)
theorem dX0_soonest_58 : decode cX0_soonest 58 = .ok (.iload_n 2, 1) := dk_28 (dk_at dksX0_soonest_2 13 rfl rfl)
theorem dX0_soonest_59 : decode cX0_soonest 59 = .ok (.iadd, 1) := dk_96 (dk_at dksX0_soonest_2 14 rfl rfl)
theorem dX0_soonest_60 : decode cX0_soonest 60 = .ok (.laload, 1) := dk_47 (dk_at dksX0_soonest_2 15 rfl rfl)
theorem dX0_soonest_61 : decode cX0_soonest 61 = .ok (.iload_n 3, 1) := dk_29 (dk_at dksX0_soonest_2 16 rfl rfl)
theorem dX0_soonest_62 : decode cX0_soonest 62 = .ok (.lshr, 1) := dk_123 (dk_at dksX0_soonest_2 17 rfl rfl)
theorem dX0_soonest_63 : decode cX0_soonest 63 = .ok (.lconst 1, 1) := dk_10 (dk_at dksX0_soonest_2 18 rfl rfl)
theorem dX0_soonest_64 : decode cX0_soonest 64 = .ok (.land, 1) := dk_127 (dk_at dksX0_soonest_2 19 rfl rfl)
theorem dX0_soonest_65 : decode cX0_soonest 65 = .ok (.lconst 1, 1) := dk_10 (dk_at dksX0_soonest_2 20 rfl rfl)
theorem dX0_soonest_66 : decode cX0_soonest 66 = .ok (.lcmp, 1) := dk_148 (dk_at dksX0_soonest_2 21 rfl rfl)
theorem dX0_soonest_67 : decode cX0_soonest 67 = .ok (.ifCond .ne 6, 3) := dk_154 0 6 (dk_at dksX0_soonest_3 0 rfl rfl)
theorem dX0_soonest_70 : decode cX0_soonest 70 = .ok (.iload 4, 2) := dk_21 4 (dk_at dksX0_soonest_3 3 rfl rfl)
theorem dX0_soonest_72 : decode cX0_soonest 72 = .ok (.ireturn, 1) := dk_172 (dk_at dksX0_soonest_3 5 rfl rfl)
theorem dX0_soonest_73 : decode cX0_soonest 73 = .ok (.iinc 4 1, 3) := dk_132 4 1 (dk_at dksX0_soonest_3 6 rfl rfl)
theorem dX0_soonest_76 : decode cX0_soonest 76 = .ok (.goto (-33), 3) := dk_167 255 223 (dk_at dksX0_soonest_3 9 rfl rfl)
theorem dX0_soonest_79 : decode cX0_soonest 79 = .ok (.ldc 181, 2) := dk_18 181 (dk_at dksX0_soonest_3 12 rfl rfl)
theorem dX0_soonest_81 : decode cX0_soonest 81 = .ok (.ireturn, 1) := dk_172 (dk_at dksX0_soonest_3 14 rfl rfl)
abbrev cX0_voyages : ByteArray := prog_1_method_35_code
def yX0_voyages : MethodName := ⟨RX0, "voyages", "(II)I"⟩
def dkwX0_voyages_9 : List UInt8 := [172]
abbrev dktX0_voyages_9 : List UInt8 := dkwX0_voyages_9 ++ []
def dkwX0_voyages_8 : List UInt8 := [167, 0, 4, 3, 128, 54, 5, 132, 6, 1, 167, 255, 121, 21, 5, 62, 132, 4, 1, 167, 255, 88, 18, 181]
abbrev dktX0_voyages_8 : List UInt8 := dkwX0_voyages_8 ++ dktX0_voyages_9
def dkwX0_voyages_7 : List UInt8 := [21, 6, 46, 122, 4, 126, 4, 160, 0, 18, 4, 42, 180, 0, 39, 180, 1, 22, 21, 6, 46, 120]
abbrev dktX0_voyages_7 : List UInt8 := dkwX0_voyages_7 ++ dktX0_voyages_8
def dkwX0_voyages_6 : List UInt8 := [120, 167, 0, 4, 3, 128, 54, 5, 21, 5, 21, 7, 153, 0, 36, 29, 42, 180, 0, 39, 180, 1, 25]
abbrev dktX0_voyages_6 : List UInt8 := dkwX0_voyages_6 ++ dktX0_voyages_7
def dkwX0_voyages_5 : List UInt8 := [180, 1, 22, 21, 6, 46, 122, 4, 126, 4, 160, 0, 18, 4, 42, 180, 0, 39, 180, 1, 25, 21, 6, 46]
abbrev dktX0_voyages_5 : List UInt8 := dkwX0_voyages_5 ++ dktX0_voyages_6
def dkwX0_voyages_4 : List UInt8 := [159, 0, 7, 4, 167, 0, 4, 3, 54, 7, 21, 5, 21, 7, 153, 0, 36, 29, 42, 180, 0, 39]
abbrev dktX0_voyages_4 : List UInt8 := dkwX0_voyages_4 ++ dktX0_voyages_5
def dkwX0_voyages_3 : List UInt8 := [42, 180, 0, 39, 27, 21, 6, 42, 180, 0, 39, 180, 1, 22, 21, 6, 46, 182, 0, 177, 18, 181]
abbrev dktX0_voyages_3 : List UInt8 := dkwX0_voyages_3 ++ dktX0_voyages_4
def dkwX0_voyages_2 : List UInt8 := [160, 0, 6, 21, 4, 172, 29, 54, 5, 3, 54, 6, 21, 6, 42, 180, 0, 39, 180, 0, 171, 162, 0, 129]
abbrev dktX0_voyages_2 : List UInt8 := dkwX0_voyages_2 ++ dktX0_voyages_3
def dkwX0_voyages_1 : List UInt8 := [180, 0, 174, 27, 46, 120, 62, 3, 54, 4, 21, 4, 8, 163, 0, 168, 29, 28, 122, 4, 126, 4]
abbrev dktX0_voyages_1 : List UInt8 := dkwX0_voyages_1 ++ dktX0_voyages_2
def dkwX0_voyages_0 : List UInt8 := [42, 27, 182, 0, 168, 153, 0, 11, 42, 28, 182, 1, 1, 154, 0, 6, 18, 93, 172, 4, 42, 180, 0, 39]
abbrev dktX0_voyages_0 : List UInt8 := dkwX0_voyages_0 ++ dktX0_voyages_1
theorem dksX0_voyages_0 : cX0_voyages.data.toList.drop 0 = dktX0_voyages_0 := by decide +kernel
theorem dksX0_voyages_1 : cX0_voyages.data.toList.drop 24 = dktX0_voyages_1 := dk_seg dksX0_voyages_0 24 rfl rfl
theorem dksX0_voyages_2 : cX0_voyages.data.toList.drop 46 = dktX0_voyages_2 := dk_seg dksX0_voyages_1 22 rfl rfl
theorem dksX0_voyages_3 : cX0_voyages.data.toList.drop 70 = dktX0_voyages_3 := dk_seg dksX0_voyages_2 24 rfl rfl
theorem dksX0_voyages_4 : cX0_voyages.data.toList.drop 92 = dktX0_voyages_4 := dk_seg dksX0_voyages_3 22 rfl rfl
theorem dksX0_voyages_5 : cX0_voyages.data.toList.drop 114 = dktX0_voyages_5 := dk_seg dksX0_voyages_4 22 rfl rfl
theorem dksX0_voyages_6 : cX0_voyages.data.toList.drop 138 = dktX0_voyages_6 := dk_seg dksX0_voyages_5 24 rfl rfl
theorem dksX0_voyages_7 : cX0_voyages.data.toList.drop 161 = dktX0_voyages_7 := dk_seg dksX0_voyages_6 23 rfl rfl
theorem dksX0_voyages_8 : cX0_voyages.data.toList.drop 183 = dktX0_voyages_8 := dk_seg dksX0_voyages_7 22 rfl rfl
theorem dksX0_voyages_9 : cX0_voyages.data.toList.drop 207 = dktX0_voyages_9 := dk_seg dksX0_voyages_8 24 rfl rfl
theorem dX0_voyages_0 : decode cX0_voyages 0 = .ok (.aload_n 0, 1) := dk_42 (dk_at dksX0_voyages_0 0 rfl rfl)
theorem dX0_voyages_1 : decode cX0_voyages 1 = .ok (.iload_n 1, 1) := dk_27 (dk_at dksX0_voyages_0 1 rfl rfl)
theorem dX0_voyages_2 : decode cX0_voyages 2 = .ok (.invokevirtual 168, 3) := dk_182 0 168 (dk_at dksX0_voyages_0 2 rfl rfl)
theorem dX0_voyages_5 : decode cX0_voyages 5 = .ok (.ifCond .eq 11, 3) := dk_153 0 11 (dk_at dksX0_voyages_0 5 rfl rfl)
theorem dX0_voyages_8 : decode cX0_voyages 8 = .ok (.aload_n 0, 1) := dk_42 (dk_at dksX0_voyages_0 8 rfl rfl)
theorem dX0_voyages_9 : decode cX0_voyages 9 = .ok (.iload_n 2, 1) := dk_28 (dk_at dksX0_voyages_0 9 rfl rfl)
theorem dX0_voyages_10 : decode cX0_voyages 10 = .ok (.invokevirtual 257, 3) := dk_182 1 1 (dk_at dksX0_voyages_0 10 rfl rfl)
theorem dX0_voyages_13 : decode cX0_voyages 13 = .ok (.ifCond .ne 6, 3) := dk_154 0 6 (dk_at dksX0_voyages_0 13 rfl rfl)
theorem dX0_voyages_16 : decode cX0_voyages 16 = .ok (.ldc 93, 2) := dk_18 93 (dk_at dksX0_voyages_0 16 rfl rfl)
theorem dX0_voyages_18 : decode cX0_voyages 18 = .ok (.ireturn, 1) := dk_172 (dk_at dksX0_voyages_0 18 rfl rfl)
theorem dX0_voyages_19 : decode cX0_voyages 19 = .ok (.iconst 1, 1) := dk_4 (dk_at dksX0_voyages_0 19 rfl rfl)
theorem dX0_voyages_20 : decode cX0_voyages 20 = .ok (.aload_n 0, 1) := dk_42 (dk_at dksX0_voyages_0 20 rfl rfl)
theorem dX0_voyages_21 : decode cX0_voyages 21 = .ok (.getfield 39, 3) := dk_180 0 39 (dk_at dksX0_voyages_0 21 rfl rfl)
theorem dX0_voyages_24 : decode cX0_voyages 24 = .ok (.getfield 174, 3) := dk_180 0 174 (dk_at dksX0_voyages_1 0 rfl rfl)
theorem dX0_voyages_27 : decode cX0_voyages 27 = .ok (.iload_n 1, 1) := dk_27 (dk_at dksX0_voyages_1 3 rfl rfl)
theorem dX0_voyages_28 : decode cX0_voyages 28 = .ok (.iaload, 1) := dk_46 (dk_at dksX0_voyages_1 4 rfl rfl)
theorem dX0_voyages_29 : decode cX0_voyages 29 = .ok (.ishl, 1) := dk_120 (dk_at dksX0_voyages_1 5 rfl rfl)
theorem dX0_voyages_30 : decode cX0_voyages 30 = .ok (.istore_n 3, 1) := dk_62 (dk_at dksX0_voyages_1 6 rfl rfl)
theorem dX0_voyages_31 : decode cX0_voyages 31 = .ok (.iconst 0, 1) := dk_3 (dk_at dksX0_voyages_1 7 rfl rfl)
theorem dX0_voyages_32 : decode cX0_voyages 32 = .ok (.istore 4, 2) := dk_54 4 (dk_at dksX0_voyages_1 8 rfl rfl)
theorem dX0_voyages_34 : decode cX0_voyages 34 = .ok (.iload 4, 2) := dk_21 4 (dk_at dksX0_voyages_1 10 rfl rfl)
theorem dX0_voyages_36 : decode cX0_voyages 36 = .ok (.iconst 5, 1) := dk_8 (dk_at dksX0_voyages_1 12 rfl rfl)
theorem dX0_voyages_37 : decode cX0_voyages 37 = .ok (.if_icmp .gt 168, 3) := dk_163 0 168 (dk_at dksX0_voyages_1 13 rfl rfl)
theorem dX0_voyages_40 : decode cX0_voyages 40 = .ok (.iload_n 3, 1) := dk_29 (dk_at dksX0_voyages_1 16 rfl rfl)
theorem dX0_voyages_41 : decode cX0_voyages 41 = .ok (.iload_n 2, 1) := dk_28 (dk_at dksX0_voyages_1 17 rfl rfl)
theorem dX0_voyages_42 : decode cX0_voyages 42 = .ok (.ishr, 1) := dk_122 (dk_at dksX0_voyages_1 18 rfl rfl)
theorem dX0_voyages_43 : decode cX0_voyages 43 = .ok (.iconst 1, 1) := dk_4 (dk_at dksX0_voyages_1 19 rfl rfl)
theorem dX0_voyages_44 : decode cX0_voyages 44 = .ok (.iand, 1) := dk_126 (dk_at dksX0_voyages_1 20 rfl rfl)
theorem dX0_voyages_45 : decode cX0_voyages 45 = .ok (.iconst 1, 1) := dk_4 (dk_at dksX0_voyages_1 21 rfl rfl)
theorem dX0_voyages_46 : decode cX0_voyages 46 = .ok (.if_icmp .ne 6, 3) := dk_160 0 6 (dk_at dksX0_voyages_2 0 rfl rfl)
theorem dX0_voyages_49 : decode cX0_voyages 49 = .ok (.iload 4, 2) := dk_21 4 (dk_at dksX0_voyages_2 3 rfl rfl)
theorem dX0_voyages_51 : decode cX0_voyages 51 = .ok (.ireturn, 1) := dk_172 (dk_at dksX0_voyages_2 5 rfl rfl)
theorem dX0_voyages_52 : decode cX0_voyages 52 = .ok (.iload_n 3, 1) := dk_29 (dk_at dksX0_voyages_2 6 rfl rfl)
theorem dX0_voyages_53 : decode cX0_voyages 53 = .ok (.istore 5, 2) := dk_54 5 (dk_at dksX0_voyages_2 7 rfl rfl)
theorem dX0_voyages_55 : decode cX0_voyages 55 = .ok (.iconst 0, 1) := dk_3 (dk_at dksX0_voyages_2 9 rfl rfl)
theorem dX0_voyages_56 : decode cX0_voyages 56 = .ok (.istore 6, 2) := dk_54 6 (dk_at dksX0_voyages_2 10 rfl rfl)
theorem dX0_voyages_58 : decode cX0_voyages 58 = .ok (.iload 6, 2) := dk_21 6 (dk_at dksX0_voyages_2 12 rfl rfl)
theorem dX0_voyages_60 : decode cX0_voyages 60 = .ok (.aload_n 0, 1) := dk_42 (dk_at dksX0_voyages_2 14 rfl rfl)
theorem dX0_voyages_61 : decode cX0_voyages 61 = .ok (.getfield 39, 3) := dk_180 0 39 (dk_at dksX0_voyages_2 15 rfl rfl)
theorem dX0_voyages_64 : decode cX0_voyages 64 = .ok (.getfield 171, 3) := dk_180 0 171 (dk_at dksX0_voyages_2 18 rfl rfl)
theorem dX0_voyages_67 : decode cX0_voyages 67 = .ok (.if_icmp .ge 129, 3) := dk_162 0 129 (dk_at dksX0_voyages_2 21 rfl rfl)
theorem dX0_voyages_70 : decode cX0_voyages 70 = .ok (.aload_n 0, 1) := dk_42 (dk_at dksX0_voyages_3 0 rfl rfl)
theorem dX0_voyages_71 : decode cX0_voyages 71 = .ok (.getfield 39, 3) := dk_180 0 39 (dk_at dksX0_voyages_3 1 rfl rfl)
theorem dX0_voyages_74 : decode cX0_voyages 74 = .ok (.iload_n 1, 1) := dk_27 (dk_at dksX0_voyages_3 4 rfl rfl)
theorem dX0_voyages_75 : decode cX0_voyages 75 = .ok (.iload 6, 2) := dk_21 6 (dk_at dksX0_voyages_3 5 rfl rfl)
theorem dX0_voyages_77 : decode cX0_voyages 77 = .ok (.aload_n 0, 1) := dk_42 (dk_at dksX0_voyages_3 7 rfl rfl)
theorem dX0_voyages_78 : decode cX0_voyages 78 = .ok (.getfield 39, 3) := dk_180 0 39 (dk_at dksX0_voyages_3 8 rfl rfl)
theorem dX0_voyages_81 : decode cX0_voyages 81 = .ok (.getfield 278, 3) := dk_180 1 22 (dk_at dksX0_voyages_3 11 rfl rfl)
theorem dX0_voyages_84 : decode cX0_voyages 84 = .ok (.iload 6, 2) := dk_21 6 (dk_at dksX0_voyages_3 14 rfl rfl)
theorem dX0_voyages_86 : decode cX0_voyages 86 = .ok (.iaload, 1) := dk_46 (dk_at dksX0_voyages_3 16 rfl rfl)
theorem dX0_voyages_87 : decode cX0_voyages 87 = .ok (.invokevirtual 177, 3) := dk_182 0 177 (dk_at dksX0_voyages_3 17 rfl rfl)
theorem dX0_voyages_90 : decode cX0_voyages 90 = .ok (.ldc 181, 2) := dk_18 181 (dk_at dksX0_voyages_3 20 rfl rfl)
theorem dX0_voyages_92 : decode cX0_voyages 92 = .ok (.if_icmp .eq 7, 3) := dk_159 0 7 (dk_at dksX0_voyages_4 0 rfl rfl)
theorem dX0_voyages_95 : decode cX0_voyages 95 = .ok (.iconst 1, 1) := dk_4 (dk_at dksX0_voyages_4 3 rfl rfl)
theorem dX0_voyages_96 : decode cX0_voyages 96 = .ok (.goto 4, 3) := dk_167 0 4 (dk_at dksX0_voyages_4 4 rfl rfl)
theorem dX0_voyages_99 : decode cX0_voyages 99 = .ok (.iconst 0, 1) := dk_3 (dk_at dksX0_voyages_4 7 rfl rfl)
theorem dX0_voyages_100 : decode cX0_voyages 100 = .ok (.istore 7, 2) := dk_54 7 (dk_at dksX0_voyages_4 8 rfl rfl)
theorem dX0_voyages_102 : decode cX0_voyages 102 = .ok (.iload 5, 2) := dk_21 5 (dk_at dksX0_voyages_4 10 rfl rfl)
theorem dX0_voyages_104 : decode cX0_voyages 104 = .ok (.iload 7, 2) := dk_21 7 (dk_at dksX0_voyages_4 12 rfl rfl)
theorem dX0_voyages_106 : decode cX0_voyages 106 = .ok (.ifCond .eq 36, 3) := dk_153 0 36 (dk_at dksX0_voyages_4 14 rfl rfl)
theorem dX0_voyages_109 : decode cX0_voyages 109 = .ok (.iload_n 3, 1) := dk_29 (dk_at dksX0_voyages_4 17 rfl rfl)
theorem dX0_voyages_110 : decode cX0_voyages 110 = .ok (.aload_n 0, 1) := dk_42 (dk_at dksX0_voyages_4 18 rfl rfl)
theorem dX0_voyages_111 : decode cX0_voyages 111 = .ok (.getfield 39, 3) := dk_180 0 39 (dk_at dksX0_voyages_4 19 rfl rfl)
theorem dX0_voyages_114 : decode cX0_voyages 114 = .ok (.getfield 278, 3) := dk_180 1 22 (dk_at dksX0_voyages_5 0 rfl rfl)
theorem dX0_voyages_117 : decode cX0_voyages 117 = .ok (.iload 6, 2) := dk_21 6 (dk_at dksX0_voyages_5 3 rfl rfl)
theorem dX0_voyages_119 : decode cX0_voyages 119 = .ok (.iaload, 1) := dk_46 (dk_at dksX0_voyages_5 5 rfl rfl)
theorem dX0_voyages_120 : decode cX0_voyages 120 = .ok (.ishr, 1) := dk_122 (dk_at dksX0_voyages_5 6 rfl rfl)
theorem dX0_voyages_121 : decode cX0_voyages 121 = .ok (.iconst 1, 1) := dk_4 (dk_at dksX0_voyages_5 7 rfl rfl)
theorem dX0_voyages_122 : decode cX0_voyages 122 = .ok (.iand, 1) := dk_126 (dk_at dksX0_voyages_5 8 rfl rfl)
theorem dX0_voyages_123 : decode cX0_voyages 123 = .ok (.iconst 1, 1) := dk_4 (dk_at dksX0_voyages_5 9 rfl rfl)
theorem dX0_voyages_124 : decode cX0_voyages 124 = .ok (.if_icmp .ne 18, 3) := dk_160 0 18 (dk_at dksX0_voyages_5 10 rfl rfl)
theorem dX0_voyages_127 : decode cX0_voyages 127 = .ok (.iconst 1, 1) := dk_4 (dk_at dksX0_voyages_5 13 rfl rfl)
theorem dX0_voyages_128 : decode cX0_voyages 128 = .ok (.aload_n 0, 1) := dk_42 (dk_at dksX0_voyages_5 14 rfl rfl)
theorem dX0_voyages_129 : decode cX0_voyages 129 = .ok (.getfield 39, 3) := dk_180 0 39 (dk_at dksX0_voyages_5 15 rfl rfl)
theorem dX0_voyages_132 : decode cX0_voyages 132 = .ok (.getfield 281, 3) := dk_180 1 25 (dk_at dksX0_voyages_5 18 rfl rfl)
theorem dX0_voyages_135 : decode cX0_voyages 135 = .ok (.iload 6, 2) := dk_21 6 (dk_at dksX0_voyages_5 21 rfl rfl)
theorem dX0_voyages_137 : decode cX0_voyages 137 = .ok (.iaload, 1) := dk_46 (dk_at dksX0_voyages_5 23 rfl rfl)
theorem dX0_voyages_138 : decode cX0_voyages 138 = .ok (.ishl, 1) := dk_120 (dk_at dksX0_voyages_6 0 rfl rfl)
theorem dX0_voyages_139 : decode cX0_voyages 139 = .ok (.goto 4, 3) := dk_167 0 4 (dk_at dksX0_voyages_6 1 rfl rfl)
theorem dX0_voyages_142 : decode cX0_voyages 142 = .ok (.iconst 0, 1) := dk_3 (dk_at dksX0_voyages_6 4 rfl rfl)
theorem dX0_voyages_143 : decode cX0_voyages 143 = .ok (.ior, 1) := dk_128 (dk_at dksX0_voyages_6 5 rfl rfl)
theorem dX0_voyages_144 : decode cX0_voyages 144 = .ok (.istore 5, 2) := dk_54 5 (dk_at dksX0_voyages_6 6 rfl rfl)
theorem dX0_voyages_146 : decode cX0_voyages 146 = .ok (.iload 5, 2) := dk_21 5 (dk_at dksX0_voyages_6 8 rfl rfl)
theorem dX0_voyages_148 : decode cX0_voyages 148 = .ok (.iload 7, 2) := dk_21 7 (dk_at dksX0_voyages_6 10 rfl rfl)
theorem dX0_voyages_150 : decode cX0_voyages 150 = .ok (.ifCond .eq 36, 3) := dk_153 0 36 (dk_at dksX0_voyages_6 12 rfl rfl)
theorem dX0_voyages_153 : decode cX0_voyages 153 = .ok (.iload_n 3, 1) := dk_29 (dk_at dksX0_voyages_6 15 rfl rfl)
theorem dX0_voyages_154 : decode cX0_voyages 154 = .ok (.aload_n 0, 1) := dk_42 (dk_at dksX0_voyages_6 16 rfl rfl)
theorem dX0_voyages_155 : decode cX0_voyages 155 = .ok (.getfield 39, 3) := dk_180 0 39 (dk_at dksX0_voyages_6 17 rfl rfl)
theorem dX0_voyages_158 : decode cX0_voyages 158 = .ok (.getfield 281, 3) := dk_180 1 25 (dk_at dksX0_voyages_6 20 rfl rfl)
theorem dX0_voyages_161 : decode cX0_voyages 161 = .ok (.iload 6, 2) := dk_21 6 (dk_at dksX0_voyages_7 0 rfl rfl)
theorem dX0_voyages_163 : decode cX0_voyages 163 = .ok (.iaload, 1) := dk_46 (dk_at dksX0_voyages_7 2 rfl rfl)
theorem dX0_voyages_164 : decode cX0_voyages 164 = .ok (.ishr, 1) := dk_122 (dk_at dksX0_voyages_7 3 rfl rfl)
theorem dX0_voyages_165 : decode cX0_voyages 165 = .ok (.iconst 1, 1) := dk_4 (dk_at dksX0_voyages_7 4 rfl rfl)
theorem dX0_voyages_166 : decode cX0_voyages 166 = .ok (.iand, 1) := dk_126 (dk_at dksX0_voyages_7 5 rfl rfl)
theorem dX0_voyages_167 : decode cX0_voyages 167 = .ok (.iconst 1, 1) := dk_4 (dk_at dksX0_voyages_7 6 rfl rfl)
theorem dX0_voyages_168 : decode cX0_voyages 168 = .ok (.if_icmp .ne 18, 3) := dk_160 0 18 (dk_at dksX0_voyages_7 7 rfl rfl)
theorem dX0_voyages_171 : decode cX0_voyages 171 = .ok (.iconst 1, 1) := dk_4 (dk_at dksX0_voyages_7 10 rfl rfl)
theorem dX0_voyages_172 : decode cX0_voyages 172 = .ok (.aload_n 0, 1) := dk_42 (dk_at dksX0_voyages_7 11 rfl rfl)
theorem dX0_voyages_173 : decode cX0_voyages 173 = .ok (.getfield 39, 3) := dk_180 0 39 (dk_at dksX0_voyages_7 12 rfl rfl)
theorem dX0_voyages_176 : decode cX0_voyages 176 = .ok (.getfield 278, 3) := dk_180 1 22 (dk_at dksX0_voyages_7 15 rfl rfl)
theorem dX0_voyages_179 : decode cX0_voyages 179 = .ok (.iload 6, 2) := dk_21 6 (dk_at dksX0_voyages_7 18 rfl rfl)
theorem dX0_voyages_181 : decode cX0_voyages 181 = .ok (.iaload, 1) := dk_46 (dk_at dksX0_voyages_7 20 rfl rfl)
theorem dX0_voyages_182 : decode cX0_voyages 182 = .ok (.ishl, 1) := dk_120 (dk_at dksX0_voyages_7 21 rfl rfl)
theorem dX0_voyages_183 : decode cX0_voyages 183 = .ok (.goto 4, 3) := dk_167 0 4 (dk_at dksX0_voyages_8 0 rfl rfl)
theorem dX0_voyages_186 : decode cX0_voyages 186 = .ok (.iconst 0, 1) := dk_3 (dk_at dksX0_voyages_8 3 rfl rfl)
theorem dX0_voyages_187 : decode cX0_voyages 187 = .ok (.ior, 1) := dk_128 (dk_at dksX0_voyages_8 4 rfl rfl)
theorem dX0_voyages_188 : decode cX0_voyages 188 = .ok (.istore 5, 2) := dk_54 5 (dk_at dksX0_voyages_8 5 rfl rfl)
theorem dX0_voyages_190 : decode cX0_voyages 190 = .ok (.iinc 6 1, 3) := dk_132 6 1 (dk_at dksX0_voyages_8 7 rfl rfl)
theorem dX0_voyages_193 : decode cX0_voyages 193 = .ok (.goto (-135), 3) := dk_167 255 121 (dk_at dksX0_voyages_8 10 rfl rfl)
theorem dX0_voyages_196 : decode cX0_voyages 196 = .ok (.iload 5, 2) := dk_21 5 (dk_at dksX0_voyages_8 13 rfl rfl)
theorem dX0_voyages_198 : decode cX0_voyages 198 = .ok (.istore_n 3, 1) := dk_62 (dk_at dksX0_voyages_8 15 rfl rfl)
theorem dX0_voyages_199 : decode cX0_voyages 199 = .ok (.iinc 4 1, 3) := dk_132 4 1 (dk_at dksX0_voyages_8 16 rfl rfl)
theorem dX0_voyages_202 : decode cX0_voyages 202 = .ok (.goto (-168), 3) := dk_167 255 88 (dk_at dksX0_voyages_8 19 rfl rfl)
theorem dX0_voyages_205 : decode cX0_voyages 205 = .ok (.ldc 181, 2) := dk_18 181 (dk_at dksX0_voyages_8 22 rfl rfl)
theorem dX0_voyages_207 : decode cX0_voyages 207 = .ok (.ireturn, 1) := dk_172 (dk_at dksX0_voyages_9 0 rfl rfl)
abbrev cX0_even : ByteArray := prog_1_method_38_code
def yX0_even : MethodName := ⟨RX0, "even", "(III)I"⟩
def dkwX0_even_8 : List UInt8 := [153, 0, 6, 21, 4, 172, 132, 4, 1, 167, 255, 121, 18, 181, 172]
abbrev dktX0_even_8 : List UInt8 := dkwX0_even_8 ++ []
def dkwX0_even_7 : List UInt8 := [167, 0, 5, 22, 6, 21, 5, 156, 0, 12, 22, 8, 21, 5, 116, 123, 167, 0, 5, 22, 8, 127, 9, 148]
abbrev dktX0_even_7 : List UInt8 := dkwX0_even_7 ++ dktX0_even_8
def dkwX0_even_6 : List UInt8 := [42, 180, 0, 61, 28, 29, 21, 4, 182, 1, 41, 55, 8, 21, 5, 155, 0, 11, 22, 6, 21, 5, 123]
abbrev dktX0_even_6 : List UInt8 := dkwX0_even_6 ++ dktX0_even_7
def dkwX0_even_5 : List UInt8 := [184, 0, 79, 154, 0, 6, 167, 0, 71, 42, 42, 180, 0, 57, 27, 29, 21, 4, 182, 1, 41, 55, 6, 42]
abbrev dktX0_even_5 : List UInt8 := dkwX0_even_5 ++ dktX0_even_6
def dkwX0_even_4 : List UInt8 := [182, 1, 36, 42, 28, 21, 4, 182, 1, 36, 100, 54, 5, 21, 5, 133, 20, 1, 39, 20, 1, 4]
abbrev dktX0_even_4 : List UInt8 := dkwX0_even_4 ++ dktX0_even_5
def dkwX0_even_3 : List UInt8 := [46, 42, 180, 0, 39, 180, 0, 182, 28, 46, 184, 1, 33, 16, 40, 96, 163, 0, 112, 42, 27, 21, 4]
abbrev dktX0_even_3 : List UInt8 := dkwX0_even_3 ++ dktX0_even_4
def dkwX0_even_2 : List UInt8 := [42, 180, 0, 39, 180, 0, 182, 28, 46, 184, 1, 28, 54, 4, 21, 4, 42, 180, 0, 39, 180, 0, 182, 27]
abbrev dktX0_even_2 : List UInt8 := dkwX0_even_2 ++ dktX0_even_3
def dkwX0_even_1 : List UInt8 := [180, 0, 57, 182, 1, 6, 42, 28, 42, 180, 0, 61, 182, 1, 6, 42, 180, 0, 39, 180, 0, 182, 27, 46]
abbrev dktX0_even_1 : List UInt8 := dkwX0_even_1 ++ dktX0_even_2
def dkwX0_even_0 : List UInt8 := [42, 27, 28, 182, 0, 219, 153, 0, 11, 42, 29, 182, 1, 1, 154, 0, 6, 18, 93, 172, 42, 27, 42]
abbrev dktX0_even_0 : List UInt8 := dkwX0_even_0 ++ dktX0_even_1
theorem dksX0_even_0 : cX0_even.data.toList.drop 0 = dktX0_even_0 := by decide +kernel
theorem dksX0_even_1 : cX0_even.data.toList.drop 23 = dktX0_even_1 := dk_seg dksX0_even_0 23 rfl rfl
theorem dksX0_even_2 : cX0_even.data.toList.drop 47 = dktX0_even_2 := dk_seg dksX0_even_1 24 rfl rfl
theorem dksX0_even_3 : cX0_even.data.toList.drop 71 = dktX0_even_3 := dk_seg dksX0_even_2 24 rfl rfl
theorem dksX0_even_4 : cX0_even.data.toList.drop 94 = dktX0_even_4 := dk_seg dksX0_even_3 23 rfl rfl
theorem dksX0_even_5 : cX0_even.data.toList.drop 116 = dktX0_even_5 := dk_seg dksX0_even_4 22 rfl rfl
theorem dksX0_even_6 : cX0_even.data.toList.drop 140 = dktX0_even_6 := dk_seg dksX0_even_5 24 rfl rfl
theorem dksX0_even_7 : cX0_even.data.toList.drop 163 = dktX0_even_7 := dk_seg dksX0_even_6 23 rfl rfl
theorem dksX0_even_8 : cX0_even.data.toList.drop 187 = dktX0_even_8 := dk_seg dksX0_even_7 24 rfl rfl
theorem dX0_even_0 : decode cX0_even 0 = .ok (.aload_n 0, 1) := dk_42 (dk_at dksX0_even_0 0 rfl rfl)
theorem dX0_even_1 : decode cX0_even 1 = .ok (.iload_n 1, 1) := dk_27 (dk_at dksX0_even_0 1 rfl rfl)
theorem dX0_even_2 : decode cX0_even 2 = .ok (.iload_n 2, 1) := dk_28 (dk_at dksX0_even_0 2 rfl rfl)
theorem dX0_even_3 : decode cX0_even 3 = .ok (.invokevirtual 219, 3) := dk_182 0 219 (dk_at dksX0_even_0 3 rfl rfl)
theorem dX0_even_6 : decode cX0_even 6 = .ok (.ifCond .eq 11, 3) := dk_153 0 11 (dk_at dksX0_even_0 6 rfl rfl)
theorem dX0_even_9 : decode cX0_even 9 = .ok (.aload_n 0, 1) := dk_42 (dk_at dksX0_even_0 9 rfl rfl)
theorem dX0_even_10 : decode cX0_even 10 = .ok (.iload_n 3, 1) := dk_29 (dk_at dksX0_even_0 10 rfl rfl)
theorem dX0_even_11 : decode cX0_even 11 = .ok (.invokevirtual 257, 3) := dk_182 1 1 (dk_at dksX0_even_0 11 rfl rfl)
theorem dX0_even_14 : decode cX0_even 14 = .ok (.ifCond .ne 6, 3) := dk_154 0 6 (dk_at dksX0_even_0 14 rfl rfl)
theorem dX0_even_17 : decode cX0_even 17 = .ok (.ldc 93, 2) := dk_18 93 (dk_at dksX0_even_0 17 rfl rfl)
theorem dX0_even_19 : decode cX0_even 19 = .ok (.ireturn, 1) := dk_172 (dk_at dksX0_even_0 19 rfl rfl)
theorem dX0_even_20 : decode cX0_even 20 = .ok (.aload_n 0, 1) := dk_42 (dk_at dksX0_even_0 20 rfl rfl)
theorem dX0_even_21 : decode cX0_even 21 = .ok (.iload_n 1, 1) := dk_27 (dk_at dksX0_even_0 21 rfl rfl)
theorem dX0_even_22 : decode cX0_even 22 = .ok (.aload_n 0, 1) := dk_42 (dk_at dksX0_even_0 22 rfl rfl)
theorem dX0_even_23 : decode cX0_even 23 = .ok (.getfield 57, 3) := dk_180 0 57 (dk_at dksX0_even_1 0 rfl rfl)
theorem dX0_even_26 : decode cX0_even 26 = .ok (.invokevirtual 262, 3) := dk_182 1 6 (dk_at dksX0_even_1 3 rfl rfl)
theorem dX0_even_29 : decode cX0_even 29 = .ok (.aload_n 0, 1) := dk_42 (dk_at dksX0_even_1 6 rfl rfl)
theorem dX0_even_30 : decode cX0_even 30 = .ok (.iload_n 2, 1) := dk_28 (dk_at dksX0_even_1 7 rfl rfl)
theorem dX0_even_31 : decode cX0_even 31 = .ok (.aload_n 0, 1) := dk_42 (dk_at dksX0_even_1 8 rfl rfl)
theorem dX0_even_32 : decode cX0_even 32 = .ok (.getfield 61, 3) := dk_180 0 61 (dk_at dksX0_even_1 9 rfl rfl)
theorem dX0_even_35 : decode cX0_even 35 = .ok (.invokevirtual 262, 3) := dk_182 1 6 (dk_at dksX0_even_1 12 rfl rfl)
theorem dX0_even_38 : decode cX0_even 38 = .ok (.aload_n 0, 1) := dk_42 (dk_at dksX0_even_1 15 rfl rfl)
theorem dX0_even_39 : decode cX0_even 39 = .ok (.getfield 39, 3) := dk_180 0 39 (dk_at dksX0_even_1 16 rfl rfl)
theorem dX0_even_42 : decode cX0_even 42 = .ok (.getfield 182, 3) := dk_180 0 182 (dk_at dksX0_even_1 19 rfl rfl)
theorem dX0_even_45 : decode cX0_even 45 = .ok (.iload_n 1, 1) := dk_27 (dk_at dksX0_even_1 22 rfl rfl)
theorem dX0_even_46 : decode cX0_even 46 = .ok (.iaload, 1) := dk_46 (dk_at dksX0_even_1 23 rfl rfl)
theorem dX0_even_47 : decode cX0_even 47 = .ok (.aload_n 0, 1) := dk_42 (dk_at dksX0_even_2 0 rfl rfl)
theorem dX0_even_48 : decode cX0_even 48 = .ok (.getfield 39, 3) := dk_180 0 39 (dk_at dksX0_even_2 1 rfl rfl)
theorem dX0_even_51 : decode cX0_even 51 = .ok (.getfield 182, 3) := dk_180 0 182 (dk_at dksX0_even_2 4 rfl rfl)
theorem dX0_even_54 : decode cX0_even 54 = .ok (.iload_n 2, 1) := dk_28 (dk_at dksX0_even_2 7 rfl rfl)
theorem dX0_even_55 : decode cX0_even 55 = .ok (.iaload, 1) := dk_46 (dk_at dksX0_even_2 8 rfl rfl)
theorem dX0_even_56 : decode cX0_even 56 = .ok (.invokestatic 284, 3) := dk_184 1 28 (dk_at dksX0_even_2 9 rfl rfl)
theorem dX0_even_59 : decode cX0_even 59 = .ok (.istore 4, 2) := dk_54 4 (dk_at dksX0_even_2 12 rfl rfl)
theorem dX0_even_61 : decode cX0_even 61 = .ok (.iload 4, 2) := dk_21 4 (dk_at dksX0_even_2 14 rfl rfl)
theorem dX0_even_63 : decode cX0_even 63 = .ok (.aload_n 0, 1) := dk_42 (dk_at dksX0_even_2 16 rfl rfl)
theorem dX0_even_64 : decode cX0_even 64 = .ok (.getfield 39, 3) := dk_180 0 39 (dk_at dksX0_even_2 17 rfl rfl)
theorem dX0_even_67 : decode cX0_even 67 = .ok (.getfield 182, 3) := dk_180 0 182 (dk_at dksX0_even_2 20 rfl rfl)
theorem dX0_even_70 : decode cX0_even 70 = .ok (.iload_n 1, 1) := dk_27 (dk_at dksX0_even_2 23 rfl rfl)
theorem dX0_even_71 : decode cX0_even 71 = .ok (.iaload, 1) := dk_46 (dk_at dksX0_even_3 0 rfl rfl)
theorem dX0_even_72 : decode cX0_even 72 = .ok (.aload_n 0, 1) := dk_42 (dk_at dksX0_even_3 1 rfl rfl)
theorem dX0_even_73 : decode cX0_even 73 = .ok (.getfield 39, 3) := dk_180 0 39 (dk_at dksX0_even_3 2 rfl rfl)
theorem dX0_even_76 : decode cX0_even 76 = .ok (.getfield 182, 3) := dk_180 0 182 (dk_at dksX0_even_3 5 rfl rfl)
theorem dX0_even_79 : decode cX0_even 79 = .ok (.iload_n 2, 1) := dk_28 (dk_at dksX0_even_3 8 rfl rfl)
theorem dX0_even_80 : decode cX0_even 80 = .ok (.iaload, 1) := dk_46 (dk_at dksX0_even_3 9 rfl rfl)
theorem dX0_even_81 : decode cX0_even 81 = .ok (.invokestatic 289, 3) := dk_184 1 33 (dk_at dksX0_even_3 10 rfl rfl)
theorem dX0_even_84 : decode cX0_even 84 = .ok (.bipush 40, 2) := dk_16 40 (dk_at dksX0_even_3 13 rfl rfl)
theorem dX0_even_86 : decode cX0_even 86 = .ok (.iadd, 1) := dk_96 (dk_at dksX0_even_3 15 rfl rfl)
theorem dX0_even_87 : decode cX0_even 87 = .ok (.if_icmp .gt 112, 3) := dk_163 0 112 (dk_at dksX0_even_3 16 rfl rfl)
theorem dX0_even_90 : decode cX0_even 90 = .ok (.aload_n 0, 1) := dk_42 (dk_at dksX0_even_3 19 rfl rfl)
theorem dX0_even_91 : decode cX0_even 91 = .ok (.iload_n 1, 1) := dk_27 (dk_at dksX0_even_3 20 rfl rfl)
theorem dX0_even_92 : decode cX0_even 92 = .ok (.iload 4, 2) := dk_21 4 (dk_at dksX0_even_3 21 rfl rfl)
theorem dX0_even_94 : decode cX0_even 94 = .ok (.invokevirtual 292, 3) := dk_182 1 36 (dk_at dksX0_even_4 0 rfl rfl)
theorem dX0_even_97 : decode cX0_even 97 = .ok (.aload_n 0, 1) := dk_42 (dk_at dksX0_even_4 3 rfl rfl)
theorem dX0_even_98 : decode cX0_even 98 = .ok (.iload_n 2, 1) := dk_28 (dk_at dksX0_even_4 4 rfl rfl)
theorem dX0_even_99 : decode cX0_even 99 = .ok (.iload 4, 2) := dk_21 4 (dk_at dksX0_even_4 5 rfl rfl)
theorem dX0_even_101 : decode cX0_even 101 = .ok (.invokevirtual 292, 3) := dk_182 1 36 (dk_at dksX0_even_4 7 rfl rfl)
theorem dX0_even_104 : decode cX0_even 104 = .ok (.isub, 1) := dk_100 (dk_at dksX0_even_4 10 rfl rfl)
theorem dX0_even_105 : decode cX0_even 105 = .ok (.istore 5, 2) := dk_54 5 (dk_at dksX0_even_4 11 rfl rfl)
theorem dX0_even_107 : decode cX0_even 107 = .ok (.iload 5, 2) := dk_21 5 (dk_at dksX0_even_4 13 rfl rfl)
theorem dX0_even_109 : decode cX0_even 109 = .ok (.i2l, 1) := dk_133 (dk_at dksX0_even_4 15 rfl rfl)
theorem dX0_even_110 : decode cX0_even 110 = .ok (.ldc2_w 295, 3) := dk_20 1 39 (dk_at dksX0_even_4 16 rfl rfl)
theorem dX0_even_113 : decode cX0_even 113 = .ok (.ldc2_w 260, 3) := dk_20 1 4 (dk_at dksX0_even_4 19 rfl rfl)
theorem dX0_even_116 : decode cX0_even 116 = .ok (.invokestatic 79, 3) := dk_184 0 79 (dk_at dksX0_even_5 0 rfl rfl)
theorem dX0_even_119 : decode cX0_even 119 = .ok (.ifCond .ne 6, 3) := dk_154 0 6 (dk_at dksX0_even_5 3 rfl rfl)
theorem dX0_even_122 : decode cX0_even 122 = .ok (.goto 71, 3) := dk_167 0 71 (dk_at dksX0_even_5 6 rfl rfl)
theorem dX0_even_125 : decode cX0_even 125 = .ok (.aload_n 0, 1) := dk_42 (dk_at dksX0_even_5 9 rfl rfl)
theorem dX0_even_126 : decode cX0_even 126 = .ok (.aload_n 0, 1) := dk_42 (dk_at dksX0_even_5 10 rfl rfl)
theorem dX0_even_127 : decode cX0_even 127 = .ok (.getfield 57, 3) := dk_180 0 57 (dk_at dksX0_even_5 11 rfl rfl)
theorem dX0_even_130 : decode cX0_even 130 = .ok (.iload_n 1, 1) := dk_27 (dk_at dksX0_even_5 14 rfl rfl)
theorem dX0_even_131 : decode cX0_even 131 = .ok (.iload_n 3, 1) := dk_29 (dk_at dksX0_even_5 15 rfl rfl)
theorem dX0_even_132 : decode cX0_even 132 = .ok (.iload 4, 2) := dk_21 4 (dk_at dksX0_even_5 16 rfl rfl)
theorem dX0_even_134 : decode cX0_even 134 = .ok (.invokevirtual 297, 3) := dk_182 1 41 (dk_at dksX0_even_5 18 rfl rfl)
theorem dX0_even_137 : decode cX0_even 137 = .ok (.lstore 6, 2) := dk_55 6 (dk_at dksX0_even_5 21 rfl rfl)
theorem dX0_even_139 : decode cX0_even 139 = .ok (.aload_n 0, 1) := dk_42 (dk_at dksX0_even_5 23 rfl rfl)
theorem dX0_even_140 : decode cX0_even 140 = .ok (.aload_n 0, 1) := dk_42 (dk_at dksX0_even_6 0 rfl rfl)
theorem dX0_even_141 : decode cX0_even 141 = .ok (.getfield 61, 3) := dk_180 0 61 (dk_at dksX0_even_6 1 rfl rfl)
theorem dX0_even_144 : decode cX0_even 144 = .ok (.iload_n 2, 1) := dk_28 (dk_at dksX0_even_6 4 rfl rfl)
theorem dX0_even_145 : decode cX0_even 145 = .ok (.iload_n 3, 1) := dk_29 (dk_at dksX0_even_6 5 rfl rfl)
theorem dX0_even_146 : decode cX0_even 146 = .ok (.iload 4, 2) := dk_21 4 (dk_at dksX0_even_6 6 rfl rfl)
theorem dX0_even_148 : decode cX0_even 148 = .ok (.invokevirtual 297, 3) := dk_182 1 41 (dk_at dksX0_even_6 8 rfl rfl)
theorem dX0_even_151 : decode cX0_even 151 = .ok (.lstore 8, 2) := dk_55 8 (dk_at dksX0_even_6 11 rfl rfl)
theorem dX0_even_153 : decode cX0_even 153 = .ok (.iload 5, 2) := dk_21 5 (dk_at dksX0_even_6 13 rfl rfl)
theorem dX0_even_155 : decode cX0_even 155 = .ok (.ifCond .lt 11, 3) := dk_155 0 11 (dk_at dksX0_even_6 15 rfl rfl)
theorem dX0_even_158 : decode cX0_even 158 = .ok (.lload 6, 2) := dk_22 6 (dk_at dksX0_even_6 18 rfl rfl)
theorem dX0_even_160 : decode cX0_even 160 = .ok (.iload 5, 2) := dk_21 5 (dk_at dksX0_even_6 20 rfl rfl)
theorem dX0_even_162 : decode cX0_even 162 = .ok (.lshr, 1) := dk_123 (dk_at dksX0_even_6 22 rfl rfl)
theorem dX0_even_163 : decode cX0_even 163 = .ok (.goto 5, 3) := dk_167 0 5 (dk_at dksX0_even_7 0 rfl rfl)
theorem dX0_even_166 : decode cX0_even 166 = .ok (.lload 6, 2) := dk_22 6 (dk_at dksX0_even_7 3 rfl rfl)
theorem dX0_even_168 : decode cX0_even 168 = .ok (.iload 5, 2) := dk_21 5 (dk_at dksX0_even_7 5 rfl rfl)
theorem dX0_even_170 : decode cX0_even 170 = .ok (.ifCond .ge 12, 3) := dk_156 0 12 (dk_at dksX0_even_7 7 rfl rfl)
theorem dX0_even_173 : decode cX0_even 173 = .ok (.lload 8, 2) := dk_22 8 (dk_at dksX0_even_7 10 rfl rfl)
theorem dX0_even_175 : decode cX0_even 175 = .ok (.iload 5, 2) := dk_21 5 (dk_at dksX0_even_7 12 rfl rfl)
theorem dX0_even_177 : decode cX0_even 177 = .ok (.ineg, 1) := dk_116 (dk_at dksX0_even_7 14 rfl rfl)
theorem dX0_even_178 : decode cX0_even 178 = .ok (.lshr, 1) := dk_123 (dk_at dksX0_even_7 15 rfl rfl)
theorem dX0_even_179 : decode cX0_even 179 = .ok (.goto 5, 3) := dk_167 0 5 (dk_at dksX0_even_7 16 rfl rfl)
theorem dX0_even_182 : decode cX0_even 182 = .ok (.lload 8, 2) := dk_22 8 (dk_at dksX0_even_7 19 rfl rfl)
theorem dX0_even_184 : decode cX0_even 184 = .ok (.land, 1) := dk_127 (dk_at dksX0_even_7 21 rfl rfl)
theorem dX0_even_185 : decode cX0_even 185 = .ok (.lconst 0, 1) := dk_9 (dk_at dksX0_even_7 22 rfl rfl)
theorem dX0_even_186 : decode cX0_even 186 = .ok (.lcmp, 1) := dk_148 (dk_at dksX0_even_7 23 rfl rfl)
theorem dX0_even_187 : decode cX0_even 187 = .ok (.ifCond .eq 6, 3) := dk_153 0 6 (dk_at dksX0_even_8 0 rfl rfl)
theorem dX0_even_190 : decode cX0_even 190 = .ok (.iload 4, 2) := dk_21 4 (dk_at dksX0_even_8 3 rfl rfl)
theorem dX0_even_192 : decode cX0_even 192 = .ok (.ireturn, 1) := dk_172 (dk_at dksX0_even_8 5 rfl rfl)
theorem dX0_even_193 : decode cX0_even 193 = .ok (.iinc 4 1, 3) := dk_132 4 1 (dk_at dksX0_even_8 6 rfl rfl)
theorem dX0_even_196 : decode cX0_even 196 = .ok (.goto (-135), 3) := dk_167 255 121 (dk_at dksX0_even_8 9 rfl rfl)
theorem dX0_even_199 : decode cX0_even 199 = .ok (.ldc 181, 2) := dk_18 181 (dk_at dksX0_even_8 12 rfl rfl)
theorem dX0_even_201 : decode cX0_even 201 = .ok (.ireturn, 1) := dk_172 (dk_at dksX0_even_8 14 rfl rfl)
abbrev cX0_ageAt : ByteArray := prog_1_method_37_code
def yX0_ageAt : MethodName := ⟨RX0, "ageAt", "(II)I"⟩
def dkwX0_ageAt_0 : List UInt8 := [42, 180, 0, 39, 180, 0, 216, 27, 46, 28, 96, 42, 180, 0, 39, 180, 0, 182, 27, 46, 100, 172]
abbrev dktX0_ageAt_0 : List UInt8 := dkwX0_ageAt_0 ++ []
theorem dksX0_ageAt_0 : cX0_ageAt.data.toList.drop 0 = dktX0_ageAt_0 := by decide +kernel
theorem dX0_ageAt_0 : decode cX0_ageAt 0 = .ok (.aload_n 0, 1) := dk_42 (dk_at dksX0_ageAt_0 0 rfl rfl)
theorem dX0_ageAt_1 : decode cX0_ageAt 1 = .ok (.getfield 39, 3) := dk_180 0 39 (dk_at dksX0_ageAt_0 1 rfl rfl)
theorem dX0_ageAt_4 : decode cX0_ageAt 4 = .ok (.getfield 216, 3) := dk_180 0 216 (dk_at dksX0_ageAt_0 4 rfl rfl)
theorem dX0_ageAt_7 : decode cX0_ageAt 7 = .ok (.iload_n 1, 1) := dk_27 (dk_at dksX0_ageAt_0 7 rfl rfl)
theorem dX0_ageAt_8 : decode cX0_ageAt 8 = .ok (.iaload, 1) := dk_46 (dk_at dksX0_ageAt_0 8 rfl rfl)
theorem dX0_ageAt_9 : decode cX0_ageAt 9 = .ok (.iload_n 2, 1) := dk_28 (dk_at dksX0_ageAt_0 9 rfl rfl)
theorem dX0_ageAt_10 : decode cX0_ageAt 10 = .ok (.iadd, 1) := dk_96 (dk_at dksX0_ageAt_0 10 rfl rfl)
theorem dX0_ageAt_11 : decode cX0_ageAt 11 = .ok (.aload_n 0, 1) := dk_42 (dk_at dksX0_ageAt_0 11 rfl rfl)
theorem dX0_ageAt_12 : decode cX0_ageAt 12 = .ok (.getfield 39, 3) := dk_180 0 39 (dk_at dksX0_ageAt_0 12 rfl rfl)
theorem dX0_ageAt_15 : decode cX0_ageAt 15 = .ok (.getfield 182, 3) := dk_180 0 182 (dk_at dksX0_ageAt_0 15 rfl rfl)
theorem dX0_ageAt_18 : decode cX0_ageAt 18 = .ok (.iload_n 1, 1) := dk_27 (dk_at dksX0_ageAt_0 18 rfl rfl)
theorem dX0_ageAt_19 : decode cX0_ageAt 19 = .ok (.iaload, 1) := dk_46 (dk_at dksX0_ageAt_0 19 rfl rfl)
theorem dX0_ageAt_20 : decode cX0_ageAt 20 = .ok (.isub, 1) := dk_100 (dk_at dksX0_ageAt_0 20 rfl rfl)
theorem dX0_ageAt_21 : decode cX0_ageAt 21 = .ok (.ireturn, 1) := dk_172 (dk_at dksX0_ageAt_0 21 rfl rfl)
abbrev cX0_gainsAt : ByteArray := prog_1_method_36_code
def yX0_gainsAt : MethodName := ⟨RX0, "gainsAt", "([JIII)J"⟩
def dkwX0_gainsAt_1 : List UInt8 := [153, 0, 14, 43, 8, 21, 5, 104, 29, 96, 47, 167, 0, 4, 9, 173]
abbrev dktX0_gainsAt_1 : List UInt8 := dkwX0_gainsAt_1 ++ []
def dkwX0_gainsAt_0 : List UInt8 := [21, 4, 42, 180, 0, 39, 180, 0, 182, 28, 46, 100, 54, 5, 21, 5, 133, 9, 20, 1, 4, 184, 0, 79]
abbrev dktX0_gainsAt_0 : List UInt8 := dkwX0_gainsAt_0 ++ dktX0_gainsAt_1
theorem dksX0_gainsAt_0 : cX0_gainsAt.data.toList.drop 0 = dktX0_gainsAt_0 := by decide +kernel
theorem dksX0_gainsAt_1 : cX0_gainsAt.data.toList.drop 24 = dktX0_gainsAt_1 := dk_seg dksX0_gainsAt_0 24 rfl rfl
theorem dX0_gainsAt_0 : decode cX0_gainsAt 0 = .ok (.iload 4, 2) := dk_21 4 (dk_at dksX0_gainsAt_0 0 rfl rfl)
theorem dX0_gainsAt_2 : decode cX0_gainsAt 2 = .ok (.aload_n 0, 1) := dk_42 (dk_at dksX0_gainsAt_0 2 rfl rfl)
theorem dX0_gainsAt_3 : decode cX0_gainsAt 3 = .ok (.getfield 39, 3) := dk_180 0 39 (dk_at dksX0_gainsAt_0 3 rfl rfl)
theorem dX0_gainsAt_6 : decode cX0_gainsAt 6 = .ok (.getfield 182, 3) := dk_180 0 182 (dk_at dksX0_gainsAt_0 6 rfl rfl)
theorem dX0_gainsAt_9 : decode cX0_gainsAt 9 = .ok (.iload_n 2, 1) := dk_28 (dk_at dksX0_gainsAt_0 9 rfl rfl)
theorem dX0_gainsAt_10 : decode cX0_gainsAt 10 = .ok (.iaload, 1) := dk_46 (dk_at dksX0_gainsAt_0 10 rfl rfl)
theorem dX0_gainsAt_11 : decode cX0_gainsAt 11 = .ok (.isub, 1) := dk_100 (dk_at dksX0_gainsAt_0 11 rfl rfl)
theorem dX0_gainsAt_12 : decode cX0_gainsAt 12 = .ok (.istore 5, 2) := dk_54 5 (dk_at dksX0_gainsAt_0 12 rfl rfl)
theorem dX0_gainsAt_14 : decode cX0_gainsAt 14 = .ok (.iload 5, 2) := dk_21 5 (dk_at dksX0_gainsAt_0 14 rfl rfl)
theorem dX0_gainsAt_16 : decode cX0_gainsAt 16 = .ok (.i2l, 1) := dk_133 (dk_at dksX0_gainsAt_0 16 rfl rfl)
theorem dX0_gainsAt_17 : decode cX0_gainsAt 17 = .ok (.lconst 0, 1) := dk_9 (dk_at dksX0_gainsAt_0 17 rfl rfl)
theorem dX0_gainsAt_18 : decode cX0_gainsAt 18 = .ok (.ldc2_w 260, 3) := dk_20 1 4 (dk_at dksX0_gainsAt_0 18 rfl rfl)
theorem dX0_gainsAt_21 : decode cX0_gainsAt 21 = .ok (.invokestatic 79, 3) := dk_184 0 79 (dk_at dksX0_gainsAt_0 21 rfl rfl)
theorem dX0_gainsAt_24 : decode cX0_gainsAt 24 = .ok (.ifCond .eq 14, 3) := dk_153 0 14 (dk_at dksX0_gainsAt_1 0 rfl rfl)
theorem dX0_gainsAt_27 : decode cX0_gainsAt 27 = .ok (.aload_n 1, 1) := dk_43 (dk_at dksX0_gainsAt_1 3 rfl rfl)
theorem dX0_gainsAt_28 : decode cX0_gainsAt 28 = .ok (.iconst 5, 1) := dk_8 (dk_at dksX0_gainsAt_1 4 rfl rfl)
theorem dX0_gainsAt_29 : decode cX0_gainsAt 29 = .ok (.iload 5, 2) := dk_21 5 (dk_at dksX0_gainsAt_1 5 rfl rfl)
theorem dX0_gainsAt_31 : decode cX0_gainsAt 31 = .ok (.imul, 1) := dk_104 (dk_at dksX0_gainsAt_1 7 rfl rfl)
theorem dX0_gainsAt_32 : decode cX0_gainsAt 32 = .ok (.iload_n 3, 1) := dk_29 (dk_at dksX0_gainsAt_1 8 rfl rfl)
theorem dX0_gainsAt_33 : decode cX0_gainsAt 33 = .ok (.iadd, 1) := dk_96 (dk_at dksX0_gainsAt_1 9 rfl rfl)
theorem dX0_gainsAt_34 : decode cX0_gainsAt 34 = .ok (.laload, 1) := dk_47 (dk_at dksX0_gainsAt_1 10 rfl rfl)
theorem dX0_gainsAt_35 : decode cX0_gainsAt 35 = .ok (.goto 4, 3) := dk_167 0 4 (dk_at dksX0_gainsAt_1 11 rfl rfl)
theorem dX0_gainsAt_38 : decode cX0_gainsAt 38 = .ok (.lconst 0, 1) := dk_9 (dk_at dksX0_gainsAt_1 14 rfl rfl)
theorem dX0_gainsAt_39 : decode cX0_gainsAt 39 = .ok (.lreturn, 1) := dk_173 (dk_at dksX0_gainsAt_1 15 rfl rfl)
abbrev cX0_where : ByteArray := prog_1_method_39_code
def yX0_where : MethodName := ⟨RX0, "where", "(III)I"⟩
def dkwX0_where_5 : List UInt8 := [128, 54, 5, 132, 6, 1, 167, 255, 193, 21, 5, 172]
abbrev dktX0_where_5 : List UInt8 := dkwX0_where_5 ++ []
def dkwX0_where_4 : List UInt8 := [21, 6, 28, 182, 1, 41, 21, 4, 123, 10, 127, 10, 148, 154, 0, 10, 4, 21, 6, 120, 167, 0, 4, 3]
abbrev dktX0_where_4 : List UInt8 := dkwX0_where_4 ++ dktX0_where_5
def dkwX0_where_3 : List UInt8 := [162, 0, 57, 21, 4, 133, 9, 20, 1, 4, 184, 0, 79, 153, 0, 44, 21, 5, 42, 42, 180, 0, 57, 27]
abbrev dktX0_where_3 : List UInt8 := dkwX0_where_3 ++ dktX0_where_4
def dkwX0_where_2 : List UInt8 := [182, 1, 36, 29, 100, 54, 4, 3, 54, 5, 3, 54, 6, 21, 6, 42, 180, 0, 39, 180, 0, 165]
abbrev dktX0_where_2 : List UInt8 := dkwX0_where_2 ++ dktX0_where_3
def dkwX0_where_1 : List UInt8 := [20, 1, 47, 184, 0, 79, 154, 0, 6, 18, 93, 172, 42, 27, 42, 180, 0, 57, 182, 1, 6, 42, 27, 28]
abbrev dktX0_where_1 : List UInt8 := dkwX0_where_1 ++ dktX0_where_2
def dkwX0_where_0 : List UInt8 := [42, 27, 182, 0, 168, 153, 0, 27, 28, 133, 9, 20, 1, 45, 184, 0, 79, 153, 0, 15, 29, 133, 9]
abbrev dktX0_where_0 : List UInt8 := dkwX0_where_0 ++ dktX0_where_1
theorem dksX0_where_0 : cX0_where.data.toList.drop 0 = dktX0_where_0 := by decide +kernel
theorem dksX0_where_1 : cX0_where.data.toList.drop 23 = dktX0_where_1 := dk_seg dksX0_where_0 23 rfl rfl
theorem dksX0_where_2 : cX0_where.data.toList.drop 47 = dktX0_where_2 := dk_seg dksX0_where_1 24 rfl rfl
theorem dksX0_where_3 : cX0_where.data.toList.drop 69 = dktX0_where_3 := dk_seg dksX0_where_2 22 rfl rfl
theorem dksX0_where_4 : cX0_where.data.toList.drop 93 = dktX0_where_4 := dk_seg dksX0_where_3 24 rfl rfl
theorem dksX0_where_5 : cX0_where.data.toList.drop 117 = dktX0_where_5 := dk_seg dksX0_where_4 24 rfl rfl
theorem dX0_where_0 : decode cX0_where 0 = .ok (.aload_n 0, 1) := dk_42 (dk_at dksX0_where_0 0 rfl rfl)
theorem dX0_where_1 : decode cX0_where 1 = .ok (.iload_n 1, 1) := dk_27 (dk_at dksX0_where_0 1 rfl rfl)
theorem dX0_where_2 : decode cX0_where 2 = .ok (.invokevirtual 168, 3) := dk_182 0 168 (dk_at dksX0_where_0 2 rfl rfl)
theorem dX0_where_5 : decode cX0_where 5 = .ok (.ifCond .eq 27, 3) := dk_153 0 27 (dk_at dksX0_where_0 5 rfl rfl)
theorem dX0_where_8 : decode cX0_where 8 = .ok (.iload_n 2, 1) := dk_28 (dk_at dksX0_where_0 8 rfl rfl)
theorem dX0_where_9 : decode cX0_where 9 = .ok (.i2l, 1) := dk_133 (dk_at dksX0_where_0 9 rfl rfl)
theorem dX0_where_10 : decode cX0_where 10 = .ok (.lconst 0, 1) := dk_9 (dk_at dksX0_where_0 10 rfl rfl)
theorem dX0_where_11 : decode cX0_where 11 = .ok (.ldc2_w 301, 3) := dk_20 1 45 (dk_at dksX0_where_0 11 rfl rfl)
theorem dX0_where_14 : decode cX0_where 14 = .ok (.invokestatic 79, 3) := dk_184 0 79 (dk_at dksX0_where_0 14 rfl rfl)
theorem dX0_where_17 : decode cX0_where 17 = .ok (.ifCond .eq 15, 3) := dk_153 0 15 (dk_at dksX0_where_0 17 rfl rfl)
theorem dX0_where_20 : decode cX0_where 20 = .ok (.iload_n 3, 1) := dk_29 (dk_at dksX0_where_0 20 rfl rfl)
theorem dX0_where_21 : decode cX0_where 21 = .ok (.i2l, 1) := dk_133 (dk_at dksX0_where_0 21 rfl rfl)
theorem dX0_where_22 : decode cX0_where 22 = .ok (.lconst 0, 1) := dk_9 (dk_at dksX0_where_0 22 rfl rfl)
theorem dX0_where_23 : decode cX0_where 23 = .ok (.ldc2_w 303, 3) := dk_20 1 47 (dk_at dksX0_where_1 0 rfl rfl)
theorem dX0_where_26 : decode cX0_where 26 = .ok (.invokestatic 79, 3) := dk_184 0 79 (dk_at dksX0_where_1 3 rfl rfl)
theorem dX0_where_29 : decode cX0_where 29 = .ok (.ifCond .ne 6, 3) := dk_154 0 6 (dk_at dksX0_where_1 6 rfl rfl)
theorem dX0_where_32 : decode cX0_where 32 = .ok (.ldc 93, 2) := dk_18 93 (dk_at dksX0_where_1 9 rfl rfl)
theorem dX0_where_34 : decode cX0_where 34 = .ok (.ireturn, 1) := dk_172 (dk_at dksX0_where_1 11 rfl rfl)
theorem dX0_where_35 : decode cX0_where 35 = .ok (.aload_n 0, 1) := dk_42 (dk_at dksX0_where_1 12 rfl rfl)
theorem dX0_where_36 : decode cX0_where 36 = .ok (.iload_n 1, 1) := dk_27 (dk_at dksX0_where_1 13 rfl rfl)
theorem dX0_where_37 : decode cX0_where 37 = .ok (.aload_n 0, 1) := dk_42 (dk_at dksX0_where_1 14 rfl rfl)
theorem dX0_where_38 : decode cX0_where 38 = .ok (.getfield 57, 3) := dk_180 0 57 (dk_at dksX0_where_1 15 rfl rfl)
theorem dX0_where_41 : decode cX0_where 41 = .ok (.invokevirtual 262, 3) := dk_182 1 6 (dk_at dksX0_where_1 18 rfl rfl)
theorem dX0_where_44 : decode cX0_where 44 = .ok (.aload_n 0, 1) := dk_42 (dk_at dksX0_where_1 21 rfl rfl)
theorem dX0_where_45 : decode cX0_where 45 = .ok (.iload_n 1, 1) := dk_27 (dk_at dksX0_where_1 22 rfl rfl)
theorem dX0_where_46 : decode cX0_where 46 = .ok (.iload_n 2, 1) := dk_28 (dk_at dksX0_where_1 23 rfl rfl)
theorem dX0_where_47 : decode cX0_where 47 = .ok (.invokevirtual 292, 3) := dk_182 1 36 (dk_at dksX0_where_2 0 rfl rfl)
theorem dX0_where_50 : decode cX0_where 50 = .ok (.iload_n 3, 1) := dk_29 (dk_at dksX0_where_2 3 rfl rfl)
theorem dX0_where_51 : decode cX0_where 51 = .ok (.isub, 1) := dk_100 (dk_at dksX0_where_2 4 rfl rfl)
theorem dX0_where_52 : decode cX0_where 52 = .ok (.istore 4, 2) := dk_54 4 (dk_at dksX0_where_2 5 rfl rfl)
theorem dX0_where_54 : decode cX0_where 54 = .ok (.iconst 0, 1) := dk_3 (dk_at dksX0_where_2 7 rfl rfl)
theorem dX0_where_55 : decode cX0_where 55 = .ok (.istore 5, 2) := dk_54 5 (dk_at dksX0_where_2 8 rfl rfl)
theorem dX0_where_57 : decode cX0_where 57 = .ok (.iconst 0, 1) := dk_3 (dk_at dksX0_where_2 10 rfl rfl)
theorem dX0_where_58 : decode cX0_where 58 = .ok (.istore 6, 2) := dk_54 6 (dk_at dksX0_where_2 11 rfl rfl)
theorem dX0_where_60 : decode cX0_where 60 = .ok (.iload 6, 2) := dk_21 6 (dk_at dksX0_where_2 13 rfl rfl)
theorem dX0_where_62 : decode cX0_where 62 = .ok (.aload_n 0, 1) := dk_42 (dk_at dksX0_where_2 15 rfl rfl)
theorem dX0_where_63 : decode cX0_where 63 = .ok (.getfield 39, 3) := dk_180 0 39 (dk_at dksX0_where_2 16 rfl rfl)
theorem dX0_where_66 : decode cX0_where 66 = .ok (.getfield 165, 3) := dk_180 0 165 (dk_at dksX0_where_2 19 rfl rfl)
theorem dX0_where_69 : decode cX0_where 69 = .ok (.if_icmp .ge 57, 3) := dk_162 0 57 (dk_at dksX0_where_3 0 rfl rfl)
theorem dX0_where_72 : decode cX0_where 72 = .ok (.iload 4, 2) := dk_21 4 (dk_at dksX0_where_3 3 rfl rfl)
theorem dX0_where_74 : decode cX0_where 74 = .ok (.i2l, 1) := dk_133 (dk_at dksX0_where_3 5 rfl rfl)
theorem dX0_where_75 : decode cX0_where 75 = .ok (.lconst 0, 1) := dk_9 (dk_at dksX0_where_3 6 rfl rfl)
theorem dX0_where_76 : decode cX0_where 76 = .ok (.ldc2_w 260, 3) := dk_20 1 4 (dk_at dksX0_where_3 7 rfl rfl)
theorem dX0_where_79 : decode cX0_where 79 = .ok (.invokestatic 79, 3) := dk_184 0 79 (dk_at dksX0_where_3 10 rfl rfl)
theorem dX0_where_82 : decode cX0_where 82 = .ok (.ifCond .eq 44, 3) := dk_153 0 44 (dk_at dksX0_where_3 13 rfl rfl)
theorem dX0_where_85 : decode cX0_where 85 = .ok (.iload 5, 2) := dk_21 5 (dk_at dksX0_where_3 16 rfl rfl)
theorem dX0_where_87 : decode cX0_where 87 = .ok (.aload_n 0, 1) := dk_42 (dk_at dksX0_where_3 18 rfl rfl)
theorem dX0_where_88 : decode cX0_where 88 = .ok (.aload_n 0, 1) := dk_42 (dk_at dksX0_where_3 19 rfl rfl)
theorem dX0_where_89 : decode cX0_where 89 = .ok (.getfield 57, 3) := dk_180 0 57 (dk_at dksX0_where_3 20 rfl rfl)
theorem dX0_where_92 : decode cX0_where 92 = .ok (.iload_n 1, 1) := dk_27 (dk_at dksX0_where_3 23 rfl rfl)
theorem dX0_where_93 : decode cX0_where 93 = .ok (.iload 6, 2) := dk_21 6 (dk_at dksX0_where_4 0 rfl rfl)
theorem dX0_where_95 : decode cX0_where 95 = .ok (.iload_n 2, 1) := dk_28 (dk_at dksX0_where_4 2 rfl rfl)
theorem dX0_where_96 : decode cX0_where 96 = .ok (.invokevirtual 297, 3) := dk_182 1 41 (dk_at dksX0_where_4 3 rfl rfl)
theorem dX0_where_99 : decode cX0_where 99 = .ok (.iload 4, 2) := dk_21 4 (dk_at dksX0_where_4 6 rfl rfl)
theorem dX0_where_101 : decode cX0_where 101 = .ok (.lshr, 1) := dk_123 (dk_at dksX0_where_4 8 rfl rfl)
theorem dX0_where_102 : decode cX0_where 102 = .ok (.lconst 1, 1) := dk_10 (dk_at dksX0_where_4 9 rfl rfl)
theorem dX0_where_103 : decode cX0_where 103 = .ok (.land, 1) := dk_127 (dk_at dksX0_where_4 10 rfl rfl)
theorem dX0_where_104 : decode cX0_where 104 = .ok (.lconst 1, 1) := dk_10 (dk_at dksX0_where_4 11 rfl rfl)
theorem dX0_where_105 : decode cX0_where 105 = .ok (.lcmp, 1) := dk_148 (dk_at dksX0_where_4 12 rfl rfl)
theorem dX0_where_106 : decode cX0_where 106 = .ok (.ifCond .ne 10, 3) := dk_154 0 10 (dk_at dksX0_where_4 13 rfl rfl)
theorem dX0_where_109 : decode cX0_where 109 = .ok (.iconst 1, 1) := dk_4 (dk_at dksX0_where_4 16 rfl rfl)
theorem dX0_where_110 : decode cX0_where 110 = .ok (.iload 6, 2) := dk_21 6 (dk_at dksX0_where_4 17 rfl rfl)
theorem dX0_where_112 : decode cX0_where 112 = .ok (.ishl, 1) := dk_120 (dk_at dksX0_where_4 19 rfl rfl)
theorem dX0_where_113 : decode cX0_where 113 = .ok (.goto 4, 3) := dk_167 0 4 (dk_at dksX0_where_4 20 rfl rfl)
theorem dX0_where_116 : decode cX0_where 116 = .ok (.iconst 0, 1) := dk_3 (dk_at dksX0_where_4 23 rfl rfl)
theorem dX0_where_117 : decode cX0_where 117 = .ok (.ior, 1) := dk_128 (dk_at dksX0_where_5 0 rfl rfl)
theorem dX0_where_118 : decode cX0_where 118 = .ok (.istore 5, 2) := dk_54 5 (dk_at dksX0_where_5 1 rfl rfl)
theorem dX0_where_120 : decode cX0_where 120 = .ok (.iinc 6 1, 3) := dk_132 6 1 (dk_at dksX0_where_5 3 rfl rfl)
theorem dX0_where_123 : decode cX0_where 123 = .ok (.goto (-63), 3) := dk_167 255 193 (dk_at dksX0_where_5 6 rfl rfl)
theorem dX0_where_126 : decode cX0_where 126 = .ok (.iload 5, 2) := dk_21 5 (dk_at dksX0_where_5 9 rfl rfl)
theorem dX0_where_128 : decode cX0_where 128 = .ok (.ireturn, 1) := dk_172 (dk_at dksX0_where_5 11 rfl rfl)
abbrev cX0_gone : ByteArray := prog_1_method_40_code
def yX0_gone : MethodName := ⟨RX0, "gone", "(I)I"⟩
def dkwX0_gone_1 : List UInt8 := [100, 167, 0, 5, 18, 93, 172]
abbrev dktX0_gone_1 : List UInt8 := dkwX0_gone_1 ++ []
def dkwX0_gone_0 : List UInt8 := [42, 27, 182, 0, 168, 153, 0, 23, 42, 180, 0, 39, 27, 182, 0, 224, 42, 180, 0, 39, 27, 182, 0, 250]
abbrev dktX0_gone_0 : List UInt8 := dkwX0_gone_0 ++ dktX0_gone_1
theorem dksX0_gone_0 : cX0_gone.data.toList.drop 0 = dktX0_gone_0 := by decide +kernel
theorem dksX0_gone_1 : cX0_gone.data.toList.drop 24 = dktX0_gone_1 := dk_seg dksX0_gone_0 24 rfl rfl
theorem dX0_gone_0 : decode cX0_gone 0 = .ok (.aload_n 0, 1) := dk_42 (dk_at dksX0_gone_0 0 rfl rfl)
theorem dX0_gone_1 : decode cX0_gone 1 = .ok (.iload_n 1, 1) := dk_27 (dk_at dksX0_gone_0 1 rfl rfl)
theorem dX0_gone_2 : decode cX0_gone 2 = .ok (.invokevirtual 168, 3) := dk_182 0 168 (dk_at dksX0_gone_0 2 rfl rfl)
theorem dX0_gone_5 : decode cX0_gone 5 = .ok (.ifCond .eq 23, 3) := dk_153 0 23 (dk_at dksX0_gone_0 5 rfl rfl)
theorem dX0_gone_8 : decode cX0_gone 8 = .ok (.aload_n 0, 1) := dk_42 (dk_at dksX0_gone_0 8 rfl rfl)
theorem dX0_gone_9 : decode cX0_gone 9 = .ok (.getfield 39, 3) := dk_180 0 39 (dk_at dksX0_gone_0 9 rfl rfl)
theorem dX0_gone_12 : decode cX0_gone 12 = .ok (.iload_n 1, 1) := dk_27 (dk_at dksX0_gone_0 12 rfl rfl)
theorem dX0_gone_13 : decode cX0_gone 13 = .ok (.invokevirtual 224, 3) := dk_182 0 224 (dk_at dksX0_gone_0 13 rfl rfl)
theorem dX0_gone_16 : decode cX0_gone 16 = .ok (.aload_n 0, 1) := dk_42 (dk_at dksX0_gone_0 16 rfl rfl)
theorem dX0_gone_17 : decode cX0_gone 17 = .ok (.getfield 39, 3) := dk_180 0 39 (dk_at dksX0_gone_0 17 rfl rfl)
theorem dX0_gone_20 : decode cX0_gone 20 = .ok (.iload_n 1, 1) := dk_27 (dk_at dksX0_gone_0 20 rfl rfl)
theorem dX0_gone_21 : decode cX0_gone 21 = .ok (.invokevirtual 250, 3) := dk_182 0 250 (dk_at dksX0_gone_0 21 rfl rfl)
theorem dX0_gone_24 : decode cX0_gone 24 = .ok (.isub, 1) := dk_100 (dk_at dksX0_gone_1 0 rfl rfl)
theorem dX0_gone_25 : decode cX0_gone 25 = .ok (.goto 5, 3) := dk_167 0 5 (dk_at dksX0_gone_1 1 rfl rfl)
theorem dX0_gone_28 : decode cX0_gone 28 = .ok (.ldc 93, 2) := dk_18 93 (dk_at dksX0_gone_1 4 rfl rfl)
theorem dX0_gone_30 : decode cX0_gone 30 = .ok (.ireturn, 1) := dk_172 (dk_at dksX0_gone_1 6 rfl rfl)
abbrev cX0_eldest : ByteArray := prog_1_method_41_code
def yX0_eldest : MethodName := ⟨RX0, "eldest", "(I)I"⟩
def dkwX0_eldest_4 : List UInt8 := [184, 1, 28, 62, 132, 4, 1, 167, 255, 182, 28, 172]
abbrev dktX0_eldest_4 : List UInt8 := dkwX0_eldest_4 ++ []
def dkwX0_eldest_3 : List UInt8 := [192, 0, 246, 180, 0, 248, 54, 5, 21, 5, 29, 164, 0, 8, 21, 4, 167, 0, 4, 28, 61, 29, 21, 5]
abbrev dktX0_eldest_3 : List UInt8 := dkwX0_eldest_3 ++ dktX0_eldest_4
def dkwX0_eldest_2 : List UInt8 := [180, 0, 216, 21, 4, 46, 167, 0, 23, 42, 180, 0, 39, 180, 0, 236, 21, 4, 185, 0, 240, 2, 0]
abbrev dktX0_eldest_2 : List UInt8 := dkwX0_eldest_2 ++ dktX0_eldest_3
def dkwX0_eldest_1 : List UInt8 := [62, 3, 54, 4, 21, 4, 42, 180, 0, 39, 182, 0, 161, 162, 0, 68, 27, 154, 0, 16, 42, 180, 0, 39]
abbrev dktX0_eldest_1 : List UInt8 := dkwX0_eldest_1 ++ dktX0_eldest_2
def dkwX0_eldest_0 : List UInt8 := [42, 182, 1, 49, 154, 0, 6, 18, 192, 172, 27, 184, 1, 53, 154, 0, 6, 18, 93, 172, 18, 181, 61, 2]
abbrev dktX0_eldest_0 : List UInt8 := dkwX0_eldest_0 ++ dktX0_eldest_1
theorem dksX0_eldest_0 : cX0_eldest.data.toList.drop 0 = dktX0_eldest_0 := by decide +kernel
theorem dksX0_eldest_1 : cX0_eldest.data.toList.drop 24 = dktX0_eldest_1 := dk_seg dksX0_eldest_0 24 rfl rfl
theorem dksX0_eldest_2 : cX0_eldest.data.toList.drop 48 = dktX0_eldest_2 := dk_seg dksX0_eldest_1 24 rfl rfl
theorem dksX0_eldest_3 : cX0_eldest.data.toList.drop 71 = dktX0_eldest_3 := dk_seg dksX0_eldest_2 23 rfl rfl
theorem dksX0_eldest_4 : cX0_eldest.data.toList.drop 95 = dktX0_eldest_4 := dk_seg dksX0_eldest_3 24 rfl rfl
theorem dX0_eldest_0 : decode cX0_eldest 0 = .ok (.aload_n 0, 1) := dk_42 (dk_at dksX0_eldest_0 0 rfl rfl)
theorem dX0_eldest_1 : decode cX0_eldest 1 = .ok (.invokevirtual 305, 3) := dk_182 1 49 (dk_at dksX0_eldest_0 1 rfl rfl)
theorem dX0_eldest_4 : decode cX0_eldest 4 = .ok (.ifCond .ne 6, 3) := dk_154 0 6 (dk_at dksX0_eldest_0 4 rfl rfl)
theorem dX0_eldest_7 : decode cX0_eldest 7 = .ok (.ldc 192, 2) := dk_18 192 (dk_at dksX0_eldest_0 7 rfl rfl)
theorem dX0_eldest_9 : decode cX0_eldest 9 = .ok (.ireturn, 1) := dk_172 (dk_at dksX0_eldest_0 9 rfl rfl)
theorem dX0_eldest_10 : decode cX0_eldest 10 = .ok (.iload_n 1, 1) := dk_27 (dk_at dksX0_eldest_0 10 rfl rfl)
theorem dX0_eldest_11 : decode cX0_eldest 11 = .ok (.invokestatic 309, 3) := dk_184 1 53 (dk_at dksX0_eldest_0 11 rfl rfl)
theorem dX0_eldest_14 : decode cX0_eldest 14 = .ok (.ifCond .ne 6, 3) := dk_154 0 6 (dk_at dksX0_eldest_0 14 rfl rfl)
theorem dX0_eldest_17 : decode cX0_eldest 17 = .ok (.ldc 93, 2) := dk_18 93 (dk_at dksX0_eldest_0 17 rfl rfl)
theorem dX0_eldest_19 : decode cX0_eldest 19 = .ok (.ireturn, 1) := dk_172 (dk_at dksX0_eldest_0 19 rfl rfl)
theorem dX0_eldest_20 : decode cX0_eldest 20 = .ok (.ldc 181, 2) := dk_18 181 (dk_at dksX0_eldest_0 20 rfl rfl)
theorem dX0_eldest_22 : decode cX0_eldest 22 = .ok (.istore_n 2, 1) := dk_61 (dk_at dksX0_eldest_0 22 rfl rfl)
theorem dX0_eldest_23 : decode cX0_eldest 23 = .ok (.iconst (-1), 1) := dk_2 (dk_at dksX0_eldest_0 23 rfl rfl)
theorem dX0_eldest_24 : decode cX0_eldest 24 = .ok (.istore_n 3, 1) := dk_62 (dk_at dksX0_eldest_1 0 rfl rfl)
theorem dX0_eldest_25 : decode cX0_eldest 25 = .ok (.iconst 0, 1) := dk_3 (dk_at dksX0_eldest_1 1 rfl rfl)
theorem dX0_eldest_26 : decode cX0_eldest 26 = .ok (.istore 4, 2) := dk_54 4 (dk_at dksX0_eldest_1 2 rfl rfl)
theorem dX0_eldest_28 : decode cX0_eldest 28 = .ok (.iload 4, 2) := dk_21 4 (dk_at dksX0_eldest_1 4 rfl rfl)
theorem dX0_eldest_30 : decode cX0_eldest 30 = .ok (.aload_n 0, 1) := dk_42 (dk_at dksX0_eldest_1 6 rfl rfl)
theorem dX0_eldest_31 : decode cX0_eldest 31 = .ok (.getfield 39, 3) := dk_180 0 39 (dk_at dksX0_eldest_1 7 rfl rfl)
theorem dX0_eldest_34 : decode cX0_eldest 34 = .ok (.invokevirtual 161, 3) := dk_182 0 161 (dk_at dksX0_eldest_1 10 rfl rfl)
theorem dX0_eldest_37 : decode cX0_eldest 37 = .ok (.if_icmp .ge 68, 3) := dk_162 0 68 (dk_at dksX0_eldest_1 13 rfl rfl)
theorem dX0_eldest_40 : decode cX0_eldest 40 = .ok (.iload_n 1, 1) := dk_27 (dk_at dksX0_eldest_1 16 rfl rfl)
theorem dX0_eldest_41 : decode cX0_eldest 41 = .ok (.ifCond .ne 16, 3) := dk_154 0 16 (dk_at dksX0_eldest_1 17 rfl rfl)
theorem dX0_eldest_44 : decode cX0_eldest 44 = .ok (.aload_n 0, 1) := dk_42 (dk_at dksX0_eldest_1 20 rfl rfl)
theorem dX0_eldest_45 : decode cX0_eldest 45 = .ok (.getfield 39, 3) := dk_180 0 39 (dk_at dksX0_eldest_1 21 rfl rfl)
theorem dX0_eldest_48 : decode cX0_eldest 48 = .ok (.getfield 216, 3) := dk_180 0 216 (dk_at dksX0_eldest_2 0 rfl rfl)
theorem dX0_eldest_51 : decode cX0_eldest 51 = .ok (.iload 4, 2) := dk_21 4 (dk_at dksX0_eldest_2 3 rfl rfl)
theorem dX0_eldest_53 : decode cX0_eldest 53 = .ok (.iaload, 1) := dk_46 (dk_at dksX0_eldest_2 5 rfl rfl)
theorem dX0_eldest_54 : decode cX0_eldest 54 = .ok (.goto 23, 3) := dk_167 0 23 (dk_at dksX0_eldest_2 6 rfl rfl)
theorem dX0_eldest_57 : decode cX0_eldest 57 = .ok (.aload_n 0, 1) := dk_42 (dk_at dksX0_eldest_2 9 rfl rfl)
theorem dX0_eldest_58 : decode cX0_eldest 58 = .ok (.getfield 39, 3) := dk_180 0 39 (dk_at dksX0_eldest_2 10 rfl rfl)
theorem dX0_eldest_61 : decode cX0_eldest 61 = .ok (.getfield 236, 3) := dk_180 0 236 (dk_at dksX0_eldest_2 13 rfl rfl)
theorem dX0_eldest_64 : decode cX0_eldest 64 = .ok (.iload 4, 2) := dk_21 4 (dk_at dksX0_eldest_2 16 rfl rfl)
theorem dX0_eldest_66 : decode cX0_eldest 66 = .ok (.invokeinterface 240 2, 5) := by decide +kernel
theorem dX0_eldest_71 : decode cX0_eldest 71 = .ok (.checkcast 246, 3) := dk_192 0 246 (dk_at dksX0_eldest_3 0 rfl rfl)
theorem dX0_eldest_74 : decode cX0_eldest 74 = .ok (.getfield 248, 3) := dk_180 0 248 (dk_at dksX0_eldest_3 3 rfl rfl)
theorem dX0_eldest_77 : decode cX0_eldest 77 = .ok (.istore 5, 2) := dk_54 5 (dk_at dksX0_eldest_3 6 rfl rfl)
theorem dX0_eldest_79 : decode cX0_eldest 79 = .ok (.iload 5, 2) := dk_21 5 (dk_at dksX0_eldest_3 8 rfl rfl)
theorem dX0_eldest_81 : decode cX0_eldest 81 = .ok (.iload_n 3, 1) := dk_29 (dk_at dksX0_eldest_3 10 rfl rfl)
theorem dX0_eldest_82 : decode cX0_eldest 82 = .ok (.if_icmp .le 8, 3) := dk_164 0 8 (dk_at dksX0_eldest_3 11 rfl rfl)
theorem dX0_eldest_85 : decode cX0_eldest 85 = .ok (.iload 4, 2) := dk_21 4 (dk_at dksX0_eldest_3 14 rfl rfl)
theorem dX0_eldest_87 : decode cX0_eldest 87 = .ok (.goto 4, 3) := dk_167 0 4 (dk_at dksX0_eldest_3 16 rfl rfl)
theorem dX0_eldest_90 : decode cX0_eldest 90 = .ok (.iload_n 2, 1) := dk_28 (dk_at dksX0_eldest_3 19 rfl rfl)
theorem dX0_eldest_91 : decode cX0_eldest 91 = .ok (.istore_n 2, 1) := dk_61 (dk_at dksX0_eldest_3 20 rfl rfl)
theorem dX0_eldest_92 : decode cX0_eldest 92 = .ok (.iload_n 3, 1) := dk_29 (dk_at dksX0_eldest_3 21 rfl rfl)
theorem dX0_eldest_93 : decode cX0_eldest 93 = .ok (.iload 5, 2) := dk_21 5 (dk_at dksX0_eldest_3 22 rfl rfl)
theorem dX0_eldest_95 : decode cX0_eldest 95 = .ok (.invokestatic 284, 3) := dk_184 1 28 (dk_at dksX0_eldest_4 0 rfl rfl)
theorem dX0_eldest_98 : decode cX0_eldest 98 = .ok (.istore_n 3, 1) := dk_62 (dk_at dksX0_eldest_4 3 rfl rfl)
theorem dX0_eldest_99 : decode cX0_eldest 99 = .ok (.iinc 4 1, 3) := dk_132 4 1 (dk_at dksX0_eldest_4 4 rfl rfl)
theorem dX0_eldest_102 : decode cX0_eldest 102 = .ok (.goto (-74), 3) := dk_167 255 182 (dk_at dksX0_eldest_4 7 rfl rfl)
theorem dX0_eldest_105 : decode cX0_eldest 105 = .ok (.iload_n 2, 1) := dk_28 (dk_at dksX0_eldest_4 10 rfl rfl)
theorem dX0_eldest_106 : decode cX0_eldest 106 = .ok (.ireturn, 1) := dk_172 (dk_at dksX0_eldest_4 11 rfl rfl)
abbrev cX0_isLeague : ByteArray := prog_1_method_16_code
def yX0_isLeague : MethodName := ⟨RX0, "isLeague", "()Z"⟩
def dkwX0_isLeague_0 : List UInt8 := [42, 180, 0, 39, 180, 0, 165, 158, 0, 7, 4, 167, 0, 4, 3, 172]
abbrev dktX0_isLeague_0 : List UInt8 := dkwX0_isLeague_0 ++ []
theorem dksX0_isLeague_0 : cX0_isLeague.data.toList.drop 0 = dktX0_isLeague_0 := by decide +kernel
theorem dX0_isLeague_0 : decode cX0_isLeague 0 = .ok (.aload_n 0, 1) := dk_42 (dk_at dksX0_isLeague_0 0 rfl rfl)
theorem dX0_isLeague_1 : decode cX0_isLeague 1 = .ok (.getfield 39, 3) := dk_180 0 39 (dk_at dksX0_isLeague_0 1 rfl rfl)
theorem dX0_isLeague_4 : decode cX0_isLeague 4 = .ok (.getfield 165, 3) := dk_180 0 165 (dk_at dksX0_isLeague_0 4 rfl rfl)
theorem dX0_isLeague_7 : decode cX0_isLeague 7 = .ok (.ifCond .le 7, 3) := dk_158 0 7 (dk_at dksX0_isLeague_0 7 rfl rfl)
theorem dX0_isLeague_10 : decode cX0_isLeague 10 = .ok (.iconst 1, 1) := dk_4 (dk_at dksX0_isLeague_0 10 rfl rfl)
theorem dX0_isLeague_11 : decode cX0_isLeague 11 = .ok (.goto 4, 3) := dk_167 0 4 (dk_at dksX0_isLeague_0 11 rfl rfl)
theorem dX0_isLeague_14 : decode cX0_isLeague 14 = .ok (.iconst 0, 1) := dk_3 (dk_at dksX0_isLeague_0 14 rfl rfl)
theorem dX0_isLeague_15 : decode cX0_isLeague 15 = .ok (.ireturn, 1) := dk_172 (dk_at dksX0_isLeague_0 15 rfl rfl)
abbrev cX0_isHalf : ByteArray := prog_1_method_21_code
def yX0_isHalf : MethodName := ⟨RX0, "isHalf", "(I)Z"⟩
def dkwX0_isHalf_0 : List UInt8 := [26, 133, 9, 10, 184, 0, 79, 172]
abbrev dktX0_isHalf_0 : List UInt8 := dkwX0_isHalf_0 ++ []
theorem dksX0_isHalf_0 : cX0_isHalf.data.toList.drop 0 = dktX0_isHalf_0 := by decide +kernel
theorem dX0_isHalf_0 : decode cX0_isHalf 0 = .ok (.iload_n 0, 1) := dk_26 (dk_at dksX0_isHalf_0 0 rfl rfl)
theorem dX0_isHalf_1 : decode cX0_isHalf 1 = .ok (.i2l, 1) := dk_133 (dk_at dksX0_isHalf_0 1 rfl rfl)
theorem dX0_isHalf_2 : decode cX0_isHalf 2 = .ok (.lconst 0, 1) := dk_9 (dk_at dksX0_isHalf_0 2 rfl rfl)
theorem dX0_isHalf_3 : decode cX0_isHalf 3 = .ok (.lconst 1, 1) := dk_10 (dk_at dksX0_isHalf_0 3 rfl rfl)
theorem dX0_isHalf_4 : decode cX0_isHalf 4 = .ok (.invokestatic 79, 3) := dk_184 0 79 (dk_at dksX0_isHalf_0 4 rfl rfl)
theorem dX0_isHalf_7 : decode cX0_isHalf 7 = .ok (.ireturn, 1) := dk_172 (dk_at dksX0_isHalf_0 7 rfl rfl)
abbrev cX0_image : ByteArray := prog_1_method_42_code
def yX0_image : MethodName := ⟨RX0, "image", "(I)I"⟩
def dkwX0_image_2 : List UInt8 := [180, 0, 47, 27, 50, 42, 180, 0, 39, 182, 0, 154, 87, 4, 172]
abbrev dktX0_image_2 : List UInt8 := dkwX0_image_2 ++ []
def dkwX0_image_1 : List UInt8 := [180, 0, 47, 27, 50, 199, 0, 16, 42, 180, 0, 47, 27, 187, 0, 36, 89, 183, 0, 38, 83, 42]
abbrev dktX0_image_1 : List UInt8 := dkwX0_image_1 ++ dktX0_image_2
def dkwX0_image_0 : List UInt8 := [27, 133, 9, 10, 184, 0, 79, 154, 0, 6, 18, 93, 172, 42, 182, 1, 49, 154, 0, 6, 18, 192, 172, 42]
abbrev dktX0_image_0 : List UInt8 := dkwX0_image_0 ++ dktX0_image_1
theorem dksX0_image_0 : cX0_image.data.toList.drop 0 = dktX0_image_0 := by decide +kernel
theorem dksX0_image_1 : cX0_image.data.toList.drop 24 = dktX0_image_1 := dk_seg dksX0_image_0 24 rfl rfl
theorem dksX0_image_2 : cX0_image.data.toList.drop 46 = dktX0_image_2 := dk_seg dksX0_image_1 22 rfl rfl
theorem dX0_image_0 : decode cX0_image 0 = .ok (.iload_n 1, 1) := dk_27 (dk_at dksX0_image_0 0 rfl rfl)
theorem dX0_image_1 : decode cX0_image 1 = .ok (.i2l, 1) := dk_133 (dk_at dksX0_image_0 1 rfl rfl)
theorem dX0_image_2 : decode cX0_image 2 = .ok (.lconst 0, 1) := dk_9 (dk_at dksX0_image_0 2 rfl rfl)
theorem dX0_image_3 : decode cX0_image 3 = .ok (.lconst 1, 1) := dk_10 (dk_at dksX0_image_0 3 rfl rfl)
theorem dX0_image_4 : decode cX0_image 4 = .ok (.invokestatic 79, 3) := dk_184 0 79 (dk_at dksX0_image_0 4 rfl rfl)
theorem dX0_image_7 : decode cX0_image 7 = .ok (.ifCond .ne 6, 3) := dk_154 0 6 (dk_at dksX0_image_0 7 rfl rfl)
theorem dX0_image_10 : decode cX0_image 10 = .ok (.ldc 93, 2) := dk_18 93 (dk_at dksX0_image_0 10 rfl rfl)
theorem dX0_image_12 : decode cX0_image 12 = .ok (.ireturn, 1) := dk_172 (dk_at dksX0_image_0 12 rfl rfl)
theorem dX0_image_13 : decode cX0_image 13 = .ok (.aload_n 0, 1) := dk_42 (dk_at dksX0_image_0 13 rfl rfl)
theorem dX0_image_14 : decode cX0_image 14 = .ok (.invokevirtual 305, 3) := dk_182 1 49 (dk_at dksX0_image_0 14 rfl rfl)
theorem dX0_image_17 : decode cX0_image 17 = .ok (.ifCond .ne 6, 3) := dk_154 0 6 (dk_at dksX0_image_0 17 rfl rfl)
theorem dX0_image_20 : decode cX0_image 20 = .ok (.ldc 192, 2) := dk_18 192 (dk_at dksX0_image_0 20 rfl rfl)
theorem dX0_image_22 : decode cX0_image 22 = .ok (.ireturn, 1) := dk_172 (dk_at dksX0_image_0 22 rfl rfl)
theorem dX0_image_23 : decode cX0_image 23 = .ok (.aload_n 0, 1) := dk_42 (dk_at dksX0_image_0 23 rfl rfl)
theorem dX0_image_24 : decode cX0_image 24 = .ok (.getfield 47, 3) := dk_180 0 47 (dk_at dksX0_image_1 0 rfl rfl)
theorem dX0_image_27 : decode cX0_image 27 = .ok (.iload_n 1, 1) := dk_27 (dk_at dksX0_image_1 3 rfl rfl)
theorem dX0_image_28 : decode cX0_image 28 = .ok (.aaload, 1) := dk_50 (dk_at dksX0_image_1 4 rfl rfl)
theorem dX0_image_29 : decode cX0_image 29 = .ok (.ifnonnull 16, 3) := dk_199 0 16 (dk_at dksX0_image_1 5 rfl rfl)
theorem dX0_image_32 : decode cX0_image 32 = .ok (.aload_n 0, 1) := dk_42 (dk_at dksX0_image_1 8 rfl rfl)
theorem dX0_image_33 : decode cX0_image 33 = .ok (.getfield 47, 3) := dk_180 0 47 (dk_at dksX0_image_1 9 rfl rfl)
theorem dX0_image_36 : decode cX0_image 36 = .ok (.iload_n 1, 1) := dk_27 (dk_at dksX0_image_1 12 rfl rfl)
theorem dX0_image_37 : decode cX0_image 37 = .ok (.new 36, 3) := dk_187 0 36 (dk_at dksX0_image_1 13 rfl rfl)
theorem dX0_image_40 : decode cX0_image 40 = .ok (.dup, 1) := dk_89 (dk_at dksX0_image_1 16 rfl rfl)
theorem dX0_image_41 : decode cX0_image 41 = .ok (.invokespecial 38, 3) := dk_183 0 38 (dk_at dksX0_image_1 17 rfl rfl)
theorem dX0_image_44 : decode cX0_image 44 = .ok (.aastore, 1) := dk_83 (dk_at dksX0_image_1 20 rfl rfl)
theorem dX0_image_45 : decode cX0_image 45 = .ok (.aload_n 0, 1) := dk_42 (dk_at dksX0_image_1 21 rfl rfl)
theorem dX0_image_46 : decode cX0_image 46 = .ok (.getfield 47, 3) := dk_180 0 47 (dk_at dksX0_image_2 0 rfl rfl)
theorem dX0_image_49 : decode cX0_image 49 = .ok (.iload_n 1, 1) := dk_27 (dk_at dksX0_image_2 3 rfl rfl)
theorem dX0_image_50 : decode cX0_image 50 = .ok (.aaload, 1) := dk_50 (dk_at dksX0_image_2 4 rfl rfl)
theorem dX0_image_51 : decode cX0_image 51 = .ok (.aload_n 0, 1) := dk_42 (dk_at dksX0_image_2 5 rfl rfl)
theorem dX0_image_52 : decode cX0_image 52 = .ok (.getfield 39, 3) := dk_180 0 39 (dk_at dksX0_image_2 6 rfl rfl)
theorem dX0_image_55 : decode cX0_image 55 = .ok (.invokevirtual 154, 3) := dk_182 0 154 (dk_at dksX0_image_2 9 rfl rfl)
theorem dX0_image_58 : decode cX0_image 58 = .ok (.pop, 1) := dk_87 (dk_at dksX0_image_2 12 rfl rfl)
theorem dX0_image_59 : decode cX0_image 59 = .ok (.iconst 1, 1) := dk_4 (dk_at dksX0_image_2 13 rfl rfl)
theorem dX0_image_60 : decode cX0_image 60 = .ok (.ireturn, 1) := dk_172 (dk_at dksX0_image_2 14 rfl rfl)
abbrev cX0_restore : ByteArray := prog_1_method_43_code
def yX0_restore : MethodName := ⟨RX0, "restore", "(I)I"⟩
def dkwX0_restore_1 : List UInt8 := [172, 42, 180, 0, 39, 42, 180, 0, 47, 27, 50, 182, 0, 154, 87, 42, 3, 181, 0, 158, 4, 172]
abbrev dktX0_restore_1 : List UInt8 := dkwX0_restore_1 ++ []
def dkwX0_restore_0 : List UInt8 := [27, 133, 9, 10, 184, 0, 79, 154, 0, 6, 18, 93, 172, 42, 180, 0, 47, 27, 50, 199, 0, 6, 18, 192]
abbrev dktX0_restore_0 : List UInt8 := dkwX0_restore_0 ++ dktX0_restore_1
theorem dksX0_restore_0 : cX0_restore.data.toList.drop 0 = dktX0_restore_0 := by decide +kernel
theorem dksX0_restore_1 : cX0_restore.data.toList.drop 24 = dktX0_restore_1 := dk_seg dksX0_restore_0 24 rfl rfl
theorem dX0_restore_0 : decode cX0_restore 0 = .ok (.iload_n 1, 1) := dk_27 (dk_at dksX0_restore_0 0 rfl rfl)
theorem dX0_restore_1 : decode cX0_restore 1 = .ok (.i2l, 1) := dk_133 (dk_at dksX0_restore_0 1 rfl rfl)
theorem dX0_restore_2 : decode cX0_restore 2 = .ok (.lconst 0, 1) := dk_9 (dk_at dksX0_restore_0 2 rfl rfl)
theorem dX0_restore_3 : decode cX0_restore 3 = .ok (.lconst 1, 1) := dk_10 (dk_at dksX0_restore_0 3 rfl rfl)
theorem dX0_restore_4 : decode cX0_restore 4 = .ok (.invokestatic 79, 3) := dk_184 0 79 (dk_at dksX0_restore_0 4 rfl rfl)
theorem dX0_restore_7 : decode cX0_restore 7 = .ok (.ifCond .ne 6, 3) := dk_154 0 6 (dk_at dksX0_restore_0 7 rfl rfl)
theorem dX0_restore_10 : decode cX0_restore 10 = .ok (.ldc 93, 2) := dk_18 93 (dk_at dksX0_restore_0 10 rfl rfl)
theorem dX0_restore_12 : decode cX0_restore 12 = .ok (.ireturn, 1) := dk_172 (dk_at dksX0_restore_0 12 rfl rfl)
theorem dX0_restore_13 : decode cX0_restore 13 = .ok (.aload_n 0, 1) := dk_42 (dk_at dksX0_restore_0 13 rfl rfl)
theorem dX0_restore_14 : decode cX0_restore 14 = .ok (.getfield 47, 3) := dk_180 0 47 (dk_at dksX0_restore_0 14 rfl rfl)
theorem dX0_restore_17 : decode cX0_restore 17 = .ok (.iload_n 1, 1) := dk_27 (dk_at dksX0_restore_0 17 rfl rfl)
theorem dX0_restore_18 : decode cX0_restore 18 = .ok (.aaload, 1) := dk_50 (dk_at dksX0_restore_0 18 rfl rfl)
theorem dX0_restore_19 : decode cX0_restore 19 = .ok (.ifnonnull 6, 3) := dk_199 0 6 (dk_at dksX0_restore_0 19 rfl rfl)
theorem dX0_restore_22 : decode cX0_restore 22 = .ok (.ldc 192, 2) := dk_18 192 (dk_at dksX0_restore_0 22 rfl rfl)
theorem dX0_restore_24 : decode cX0_restore 24 = .ok (.ireturn, 1) := dk_172 (dk_at dksX0_restore_1 0 rfl rfl)
theorem dX0_restore_25 : decode cX0_restore 25 = .ok (.aload_n 0, 1) := dk_42 (dk_at dksX0_restore_1 1 rfl rfl)
theorem dX0_restore_26 : decode cX0_restore 26 = .ok (.getfield 39, 3) := dk_180 0 39 (dk_at dksX0_restore_1 2 rfl rfl)
theorem dX0_restore_29 : decode cX0_restore 29 = .ok (.aload_n 0, 1) := dk_42 (dk_at dksX0_restore_1 5 rfl rfl)
theorem dX0_restore_30 : decode cX0_restore 30 = .ok (.getfield 47, 3) := dk_180 0 47 (dk_at dksX0_restore_1 6 rfl rfl)
theorem dX0_restore_33 : decode cX0_restore 33 = .ok (.iload_n 1, 1) := dk_27 (dk_at dksX0_restore_1 9 rfl rfl)
theorem dX0_restore_34 : decode cX0_restore 34 = .ok (.aaload, 1) := dk_50 (dk_at dksX0_restore_1 10 rfl rfl)
theorem dX0_restore_35 : decode cX0_restore 35 = .ok (.invokevirtual 154, 3) := dk_182 0 154 (dk_at dksX0_restore_1 11 rfl rfl)
theorem dX0_restore_38 : decode cX0_restore 38 = .ok (.pop, 1) := dk_87 (dk_at dksX0_restore_1 14 rfl rfl)
theorem dX0_restore_39 : decode cX0_restore 39 = .ok (.aload_n 0, 1) := dk_42 (dk_at dksX0_restore_1 15 rfl rfl)
theorem dX0_restore_40 : decode cX0_restore 40 = .ok (.iconst 0, 1) := dk_3 (dk_at dksX0_restore_1 16 rfl rfl)
theorem dX0_restore_41 : decode cX0_restore 41 = .ok (.putfield 158, 3) := dk_181 0 158 (dk_at dksX0_restore_1 17 rfl rfl)
theorem dX0_restore_44 : decode cX0_restore 44 = .ok (.iconst 1, 1) := dk_4 (dk_at dksX0_restore_1 20 rfl rfl)
theorem dX0_restore_45 : decode cX0_restore 45 = .ok (.ireturn, 1) := dk_172 (dk_at dksX0_restore_1 21 rfl rfl)
abbrev cX0_kind : ByteArray := prog_1_method_44_code
def yX0_kind : MethodName := ⟨RX0, "kind", "(I)I"⟩
def dkwX0_kind_1 : List UInt8 := [182, 1, 56, 167, 0, 5, 18, 93, 172]
abbrev dktX0_kind_1 : List UInt8 := dkwX0_kind_1 ++ []
def dkwX0_kind_0 : List UInt8 := [42, 27, 182, 0, 168, 153, 0, 25, 42, 180, 0, 39, 180, 0, 236, 27, 185, 0, 240, 2, 0, 192, 0, 246]
abbrev dktX0_kind_0 : List UInt8 := dkwX0_kind_0 ++ dktX0_kind_1
theorem dksX0_kind_0 : cX0_kind.data.toList.drop 0 = dktX0_kind_0 := by decide +kernel
theorem dksX0_kind_1 : cX0_kind.data.toList.drop 24 = dktX0_kind_1 := dk_seg dksX0_kind_0 24 rfl rfl
theorem dX0_kind_0 : decode cX0_kind 0 = .ok (.aload_n 0, 1) := dk_42 (dk_at dksX0_kind_0 0 rfl rfl)
theorem dX0_kind_1 : decode cX0_kind 1 = .ok (.iload_n 1, 1) := dk_27 (dk_at dksX0_kind_0 1 rfl rfl)
theorem dX0_kind_2 : decode cX0_kind 2 = .ok (.invokevirtual 168, 3) := dk_182 0 168 (dk_at dksX0_kind_0 2 rfl rfl)
theorem dX0_kind_5 : decode cX0_kind 5 = .ok (.ifCond .eq 25, 3) := dk_153 0 25 (dk_at dksX0_kind_0 5 rfl rfl)
theorem dX0_kind_8 : decode cX0_kind 8 = .ok (.aload_n 0, 1) := dk_42 (dk_at dksX0_kind_0 8 rfl rfl)
theorem dX0_kind_9 : decode cX0_kind 9 = .ok (.getfield 39, 3) := dk_180 0 39 (dk_at dksX0_kind_0 9 rfl rfl)
theorem dX0_kind_12 : decode cX0_kind 12 = .ok (.getfield 236, 3) := dk_180 0 236 (dk_at dksX0_kind_0 12 rfl rfl)
theorem dX0_kind_15 : decode cX0_kind 15 = .ok (.iload_n 1, 1) := dk_27 (dk_at dksX0_kind_0 15 rfl rfl)
theorem dX0_kind_16 : decode cX0_kind 16 = .ok (.invokeinterface 240 2, 5) := by decide +kernel
theorem dX0_kind_21 : decode cX0_kind 21 = .ok (.checkcast 246, 3) := dk_192 0 246 (dk_at dksX0_kind_0 21 rfl rfl)
theorem dX0_kind_24 : decode cX0_kind 24 = .ok (.invokevirtual 312, 3) := dk_182 1 56 (dk_at dksX0_kind_1 0 rfl rfl)
theorem dX0_kind_27 : decode cX0_kind 27 = .ok (.goto 5, 3) := dk_167 0 5 (dk_at dksX0_kind_1 3 rfl rfl)
theorem dX0_kind_30 : decode cX0_kind 30 = .ok (.ldc 93, 2) := dk_18 93 (dk_at dksX0_kind_1 6 rfl rfl)
theorem dX0_kind_32 : decode cX0_kind 32 = .ok (.ireturn, 1) := dk_172 (dk_at dksX0_kind_1 8 rfl rfl)
abbrev cX0_as : ByteArray := prog_1_method_45_code
def yX0_as : MethodName := ⟨RX0, "as", "(II)I"⟩
def dkwX0_as_5 : List UInt8 := [183, 0, 74, 191, 78, 42, 45, 182, 0, 99, 172]
abbrev dktX0_as_5 : List UInt8 := dkwX0_as_5 ++ []
def dkwX0_as_4 : List UInt8 := [45, 192, 0, 18, 58, 4, 42, 25, 4, 182, 1, 60, 182, 0, 95, 172, 58, 4, 187, 0, 65, 89, 6]
abbrev dktX0_as_4 : List UInt8 := dkwX0_as_4 ++ dktX0_as_5
def dkwX0_as_3 : List UInt8 := [28, 6, 160, 0, 10, 45, 192, 0, 12, 167, 0, 19, 28, 7, 160, 0, 10, 45, 192, 0, 15, 167, 0, 7]
abbrev dktX0_as_3 : List UInt8 := dkwX0_as_3 ++ dktX0_as_4
def dkwX0_as_2 : List UInt8 := [28, 4, 160, 0, 10, 45, 192, 0, 3, 167, 0, 43, 28, 5, 160, 0, 10, 45, 192, 0, 9, 167, 0, 31]
abbrev dktX0_as_2 : List UInt8 := dkwX0_as_2 ++ dktX0_as_3
def dkwX0_as_1 : List UInt8 := [180, 0, 39, 180, 0, 236, 27, 185, 0, 240, 2, 0, 192, 0, 246, 78, 28, 154, 0, 7, 45, 167, 0, 55]
abbrev dktX0_as_1 : List UInt8 := dkwX0_as_1 ++ dktX0_as_2
def dkwX0_as_0 : List UInt8 := [42, 27, 182, 0, 168, 153, 0, 15, 28, 133, 9, 20, 1, 58, 184, 0, 79, 154, 0, 6, 18, 93, 172, 42]
abbrev dktX0_as_0 : List UInt8 := dkwX0_as_0 ++ dktX0_as_1
theorem dksX0_as_0 : cX0_as.data.toList.drop 0 = dktX0_as_0 := by decide +kernel
theorem dksX0_as_1 : cX0_as.data.toList.drop 24 = dktX0_as_1 := dk_seg dksX0_as_0 24 rfl rfl
theorem dksX0_as_2 : cX0_as.data.toList.drop 48 = dktX0_as_2 := dk_seg dksX0_as_1 24 rfl rfl
theorem dksX0_as_3 : cX0_as.data.toList.drop 72 = dktX0_as_3 := dk_seg dksX0_as_2 24 rfl rfl
theorem dksX0_as_4 : cX0_as.data.toList.drop 96 = dktX0_as_4 := dk_seg dksX0_as_3 24 rfl rfl
theorem dksX0_as_5 : cX0_as.data.toList.drop 119 = dktX0_as_5 := dk_seg dksX0_as_4 23 rfl rfl
theorem dX0_as_0 : decode cX0_as 0 = .ok (.aload_n 0, 1) := dk_42 (dk_at dksX0_as_0 0 rfl rfl)
theorem dX0_as_1 : decode cX0_as 1 = .ok (.iload_n 1, 1) := dk_27 (dk_at dksX0_as_0 1 rfl rfl)
theorem dX0_as_2 : decode cX0_as 2 = .ok (.invokevirtual 168, 3) := dk_182 0 168 (dk_at dksX0_as_0 2 rfl rfl)
theorem dX0_as_5 : decode cX0_as 5 = .ok (.ifCond .eq 15, 3) := dk_153 0 15 (dk_at dksX0_as_0 5 rfl rfl)
theorem dX0_as_8 : decode cX0_as 8 = .ok (.iload_n 2, 1) := dk_28 (dk_at dksX0_as_0 8 rfl rfl)
theorem dX0_as_9 : decode cX0_as 9 = .ok (.i2l, 1) := dk_133 (dk_at dksX0_as_0 9 rfl rfl)
theorem dX0_as_10 : decode cX0_as 10 = .ok (.lconst 0, 1) := dk_9 (dk_at dksX0_as_0 10 rfl rfl)
theorem dX0_as_11 : decode cX0_as 11 = .ok (.ldc2_w 314, 3) := dk_20 1 58 (dk_at dksX0_as_0 11 rfl rfl)
theorem dX0_as_14 : decode cX0_as 14 = .ok (.invokestatic 79, 3) := dk_184 0 79 (dk_at dksX0_as_0 14 rfl rfl)
theorem dX0_as_17 : decode cX0_as 17 = .ok (.ifCond .ne 6, 3) := dk_154 0 6 (dk_at dksX0_as_0 17 rfl rfl)
theorem dX0_as_20 : decode cX0_as 20 = .ok (.ldc 93, 2) := dk_18 93 (dk_at dksX0_as_0 20 rfl rfl)
theorem dX0_as_22 : decode cX0_as 22 = .ok (.ireturn, 1) := dk_172 (dk_at dksX0_as_0 22 rfl rfl)
theorem dX0_as_23 : decode cX0_as 23 = .ok (.aload_n 0, 1) := dk_42 (dk_at dksX0_as_0 23 rfl rfl)
theorem dX0_as_24 : decode cX0_as 24 = .ok (.getfield 39, 3) := dk_180 0 39 (dk_at dksX0_as_1 0 rfl rfl)
theorem dX0_as_27 : decode cX0_as 27 = .ok (.getfield 236, 3) := dk_180 0 236 (dk_at dksX0_as_1 3 rfl rfl)
theorem dX0_as_30 : decode cX0_as 30 = .ok (.iload_n 1, 1) := dk_27 (dk_at dksX0_as_1 6 rfl rfl)
theorem dX0_as_31 : decode cX0_as 31 = .ok (.invokeinterface 240 2, 5) := by decide +kernel
theorem dX0_as_36 : decode cX0_as 36 = .ok (.checkcast 246, 3) := dk_192 0 246 (dk_at dksX0_as_1 12 rfl rfl)
theorem dX0_as_39 : decode cX0_as 39 = .ok (.astore_n 3, 1) := dk_78 (dk_at dksX0_as_1 15 rfl rfl)
theorem dX0_as_40 : decode cX0_as 40 = .ok (.iload_n 2, 1) := dk_28 (dk_at dksX0_as_1 16 rfl rfl)
theorem dX0_as_41 : decode cX0_as 41 = .ok (.ifCond .ne 7, 3) := dk_154 0 7 (dk_at dksX0_as_1 17 rfl rfl)
theorem dX0_as_44 : decode cX0_as 44 = .ok (.aload_n 3, 1) := dk_45 (dk_at dksX0_as_1 20 rfl rfl)
theorem dX0_as_45 : decode cX0_as 45 = .ok (.goto 55, 3) := dk_167 0 55 (dk_at dksX0_as_1 21 rfl rfl)
theorem dX0_as_48 : decode cX0_as 48 = .ok (.iload_n 2, 1) := dk_28 (dk_at dksX0_as_2 0 rfl rfl)
theorem dX0_as_49 : decode cX0_as 49 = .ok (.iconst 1, 1) := dk_4 (dk_at dksX0_as_2 1 rfl rfl)
theorem dX0_as_50 : decode cX0_as 50 = .ok (.if_icmp .ne 10, 3) := dk_160 0 10 (dk_at dksX0_as_2 2 rfl rfl)
theorem dX0_as_53 : decode cX0_as 53 = .ok (.aload_n 3, 1) := dk_45 (dk_at dksX0_as_2 5 rfl rfl)
theorem dX0_as_54 : decode cX0_as 54 = .ok (.checkcast 3, 3) := dk_192 0 3 (dk_at dksX0_as_2 6 rfl rfl)
theorem dX0_as_57 : decode cX0_as 57 = .ok (.goto 43, 3) := dk_167 0 43 (dk_at dksX0_as_2 9 rfl rfl)
theorem dX0_as_60 : decode cX0_as 60 = .ok (.iload_n 2, 1) := dk_28 (dk_at dksX0_as_2 12 rfl rfl)
theorem dX0_as_61 : decode cX0_as 61 = .ok (.iconst 2, 1) := dk_5 (dk_at dksX0_as_2 13 rfl rfl)
theorem dX0_as_62 : decode cX0_as 62 = .ok (.if_icmp .ne 10, 3) := dk_160 0 10 (dk_at dksX0_as_2 14 rfl rfl)
theorem dX0_as_65 : decode cX0_as 65 = .ok (.aload_n 3, 1) := dk_45 (dk_at dksX0_as_2 17 rfl rfl)
theorem dX0_as_66 : decode cX0_as 66 = .ok (.checkcast 9, 3) := dk_192 0 9 (dk_at dksX0_as_2 18 rfl rfl)
theorem dX0_as_69 : decode cX0_as 69 = .ok (.goto 31, 3) := dk_167 0 31 (dk_at dksX0_as_2 21 rfl rfl)
theorem dX0_as_72 : decode cX0_as 72 = .ok (.iload_n 2, 1) := dk_28 (dk_at dksX0_as_3 0 rfl rfl)
theorem dX0_as_73 : decode cX0_as 73 = .ok (.iconst 3, 1) := dk_6 (dk_at dksX0_as_3 1 rfl rfl)
theorem dX0_as_74 : decode cX0_as 74 = .ok (.if_icmp .ne 10, 3) := dk_160 0 10 (dk_at dksX0_as_3 2 rfl rfl)
theorem dX0_as_77 : decode cX0_as 77 = .ok (.aload_n 3, 1) := dk_45 (dk_at dksX0_as_3 5 rfl rfl)
theorem dX0_as_78 : decode cX0_as 78 = .ok (.checkcast 12, 3) := dk_192 0 12 (dk_at dksX0_as_3 6 rfl rfl)
theorem dX0_as_81 : decode cX0_as 81 = .ok (.goto 19, 3) := dk_167 0 19 (dk_at dksX0_as_3 9 rfl rfl)
theorem dX0_as_84 : decode cX0_as 84 = .ok (.iload_n 2, 1) := dk_28 (dk_at dksX0_as_3 12 rfl rfl)
theorem dX0_as_85 : decode cX0_as 85 = .ok (.iconst 4, 1) := dk_7 (dk_at dksX0_as_3 13 rfl rfl)
theorem dX0_as_86 : decode cX0_as 86 = .ok (.if_icmp .ne 10, 3) := dk_160 0 10 (dk_at dksX0_as_3 14 rfl rfl)
theorem dX0_as_89 : decode cX0_as 89 = .ok (.aload_n 3, 1) := dk_45 (dk_at dksX0_as_3 17 rfl rfl)
theorem dX0_as_90 : decode cX0_as 90 = .ok (.checkcast 15, 3) := dk_192 0 15 (dk_at dksX0_as_3 18 rfl rfl)
theorem dX0_as_93 : decode cX0_as 93 = .ok (.goto 7, 3) := dk_167 0 7 (dk_at dksX0_as_3 21 rfl rfl)
theorem dX0_as_96 : decode cX0_as 96 = .ok (.aload_n 3, 1) := dk_45 (dk_at dksX0_as_4 0 rfl rfl)
theorem dX0_as_97 : decode cX0_as 97 = .ok (.checkcast 18, 3) := dk_192 0 18 (dk_at dksX0_as_4 1 rfl rfl)
theorem dX0_as_100 : decode cX0_as 100 = .ok (.astore 4, 2) := dk_58 4 (dk_at dksX0_as_4 4 rfl rfl)
theorem dX0_as_102 : decode cX0_as 102 = .ok (.aload_n 0, 1) := dk_42 (dk_at dksX0_as_4 6 rfl rfl)
theorem dX0_as_103 : decode cX0_as 103 = .ok (.aload 4, 2) := dk_25 4 (dk_at dksX0_as_4 7 rfl rfl)
theorem dX0_as_105 : decode cX0_as 105 = .ok (.invokevirtual 316, 3) := dk_182 1 60 (dk_at dksX0_as_4 9 rfl rfl)
theorem dX0_as_108 : decode cX0_as 108 = .ok (.invokevirtual 95, 3) := dk_182 0 95 (dk_at dksX0_as_4 12 rfl rfl)
theorem dX0_as_111 : decode cX0_as 111 = .ok (.ireturn, 1) := dk_172 (dk_at dksX0_as_4 15 rfl rfl)
theorem dX0_as_112 : decode cX0_as 112 = .ok (.astore 4, 2) := dk_58 4 (dk_at dksX0_as_4 16 rfl rfl)
theorem dX0_as_114 : decode cX0_as 114 = .ok (.new 65, 3) := dk_187 0 65 (dk_at dksX0_as_4 18 rfl rfl)
theorem dX0_as_117 : decode cX0_as 117 = .ok (.dup, 1) := dk_89 (dk_at dksX0_as_4 21 rfl rfl)
theorem dX0_as_118 : decode cX0_as 118 = .ok (.iconst 3, 1) := dk_6 (dk_at dksX0_as_4 22 rfl rfl)
theorem dX0_as_119 : decode cX0_as 119 = .ok (.invokespecial 74, 3) := dk_183 0 74 (dk_at dksX0_as_5 0 rfl rfl)
theorem dX0_as_122 : decode cX0_as 122 = .ok (.athrow, 1) := dk_191 (dk_at dksX0_as_5 3 rfl rfl)
theorem dX0_as_123 : decode cX0_as 123 = .ok (.astore_n 3, 1) := dk_78 (dk_at dksX0_as_5 4 rfl rfl)
theorem dX0_as_124 : decode cX0_as 124 = .ok (.aload_n 0, 1) := dk_42 (dk_at dksX0_as_5 5 rfl rfl)
theorem dX0_as_125 : decode cX0_as 125 = .ok (.aload_n 3, 1) := dk_45 (dk_at dksX0_as_5 6 rfl rfl)
theorem dX0_as_126 : decode cX0_as 126 = .ok (.invokevirtual 99, 3) := dk_182 0 99 (dk_at dksX0_as_5 7 rfl rfl)
theorem dX0_as_129 : decode cX0_as 129 = .ok (.ireturn, 1) := dk_172 (dk_at dksX0_as_5 10 rfl rfl)
abbrev cX0_ask : ByteArray := prog_1_method_46_code
def yX0_ask : MethodName := ⟨RX0, "ask", "(II)I"⟩
def dkwX0_ask_3 : List UInt8 := [180, 0, 39, 182, 1, 68, 172]
abbrev dktX0_ask_3 : List UInt8 := dkwX0_ask_3 ++ []
def dkwX0_ask_2 : List UInt8 := [154, 0, 18, 45, 42, 180, 0, 53, 42, 180, 0, 39, 182, 1, 64, 167, 0, 15, 45, 42, 180, 0, 53, 42]
abbrev dktX0_ask_2 : List UInt8 := dkwX0_ask_2 ++ dktX0_ask_3
def dkwX0_ask_1 : List UInt8 := [183, 0, 52, 181, 0, 53, 42, 180, 0, 39, 180, 0, 236, 27, 185, 0, 240, 2, 0, 192, 0, 246, 78, 28]
abbrev dktX0_ask_1 : List UInt8 := dkwX0_ask_1 ++ dktX0_ask_2
def dkwX0_ask_0 : List UInt8 := [42, 27, 182, 0, 168, 153, 0, 10, 28, 184, 1, 53, 154, 0, 6, 18, 93, 172, 42, 187, 0, 50, 89]
abbrev dktX0_ask_0 : List UInt8 := dkwX0_ask_0 ++ dktX0_ask_1
theorem dksX0_ask_0 : cX0_ask.data.toList.drop 0 = dktX0_ask_0 := by decide +kernel
theorem dksX0_ask_1 : cX0_ask.data.toList.drop 23 = dktX0_ask_1 := dk_seg dksX0_ask_0 23 rfl rfl
theorem dksX0_ask_2 : cX0_ask.data.toList.drop 47 = dktX0_ask_2 := dk_seg dksX0_ask_1 24 rfl rfl
theorem dksX0_ask_3 : cX0_ask.data.toList.drop 71 = dktX0_ask_3 := dk_seg dksX0_ask_2 24 rfl rfl
theorem dX0_ask_0 : decode cX0_ask 0 = .ok (.aload_n 0, 1) := dk_42 (dk_at dksX0_ask_0 0 rfl rfl)
theorem dX0_ask_1 : decode cX0_ask 1 = .ok (.iload_n 1, 1) := dk_27 (dk_at dksX0_ask_0 1 rfl rfl)
theorem dX0_ask_2 : decode cX0_ask 2 = .ok (.invokevirtual 168, 3) := dk_182 0 168 (dk_at dksX0_ask_0 2 rfl rfl)
theorem dX0_ask_5 : decode cX0_ask 5 = .ok (.ifCond .eq 10, 3) := dk_153 0 10 (dk_at dksX0_ask_0 5 rfl rfl)
theorem dX0_ask_8 : decode cX0_ask 8 = .ok (.iload_n 2, 1) := dk_28 (dk_at dksX0_ask_0 8 rfl rfl)
theorem dX0_ask_9 : decode cX0_ask 9 = .ok (.invokestatic 309, 3) := dk_184 1 53 (dk_at dksX0_ask_0 9 rfl rfl)
theorem dX0_ask_12 : decode cX0_ask 12 = .ok (.ifCond .ne 6, 3) := dk_154 0 6 (dk_at dksX0_ask_0 12 rfl rfl)
theorem dX0_ask_15 : decode cX0_ask 15 = .ok (.ldc 93, 2) := dk_18 93 (dk_at dksX0_ask_0 15 rfl rfl)
theorem dX0_ask_17 : decode cX0_ask 17 = .ok (.ireturn, 1) := dk_172 (dk_at dksX0_ask_0 17 rfl rfl)
theorem dX0_ask_18 : decode cX0_ask 18 = .ok (.aload_n 0, 1) := dk_42 (dk_at dksX0_ask_0 18 rfl rfl)
theorem dX0_ask_19 : decode cX0_ask 19 = .ok (.new 50, 3) := dk_187 0 50 (dk_at dksX0_ask_0 19 rfl rfl)
theorem dX0_ask_22 : decode cX0_ask 22 = .ok (.dup, 1) := dk_89 (dk_at dksX0_ask_0 22 rfl rfl)
theorem dX0_ask_23 : decode cX0_ask 23 = .ok (.invokespecial 52, 3) := dk_183 0 52 (dk_at dksX0_ask_1 0 rfl rfl)
theorem dX0_ask_26 : decode cX0_ask 26 = .ok (.putfield 53, 3) := dk_181 0 53 (dk_at dksX0_ask_1 3 rfl rfl)
theorem dX0_ask_29 : decode cX0_ask 29 = .ok (.aload_n 0, 1) := dk_42 (dk_at dksX0_ask_1 6 rfl rfl)
theorem dX0_ask_30 : decode cX0_ask 30 = .ok (.getfield 39, 3) := dk_180 0 39 (dk_at dksX0_ask_1 7 rfl rfl)
theorem dX0_ask_33 : decode cX0_ask 33 = .ok (.getfield 236, 3) := dk_180 0 236 (dk_at dksX0_ask_1 10 rfl rfl)
theorem dX0_ask_36 : decode cX0_ask 36 = .ok (.iload_n 1, 1) := dk_27 (dk_at dksX0_ask_1 13 rfl rfl)
theorem dX0_ask_37 : decode cX0_ask 37 = .ok (.invokeinterface 240 2, 5) := by decide +kernel
theorem dX0_ask_42 : decode cX0_ask 42 = .ok (.checkcast 246, 3) := dk_192 0 246 (dk_at dksX0_ask_1 19 rfl rfl)
theorem dX0_ask_45 : decode cX0_ask 45 = .ok (.astore_n 3, 1) := dk_78 (dk_at dksX0_ask_1 22 rfl rfl)
theorem dX0_ask_46 : decode cX0_ask 46 = .ok (.iload_n 2, 1) := dk_28 (dk_at dksX0_ask_1 23 rfl rfl)
theorem dX0_ask_47 : decode cX0_ask 47 = .ok (.ifCond .ne 18, 3) := dk_154 0 18 (dk_at dksX0_ask_2 0 rfl rfl)
theorem dX0_ask_50 : decode cX0_ask 50 = .ok (.aload_n 3, 1) := dk_45 (dk_at dksX0_ask_2 3 rfl rfl)
theorem dX0_ask_51 : decode cX0_ask 51 = .ok (.aload_n 0, 1) := dk_42 (dk_at dksX0_ask_2 4 rfl rfl)
theorem dX0_ask_52 : decode cX0_ask 52 = .ok (.getfield 53, 3) := dk_180 0 53 (dk_at dksX0_ask_2 5 rfl rfl)
theorem dX0_ask_55 : decode cX0_ask 55 = .ok (.aload_n 0, 1) := dk_42 (dk_at dksX0_ask_2 8 rfl rfl)
theorem dX0_ask_56 : decode cX0_ask 56 = .ok (.getfield 39, 3) := dk_180 0 39 (dk_at dksX0_ask_2 9 rfl rfl)
theorem dX0_ask_59 : decode cX0_ask 59 = .ok (.invokevirtual 320, 3) := dk_182 1 64 (dk_at dksX0_ask_2 12 rfl rfl)
theorem dX0_ask_62 : decode cX0_ask 62 = .ok (.goto 15, 3) := dk_167 0 15 (dk_at dksX0_ask_2 15 rfl rfl)
theorem dX0_ask_65 : decode cX0_ask 65 = .ok (.aload_n 3, 1) := dk_45 (dk_at dksX0_ask_2 18 rfl rfl)
theorem dX0_ask_66 : decode cX0_ask 66 = .ok (.aload_n 0, 1) := dk_42 (dk_at dksX0_ask_2 19 rfl rfl)
theorem dX0_ask_67 : decode cX0_ask 67 = .ok (.getfield 53, 3) := dk_180 0 53 (dk_at dksX0_ask_2 20 rfl rfl)
theorem dX0_ask_70 : decode cX0_ask 70 = .ok (.aload_n 0, 1) := dk_42 (dk_at dksX0_ask_2 23 rfl rfl)
theorem dX0_ask_71 : decode cX0_ask 71 = .ok (.getfield 39, 3) := dk_180 0 39 (dk_at dksX0_ask_3 0 rfl rfl)
theorem dX0_ask_74 : decode cX0_ask 74 = .ok (.invokevirtual 324, 3) := dk_182 1 68 (dk_at dksX0_ask_3 3 rfl rfl)
theorem dX0_ask_77 : decode cX0_ask 77 = .ok (.ireturn, 1) := dk_172 (dk_at dksX0_ask_3 6 rfl rfl)
abbrev cX0_trace : ByteArray := prog_1_method_47_code
def yX0_trace : MethodName := ⟨RX0, "trace", "(I)I"⟩
def dkwX0_trace_1 : List UInt8 := [180, 1, 73, 27, 46, 167, 0, 5, 18, 181, 172]
abbrev dktX0_trace_1 : List UInt8 := dkwX0_trace_1 ++ []
def dkwX0_trace_0 : List UInt8 := [27, 133, 9, 42, 180, 0, 53, 180, 1, 71, 4, 100, 133, 184, 0, 79, 153, 0, 15, 42, 180, 0, 53]
abbrev dktX0_trace_0 : List UInt8 := dkwX0_trace_0 ++ dktX0_trace_1
theorem dksX0_trace_0 : cX0_trace.data.toList.drop 0 = dktX0_trace_0 := by decide +kernel
theorem dksX0_trace_1 : cX0_trace.data.toList.drop 23 = dktX0_trace_1 := dk_seg dksX0_trace_0 23 rfl rfl
theorem dX0_trace_0 : decode cX0_trace 0 = .ok (.iload_n 1, 1) := dk_27 (dk_at dksX0_trace_0 0 rfl rfl)
theorem dX0_trace_1 : decode cX0_trace 1 = .ok (.i2l, 1) := dk_133 (dk_at dksX0_trace_0 1 rfl rfl)
theorem dX0_trace_2 : decode cX0_trace 2 = .ok (.lconst 0, 1) := dk_9 (dk_at dksX0_trace_0 2 rfl rfl)
theorem dX0_trace_3 : decode cX0_trace 3 = .ok (.aload_n 0, 1) := dk_42 (dk_at dksX0_trace_0 3 rfl rfl)
theorem dX0_trace_4 : decode cX0_trace 4 = .ok (.getfield 53, 3) := dk_180 0 53 (dk_at dksX0_trace_0 4 rfl rfl)
theorem dX0_trace_7 : decode cX0_trace 7 = .ok (.getfield 327, 3) := dk_180 1 71 (dk_at dksX0_trace_0 7 rfl rfl)
theorem dX0_trace_10 : decode cX0_trace 10 = .ok (.iconst 1, 1) := dk_4 (dk_at dksX0_trace_0 10 rfl rfl)
theorem dX0_trace_11 : decode cX0_trace 11 = .ok (.isub, 1) := dk_100 (dk_at dksX0_trace_0 11 rfl rfl)
theorem dX0_trace_12 : decode cX0_trace 12 = .ok (.i2l, 1) := dk_133 (dk_at dksX0_trace_0 12 rfl rfl)
theorem dX0_trace_13 : decode cX0_trace 13 = .ok (.invokestatic 79, 3) := dk_184 0 79 (dk_at dksX0_trace_0 13 rfl rfl)
theorem dX0_trace_16 : decode cX0_trace 16 = .ok (.ifCond .eq 15, 3) := dk_153 0 15 (dk_at dksX0_trace_0 16 rfl rfl)
theorem dX0_trace_19 : decode cX0_trace 19 = .ok (.aload_n 0, 1) := dk_42 (dk_at dksX0_trace_0 19 rfl rfl)
theorem dX0_trace_20 : decode cX0_trace 20 = .ok (.getfield 53, 3) := dk_180 0 53 (dk_at dksX0_trace_0 20 rfl rfl)
theorem dX0_trace_23 : decode cX0_trace 23 = .ok (.getfield 329, 3) := dk_180 1 73 (dk_at dksX0_trace_1 0 rfl rfl)
theorem dX0_trace_26 : decode cX0_trace 26 = .ok (.iload_n 1, 1) := dk_27 (dk_at dksX0_trace_1 3 rfl rfl)
theorem dX0_trace_27 : decode cX0_trace 27 = .ok (.iaload, 1) := dk_46 (dk_at dksX0_trace_1 4 rfl rfl)
theorem dX0_trace_28 : decode cX0_trace 28 = .ok (.goto 5, 3) := dk_167 0 5 (dk_at dksX0_trace_1 5 rfl rfl)
theorem dX0_trace_31 : decode cX0_trace 31 = .ok (.ldc 181, 2) := dk_18 181 (dk_at dksX0_trace_1 8 rfl rfl)
theorem dX0_trace_33 : decode cX0_trace 33 = .ok (.ireturn, 1) := dk_172 (dk_at dksX0_trace_1 10 rfl rfl)
abbrev cX0_count : ByteArray := prog_1_method_48_code
def yX0_count : MethodName := ⟨RX0, "count", "(I)I"⟩
def dkwX0_count_5 : List UInt8 := [180, 0, 127, 172, 18, 93, 172]
abbrev dktX0_count_5 : List UInt8 := dkwX0_count_5 ++ []
def dkwX0_count_4 : List UInt8 := [172, 42, 180, 0, 39, 180, 0, 165, 172, 42, 180, 0, 158, 172, 42, 180, 0, 39, 180, 1, 76, 172, 42]
abbrev dktX0_count_4 : List UInt8 := dkwX0_count_4 ++ dktX0_count_5
def dkwX0_count_3 : List UInt8 := [61, 132, 3, 1, 167, 255, 230, 28, 172, 42, 180, 0, 39, 182, 0, 161, 172, 42, 180, 0, 39, 180, 0, 171]
abbrev dktX0_count_3 : List UInt8 := dkwX0_count_3 ++ dktX0_count_4
def dkwX0_count_2 : List UInt8 := [3, 62, 29, 16, 8, 162, 0, 26, 28, 42, 180, 0, 28, 29, 50, 199, 0, 7, 3, 167, 0, 4, 4, 96]
abbrev dktX0_count_2 : List UInt8 := dkwX0_count_2 ++ dktX0_count_3
def dkwX0_count_1 : List UInt8 := [170, 0, 0, 0, 116, 0, 0, 0, 0, 0, 0, 0, 6, 0, 0, 0, 41, 0, 0, 0, 74, 0, 0, 0, 82, 0, 0, 0, 90, 0, 0, 0, 98, 0, 0, 0, 103, 0, 0, 0, 111]
abbrev dktX0_count_1 : List UInt8 := dkwX0_count_1 ++ dktX0_count_2
def dkwX0_count_0 : List UInt8 := [3, 61, 27]
abbrev dktX0_count_0 : List UInt8 := dkwX0_count_0 ++ dktX0_count_1
theorem dksX0_count_0 : cX0_count.data.toList.drop 0 = dktX0_count_0 := by decide +kernel
theorem dksX0_count_1 : cX0_count.data.toList.drop 3 = dktX0_count_1 := dk_seg dksX0_count_0 3 rfl rfl
theorem dksX0_count_2 : cX0_count.data.toList.drop 44 = dktX0_count_2 := dk_seg dksX0_count_1 41 rfl rfl
theorem dksX0_count_3 : cX0_count.data.toList.drop 68 = dktX0_count_3 := dk_seg dksX0_count_2 24 rfl rfl
theorem dksX0_count_4 : cX0_count.data.toList.drop 92 = dktX0_count_4 := dk_seg dksX0_count_3 24 rfl rfl
theorem dksX0_count_5 : cX0_count.data.toList.drop 115 = dktX0_count_5 := dk_seg dksX0_count_4 23 rfl rfl
theorem dX0_count_0 : decode cX0_count 0 = .ok (.iconst 0, 1) := dk_3 (dk_at dksX0_count_0 0 rfl rfl)
theorem dX0_count_1 : decode cX0_count 1 = .ok (.istore_n 2, 1) := dk_61 (dk_at dksX0_count_0 1 rfl rfl)
theorem dX0_count_2 : decode cX0_count 2 = .ok (.iload_n 1, 1) := dk_27 (dk_at dksX0_count_0 2 rfl rfl)
theorem dX0_count_3 : decode cX0_count 3 = .ok (.tableswitch 116 0 6 #[41, 74, 82, 90, 98, 103, 111], 41) := by decide +kernel
theorem dX0_count_44 : decode cX0_count 44 = .ok (.iconst 0, 1) := dk_3 (dk_at dksX0_count_2 0 rfl rfl)
theorem dX0_count_45 : decode cX0_count 45 = .ok (.istore_n 3, 1) := dk_62 (dk_at dksX0_count_2 1 rfl rfl)
theorem dX0_count_46 : decode cX0_count 46 = .ok (.iload_n 3, 1) := dk_29 (dk_at dksX0_count_2 2 rfl rfl)
theorem dX0_count_47 : decode cX0_count 47 = .ok (.bipush 8, 2) := dk_16 8 (dk_at dksX0_count_2 3 rfl rfl)
theorem dX0_count_49 : decode cX0_count 49 = .ok (.if_icmp .ge 26, 3) := dk_162 0 26 (dk_at dksX0_count_2 5 rfl rfl)
theorem dX0_count_52 : decode cX0_count 52 = .ok (.iload_n 2, 1) := dk_28 (dk_at dksX0_count_2 8 rfl rfl)
theorem dX0_count_53 : decode cX0_count 53 = .ok (.aload_n 0, 1) := dk_42 (dk_at dksX0_count_2 9 rfl rfl)
theorem dX0_count_54 : decode cX0_count 54 = .ok (.getfield 28, 3) := dk_180 0 28 (dk_at dksX0_count_2 10 rfl rfl)
theorem dX0_count_57 : decode cX0_count 57 = .ok (.iload_n 3, 1) := dk_29 (dk_at dksX0_count_2 13 rfl rfl)
theorem dX0_count_58 : decode cX0_count 58 = .ok (.aaload, 1) := dk_50 (dk_at dksX0_count_2 14 rfl rfl)
theorem dX0_count_59 : decode cX0_count 59 = .ok (.ifnonnull 7, 3) := dk_199 0 7 (dk_at dksX0_count_2 15 rfl rfl)
theorem dX0_count_62 : decode cX0_count 62 = .ok (.iconst 0, 1) := dk_3 (dk_at dksX0_count_2 18 rfl rfl)
theorem dX0_count_63 : decode cX0_count 63 = .ok (.goto 4, 3) := dk_167 0 4 (dk_at dksX0_count_2 19 rfl rfl)
theorem dX0_count_66 : decode cX0_count 66 = .ok (.iconst 1, 1) := dk_4 (dk_at dksX0_count_2 22 rfl rfl)
theorem dX0_count_67 : decode cX0_count 67 = .ok (.iadd, 1) := dk_96 (dk_at dksX0_count_2 23 rfl rfl)
theorem dX0_count_68 : decode cX0_count 68 = .ok (.istore_n 2, 1) := dk_61 (dk_at dksX0_count_3 0 rfl rfl)
theorem dX0_count_69 : decode cX0_count 69 = .ok (.iinc 3 1, 3) := dk_132 3 1 (dk_at dksX0_count_3 1 rfl rfl)
theorem dX0_count_72 : decode cX0_count 72 = .ok (.goto (-26), 3) := dk_167 255 230 (dk_at dksX0_count_3 4 rfl rfl)
theorem dX0_count_75 : decode cX0_count 75 = .ok (.iload_n 2, 1) := dk_28 (dk_at dksX0_count_3 7 rfl rfl)
theorem dX0_count_76 : decode cX0_count 76 = .ok (.ireturn, 1) := dk_172 (dk_at dksX0_count_3 8 rfl rfl)
theorem dX0_count_77 : decode cX0_count 77 = .ok (.aload_n 0, 1) := dk_42 (dk_at dksX0_count_3 9 rfl rfl)
theorem dX0_count_78 : decode cX0_count 78 = .ok (.getfield 39, 3) := dk_180 0 39 (dk_at dksX0_count_3 10 rfl rfl)
theorem dX0_count_81 : decode cX0_count 81 = .ok (.invokevirtual 161, 3) := dk_182 0 161 (dk_at dksX0_count_3 13 rfl rfl)
theorem dX0_count_84 : decode cX0_count 84 = .ok (.ireturn, 1) := dk_172 (dk_at dksX0_count_3 16 rfl rfl)
theorem dX0_count_85 : decode cX0_count 85 = .ok (.aload_n 0, 1) := dk_42 (dk_at dksX0_count_3 17 rfl rfl)
theorem dX0_count_86 : decode cX0_count 86 = .ok (.getfield 39, 3) := dk_180 0 39 (dk_at dksX0_count_3 18 rfl rfl)
theorem dX0_count_89 : decode cX0_count 89 = .ok (.getfield 171, 3) := dk_180 0 171 (dk_at dksX0_count_3 21 rfl rfl)
theorem dX0_count_92 : decode cX0_count 92 = .ok (.ireturn, 1) := dk_172 (dk_at dksX0_count_4 0 rfl rfl)
theorem dX0_count_93 : decode cX0_count 93 = .ok (.aload_n 0, 1) := dk_42 (dk_at dksX0_count_4 1 rfl rfl)
theorem dX0_count_94 : decode cX0_count 94 = .ok (.getfield 39, 3) := dk_180 0 39 (dk_at dksX0_count_4 2 rfl rfl)
theorem dX0_count_97 : decode cX0_count 97 = .ok (.getfield 165, 3) := dk_180 0 165 (dk_at dksX0_count_4 5 rfl rfl)
theorem dX0_count_100 : decode cX0_count 100 = .ok (.ireturn, 1) := dk_172 (dk_at dksX0_count_4 8 rfl rfl)
theorem dX0_count_101 : decode cX0_count 101 = .ok (.aload_n 0, 1) := dk_42 (dk_at dksX0_count_4 9 rfl rfl)
theorem dX0_count_102 : decode cX0_count 102 = .ok (.getfield 158, 3) := dk_180 0 158 (dk_at dksX0_count_4 10 rfl rfl)
theorem dX0_count_105 : decode cX0_count 105 = .ok (.ireturn, 1) := dk_172 (dk_at dksX0_count_4 13 rfl rfl)
theorem dX0_count_106 : decode cX0_count 106 = .ok (.aload_n 0, 1) := dk_42 (dk_at dksX0_count_4 14 rfl rfl)
theorem dX0_count_107 : decode cX0_count 107 = .ok (.getfield 39, 3) := dk_180 0 39 (dk_at dksX0_count_4 15 rfl rfl)
theorem dX0_count_110 : decode cX0_count 110 = .ok (.getfield 332, 3) := dk_180 1 76 (dk_at dksX0_count_4 18 rfl rfl)
theorem dX0_count_113 : decode cX0_count 113 = .ok (.ireturn, 1) := dk_172 (dk_at dksX0_count_4 21 rfl rfl)
theorem dX0_count_114 : decode cX0_count 114 = .ok (.aload_n 0, 1) := dk_42 (dk_at dksX0_count_4 22 rfl rfl)
theorem dX0_count_115 : decode cX0_count 115 = .ok (.getfield 127, 3) := dk_180 0 127 (dk_at dksX0_count_5 0 rfl rfl)
theorem dX0_count_118 : decode cX0_count 118 = .ok (.ireturn, 1) := dk_172 (dk_at dksX0_count_5 3 rfl rfl)
theorem dX0_count_119 : decode cX0_count 119 = .ok (.ldc 93, 2) := dk_18 93 (dk_at dksX0_count_5 4 rfl rfl)
theorem dX0_count_121 : decode cX0_count 121 = .ok (.ireturn, 1) := dk_172 (dk_at dksX0_count_5 6 rfl rfl)
abbrev cX0_status : ByteArray := prog_1_method_49_code
def yX0_status : MethodName := ⟨RX0, "status", "()I"⟩
theorem dX0_status_0 : decode cX0_status 0 = .ok (.aload_n 0, 1) := by decide +kernel
theorem dX0_status_1 : decode cX0_status 1 = .ok (.getfield 70, 3) := by decide +kernel
theorem dX0_status_4 : decode cX0_status 4 = .ok (.ireturn, 1) := by decide +kernel
theorem q60 : (Jvm.Cond.initialized "YoungerBack") ∈ lw_all := lw_g (lw_at lw_m1 1 rfl) rfl
theorem q98 : (Jvm.Cond.instantiable "YoungerBack" (12 : Nat)) ∈ lw_all := lw_g (lw_at lw_m1 39 rfl) rfl
theorem q100 : (Jvm.Cond.instanceMethod ({ cls := "YoungerBack", name := "<init>", desc := "()V" } : Jvm.MethodName)) ∈ lw_all := lw_g (lw_at lw_m1 41 rfl) rfl
theorem q101 : (Jvm.Cond.code ({ cls := "YoungerBack", name := "<init>", desc := "()V" } : Jvm.MethodName) prog_1_method_3_code (1 : Nat) (Option.none : Option Jvm.ClassFile.FieldType)) ∈ lw_all := lw_g (lw_at lw_m1 42 rfl) rfl
theorem q102 : (Jvm.Cond.methodLink "YoungerBack" (21 : Nat) ({ cls := "java/lang/Object", name := "<init>", desc := "()V" } : Jvm.MethodName)) ∈ lw_all := lw_g (lw_at lw_m1 43 rfl) rfl
theorem q105 : (Jvm.Cond.classLink "YoungerBack" (26 : Nat) "YoungerBack$Row") ∈ lw_all := lw_g (lw_at lw_m1 46 rfl) rfl
theorem q107 : (Jvm.Cond.classLink "YoungerBack" (36 : Nat) "YoungerBack$League") ∈ lw_all := lw_g (lw_at lw_m1 48 rfl) rfl
theorem q109 : (Jvm.Cond.methodLinkNest "YoungerBack" (38 : Nat) ({ cls := "YoungerBack$League", name := "<init>", desc := "()V" } : Jvm.MethodName) "YoungerBack") ∈ lw_tbl := lw_at lw_m1 50 rfl
theorem q143 : (Jvm.Cond.fieldLink "YoungerBack" (165 : Nat) "YoungerBack$League" "harbours" "I") ∈ lw_all := lw_g (lw_at lw_m1 84 rfl) rfl
theorem q146 : (Jvm.Cond.fieldLink "YoungerBack" (332 : Nat) "YoungerBack$League" "rate" "I") ∈ lw_all := lw_g (lw_at lw_m1 87 rfl) rfl
theorem q149 : (Jvm.Cond.fieldLink "YoungerBack" (171 : Nat) "YoungerBack$League" "ways" "I") ∈ lw_all := lw_g (lw_at lw_m1 90 rfl) rfl
theorem q152 : (Jvm.Cond.fieldLink "YoungerBack" (278 : Nat) "YoungerBack$League" "a" "[I") ∈ lw_all := lw_g (lw_at lw_m1 93 rfl) rfl
theorem q155 : (Jvm.Cond.fieldLink "YoungerBack" (281 : Nat) "YoungerBack$League" "b" "[I") ∈ lw_all := lw_g (lw_at lw_m1 96 rfl) rfl
theorem q158 : (Jvm.Cond.fieldLink "YoungerBack" (193 : Nat) "YoungerBack$League" "shore" "[I") ∈ lw_all := lw_g (lw_at lw_m1 99 rfl) rfl
theorem q163 : (Jvm.Cond.fieldLink "YoungerBack" (236 : Nat) "YoungerBack$League" "people" "Ljava/util/List;") ∈ lw_all := lw_g (lw_at lw_m1 104 rfl) rfl
theorem q167 : (Jvm.Cond.fieldLink "YoungerBack" (174 : Nat) "YoungerBack$League" "at" "[I") ∈ lw_all := lw_g (lw_at lw_m1 108 rfl) rfl
theorem q169 : (Jvm.Cond.fieldLink "YoungerBack" (182 : Nat) "YoungerBack$League" "hour" "[I") ∈ lw_all := lw_g (lw_at lw_m1 110 rfl) rfl
theorem q173 : (Jvm.Cond.fieldLink "YoungerBack" (216 : Nat) "YoungerBack$League" "age" "[I") ∈ lw_all := lw_g (lw_at lw_m1 114 rfl) rfl
theorem q175 : (Jvm.Cond.fieldLink "YoungerBack" (227 : Nat) "YoungerBack$League" "sum" "[I") ∈ lw_all := lw_g (lw_at lw_m1 116 rfl) rfl
theorem q177 : (Jvm.Cond.fieldLink "YoungerBack" (230 : Nat) "YoungerBack$League" "since" "[I") ∈ lw_all := lw_g (lw_at lw_m1 118 rfl) rfl
theorem q179 : (Jvm.Cond.fieldLink "YoungerBack" (233 : Nat) "YoungerBack$League" "aged" "[I") ∈ lw_all := lw_g (lw_at lw_m1 120 rfl) rfl
theorem q210 : (Jvm.Cond.classLink "YoungerBack" (50 : Nat) "YoungerBack$Trail") ∈ lw_all := lw_g (lw_at lw_m1 151 rfl) rfl
theorem q212 : (Jvm.Cond.methodLinkNest "YoungerBack" (52 : Nat) ({ cls := "YoungerBack$Trail", name := "<init>", desc := "()V" } : Jvm.MethodName) "YoungerBack") ∈ lw_tbl := lw_at lw_m1 153 rfl
theorem q217 : (Jvm.Cond.fieldLinkNest "YoungerBack" (329 : Nat) "YoungerBack$Trail" "body" "[I" "YoungerBack") ∈ lw_tbl := lw_at lw_m1 158 rfl
theorem q219 : (Jvm.Cond.fieldLinkNest "YoungerBack" (327 : Nat) "YoungerBack$Trail" "many" "I" "YoungerBack") ∈ lw_tbl := lw_at lw_m1 160 rfl
theorem q225 : (Jvm.Cond.fieldLink "YoungerBack" (28 : Nat) "YoungerBack" "rows" "[LYoungerBack$Row;") ∈ lw_all := lw_g (lw_at lw_m1 166 rfl) rfl
theorem q226 : (Jvm.Cond.fieldLink "YoungerBack" (32 : Nat) "YoungerBack" "tape" "[B") ∈ lw_all := lw_g (lw_at lw_m1 167 rfl) rfl
theorem q227 : (Jvm.Cond.fieldLink "YoungerBack" (127 : Nat) "YoungerBack" "taped" "I") ∈ lw_all := lw_g (lw_at lw_m1 168 rfl) rfl
theorem q228 : (Jvm.Cond.fieldLink "YoungerBack" (144 : Nat) "YoungerBack" "faultKind" "I") ∈ lw_all := lw_g (lw_at lw_m1 169 rfl) rfl
theorem q229 : (Jvm.Cond.fieldLink "YoungerBack" (39 : Nat) "YoungerBack" "league" "LYoungerBack$League;") ∈ lw_all := lw_g (lw_at lw_m1 170 rfl) rfl
theorem q230 : (Jvm.Cond.fieldLink "YoungerBack" (43 : Nat) "YoungerBack" "past" "[LYoungerBack$League;") ∈ lw_all := lw_g (lw_at lw_m1 171 rfl) rfl
theorem q231 : (Jvm.Cond.fieldLink "YoungerBack" (158 : Nat) "YoungerBack" "acts" "I") ∈ lw_all := lw_g (lw_at lw_m1 172 rfl) rfl
theorem q232 : (Jvm.Cond.fieldLink "YoungerBack" (47 : Nat) "YoungerBack" "images" "[LYoungerBack$League;") ∈ lw_all := lw_g (lw_at lw_m1 173 rfl) rfl
theorem q233 : (Jvm.Cond.fieldLink "YoungerBack" (53 : Nat) "YoungerBack" "trail" "LYoungerBack$Trail;") ∈ lw_all := lw_g (lw_at lw_m1 174 rfl) rfl
theorem q234 : (Jvm.Cond.fieldLink "YoungerBack" (70 : Nat) "YoungerBack" "status" "I") ∈ lw_all := lw_g (lw_at lw_m1 175 rfl) rfl
theorem q235 : (Jvm.Cond.fieldLink "YoungerBack" (57 : Nat) "YoungerBack" "gain" "[J") ∈ lw_all := lw_g (lw_at lw_m1 176 rfl) rfl
theorem q236 : (Jvm.Cond.fieldLink "YoungerBack" (61 : Nat) "YoungerBack" "gainOther" "[J") ∈ lw_all := lw_g (lw_at lw_m1 177 rfl) rfl
theorem q237 : (Jvm.Cond.laysFinal "YoungerBack" "YoungerBack" "rows" "[LYoungerBack$Row;") ∈ lw_all := lw_g (lw_at lw_m1 178 rfl) rfl
theorem q238 : (Jvm.Cond.soleField "YoungerBack" "rows") ∈ lw_all := lw_g (lw_at lw_m1 179 rfl) rfl
theorem q239 : (Jvm.Cond.laysFinal "YoungerBack" "YoungerBack" "tape" "[B") ∈ lw_all := lw_g (lw_at lw_m1 180 rfl) rfl
theorem q240 : (Jvm.Cond.soleField "YoungerBack" "tape") ∈ lw_all := lw_g (lw_at lw_m1 181 rfl) rfl
theorem q241 : (Jvm.Cond.lays "YoungerBack" "YoungerBack" "taped" "I") ∈ lw_all := lw_g (lw_at lw_m1 182 rfl) rfl
theorem q242 : (Jvm.Cond.soleField "YoungerBack" "taped") ∈ lw_all := lw_g (lw_at lw_m1 183 rfl) rfl
theorem q243 : (Jvm.Cond.lays "YoungerBack" "YoungerBack" "faultKind" "I") ∈ lw_all := lw_g (lw_at lw_m1 184 rfl) rfl
theorem q244 : (Jvm.Cond.soleField "YoungerBack" "faultKind") ∈ lw_all := lw_g (lw_at lw_m1 185 rfl) rfl
theorem q245 : (Jvm.Cond.laysFinal "YoungerBack" "YoungerBack" "league" "LYoungerBack$League;") ∈ lw_all := lw_g (lw_at lw_m1 186 rfl) rfl
theorem q246 : (Jvm.Cond.soleField "YoungerBack" "league") ∈ lw_all := lw_g (lw_at lw_m1 187 rfl) rfl
theorem q247 : (Jvm.Cond.laysFinal "YoungerBack" "YoungerBack" "past" "[LYoungerBack$League;") ∈ lw_all := lw_g (lw_at lw_m1 188 rfl) rfl
theorem q248 : (Jvm.Cond.soleField "YoungerBack" "past") ∈ lw_all := lw_g (lw_at lw_m1 189 rfl) rfl
theorem q249 : (Jvm.Cond.lays "YoungerBack" "YoungerBack" "acts" "I") ∈ lw_all := lw_g (lw_at lw_m1 190 rfl) rfl
theorem q250 : (Jvm.Cond.soleField "YoungerBack" "acts") ∈ lw_all := lw_g (lw_at lw_m1 191 rfl) rfl
theorem q251 : (Jvm.Cond.laysFinal "YoungerBack" "YoungerBack" "images" "[LYoungerBack$League;") ∈ lw_all := lw_g (lw_at lw_m1 192 rfl) rfl
theorem q252 : (Jvm.Cond.soleField "YoungerBack" "images") ∈ lw_all := lw_g (lw_at lw_m1 193 rfl) rfl
theorem q253 : (Jvm.Cond.lays "YoungerBack" "YoungerBack" "trail" "LYoungerBack$Trail;") ∈ lw_all := lw_g (lw_at lw_m1 194 rfl) rfl
theorem q254 : (Jvm.Cond.soleField "YoungerBack" "trail") ∈ lw_all := lw_g (lw_at lw_m1 195 rfl) rfl
theorem q255 : (Jvm.Cond.lays "YoungerBack" "YoungerBack" "status" "I") ∈ lw_all := lw_g (lw_at lw_m1 196 rfl) rfl
theorem q256 : (Jvm.Cond.soleField "YoungerBack" "status") ∈ lw_all := lw_g (lw_at lw_m1 197 rfl) rfl
theorem q257 : (Jvm.Cond.laysFinal "YoungerBack" "YoungerBack" "gain" "[J") ∈ lw_all := lw_g (lw_at lw_m1 198 rfl) rfl
theorem q258 : (Jvm.Cond.soleField "YoungerBack" "gain") ∈ lw_all := lw_g (lw_at lw_m1 199 rfl) rfl
theorem q259 : (Jvm.Cond.laysFinal "YoungerBack" "YoungerBack" "gainOther" "[J") ∈ lw_all := lw_g (lw_at lw_m1 200 rfl) rfl
theorem q260 : (Jvm.Cond.soleField "YoungerBack" "gainOther") ∈ lw_all := lw_g (lw_at lw_m1 201 rfl) rfl
theorem q261 : (Jvm.Cond.superclass "YoungerBack" "java/lang/Object") ∈ lw_all := lw_g (lw_at lw_m1 202 rfl) rfl
theorem q264 : (Jvm.Cond.instanceMethod ({ cls := "YoungerBack", name := "row", desc := "(III)I" } : Jvm.MethodName)) ∈ lw_all := lw_g (lw_at lw_m1 205 rfl) rfl
theorem q265 : (Jvm.Cond.selects "YoungerBack" ({ cls := "YoungerBack", name := "row", desc := "(III)I" } : Jvm.MethodName) ({ cls := "YoungerBack", name := "row", desc := "(III)I" } : Jvm.MethodName)) ∈ lw_all := lw_g (lw_at lw_m1 206 rfl) rfl
theorem q266 : (Jvm.Cond.codeWith ({ cls := "YoungerBack", name := "row", desc := "(III)I" } : Jvm.MethodName) prog_1_method_9_code (5 : Nat) (Option.some Jvm.ClassFile.FieldType.int) [((28 : Nat), (61 : Nat), (62 : Nat), (65 : Nat))]) ∈ lw_all := lw_g (lw_at lw_m1 207 rfl) rfl
theorem q267 : (Jvm.Cond.classLink "YoungerBack" (65 : Nat) "YoungerBack$Finding") ∈ lw_all := lw_g (lw_at lw_m1 208 rfl) rfl
theorem q268 : (Jvm.Cond.methodLink "YoungerBack" (87 : Nat) ({ cls := "YoungerBack", name := "isRow", desc := "(I)Z" } : Jvm.MethodName)) ∈ lw_all := lw_g (lw_at lw_m1 209 rfl) rfl
theorem q269 : (Jvm.Cond.static ({ cls := "YoungerBack", name := "isRow", desc := "(I)Z" } : Jvm.MethodName)) ∈ lw_all := lw_g (lw_at lw_m1 210 rfl) rfl
theorem q270 : (Jvm.Cond.code ({ cls := "YoungerBack", name := "isRow", desc := "(I)Z" } : Jvm.MethodName) prog_1_method_7_code (1 : Nat) (Option.some Jvm.ClassFile.FieldType.boolean)) ∈ lw_all := lw_g (lw_at lw_m1 211 rfl) rfl
theorem q271 : (Jvm.Cond.constantLong "YoungerBack" (77 : Nat) (7 : Int64)) ∈ lw_all := lw_g (lw_at lw_m1 212 rfl) rfl
theorem q272 : (Jvm.Cond.methodLink "YoungerBack" (79 : Nat) ({ cls := "YoungerBack", name := "isIn", desc := "(JJJ)Z" } : Jvm.MethodName)) ∈ lw_all := lw_g (lw_at lw_m1 213 rfl) rfl
theorem q273 : (Jvm.Cond.static ({ cls := "YoungerBack", name := "isIn", desc := "(JJJ)Z" } : Jvm.MethodName)) ∈ lw_all := lw_g (lw_at lw_m1 214 rfl) rfl
theorem q274 : (Jvm.Cond.code ({ cls := "YoungerBack", name := "isIn", desc := "(JJJ)Z" } : Jvm.MethodName) prog_1_method_1_code (6 : Nat) (Option.some Jvm.ClassFile.FieldType.boolean)) ∈ lw_all := lw_g (lw_at lw_m1 215 rfl) rfl
theorem q275 : (Jvm.Cond.constantLong "YoungerBack" (91 : Nat) (2 : Int64)) ∈ lw_all := lw_g (lw_at lw_m1 216 rfl) rfl
theorem q276 : (Jvm.Cond.constant "YoungerBack" (93 : Nat) (-1000001 : Int32)) ∈ lw_all := lw_g (lw_at lw_m1 217 rfl) rfl
theorem q277 : (Jvm.Cond.methodLink "YoungerBack" (83 : Nat) ({ cls := "YoungerBack", name := "must", desc := "(ZI)V" } : Jvm.MethodName)) ∈ lw_all := lw_g (lw_at lw_m1 218 rfl) rfl
theorem q278 : (Jvm.Cond.static ({ cls := "YoungerBack", name := "must", desc := "(ZI)V" } : Jvm.MethodName)) ∈ lw_all := lw_g (lw_at lw_m1 219 rfl) rfl
theorem q279 : (Jvm.Cond.code ({ cls := "YoungerBack", name := "must", desc := "(ZI)V" } : Jvm.MethodName) prog_1_method_6_code (2 : Nat) (Option.none : Option Jvm.ClassFile.FieldType)) ∈ lw_all := lw_g (lw_at lw_m1 220 rfl) rfl
theorem q319 : (Jvm.Cond.methodLink "YoungerBack" (74 : Nat) ({ cls := "YoungerBack$Finding", name := "<init>", desc := "(I)V" } : Jvm.MethodName)) ∈ lw_all := lw_g (lw_at lw_m2 20 rfl) rfl
theorem q329 : (Jvm.Cond.fieldLink "YoungerBack" (64 : Nat) "YoungerBack$Finding" "number" "I") ∈ lw_all := lw_g (lw_at lw_m2 30 rfl) rfl
theorem q346 : (Jvm.Cond.methodLink "YoungerBack" (94 : Nat) ({ cls := "YoungerBack$Row", name := "<init>", desc := "(II)V" } : Jvm.MethodName)) ∈ lw_all := lw_g (lw_at lw_m2 47 rfl) rfl
theorem q351 : (Jvm.Cond.fieldLink "YoungerBack" (114 : Nat) "YoungerBack$Row" "lane" "I") ∈ lw_all := lw_g (lw_at lw_m2 52 rfl) rfl
theorem q353 : (Jvm.Cond.fieldLink "YoungerBack" (107 : Nat) "YoungerBack$Row" "items" "[I") ∈ lw_all := lw_g (lw_at lw_m2 54 rfl) rfl
theorem q359 : (Jvm.Cond.methodLink "YoungerBack" (95 : Nat) ({ cls := "YoungerBack", name := "well", desc := "(I)I" } : Jvm.MethodName)) ∈ lw_all := lw_g (lw_at lw_m2 60 rfl) rfl
theorem q360 : (Jvm.Cond.privateMethod ({ cls := "YoungerBack", name := "well", desc := "(I)I" } : Jvm.MethodName)) ∈ lw_tbl := lw_at lw_m2 61 rfl
theorem q361 : (Jvm.Cond.instanceMethod ({ cls := "YoungerBack", name := "well", desc := "(I)I" } : Jvm.MethodName)) ∈ lw_all := lw_g (lw_at lw_m2 62 rfl) rfl
theorem q362 : (Jvm.Cond.code ({ cls := "YoungerBack", name := "well", desc := "(I)I" } : Jvm.MethodName) prog_1_method_5_code (2 : Nat) (Option.some Jvm.ClassFile.FieldType.int)) ∈ lw_all := lw_g (lw_at lw_m2 63 rfl) rfl
theorem q363 : (Jvm.Cond.methodLink "YoungerBack" (99 : Nat) ({ cls := "YoungerBack", name := "found", desc := "(LYoungerBack$Finding;)I" } : Jvm.MethodName)) ∈ lw_all := lw_g (lw_at lw_m2 64 rfl) rfl
theorem q364 : (Jvm.Cond.privateMethod ({ cls := "YoungerBack", name := "found", desc := "(LYoungerBack$Finding;)I" } : Jvm.MethodName)) ∈ lw_tbl := lw_at lw_m2 65 rfl
theorem q365 : (Jvm.Cond.instanceMethod ({ cls := "YoungerBack", name := "found", desc := "(LYoungerBack$Finding;)I" } : Jvm.MethodName)) ∈ lw_all := lw_g (lw_at lw_m2 66 rfl) rfl
theorem q366 : (Jvm.Cond.code ({ cls := "YoungerBack", name := "found", desc := "(LYoungerBack$Finding;)I" } : Jvm.MethodName) prog_1_method_4_code (2 : Nat) (Option.some Jvm.ClassFile.FieldType.int)) ∈ lw_all := lw_g (lw_at lw_m2 67 rfl) rfl
theorem q367 : (Jvm.Cond.constant "YoungerBack" (73 : Nat) (-1000010 : Int32)) ∈ lw_all := lw_g (lw_at lw_m2 68 rfl) rfl
theorem q369 : (Jvm.Cond.instanceMethod ({ cls := "YoungerBack", name := "set", desc := "(III)I" } : Jvm.MethodName)) ∈ lw_all := lw_g (lw_at lw_m2 70 rfl) rfl
theorem q370 : (Jvm.Cond.selects "YoungerBack" ({ cls := "YoungerBack", name := "set", desc := "(III)I" } : Jvm.MethodName) ({ cls := "YoungerBack", name := "set", desc := "(III)I" } : Jvm.MethodName)) ∈ lw_all := lw_g (lw_at lw_m2 71 rfl) rfl
theorem q371 : (Jvm.Cond.codeWith ({ cls := "YoungerBack", name := "set", desc := "(III)I" } : Jvm.MethodName) prog_1_method_10_code (5 : Nat) (Option.some Jvm.ClassFile.FieldType.int) [((10 : Nat), (60 : Nat), (61 : Nat), (65 : Nat))]) ∈ lw_all := lw_g (lw_at lw_m2 72 rfl) rfl
theorem q372 : (Jvm.Cond.methodLink "YoungerBack" (103 : Nat) ({ cls := "YoungerBack", name := "rowAt", desc := "(I)LYoungerBack$Row;" } : Jvm.MethodName)) ∈ lw_all := lw_g (lw_at lw_m2 73 rfl) rfl
theorem q373 : (Jvm.Cond.privateMethod ({ cls := "YoungerBack", name := "rowAt", desc := "(I)LYoungerBack$Row;" } : Jvm.MethodName)) ∈ lw_tbl := lw_at lw_m2 74 rfl
theorem q374 : (Jvm.Cond.instanceMethod ({ cls := "YoungerBack", name := "rowAt", desc := "(I)LYoungerBack$Row;" } : Jvm.MethodName)) ∈ lw_all := lw_g (lw_at lw_m2 75 rfl) rfl
theorem q375 : (Jvm.Cond.code ({ cls := "YoungerBack", name := "rowAt", desc := "(I)LYoungerBack$Row;" } : Jvm.MethodName) prog_1_method_8_code (2 : Nat) (Option.some (Jvm.ClassFile.FieldType.object "YoungerBack$Row"))) ∈ lw_all := lw_g (lw_at lw_m2 76 rfl) rfl
theorem q376 : (Jvm.Cond.methodLink "YoungerBack" (111 : Nat) ({ cls := "YoungerBack$Row", name := "cut", desc := "(I)I" } : Jvm.MethodName)) ∈ lw_all := lw_g (lw_at lw_m2 77 rfl) rfl
theorem q381 : (Jvm.Cond.instanceMethod ({ cls := "YoungerBack", name := "copy", desc := "(IIIII)I" } : Jvm.MethodName)) ∈ lw_all := lw_g (lw_at lw_m2 82 rfl) rfl
theorem q382 : (Jvm.Cond.selects "YoungerBack" ({ cls := "YoungerBack", name := "copy", desc := "(IIIII)I" } : Jvm.MethodName) ({ cls := "YoungerBack", name := "copy", desc := "(IIIII)I" } : Jvm.MethodName)) ∈ lw_all := lw_g (lw_at lw_m2 83 rfl) rfl
theorem q383 : (Jvm.Cond.codeWith ({ cls := "YoungerBack", name := "copy", desc := "(IIIII)I" } : Jvm.MethodName) prog_1_method_11_code (9 : Nat) (Option.some Jvm.ClassFile.FieldType.int) [((53 : Nat), (71 : Nat), (74 : Nat), (123 : Nat)), ((17 : Nat), (91 : Nat), (92 : Nat), (65 : Nat))]) ∈ lw_all := lw_g (lw_at lw_m2 84 rfl) rfl
theorem q384 : (Jvm.Cond.classLink "YoungerBack" (123 : Nat) "java/lang/IndexOutOfBoundsException") ∈ lw_all := lw_g (lw_at lw_m2 85 rfl) rfl
theorem q418 : (Jvm.Cond.methodLink "YoungerBack" (117 : Nat) ({ cls := "java/lang/System", name := "arraycopy", desc := "(Ljava/lang/Object;ILjava/lang/Object;II)V" } : Jvm.MethodName)) ∈ lw_all := lw_g (lw_at lw_m2 119 rfl) rfl
theorem q422 : (Jvm.Cond.instanceMethod ({ cls := "YoungerBack", name := "drop", desc := "(I)I" } : Jvm.MethodName)) ∈ lw_all := lw_g (lw_at lw_m2 123 rfl) rfl
theorem q423 : (Jvm.Cond.selects "YoungerBack" ({ cls := "YoungerBack", name := "drop", desc := "(I)I" } : Jvm.MethodName) ({ cls := "YoungerBack", name := "drop", desc := "(I)I" } : Jvm.MethodName)) ∈ lw_all := lw_g (lw_at lw_m2 124 rfl) rfl
theorem q424 : (Jvm.Cond.codeWith ({ cls := "YoungerBack", name := "drop", desc := "(I)I" } : Jvm.MethodName) prog_1_method_12_code (3 : Nat) (Option.some Jvm.ClassFile.FieldType.int) [((10 : Nat), (32 : Nat), (33 : Nat), (65 : Nat))]) ∈ lw_all := lw_g (lw_at lw_m2 125 rfl) rfl
theorem q426 : (Jvm.Cond.instanceMethod ({ cls := "YoungerBack", name := "feed", desc := "(JI)I" } : Jvm.MethodName)) ∈ lw_all := lw_g (lw_at lw_m2 127 rfl) rfl
theorem q427 : (Jvm.Cond.selects "YoungerBack" ({ cls := "YoungerBack", name := "feed", desc := "(JI)I" } : Jvm.MethodName) ({ cls := "YoungerBack", name := "feed", desc := "(JI)I" } : Jvm.MethodName)) ∈ lw_all := lw_g (lw_at lw_m2 128 rfl) rfl
theorem q428 : (Jvm.Cond.code ({ cls := "YoungerBack", name := "feed", desc := "(JI)I" } : Jvm.MethodName) prog_1_method_13_code (5 : Nat) (Option.some Jvm.ClassFile.FieldType.int)) ∈ lw_all := lw_g (lw_at lw_m2 129 rfl) rfl
theorem q429 : (Jvm.Cond.constantLong "YoungerBack" (125 : Nat) (8 : Int64)) ∈ lw_all := lw_g (lw_at lw_m2 130 rfl) rfl
theorem q430 : (Jvm.Cond.constant "YoungerBack" (130 : Nat) (-1000003 : Int32)) ∈ lw_all := lw_g (lw_at lw_m2 131 rfl) rfl
theorem q432 : (Jvm.Cond.instanceMethod ({ cls := "YoungerBack", name := "league", desc := "()I" } : Jvm.MethodName)) ∈ lw_all := lw_g (lw_at lw_m2 133 rfl) rfl
theorem q433 : (Jvm.Cond.selects "YoungerBack" ({ cls := "YoungerBack", name := "league", desc := "()I" } : Jvm.MethodName) ({ cls := "YoungerBack", name := "league", desc := "()I" } : Jvm.MethodName)) ∈ lw_all := lw_g (lw_at lw_m2 134 rfl) rfl
theorem q434 : (Jvm.Cond.codeWith ({ cls := "YoungerBack", name := "league", desc := "()I" } : Jvm.MethodName) prog_1_method_14_code (3 : Nat) (Option.some Jvm.ClassFile.FieldType.int) [((21 : Nat), (25 : Nat), (28 : Nat), (139 : Nat))]) ∈ lw_all := lw_g (lw_at lw_m2 135 rfl) rfl
theorem q435 : (Jvm.Cond.classLink "YoungerBack" (139 : Nat) "YoungerBack$Fault") ∈ lw_all := lw_g (lw_at lw_m2 136 rfl) rfl
theorem q436 : (Jvm.Cond.classLink "YoungerBack" (131 : Nat) "YoungerBack$Reader") ∈ lw_all := lw_g (lw_at lw_m2 137 rfl) rfl
theorem q438 : (Jvm.Cond.methodLink "YoungerBack" (133 : Nat) ({ cls := "YoungerBack$Reader", name := "<init>", desc := "([BI)V" } : Jvm.MethodName)) ∈ lw_all := lw_g (lw_at lw_m2 139 rfl) rfl
theorem q453 : (Jvm.Cond.fieldLink "YoungerBack" (151 : Nat) "YoungerBack$Reader" "made" "LYoungerBack$League;") ∈ lw_all := lw_g (lw_at lw_m2 154 rfl) rfl
theorem q471 : (Jvm.Cond.methodLink "YoungerBack" (136 : Nat) ({ cls := "YoungerBack$Reader", name := "all", desc := "()V" } : Jvm.MethodName)) ∈ lw_all := lw_g (lw_at lw_m2 172 rfl) rfl
theorem q700 : (Jvm.Cond.fieldLink "YoungerBack" (141 : Nat) "YoungerBack$Fault" "kind" "I") ∈ lw_all := lw_g (lw_at lw_m3 161 rfl) rfl
theorem q702 : (Jvm.Cond.fieldLink "YoungerBack" (148 : Nat) "YoungerBack$Fault" "place" "I") ∈ lw_all := lw_g (lw_at lw_m3 163 rfl) rfl
theorem q746 : (Jvm.Cond.laysStatic "YoungerBack" "SORT" "[Ljava/lang/String;") ∈ lw_tbl := lw_at lw_m3 207 rfl
theorem q748 : (Jvm.Cond.static ({ cls := "YoungerBack", name := "personBy", desc := "(III)LYoungerBack$Person;" } : Jvm.MethodName)) ∈ lw_all := lw_g (lw_at lw_m3 209 rfl) rfl
theorem q749 : (Jvm.Cond.code ({ cls := "YoungerBack", name := "personBy", desc := "(III)LYoungerBack$Person;" } : Jvm.MethodName) prog_1_method_2_code (3 : Nat) (Option.some (Jvm.ClassFile.FieldType.object "YoungerBack$Person"))) ∈ lw_all := lw_g (lw_at lw_m3 210 rfl) rfl
theorem q750 : (Jvm.Cond.classLink "YoungerBack" (3 : Nat) "YoungerBack$Captain") ∈ lw_all := lw_g (lw_at lw_m3 211 rfl) rfl
theorem q752 : (Jvm.Cond.methodLink "YoungerBack" (5 : Nat) ({ cls := "YoungerBack$Captain", name := "<init>", desc := "(II)V" } : Jvm.MethodName)) ∈ lw_all := lw_g (lw_at lw_m3 213 rfl) rfl
theorem q761 : (Jvm.Cond.fieldLink "YoungerBack" (248 : Nat) "YoungerBack$Person" "age" "I") ∈ lw_all := lw_g (lw_at lw_m3 222 rfl) rfl
theorem q767 : (Jvm.Cond.classLink "YoungerBack" (9 : Nat) "YoungerBack$Pilot") ∈ lw_all := lw_g (lw_at lw_m3 228 rfl) rfl
theorem q769 : (Jvm.Cond.methodLink "YoungerBack" (11 : Nat) ({ cls := "YoungerBack$Pilot", name := "<init>", desc := "(II)V" } : Jvm.MethodName)) ∈ lw_all := lw_g (lw_at lw_m3 230 rfl) rfl
theorem q776 : (Jvm.Cond.classLink "YoungerBack" (12 : Nat) "YoungerBack$Monk") ∈ lw_all := lw_g (lw_at lw_m3 237 rfl) rfl
theorem q778 : (Jvm.Cond.methodLink "YoungerBack" (14 : Nat) ({ cls := "YoungerBack$Monk", name := "<init>", desc := "(II)V" } : Jvm.MethodName)) ∈ lw_all := lw_g (lw_at lw_m3 239 rfl) rfl
theorem q785 : (Jvm.Cond.classLink "YoungerBack" (15 : Nat) "YoungerBack$Clerk") ∈ lw_all := lw_g (lw_at lw_m4 6 rfl) rfl
theorem q787 : (Jvm.Cond.methodLink "YoungerBack" (17 : Nat) ({ cls := "YoungerBack$Clerk", name := "<init>", desc := "(II)V" } : Jvm.MethodName)) ∈ lw_all := lw_g (lw_at lw_m4 8 rfl) rfl
theorem q794 : (Jvm.Cond.classLink "YoungerBack" (18 : Nat) "YoungerBack$Boy") ∈ lw_all := lw_g (lw_at lw_m4 15 rfl) rfl
theorem q796 : (Jvm.Cond.methodLink "YoungerBack" (20 : Nat) ({ cls := "YoungerBack$Boy", name := "<init>", desc := "(II)V" } : Jvm.MethodName)) ∈ lw_all := lw_g (lw_at lw_m4 17 rfl) rfl
theorem q831 : (Jvm.Cond.selects "YoungerBack" ({ cls := "java/lang/Object", name := "getClass", desc := "()Ljava/lang/Class;" } : Jvm.MethodName) ({ cls := "java/lang/Object", name := "getClass", desc := "()Ljava/lang/Class;" } : Jvm.MethodName)) ∈ lw_all := lw_g (lw_at lw_m4 52 rfl) rfl
theorem q858 : (Jvm.Cond.constant "YoungerBack" (147 : Nat) (-1000100 : Int32)) ∈ lw_all := lw_g (lw_at lw_m4 79 rfl) rfl
theorem q859 : (Jvm.Cond.methodLink "YoungerBack" (154 : Nat) ({ cls := "YoungerBack$League", name := "become", desc := "(LYoungerBack$League;)LYoungerBack$League;" } : Jvm.MethodName)) ∈ lw_all := lw_g (lw_at lw_m4 80 rfl) rfl
theorem q864 : (Jvm.Cond.methodLink "YoungerBack" (161 : Nat) ({ cls := "YoungerBack$League", name := "many", desc := "()I" } : Jvm.MethodName)) ∈ lw_all := lw_g (lw_at lw_m4 85 rfl) rfl
theorem q866 : (Jvm.Cond.instanceMethod ({ cls := "YoungerBack", name := "fault", desc := "()I" } : Jvm.MethodName)) ∈ lw_all := lw_g (lw_at lw_m4 87 rfl) rfl
theorem q867 : (Jvm.Cond.selects "YoungerBack" ({ cls := "YoungerBack", name := "fault", desc := "()I" } : Jvm.MethodName) ({ cls := "YoungerBack", name := "fault", desc := "()I" } : Jvm.MethodName)) ∈ lw_all := lw_g (lw_at lw_m4 88 rfl) rfl
theorem q868 : (Jvm.Cond.code ({ cls := "YoungerBack", name := "fault", desc := "()I" } : Jvm.MethodName) prog_1_method_15_code (1 : Nat) (Option.some Jvm.ClassFile.FieldType.int)) ∈ lw_all := lw_g (lw_at lw_m4 89 rfl) rfl
theorem q870 : (Jvm.Cond.instanceMethod ({ cls := "YoungerBack", name := "sail", desc := "(II)I" } : Jvm.MethodName)) ∈ lw_all := lw_g (lw_at lw_m4 91 rfl) rfl
theorem q871 : (Jvm.Cond.selects "YoungerBack" ({ cls := "YoungerBack", name := "sail", desc := "(II)I" } : Jvm.MethodName) ({ cls := "YoungerBack", name := "sail", desc := "(II)I" } : Jvm.MethodName)) ∈ lw_all := lw_g (lw_at lw_m4 92 rfl) rfl
theorem q872 : (Jvm.Cond.code ({ cls := "YoungerBack", name := "sail", desc := "(II)I" } : Jvm.MethodName) prog_1_method_25_code (3 : Nat) (Option.some Jvm.ClassFile.FieldType.int)) ∈ lw_all := lw_g (lw_at lw_m4 93 rfl) rfl
theorem q873 : (Jvm.Cond.methodLink "YoungerBack" (168 : Nat) ({ cls := "YoungerBack", name := "isPerson", desc := "(I)Z" } : Jvm.MethodName)) ∈ lw_all := lw_g (lw_at lw_m4 94 rfl) rfl
theorem q874 : (Jvm.Cond.privateMethod ({ cls := "YoungerBack", name := "isPerson", desc := "(I)Z" } : Jvm.MethodName)) ∈ lw_tbl := lw_at lw_m4 95 rfl
theorem q875 : (Jvm.Cond.instanceMethod ({ cls := "YoungerBack", name := "isPerson", desc := "(I)Z" } : Jvm.MethodName)) ∈ lw_all := lw_g (lw_at lw_m4 96 rfl) rfl
theorem q876 : (Jvm.Cond.code ({ cls := "YoungerBack", name := "isPerson", desc := "(I)Z" } : Jvm.MethodName) prog_1_method_17_code (2 : Nat) (Option.some Jvm.ClassFile.FieldType.boolean)) ∈ lw_all := lw_g (lw_at lw_m4 97 rfl) rfl
theorem q877 : (Jvm.Cond.methodLink "YoungerBack" (185 : Nat) ({ cls := "YoungerBack", name := "isWay", desc := "(I)Z" } : Jvm.MethodName)) ∈ lw_all := lw_g (lw_at lw_m4 98 rfl) rfl
theorem q878 : (Jvm.Cond.privateMethod ({ cls := "YoungerBack", name := "isWay", desc := "(I)Z" } : Jvm.MethodName)) ∈ lw_tbl := lw_at lw_m4 99 rfl
theorem q879 : (Jvm.Cond.instanceMethod ({ cls := "YoungerBack", name := "isWay", desc := "(I)Z" } : Jvm.MethodName)) ∈ lw_all := lw_g (lw_at lw_m4 100 rfl) rfl
theorem q880 : (Jvm.Cond.code ({ cls := "YoungerBack", name := "isWay", desc := "(I)Z" } : Jvm.MethodName) prog_1_method_20_code (2 : Nat) (Option.some Jvm.ClassFile.FieldType.boolean)) ∈ lw_all := lw_g (lw_at lw_m4 101 rfl) rfl
theorem q881 : (Jvm.Cond.methodLink "YoungerBack" (188 : Nat) ({ cls := "YoungerBack", name := "canSail", desc := "(II)Z" } : Jvm.MethodName)) ∈ lw_all := lw_g (lw_at lw_m4 102 rfl) rfl
theorem q882 : (Jvm.Cond.privateMethod ({ cls := "YoungerBack", name := "canSail", desc := "(II)Z" } : Jvm.MethodName)) ∈ lw_tbl := lw_at lw_m4 103 rfl
theorem q883 : (Jvm.Cond.instanceMethod ({ cls := "YoungerBack", name := "canSail", desc := "(II)Z" } : Jvm.MethodName)) ∈ lw_all := lw_g (lw_at lw_m4 104 rfl) rfl
theorem q884 : (Jvm.Cond.code ({ cls := "YoungerBack", name := "canSail", desc := "(II)Z" } : Jvm.MethodName) prog_1_method_23_code (3 : Nat) (Option.some Jvm.ClassFile.FieldType.boolean)) ∈ lw_all := lw_g (lw_at lw_m4 105 rfl) rfl
theorem q885 : (Jvm.Cond.methodLink "YoungerBack" (177 : Nat) ({ cls := "YoungerBack$League", name := "end", desc := "(III)I" } : Jvm.MethodName)) ∈ lw_all := lw_g (lw_at lw_m4 106 rfl) rfl
theorem q919 : (Jvm.Cond.constant "YoungerBack" (181 : Nat) (-1000000 : Int32)) ∈ lw_all := lw_g (lw_at lw_m4 140 rfl) rfl
theorem q920 : (Jvm.Cond.constant "YoungerBack" (192 : Nat) (-1000002 : Int32)) ∈ lw_all := lw_g (lw_at lw_m4 141 rfl) rfl
theorem q921 : (Jvm.Cond.methodLink "YoungerBack" (196 : Nat) ({ cls := "YoungerBack", name := "isTooLate", desc := "(II)Z" } : Jvm.MethodName)) ∈ lw_all := lw_g (lw_at lw_m4 142 rfl) rfl
theorem q922 : (Jvm.Cond.privateMethod ({ cls := "YoungerBack", name := "isTooLate", desc := "(II)Z" } : Jvm.MethodName)) ∈ lw_tbl := lw_at lw_m4 143 rfl
theorem q923 : (Jvm.Cond.instanceMethod ({ cls := "YoungerBack", name := "isTooLate", desc := "(II)Z" } : Jvm.MethodName)) ∈ lw_all := lw_g (lw_at lw_m4 144 rfl) rfl
theorem q924 : (Jvm.Cond.code ({ cls := "YoungerBack", name := "isTooLate", desc := "(II)Z" } : Jvm.MethodName) prog_1_method_24_code (3 : Nat) (Option.some Jvm.ClassFile.FieldType.boolean)) ∈ lw_all := lw_g (lw_at lw_m4 145 rfl) rfl
theorem q925 : (Jvm.Cond.methodLink "YoungerBack" (199 : Nat) ({ cls := "YoungerBack", name := "keep", desc := "()V" } : Jvm.MethodName)) ∈ lw_all := lw_g (lw_at lw_m4 146 rfl) rfl
theorem q926 : (Jvm.Cond.privateMethod ({ cls := "YoungerBack", name := "keep", desc := "()V" } : Jvm.MethodName)) ∈ lw_tbl := lw_at lw_m4 147 rfl
theorem q927 : (Jvm.Cond.instanceMethod ({ cls := "YoungerBack", name := "keep", desc := "()V" } : Jvm.MethodName)) ∈ lw_all := lw_g (lw_at lw_m4 148 rfl) rfl
theorem q928 : (Jvm.Cond.code ({ cls := "YoungerBack", name := "keep", desc := "()V" } : Jvm.MethodName) prog_1_method_22_code (3 : Nat) (Option.none : Option Jvm.ClassFile.FieldType)) ∈ lw_all := lw_g (lw_at lw_m4 149 rfl) rfl
theorem q929 : (Jvm.Cond.methodLink "YoungerBack" (202 : Nat) ({ cls := "YoungerBack$League", name := "sail", desc := "(II)V" } : Jvm.MethodName)) ∈ lw_all := lw_g (lw_at lw_m4 150 rfl) rfl
theorem q959 : (Jvm.Cond.instanceMethod ({ cls := "YoungerBack", name := "sails", desc := "(IIII)I" } : Jvm.MethodName)) ∈ lw_all := lw_g (lw_at lw_m4 180 rfl) rfl
theorem q960 : (Jvm.Cond.selects "YoungerBack" ({ cls := "YoungerBack", name := "sails", desc := "(IIII)I" } : Jvm.MethodName) ({ cls := "YoungerBack", name := "sails", desc := "(IIII)I" } : Jvm.MethodName)) ∈ lw_all := lw_g (lw_at lw_m4 181 rfl) rfl
theorem q961 : (Jvm.Cond.codeWith ({ cls := "YoungerBack", name := "sails", desc := "(IIII)I" } : Jvm.MethodName) prog_1_method_26_code (7 : Nat) (Option.some Jvm.ClassFile.FieldType.int) [((31 : Nat), (68 : Nat), (149 : Nat), (65 : Nat)), ((69 : Nat), (148 : Nat), (149 : Nat), (65 : Nat))]) ∈ lw_all := lw_g (lw_at lw_m4 182 rfl) rfl
theorem q962 : (Jvm.Cond.constantLong "YoungerBack" (205 : Nat) (24 : Int64)) ∈ lw_all := lw_g (lw_at lw_m4 183 rfl) rfl
theorem q963 : (Jvm.Cond.methodLink "YoungerBack" (207 : Nat) ({ cls := "YoungerBack$Row", name := "row", desc := "(II)[I" } : Jvm.MethodName)) ∈ lw_all := lw_g (lw_at lw_m4 184 rfl) rfl
theorem q970 : (Jvm.Cond.instanceMethod ({ cls := "YoungerBack", name := "stay", desc := "(II)I" } : Jvm.MethodName)) ∈ lw_all := lw_g (lw_at lw_m4 191 rfl) rfl
theorem q971 : (Jvm.Cond.selects "YoungerBack" ({ cls := "YoungerBack", name := "stay", desc := "(II)I" } : Jvm.MethodName) ({ cls := "YoungerBack", name := "stay", desc := "(II)I" } : Jvm.MethodName)) ∈ lw_all := lw_g (lw_at lw_m4 192 rfl) rfl
theorem q972 : (Jvm.Cond.code ({ cls := "YoungerBack", name := "stay", desc := "(II)I" } : Jvm.MethodName) prog_1_method_27_code (3 : Nat) (Option.some Jvm.ClassFile.FieldType.int)) ∈ lw_all := lw_g (lw_at lw_m4 193 rfl) rfl
theorem q973 : (Jvm.Cond.constantLong "YoungerBack" (211 : Nat) (99 : Int64)) ∈ lw_all := lw_g (lw_at lw_m4 194 rfl) rfl
theorem q974 : (Jvm.Cond.methodLink "YoungerBack" (213 : Nat) ({ cls := "YoungerBack$League", name := "stay", desc := "(II)V" } : Jvm.MethodName)) ∈ lw_all := lw_g (lw_at lw_m4 195 rfl) rfl
theorem q979 : (Jvm.Cond.instanceMethod ({ cls := "YoungerBack", name := "meet", desc := "(II)I" } : Jvm.MethodName)) ∈ lw_all := lw_g (lw_at lw_m4 200 rfl) rfl
theorem q980 : (Jvm.Cond.selects "YoungerBack" ({ cls := "YoungerBack", name := "meet", desc := "(II)I" } : Jvm.MethodName) ({ cls := "YoungerBack", name := "meet", desc := "(II)I" } : Jvm.MethodName)) ∈ lw_all := lw_g (lw_at lw_m4 201 rfl) rfl
theorem q981 : (Jvm.Cond.code ({ cls := "YoungerBack", name := "meet", desc := "(II)I" } : Jvm.MethodName) prog_1_method_28_code (4 : Nat) (Option.some Jvm.ClassFile.FieldType.int)) ∈ lw_all := lw_g (lw_at lw_m4 202 rfl) rfl
theorem q982 : (Jvm.Cond.methodLink "YoungerBack" (219 : Nat) ({ cls := "YoungerBack", name := "areTwo", desc := "(II)Z" } : Jvm.MethodName)) ∈ lw_all := lw_g (lw_at lw_m4 203 rfl) rfl
theorem q983 : (Jvm.Cond.privateMethod ({ cls := "YoungerBack", name := "areTwo", desc := "(II)Z" } : Jvm.MethodName)) ∈ lw_tbl := lw_at lw_m4 204 rfl
theorem q984 : (Jvm.Cond.instanceMethod ({ cls := "YoungerBack", name := "areTwo", desc := "(II)Z" } : Jvm.MethodName)) ∈ lw_all := lw_g (lw_at lw_m4 205 rfl) rfl
theorem q985 : (Jvm.Cond.code ({ cls := "YoungerBack", name := "areTwo", desc := "(II)Z" } : Jvm.MethodName) prog_1_method_18_code (3 : Nat) (Option.some Jvm.ClassFile.FieldType.boolean)) ∈ lw_all := lw_g (lw_at lw_m4 206 rfl) rfl
theorem q987 : (Jvm.Cond.instanceMethod ({ cls := "YoungerBack", name := "borrow", desc := "(II)I" } : Jvm.MethodName)) ∈ lw_all := lw_g (lw_at lw_m4 208 rfl) rfl
theorem q988 : (Jvm.Cond.selects "YoungerBack" ({ cls := "YoungerBack", name := "borrow", desc := "(II)I" } : Jvm.MethodName) ({ cls := "YoungerBack", name := "borrow", desc := "(II)I" } : Jvm.MethodName)) ∈ lw_all := lw_g (lw_at lw_m4 209 rfl) rfl
theorem q989 : (Jvm.Cond.code ({ cls := "YoungerBack", name := "borrow", desc := "(II)I" } : Jvm.MethodName) prog_1_method_29_code (4 : Nat) (Option.some Jvm.ClassFile.FieldType.int)) ∈ lw_all := lw_g (lw_at lw_m4 210 rfl) rfl
theorem q990 : (Jvm.Cond.constantLong "YoungerBack" (222 : Nat) (9999 : Int64)) ∈ lw_all := lw_g (lw_at lw_m4 211 rfl) rfl
theorem q991 : (Jvm.Cond.methodLink "YoungerBack" (224 : Nat) ({ cls := "YoungerBack$League", name := "owedByShore", desc := "(I)I" } : Jvm.MethodName)) ∈ lw_all := lw_g (lw_at lw_m4 212 rfl) rfl
theorem q1005 : (Jvm.Cond.instanceMethod ({ cls := "YoungerBack", name := "undo", desc := "()I" } : Jvm.MethodName)) ∈ lw_all := lw_g (lw_at lw_m4 226 rfl) rfl
theorem q1006 : (Jvm.Cond.selects "YoungerBack" ({ cls := "YoungerBack", name := "undo", desc := "()I" } : Jvm.MethodName) ({ cls := "YoungerBack", name := "undo", desc := "()I" } : Jvm.MethodName)) ∈ lw_all := lw_g (lw_at lw_m4 227 rfl) rfl
theorem q1007 : (Jvm.Cond.code ({ cls := "YoungerBack", name := "undo", desc := "()I" } : Jvm.MethodName) prog_1_method_30_code (1 : Nat) (Option.some Jvm.ClassFile.FieldType.int)) ∈ lw_all := lw_g (lw_at lw_m4 228 rfl) rfl
theorem q1009 : (Jvm.Cond.instanceMethod ({ cls := "YoungerBack", name := "person", desc := "(II)I" } : Jvm.MethodName)) ∈ lw_all := lw_g (lw_at lw_m4 230 rfl) rfl
theorem q1010 : (Jvm.Cond.selects "YoungerBack" ({ cls := "YoungerBack", name := "person", desc := "(II)I" } : Jvm.MethodName) ({ cls := "YoungerBack", name := "person", desc := "(II)I" } : Jvm.MethodName)) ∈ lw_all := lw_g (lw_at lw_m4 231 rfl) rfl
theorem q1011 : (Jvm.Cond.code ({ cls := "YoungerBack", name := "person", desc := "(II)I" } : Jvm.MethodName) prog_1_method_31_code (3 : Nat) (Option.some Jvm.ClassFile.FieldType.int)) ∈ lw_all := lw_g (lw_at lw_m4 232 rfl) rfl
theorem q1012 : (Jvm.Cond.interfaceEntry "YoungerBack" (240 : Nat)) ∈ lw_tbl := lw_at lw_m4 233 rfl
theorem q1013 : (Jvm.Cond.methodLink "YoungerBack" (240 : Nat) ({ cls := "java/util/List", name := "get", desc := "(I)Ljava/lang/Object;" } : Jvm.MethodName)) ∈ lw_all := lw_g (lw_at lw_m4 234 rfl) rfl
theorem q1014 : (Jvm.Cond.classLink "YoungerBack" (246 : Nat) "YoungerBack$Person") ∈ lw_all := lw_g (lw_at lw_m4 235 rfl) rfl
theorem q1015 : (Jvm.Cond.methodLink "YoungerBack" (250 : Nat) ({ cls := "YoungerBack$League", name := "owedByOwn", desc := "(I)I" } : Jvm.MethodName)) ∈ lw_all := lw_g (lw_at lw_m4 236 rfl) rfl
theorem q1020 : (Jvm.Cond.instanceMethod ({ cls := "YoungerBack", name := "gains", desc := "(IIII)I" } : Jvm.MethodName)) ∈ lw_all := lw_g (lw_at lw_m5 1 rfl) rfl
theorem q1021 : (Jvm.Cond.selects "YoungerBack" ({ cls := "YoungerBack", name := "gains", desc := "(IIII)I" } : Jvm.MethodName) ({ cls := "YoungerBack", name := "gains", desc := "(IIII)I" } : Jvm.MethodName)) ∈ lw_all := lw_g (lw_at lw_m5 2 rfl) rfl
theorem q1022 : (Jvm.Cond.code ({ cls := "YoungerBack", name := "gains", desc := "(IIII)I" } : Jvm.MethodName) prog_1_method_33_code (7 : Nat) (Option.some Jvm.ClassFile.FieldType.int)) ∈ lw_all := lw_g (lw_at lw_m5 3 rfl) rfl
theorem q1023 : (Jvm.Cond.methodLink "YoungerBack" (257 : Nat) ({ cls := "YoungerBack", name := "isHarbour", desc := "(I)Z" } : Jvm.MethodName)) ∈ lw_all := lw_g (lw_at lw_m5 4 rfl) rfl
theorem q1024 : (Jvm.Cond.privateMethod ({ cls := "YoungerBack", name := "isHarbour", desc := "(I)Z" } : Jvm.MethodName)) ∈ lw_tbl := lw_at lw_m5 5 rfl
theorem q1025 : (Jvm.Cond.instanceMethod ({ cls := "YoungerBack", name := "isHarbour", desc := "(I)Z" } : Jvm.MethodName)) ∈ lw_all := lw_g (lw_at lw_m5 6 rfl) rfl
theorem q1026 : (Jvm.Cond.code ({ cls := "YoungerBack", name := "isHarbour", desc := "(I)Z" } : Jvm.MethodName) prog_1_method_19_code (2 : Nat) (Option.some Jvm.ClassFile.FieldType.boolean)) ∈ lw_all := lw_g (lw_at lw_m5 7 rfl) rfl
theorem q1027 : (Jvm.Cond.constantLong "YoungerBack" (260 : Nat) (40 : Int64)) ∈ lw_all := lw_g (lw_at lw_m5 8 rfl) rfl
theorem q1028 : (Jvm.Cond.methodLink "YoungerBack" (262 : Nat) ({ cls := "YoungerBack", name := "lay", desc := "(I[J)V" } : Jvm.MethodName)) ∈ lw_all := lw_g (lw_at lw_m5 9 rfl) rfl
theorem q1029 : (Jvm.Cond.privateMethod ({ cls := "YoungerBack", name := "lay", desc := "(I[J)V" } : Jvm.MethodName)) ∈ lw_tbl := lw_at lw_m5 10 rfl
theorem q1030 : (Jvm.Cond.instanceMethod ({ cls := "YoungerBack", name := "lay", desc := "(I[J)V" } : Jvm.MethodName)) ∈ lw_all := lw_g (lw_at lw_m5 11 rfl) rfl
theorem q1031 : (Jvm.Cond.code ({ cls := "YoungerBack", name := "lay", desc := "(I[J)V" } : Jvm.MethodName) prog_1_method_32_code (10 : Nat) (Option.none : Option Jvm.ClassFile.FieldType)) ∈ lw_all := lw_g (lw_at lw_m5 12 rfl) rfl
theorem q1032 : (Jvm.Cond.methodLink "YoungerBack" (253 : Nat) ({ cls := "YoungerBack$League", name := "ages", desc := "(II)I" } : Jvm.MethodName)) ∈ lw_all := lw_g (lw_at lw_m5 13 rfl) rfl
theorem q1033 : (Jvm.Cond.methodLink "YoungerBack" (266 : Nat) ({ cls := "java/lang/Long", name := "bitCount", desc := "(J)I" } : Jvm.MethodName)) ∈ lw_all := lw_g (lw_at lw_m5 14 rfl) rfl
theorem q1039 : (Jvm.Cond.methodLink "YoungerBack" (272 : Nat) ({ cls := "java/lang/Long", name := "numberOfTrailingZeros", desc := "(J)I" } : Jvm.MethodName)) ∈ lw_all := lw_g (lw_at lw_m5 20 rfl) rfl
theorem q1046 : (Jvm.Cond.methodLink "YoungerBack" (275 : Nat) ({ cls := "java/lang/Long", name := "numberOfLeadingZeros", desc := "(J)I" } : Jvm.MethodName)) ∈ lw_all := lw_g (lw_at lw_m5 27 rfl) rfl
theorem q1053 : (Jvm.Cond.instanceMethod ({ cls := "YoungerBack", name := "soonest", desc := "(III)I" } : Jvm.MethodName)) ∈ lw_all := lw_g (lw_at lw_m5 34 rfl) rfl
theorem q1054 : (Jvm.Cond.selects "YoungerBack" ({ cls := "YoungerBack", name := "soonest", desc := "(III)I" } : Jvm.MethodName) ({ cls := "YoungerBack", name := "soonest", desc := "(III)I" } : Jvm.MethodName)) ∈ lw_all := lw_g (lw_at lw_m5 35 rfl) rfl
theorem q1055 : (Jvm.Cond.code ({ cls := "YoungerBack", name := "soonest", desc := "(III)I" } : Jvm.MethodName) prog_1_method_34_code (5 : Nat) (Option.some Jvm.ClassFile.FieldType.int)) ∈ lw_all := lw_g (lw_at lw_m5 36 rfl) rfl
theorem q1057 : (Jvm.Cond.instanceMethod ({ cls := "YoungerBack", name := "voyages", desc := "(II)I" } : Jvm.MethodName)) ∈ lw_all := lw_g (lw_at lw_m5 38 rfl) rfl
theorem q1058 : (Jvm.Cond.selects "YoungerBack" ({ cls := "YoungerBack", name := "voyages", desc := "(II)I" } : Jvm.MethodName) ({ cls := "YoungerBack", name := "voyages", desc := "(II)I" } : Jvm.MethodName)) ∈ lw_all := lw_g (lw_at lw_m5 39 rfl) rfl
theorem q1059 : (Jvm.Cond.code ({ cls := "YoungerBack", name := "voyages", desc := "(II)I" } : Jvm.MethodName) prog_1_method_35_code (8 : Nat) (Option.some Jvm.ClassFile.FieldType.int)) ∈ lw_all := lw_g (lw_at lw_m5 40 rfl) rfl
theorem q1061 : (Jvm.Cond.instanceMethod ({ cls := "YoungerBack", name := "even", desc := "(III)I" } : Jvm.MethodName)) ∈ lw_all := lw_g (lw_at lw_m5 42 rfl) rfl
theorem q1062 : (Jvm.Cond.selects "YoungerBack" ({ cls := "YoungerBack", name := "even", desc := "(III)I" } : Jvm.MethodName) ({ cls := "YoungerBack", name := "even", desc := "(III)I" } : Jvm.MethodName)) ∈ lw_all := lw_g (lw_at lw_m5 43 rfl) rfl
theorem q1063 : (Jvm.Cond.code ({ cls := "YoungerBack", name := "even", desc := "(III)I" } : Jvm.MethodName) prog_1_method_38_code (10 : Nat) (Option.some Jvm.ClassFile.FieldType.int)) ∈ lw_all := lw_g (lw_at lw_m5 44 rfl) rfl
theorem q1064 : (Jvm.Cond.methodLink "YoungerBack" (284 : Nat) ({ cls := "java/lang/Math", name := "max", desc := "(II)I" } : Jvm.MethodName)) ∈ lw_all := lw_g (lw_at lw_m5 45 rfl) rfl
theorem q1065 : (Jvm.Cond.methodLink "YoungerBack" (289 : Nat) ({ cls := "java/lang/Math", name := "min", desc := "(II)I" } : Jvm.MethodName)) ∈ lw_all := lw_g (lw_at lw_m5 46 rfl) rfl
theorem q1066 : (Jvm.Cond.methodLink "YoungerBack" (292 : Nat) ({ cls := "YoungerBack", name := "ageAt", desc := "(II)I" } : Jvm.MethodName)) ∈ lw_all := lw_g (lw_at lw_m5 47 rfl) rfl
theorem q1067 : (Jvm.Cond.privateMethod ({ cls := "YoungerBack", name := "ageAt", desc := "(II)I" } : Jvm.MethodName)) ∈ lw_tbl := lw_at lw_m5 48 rfl
theorem q1068 : (Jvm.Cond.instanceMethod ({ cls := "YoungerBack", name := "ageAt", desc := "(II)I" } : Jvm.MethodName)) ∈ lw_all := lw_g (lw_at lw_m5 49 rfl) rfl
theorem q1069 : (Jvm.Cond.code ({ cls := "YoungerBack", name := "ageAt", desc := "(II)I" } : Jvm.MethodName) prog_1_method_37_code (3 : Nat) (Option.some Jvm.ClassFile.FieldType.int)) ∈ lw_all := lw_g (lw_at lw_m5 50 rfl) rfl
theorem q1070 : (Jvm.Cond.constantLong "YoungerBack" (295 : Nat) (-40 : Int64)) ∈ lw_all := lw_g (lw_at lw_m5 51 rfl) rfl
theorem q1071 : (Jvm.Cond.methodLink "YoungerBack" (297 : Nat) ({ cls := "YoungerBack", name := "gainsAt", desc := "([JIII)J" } : Jvm.MethodName)) ∈ lw_all := lw_g (lw_at lw_m5 52 rfl) rfl
theorem q1072 : (Jvm.Cond.privateMethod ({ cls := "YoungerBack", name := "gainsAt", desc := "([JIII)J" } : Jvm.MethodName)) ∈ lw_tbl := lw_at lw_m5 53 rfl
theorem q1073 : (Jvm.Cond.instanceMethod ({ cls := "YoungerBack", name := "gainsAt", desc := "([JIII)J" } : Jvm.MethodName)) ∈ lw_all := lw_g (lw_at lw_m5 54 rfl) rfl
theorem q1074 : (Jvm.Cond.code ({ cls := "YoungerBack", name := "gainsAt", desc := "([JIII)J" } : Jvm.MethodName) prog_1_method_36_code (6 : Nat) (Option.some Jvm.ClassFile.FieldType.long)) ∈ lw_all := lw_g (lw_at lw_m5 55 rfl) rfl
theorem q1076 : (Jvm.Cond.instanceMethod ({ cls := "YoungerBack", name := "where", desc := "(III)I" } : Jvm.MethodName)) ∈ lw_all := lw_g (lw_at lw_m5 57 rfl) rfl
theorem q1077 : (Jvm.Cond.selects "YoungerBack" ({ cls := "YoungerBack", name := "where", desc := "(III)I" } : Jvm.MethodName) ({ cls := "YoungerBack", name := "where", desc := "(III)I" } : Jvm.MethodName)) ∈ lw_all := lw_g (lw_at lw_m5 58 rfl) rfl
theorem q1078 : (Jvm.Cond.code ({ cls := "YoungerBack", name := "where", desc := "(III)I" } : Jvm.MethodName) prog_1_method_39_code (7 : Nat) (Option.some Jvm.ClassFile.FieldType.int)) ∈ lw_all := lw_g (lw_at lw_m5 59 rfl) rfl
theorem q1079 : (Jvm.Cond.constantLong "YoungerBack" (301 : Nat) (200 : Int64)) ∈ lw_all := lw_g (lw_at lw_m5 60 rfl) rfl
theorem q1080 : (Jvm.Cond.constantLong "YoungerBack" (303 : Nat) (399 : Int64)) ∈ lw_all := lw_g (lw_at lw_m5 61 rfl) rfl
theorem q1082 : (Jvm.Cond.instanceMethod ({ cls := "YoungerBack", name := "gone", desc := "(I)I" } : Jvm.MethodName)) ∈ lw_all := lw_g (lw_at lw_m5 63 rfl) rfl
theorem q1083 : (Jvm.Cond.selects "YoungerBack" ({ cls := "YoungerBack", name := "gone", desc := "(I)I" } : Jvm.MethodName) ({ cls := "YoungerBack", name := "gone", desc := "(I)I" } : Jvm.MethodName)) ∈ lw_all := lw_g (lw_at lw_m5 64 rfl) rfl
theorem q1084 : (Jvm.Cond.code ({ cls := "YoungerBack", name := "gone", desc := "(I)I" } : Jvm.MethodName) prog_1_method_40_code (2 : Nat) (Option.some Jvm.ClassFile.FieldType.int)) ∈ lw_all := lw_g (lw_at lw_m5 65 rfl) rfl
theorem q1086 : (Jvm.Cond.instanceMethod ({ cls := "YoungerBack", name := "eldest", desc := "(I)I" } : Jvm.MethodName)) ∈ lw_all := lw_g (lw_at lw_m5 67 rfl) rfl
theorem q1087 : (Jvm.Cond.selects "YoungerBack" ({ cls := "YoungerBack", name := "eldest", desc := "(I)I" } : Jvm.MethodName) ({ cls := "YoungerBack", name := "eldest", desc := "(I)I" } : Jvm.MethodName)) ∈ lw_all := lw_g (lw_at lw_m5 68 rfl) rfl
theorem q1088 : (Jvm.Cond.code ({ cls := "YoungerBack", name := "eldest", desc := "(I)I" } : Jvm.MethodName) prog_1_method_41_code (6 : Nat) (Option.some Jvm.ClassFile.FieldType.int)) ∈ lw_all := lw_g (lw_at lw_m5 69 rfl) rfl
theorem q1089 : (Jvm.Cond.methodLink "YoungerBack" (305 : Nat) ({ cls := "YoungerBack", name := "isLeague", desc := "()Z" } : Jvm.MethodName)) ∈ lw_all := lw_g (lw_at lw_m5 70 rfl) rfl
theorem q1090 : (Jvm.Cond.privateMethod ({ cls := "YoungerBack", name := "isLeague", desc := "()Z" } : Jvm.MethodName)) ∈ lw_tbl := lw_at lw_m5 71 rfl
theorem q1091 : (Jvm.Cond.instanceMethod ({ cls := "YoungerBack", name := "isLeague", desc := "()Z" } : Jvm.MethodName)) ∈ lw_all := lw_g (lw_at lw_m5 72 rfl) rfl
theorem q1092 : (Jvm.Cond.code ({ cls := "YoungerBack", name := "isLeague", desc := "()Z" } : Jvm.MethodName) prog_1_method_16_code (1 : Nat) (Option.some Jvm.ClassFile.FieldType.boolean)) ∈ lw_all := lw_g (lw_at lw_m5 73 rfl) rfl
theorem q1093 : (Jvm.Cond.methodLink "YoungerBack" (309 : Nat) ({ cls := "YoungerBack", name := "isHalf", desc := "(I)Z" } : Jvm.MethodName)) ∈ lw_all := lw_g (lw_at lw_m5 74 rfl) rfl
theorem q1094 : (Jvm.Cond.static ({ cls := "YoungerBack", name := "isHalf", desc := "(I)Z" } : Jvm.MethodName)) ∈ lw_all := lw_g (lw_at lw_m5 75 rfl) rfl
theorem q1095 : (Jvm.Cond.code ({ cls := "YoungerBack", name := "isHalf", desc := "(I)Z" } : Jvm.MethodName) prog_1_method_21_code (1 : Nat) (Option.some Jvm.ClassFile.FieldType.boolean)) ∈ lw_all := lw_g (lw_at lw_m5 76 rfl) rfl
theorem q1097 : (Jvm.Cond.instanceMethod ({ cls := "YoungerBack", name := "image", desc := "(I)I" } : Jvm.MethodName)) ∈ lw_all := lw_g (lw_at lw_m5 78 rfl) rfl
theorem q1098 : (Jvm.Cond.selects "YoungerBack" ({ cls := "YoungerBack", name := "image", desc := "(I)I" } : Jvm.MethodName) ({ cls := "YoungerBack", name := "image", desc := "(I)I" } : Jvm.MethodName)) ∈ lw_all := lw_g (lw_at lw_m5 79 rfl) rfl
theorem q1099 : (Jvm.Cond.code ({ cls := "YoungerBack", name := "image", desc := "(I)I" } : Jvm.MethodName) prog_1_method_42_code (2 : Nat) (Option.some Jvm.ClassFile.FieldType.int)) ∈ lw_all := lw_g (lw_at lw_m5 80 rfl) rfl
theorem q1101 : (Jvm.Cond.instanceMethod ({ cls := "YoungerBack", name := "restore", desc := "(I)I" } : Jvm.MethodName)) ∈ lw_all := lw_g (lw_at lw_m5 82 rfl) rfl
theorem q1102 : (Jvm.Cond.selects "YoungerBack" ({ cls := "YoungerBack", name := "restore", desc := "(I)I" } : Jvm.MethodName) ({ cls := "YoungerBack", name := "restore", desc := "(I)I" } : Jvm.MethodName)) ∈ lw_all := lw_g (lw_at lw_m5 83 rfl) rfl
theorem q1103 : (Jvm.Cond.code ({ cls := "YoungerBack", name := "restore", desc := "(I)I" } : Jvm.MethodName) prog_1_method_43_code (2 : Nat) (Option.some Jvm.ClassFile.FieldType.int)) ∈ lw_all := lw_g (lw_at lw_m5 84 rfl) rfl
theorem q1105 : (Jvm.Cond.instanceMethod ({ cls := "YoungerBack", name := "kind", desc := "(I)I" } : Jvm.MethodName)) ∈ lw_all := lw_g (lw_at lw_m5 86 rfl) rfl
theorem q1106 : (Jvm.Cond.selects "YoungerBack" ({ cls := "YoungerBack", name := "kind", desc := "(I)I" } : Jvm.MethodName) ({ cls := "YoungerBack", name := "kind", desc := "(I)I" } : Jvm.MethodName)) ∈ lw_all := lw_g (lw_at lw_m5 87 rfl) rfl
theorem q1107 : (Jvm.Cond.code ({ cls := "YoungerBack", name := "kind", desc := "(I)I" } : Jvm.MethodName) prog_1_method_44_code (2 : Nat) (Option.some Jvm.ClassFile.FieldType.int)) ∈ lw_all := lw_g (lw_at lw_m5 88 rfl) rfl
theorem q1108 : (Jvm.Cond.methodLink "YoungerBack" (312 : Nat) ({ cls := "YoungerBack$Person", name := "kind", desc := "()I" } : Jvm.MethodName)) ∈ lw_all := lw_g (lw_at lw_m5 89 rfl) rfl
theorem q1127 : (Jvm.Cond.instanceMethod ({ cls := "YoungerBack", name := "as", desc := "(II)I" } : Jvm.MethodName)) ∈ lw_all := lw_g (lw_at lw_m5 108 rfl) rfl
theorem q1128 : (Jvm.Cond.selects "YoungerBack" ({ cls := "YoungerBack", name := "as", desc := "(II)I" } : Jvm.MethodName) ({ cls := "YoungerBack", name := "as", desc := "(II)I" } : Jvm.MethodName)) ∈ lw_all := lw_g (lw_at lw_m5 109 rfl) rfl
theorem q1129 : (Jvm.Cond.codeWith ({ cls := "YoungerBack", name := "as", desc := "(II)I" } : Jvm.MethodName) prog_1_method_45_code (5 : Nat) (Option.some Jvm.ClassFile.FieldType.int) [((40 : Nat), (111 : Nat), (112 : Nat), (318 : Nat)), ((23 : Nat), (111 : Nat), (123 : Nat), (65 : Nat)), ((112 : Nat), (123 : Nat), (123 : Nat), (65 : Nat))]) ∈ lw_all := lw_g (lw_at lw_m5 110 rfl) rfl
theorem q1130 : (Jvm.Cond.classLink "YoungerBack" (318 : Nat) "java/lang/ClassCastException") ∈ lw_all := lw_g (lw_at lw_m5 111 rfl) rfl
theorem q1144 : (Jvm.Cond.constantLong "YoungerBack" (314 : Nat) (5 : Int64)) ∈ lw_all := lw_g (lw_at lw_m5 125 rfl) rfl
theorem q1145 : (Jvm.Cond.methodLink "YoungerBack" (316 : Nat) ({ cls := "YoungerBack$Person", name := "number", desc := "()I" } : Jvm.MethodName)) ∈ lw_all := lw_g (lw_at lw_m5 126 rfl) rfl
theorem q1155 : (Jvm.Cond.instanceMethod ({ cls := "YoungerBack", name := "ask", desc := "(II)I" } : Jvm.MethodName)) ∈ lw_all := lw_g (lw_at lw_m5 136 rfl) rfl
theorem q1156 : (Jvm.Cond.selects "YoungerBack" ({ cls := "YoungerBack", name := "ask", desc := "(II)I" } : Jvm.MethodName) ({ cls := "YoungerBack", name := "ask", desc := "(II)I" } : Jvm.MethodName)) ∈ lw_all := lw_g (lw_at lw_m5 137 rfl) rfl
theorem q1157 : (Jvm.Cond.code ({ cls := "YoungerBack", name := "ask", desc := "(II)I" } : Jvm.MethodName) prog_1_method_46_code (4 : Nat) (Option.some Jvm.ClassFile.FieldType.int)) ∈ lw_all := lw_g (lw_at lw_m5 138 rfl) rfl
theorem q1158 : (Jvm.Cond.methodLink "YoungerBack" (320 : Nat) ({ cls := "YoungerBack$Person", name := "size", desc := "(LYoungerBack$Trail;LYoungerBack$League;)I" } : Jvm.MethodName)) ∈ lw_all := lw_g (lw_at lw_m5 139 rfl) rfl
theorem q1241 : (Jvm.Cond.instanceMethod ({ cls := "YoungerBack", name := "trace", desc := "(I)I" } : Jvm.MethodName)) ∈ lw_all := lw_g (lw_at lw_m5 222 rfl) rfl
theorem q1242 : (Jvm.Cond.selects "YoungerBack" ({ cls := "YoungerBack", name := "trace", desc := "(I)I" } : Jvm.MethodName) ({ cls := "YoungerBack", name := "trace", desc := "(I)I" } : Jvm.MethodName)) ∈ lw_all := lw_g (lw_at lw_m5 223 rfl) rfl
theorem q1243 : (Jvm.Cond.code ({ cls := "YoungerBack", name := "trace", desc := "(I)I" } : Jvm.MethodName) prog_1_method_47_code (2 : Nat) (Option.some Jvm.ClassFile.FieldType.int)) ∈ lw_all := lw_g (lw_at lw_m5 224 rfl) rfl
theorem q1245 : (Jvm.Cond.instanceMethod ({ cls := "YoungerBack", name := "count", desc := "(I)I" } : Jvm.MethodName)) ∈ lw_all := lw_g (lw_at lw_m5 226 rfl) rfl
theorem q1246 : (Jvm.Cond.selects "YoungerBack" ({ cls := "YoungerBack", name := "count", desc := "(I)I" } : Jvm.MethodName) ({ cls := "YoungerBack", name := "count", desc := "(I)I" } : Jvm.MethodName)) ∈ lw_all := lw_g (lw_at lw_m5 227 rfl) rfl
theorem q1247 : (Jvm.Cond.code ({ cls := "YoungerBack", name := "count", desc := "(I)I" } : Jvm.MethodName) prog_1_method_48_code (4 : Nat) (Option.some Jvm.ClassFile.FieldType.int)) ∈ lw_all := lw_g (lw_at lw_m5 228 rfl) rfl
theorem q1249 : (Jvm.Cond.instanceMethod ({ cls := "YoungerBack", name := "status", desc := "()I" } : Jvm.MethodName)) ∈ lw_all := lw_g (lw_at lw_m5 230 rfl) rfl
theorem q1250 : (Jvm.Cond.selects "YoungerBack" ({ cls := "YoungerBack", name := "status", desc := "()I" } : Jvm.MethodName) ({ cls := "YoungerBack", name := "status", desc := "()I" } : Jvm.MethodName)) ∈ lw_all := lw_g (lw_at lw_m5 231 rfl) rfl
theorem q1251 : (Jvm.Cond.code ({ cls := "YoungerBack", name := "status", desc := "()I" } : Jvm.MethodName) prog_1_method_49_code (1 : Nat) (Option.some Jvm.ClassFile.FieldType.int)) ∈ lw_all := lw_g (lw_at lw_m5 232 rfl) rfl
theorem q1646 : (Jvm.Cond.castable "YoungerBack" "java/lang/Object") ∈ lw_tbl := lw_at lw_m7 147 rfl
theorem q1673 : (Jvm.Cond.stringRef "YoungerBack" (337 : Nat) "captain") ∈ lw_tbl := lw_at lw_m7 174 rfl
theorem q1674 : (Jvm.Cond.stringRef "YoungerBack" (339 : Nat) "pilot") ∈ lw_tbl := lw_at lw_m7 175 rfl
theorem q1675 : (Jvm.Cond.stringRef "YoungerBack" (341 : Nat) "monk") ∈ lw_tbl := lw_at lw_m7 176 rfl
theorem q1676 : (Jvm.Cond.stringRef "YoungerBack" (343 : Nat) "clerk") ∈ lw_tbl := lw_at lw_m7 177 rfl
theorem q1677 : (Jvm.Cond.stringRef "YoungerBack" (345 : Nat) "boy") ∈ lw_tbl := lw_at lw_m7 178 rfl
theorem in_X0 : ∀ w ∈ wsX00, w ∈ lw_all := lw_in wsX00 [237, 239, 241, 243, 245, 247, 249, 251, 253, 255, 257, 259] (by decide +kernel) (by decide +kernel)
