/-! YoungerBackModel -/
set_option maxRecDepth 100000
def RX3 : String := "YoungerBackModel"
def TX3 : u_T := fun k => match k with
  | 0 => ("YoungerBackModel", "thrown", "I", false)
  | 1 => ("YoungerBackModel", "status", "I", false)
  | 2 => ("YoungerBackModel", "lane", "[I", true)
  | 3 => ("YoungerBackModel", "many", "[I", true)
  | 4 => ("YoungerBackModel", "item", "[I", true)
  | 5 => ("YoungerBackModel", "league", "[I", true)
  | 6 => ("YoungerBackModel", "fresh", "[I", true)
  | 7 => ("YoungerBackModel", "was", "[I", true)
  | 8 => ("YoungerBackModel", "acts", "I", false)
  | 9 => ("YoungerBackModel", "tape", "[I", true)
  | 10 => ("YoungerBackModel", "taped", "I", false)
  | 11 => ("YoungerBackModel", "latest", "I", false)
  | 12 => ("YoungerBackModel", "length", "I", false)
  | 13 => ("YoungerBackModel", "cursor", "I", false)
  | 14 => ("YoungerBackModel", "token", "I", false)
  | 15 => ("YoungerBackModel", "start", "I", false)
  | 16 => ("YoungerBackModel", "till", "I", false)
  | 17 => ("YoungerBackModel", "fault", "I", false)
  | 18 => ("YoungerBackModel", "faultAt", "I", false)
  | 19 => ("YoungerBackModel", "gained", "[J", true)
  | 20 => ("YoungerBackModel", "others", "[J", true)
  | 21 => ("YoungerBackModel", "isKept", "[Z", true)
  | 22 => ("YoungerBackModel", "kept", "[I", true)
  | 23 => ("YoungerBackModel", "trace", "[I", true)
  | _ => ("YoungerBackModel", "traced", "I", false)
def tyX3 : Nat → FieldType := fun k => match k with
  | 0 => .int
  | 1 => .int
  | 2 => .array .int
  | 3 => .array .int
  | 4 => .array .int
  | 5 => .array .int
  | 6 => .array .int
  | 7 => .array .int
  | 8 => .int
  | 9 => .array .int
  | 10 => .int
  | 11 => .int
  | 12 => .int
  | 13 => .int
  | 14 => .int
  | 15 => .int
  | 16 => .int
  | 17 => .int
  | 18 => .int
  | 19 => .array .long
  | 20 => .array .long
  | 21 => .array .boolean
  | 22 => .array .int
  | 23 => .array .int
  | _ => .int
abbrev wsX30 : List Cond := u_ws RX3 TX3 25
set_option maxRecDepth 100000 in
theorem nmX3 : ∀ a, a < 25 → ∀ b, b < 25 → a ≠ b → (TX3 a).2.1 ≠ (TX3 b).2.1 := by decide +kernel
set_option maxRecDepth 100000 in
theorem tyX3_ok : ∀ k, k < 25 → parseFieldDescriptor (TX3 k).2.2.1 = some (tyX3 k) := by decide +kernel
abbrev cX3_init : ByteArray := prog_16_method_1_code
def yX3_init : MethodName := ⟨RX3, "<init>", "()V"⟩
def dkwX3_init_5 : List UInt8 := [188, 4, 181, 0, 38, 42, 17, 0, 136, 188, 10, 181, 0, 42, 42, 16, 16, 188, 10, 181, 0, 45, 177]
abbrev dktX3_init_5 : List UInt8 := dkwX3_init_5 ++ []
def dkwX3_init_4 : List UInt8 := [181, 0, 28, 42, 17, 0, 205, 188, 11, 181, 0, 31, 42, 17, 0, 205, 188, 11, 181, 0, 35, 42, 5]
abbrev dktX3_init_4 : List UInt8 := dkwX3_init_4 ++ dktX3_init_5
def dkwX3_init_3 : List UInt8 := [42, 16, 68, 188, 10, 181, 0, 22, 42, 17, 6, 96, 188, 10, 181, 0, 25, 42, 17, 1, 144, 188, 10]
abbrev dktX3_init_3 : List UInt8 := dkwX3_init_3 ++ dktX3_init_4
def dkwX3_init_2 : List UInt8 := [16, 8, 188, 10, 181, 0, 13, 42, 17, 1, 64, 188, 10, 181, 0, 16, 42, 16, 68, 188, 10, 181, 0, 19]
abbrev dktX3_init_2 : List UInt8 := dkwX3_init_2 ++ dktX3_init_3
def dkwX3_init_1 : List UInt8 := [79, 89, 7, 2, 79, 89, 8, 2, 79, 89, 16, 6, 2, 79, 89, 16, 7, 2, 79, 181, 0, 7, 42]
abbrev dktX3_init_1 : List UInt8 := dkwX3_init_1 ++ dktX3_init_2
def dkwX3_init_0 : List UInt8 := [42, 183, 0, 1, 42, 16, 8, 188, 10, 89, 3, 2, 79, 89, 4, 2, 79, 89, 5, 2, 79, 89, 6, 2]
abbrev dktX3_init_0 : List UInt8 := dkwX3_init_0 ++ dktX3_init_1
theorem dksX3_init_0 : cX3_init.data.toList.drop 0 = dktX3_init_0 := by decide +kernel
theorem dksX3_init_1 : cX3_init.data.toList.drop 24 = dktX3_init_1 := dk_seg dksX3_init_0 24 rfl rfl
theorem dksX3_init_2 : cX3_init.data.toList.drop 47 = dktX3_init_2 := dk_seg dksX3_init_1 23 rfl rfl
theorem dksX3_init_3 : cX3_init.data.toList.drop 71 = dktX3_init_3 := dk_seg dksX3_init_2 24 rfl rfl
theorem dksX3_init_4 : cX3_init.data.toList.drop 94 = dktX3_init_4 := dk_seg dksX3_init_3 23 rfl rfl
theorem dksX3_init_5 : cX3_init.data.toList.drop 117 = dktX3_init_5 := dk_seg dksX3_init_4 23 rfl rfl
theorem dX3_init_0 : decode cX3_init 0 = .ok (.aload_n 0, 1) := dk_42 (dk_at dksX3_init_0 0 rfl rfl)
theorem dX3_init_1 : decode cX3_init 1 = .ok (.invokespecial 1, 3) := dk_183 0 1 (dk_at dksX3_init_0 1 rfl rfl)
theorem dX3_init_4 : decode cX3_init 4 = .ok (.aload_n 0, 1) := dk_42 (dk_at dksX3_init_0 4 rfl rfl)
theorem dX3_init_5 : decode cX3_init 5 = .ok (.bipush 8, 2) := dk_16 8 (dk_at dksX3_init_0 5 rfl rfl)
theorem dX3_init_7 : decode cX3_init 7 = .ok (.newarray .int, 2) := dk_188_10 (dk_at dksX3_init_0 7 rfl rfl)
theorem dX3_init_9 : decode cX3_init 9 = .ok (.dup, 1) := dk_89 (dk_at dksX3_init_0 9 rfl rfl)
theorem dX3_init_10 : decode cX3_init 10 = .ok (.iconst 0, 1) := dk_3 (dk_at dksX3_init_0 10 rfl rfl)
theorem dX3_init_11 : decode cX3_init 11 = .ok (.iconst (-1), 1) := dk_2 (dk_at dksX3_init_0 11 rfl rfl)
theorem dX3_init_12 : decode cX3_init 12 = .ok (.iastore, 1) := dk_79 (dk_at dksX3_init_0 12 rfl rfl)
theorem dX3_init_13 : decode cX3_init 13 = .ok (.dup, 1) := dk_89 (dk_at dksX3_init_0 13 rfl rfl)
theorem dX3_init_14 : decode cX3_init 14 = .ok (.iconst 1, 1) := dk_4 (dk_at dksX3_init_0 14 rfl rfl)
theorem dX3_init_15 : decode cX3_init 15 = .ok (.iconst (-1), 1) := dk_2 (dk_at dksX3_init_0 15 rfl rfl)
theorem dX3_init_16 : decode cX3_init 16 = .ok (.iastore, 1) := dk_79 (dk_at dksX3_init_0 16 rfl rfl)
theorem dX3_init_17 : decode cX3_init 17 = .ok (.dup, 1) := dk_89 (dk_at dksX3_init_0 17 rfl rfl)
theorem dX3_init_18 : decode cX3_init 18 = .ok (.iconst 2, 1) := dk_5 (dk_at dksX3_init_0 18 rfl rfl)
theorem dX3_init_19 : decode cX3_init 19 = .ok (.iconst (-1), 1) := dk_2 (dk_at dksX3_init_0 19 rfl rfl)
theorem dX3_init_20 : decode cX3_init 20 = .ok (.iastore, 1) := dk_79 (dk_at dksX3_init_0 20 rfl rfl)
theorem dX3_init_21 : decode cX3_init 21 = .ok (.dup, 1) := dk_89 (dk_at dksX3_init_0 21 rfl rfl)
theorem dX3_init_22 : decode cX3_init 22 = .ok (.iconst 3, 1) := dk_6 (dk_at dksX3_init_0 22 rfl rfl)
theorem dX3_init_23 : decode cX3_init 23 = .ok (.iconst (-1), 1) := dk_2 (dk_at dksX3_init_0 23 rfl rfl)
theorem dX3_init_24 : decode cX3_init 24 = .ok (.iastore, 1) := dk_79 (dk_at dksX3_init_1 0 rfl rfl)
theorem dX3_init_25 : decode cX3_init 25 = .ok (.dup, 1) := dk_89 (dk_at dksX3_init_1 1 rfl rfl)
theorem dX3_init_26 : decode cX3_init 26 = .ok (.iconst 4, 1) := dk_7 (dk_at dksX3_init_1 2 rfl rfl)
theorem dX3_init_27 : decode cX3_init 27 = .ok (.iconst (-1), 1) := dk_2 (dk_at dksX3_init_1 3 rfl rfl)
theorem dX3_init_28 : decode cX3_init 28 = .ok (.iastore, 1) := dk_79 (dk_at dksX3_init_1 4 rfl rfl)
theorem dX3_init_29 : decode cX3_init 29 = .ok (.dup, 1) := dk_89 (dk_at dksX3_init_1 5 rfl rfl)
theorem dX3_init_30 : decode cX3_init 30 = .ok (.iconst 5, 1) := dk_8 (dk_at dksX3_init_1 6 rfl rfl)
theorem dX3_init_31 : decode cX3_init 31 = .ok (.iconst (-1), 1) := dk_2 (dk_at dksX3_init_1 7 rfl rfl)
theorem dX3_init_32 : decode cX3_init 32 = .ok (.iastore, 1) := dk_79 (dk_at dksX3_init_1 8 rfl rfl)
theorem dX3_init_33 : decode cX3_init 33 = .ok (.dup, 1) := dk_89 (dk_at dksX3_init_1 9 rfl rfl)
theorem dX3_init_34 : decode cX3_init 34 = .ok (.bipush 6, 2) := dk_16 6 (dk_at dksX3_init_1 10 rfl rfl)
theorem dX3_init_36 : decode cX3_init 36 = .ok (.iconst (-1), 1) := dk_2 (dk_at dksX3_init_1 12 rfl rfl)
theorem dX3_init_37 : decode cX3_init 37 = .ok (.iastore, 1) := dk_79 (dk_at dksX3_init_1 13 rfl rfl)
theorem dX3_init_38 : decode cX3_init 38 = .ok (.dup, 1) := dk_89 (dk_at dksX3_init_1 14 rfl rfl)
theorem dX3_init_39 : decode cX3_init 39 = .ok (.bipush 7, 2) := dk_16 7 (dk_at dksX3_init_1 15 rfl rfl)
theorem dX3_init_41 : decode cX3_init 41 = .ok (.iconst (-1), 1) := dk_2 (dk_at dksX3_init_1 17 rfl rfl)
theorem dX3_init_42 : decode cX3_init 42 = .ok (.iastore, 1) := dk_79 (dk_at dksX3_init_1 18 rfl rfl)
theorem dX3_init_43 : decode cX3_init 43 = .ok (.putfield 7, 3) := dk_181 0 7 (dk_at dksX3_init_1 19 rfl rfl)
theorem dX3_init_46 : decode cX3_init 46 = .ok (.aload_n 0, 1) := dk_42 (dk_at dksX3_init_1 22 rfl rfl)
theorem dX3_init_47 : decode cX3_init 47 = .ok (.bipush 8, 2) := dk_16 8 (dk_at dksX3_init_2 0 rfl rfl)
theorem dX3_init_49 : decode cX3_init 49 = .ok (.newarray .int, 2) := dk_188_10 (dk_at dksX3_init_2 2 rfl rfl)
theorem dX3_init_51 : decode cX3_init 51 = .ok (.putfield 13, 3) := dk_181 0 13 (dk_at dksX3_init_2 4 rfl rfl)
theorem dX3_init_54 : decode cX3_init 54 = .ok (.aload_n 0, 1) := dk_42 (dk_at dksX3_init_2 7 rfl rfl)
theorem dX3_init_55 : decode cX3_init 55 = .ok (.sipush 320, 3) := dk_17 1 64 (dk_at dksX3_init_2 8 rfl rfl)
theorem dX3_init_58 : decode cX3_init 58 = .ok (.newarray .int, 2) := dk_188_10 (dk_at dksX3_init_2 11 rfl rfl)
theorem dX3_init_60 : decode cX3_init 60 = .ok (.putfield 16, 3) := dk_181 0 16 (dk_at dksX3_init_2 13 rfl rfl)
theorem dX3_init_63 : decode cX3_init 63 = .ok (.aload_n 0, 1) := dk_42 (dk_at dksX3_init_2 16 rfl rfl)
theorem dX3_init_64 : decode cX3_init 64 = .ok (.bipush 68, 2) := dk_16 68 (dk_at dksX3_init_2 17 rfl rfl)
theorem dX3_init_66 : decode cX3_init 66 = .ok (.newarray .int, 2) := dk_188_10 (dk_at dksX3_init_2 19 rfl rfl)
theorem dX3_init_68 : decode cX3_init 68 = .ok (.putfield 19, 3) := dk_181 0 19 (dk_at dksX3_init_2 21 rfl rfl)
theorem dX3_init_71 : decode cX3_init 71 = .ok (.aload_n 0, 1) := dk_42 (dk_at dksX3_init_3 0 rfl rfl)
theorem dX3_init_72 : decode cX3_init 72 = .ok (.bipush 68, 2) := dk_16 68 (dk_at dksX3_init_3 1 rfl rfl)
theorem dX3_init_74 : decode cX3_init 74 = .ok (.newarray .int, 2) := dk_188_10 (dk_at dksX3_init_3 3 rfl rfl)
theorem dX3_init_76 : decode cX3_init 76 = .ok (.putfield 22, 3) := dk_181 0 22 (dk_at dksX3_init_3 5 rfl rfl)
theorem dX3_init_79 : decode cX3_init 79 = .ok (.aload_n 0, 1) := dk_42 (dk_at dksX3_init_3 8 rfl rfl)
theorem dX3_init_80 : decode cX3_init 80 = .ok (.sipush 1632, 3) := dk_17 6 96 (dk_at dksX3_init_3 9 rfl rfl)
theorem dX3_init_83 : decode cX3_init 83 = .ok (.newarray .int, 2) := dk_188_10 (dk_at dksX3_init_3 12 rfl rfl)
theorem dX3_init_85 : decode cX3_init 85 = .ok (.putfield 25, 3) := dk_181 0 25 (dk_at dksX3_init_3 14 rfl rfl)
theorem dX3_init_88 : decode cX3_init 88 = .ok (.aload_n 0, 1) := dk_42 (dk_at dksX3_init_3 17 rfl rfl)
theorem dX3_init_89 : decode cX3_init 89 = .ok (.sipush 400, 3) := dk_17 1 144 (dk_at dksX3_init_3 18 rfl rfl)
theorem dX3_init_92 : decode cX3_init 92 = .ok (.newarray .int, 2) := dk_188_10 (dk_at dksX3_init_3 21 rfl rfl)
theorem dX3_init_94 : decode cX3_init 94 = .ok (.putfield 28, 3) := dk_181 0 28 (dk_at dksX3_init_4 0 rfl rfl)
theorem dX3_init_97 : decode cX3_init 97 = .ok (.aload_n 0, 1) := dk_42 (dk_at dksX3_init_4 3 rfl rfl)
theorem dX3_init_98 : decode cX3_init 98 = .ok (.sipush 205, 3) := dk_17 0 205 (dk_at dksX3_init_4 4 rfl rfl)
theorem dX3_init_101 : decode cX3_init 101 = .ok (.newarray .long, 2) := dk_188_11 (dk_at dksX3_init_4 7 rfl rfl)
theorem dX3_init_103 : decode cX3_init 103 = .ok (.putfield 31, 3) := dk_181 0 31 (dk_at dksX3_init_4 9 rfl rfl)
theorem dX3_init_106 : decode cX3_init 106 = .ok (.aload_n 0, 1) := dk_42 (dk_at dksX3_init_4 12 rfl rfl)
theorem dX3_init_107 : decode cX3_init 107 = .ok (.sipush 205, 3) := dk_17 0 205 (dk_at dksX3_init_4 13 rfl rfl)
theorem dX3_init_110 : decode cX3_init 110 = .ok (.newarray .long, 2) := dk_188_11 (dk_at dksX3_init_4 16 rfl rfl)
theorem dX3_init_112 : decode cX3_init 112 = .ok (.putfield 35, 3) := dk_181 0 35 (dk_at dksX3_init_4 18 rfl rfl)
theorem dX3_init_115 : decode cX3_init 115 = .ok (.aload_n 0, 1) := dk_42 (dk_at dksX3_init_4 21 rfl rfl)
theorem dX3_init_116 : decode cX3_init 116 = .ok (.iconst 2, 1) := dk_5 (dk_at dksX3_init_4 22 rfl rfl)
theorem dX3_init_117 : decode cX3_init 117 = .ok (.newarray .boolean, 2) := dk_188_4 (dk_at dksX3_init_5 0 rfl rfl)
theorem dX3_init_119 : decode cX3_init 119 = .ok (.putfield 38, 3) := dk_181 0 38 (dk_at dksX3_init_5 2 rfl rfl)
theorem dX3_init_122 : decode cX3_init 122 = .ok (.aload_n 0, 1) := dk_42 (dk_at dksX3_init_5 5 rfl rfl)
theorem dX3_init_123 : decode cX3_init 123 = .ok (.sipush 136, 3) := dk_17 0 136 (dk_at dksX3_init_5 6 rfl rfl)
theorem dX3_init_126 : decode cX3_init 126 = .ok (.newarray .int, 2) := dk_188_10 (dk_at dksX3_init_5 9 rfl rfl)
theorem dX3_init_128 : decode cX3_init 128 = .ok (.putfield 42, 3) := dk_181 0 42 (dk_at dksX3_init_5 11 rfl rfl)
theorem dX3_init_131 : decode cX3_init 131 = .ok (.aload_n 0, 1) := dk_42 (dk_at dksX3_init_5 14 rfl rfl)
theorem dX3_init_132 : decode cX3_init 132 = .ok (.bipush 16, 2) := dk_16 16 (dk_at dksX3_init_5 15 rfl rfl)
theorem dX3_init_134 : decode cX3_init 134 = .ok (.newarray .int, 2) := dk_188_10 (dk_at dksX3_init_5 17 rfl rfl)
theorem dX3_init_136 : decode cX3_init 136 = .ok (.putfield 45, 3) := dk_181 0 45 (dk_at dksX3_init_5 19 rfl rfl)
theorem dX3_init_139 : decode cX3_init 139 = .ok (.return_, 1) := dk_177 (dk_at dksX3_init_5 22 rfl rfl)
abbrev cX3_row : ByteArray := prog_16_method_6_code
def yX3_row : MethodName := ⟨RX3, "row", "(III)I"⟩
def dkwX3_row_3 : List UInt8 := [42, 180, 0, 16, 16, 40, 27, 104, 21, 4, 96, 3, 79, 132, 4, 1, 167, 255, 233, 29, 172]
abbrev dktX3_row_3 : List UInt8 := dkwX3_row_3 ++ []
def dkwX3_row_2 : List UInt8 := [42, 180, 0, 7, 27, 28, 79, 42, 180, 0, 13, 27, 29, 79, 3, 54, 4, 21, 4, 16, 40, 162, 0, 22]
abbrev dktX3_row_2 : List UInt8 := dkwX3_row_2 ++ dktX3_row_3
def dkwX3_row_1 : List UInt8 := [29, 16, 40, 164, 0, 6, 18, 68, 172, 42, 3, 181, 0, 52, 29, 156, 0, 9, 42, 7, 182, 0, 69, 172]
abbrev dktX3_row_1 : List UInt8 := dkwX3_row_1 ++ dktX3_row_2
def dkwX3_row_0 : List UInt8 := [42, 3, 181, 0, 48, 27, 184, 0, 62, 153, 0, 21, 28, 133, 9, 20, 0, 66, 184, 0, 58, 153, 0, 9]
abbrev dktX3_row_0 : List UInt8 := dkwX3_row_0 ++ dktX3_row_1
theorem dksX3_row_0 : cX3_row.data.toList.drop 0 = dktX3_row_0 := by decide +kernel
theorem dksX3_row_1 : cX3_row.data.toList.drop 24 = dktX3_row_1 := dk_seg dksX3_row_0 24 rfl rfl
theorem dksX3_row_2 : cX3_row.data.toList.drop 48 = dktX3_row_2 := dk_seg dksX3_row_1 24 rfl rfl
theorem dksX3_row_3 : cX3_row.data.toList.drop 72 = dktX3_row_3 := dk_seg dksX3_row_2 24 rfl rfl
theorem dX3_row_0 : decode cX3_row 0 = .ok (.aload_n 0, 1) := dk_42 (dk_at dksX3_row_0 0 rfl rfl)
theorem dX3_row_1 : decode cX3_row 1 = .ok (.iconst 0, 1) := dk_3 (dk_at dksX3_row_0 1 rfl rfl)
theorem dX3_row_2 : decode cX3_row 2 = .ok (.putfield 48, 3) := dk_181 0 48 (dk_at dksX3_row_0 2 rfl rfl)
theorem dX3_row_5 : decode cX3_row 5 = .ok (.iload_n 1, 1) := dk_27 (dk_at dksX3_row_0 5 rfl rfl)
theorem dX3_row_6 : decode cX3_row 6 = .ok (.invokestatic 62, 3) := dk_184 0 62 (dk_at dksX3_row_0 6 rfl rfl)
theorem dX3_row_9 : decode cX3_row 9 = .ok (.ifCond .eq 21, 3) := dk_153 0 21 (dk_at dksX3_row_0 9 rfl rfl)
theorem dX3_row_12 : decode cX3_row 12 = .ok (.iload_n 2, 1) := dk_28 (dk_at dksX3_row_0 12 rfl rfl)
theorem dX3_row_13 : decode cX3_row 13 = .ok (.i2l, 1) := dk_133 (dk_at dksX3_row_0 13 rfl rfl)
theorem dX3_row_14 : decode cX3_row 14 = .ok (.lconst 0, 1) := dk_9 (dk_at dksX3_row_0 14 rfl rfl)
theorem dX3_row_15 : decode cX3_row 15 = .ok (.ldc2_w 66, 3) := dk_20 0 66 (dk_at dksX3_row_0 15 rfl rfl)
theorem dX3_row_18 : decode cX3_row 18 = .ok (.invokestatic 58, 3) := dk_184 0 58 (dk_at dksX3_row_0 18 rfl rfl)
theorem dX3_row_21 : decode cX3_row 21 = .ok (.ifCond .eq 9, 3) := dk_153 0 9 (dk_at dksX3_row_0 21 rfl rfl)
theorem dX3_row_24 : decode cX3_row 24 = .ok (.iload_n 3, 1) := dk_29 (dk_at dksX3_row_1 0 rfl rfl)
theorem dX3_row_25 : decode cX3_row 25 = .ok (.bipush 40, 2) := dk_16 40 (dk_at dksX3_row_1 1 rfl rfl)
theorem dX3_row_27 : decode cX3_row 27 = .ok (.if_icmp .le 6, 3) := dk_164 0 6 (dk_at dksX3_row_1 3 rfl rfl)
theorem dX3_row_30 : decode cX3_row 30 = .ok (.ldc 68, 2) := dk_18 68 (dk_at dksX3_row_1 6 rfl rfl)
theorem dX3_row_32 : decode cX3_row 32 = .ok (.ireturn, 1) := dk_172 (dk_at dksX3_row_1 8 rfl rfl)
theorem dX3_row_33 : decode cX3_row 33 = .ok (.aload_n 0, 1) := dk_42 (dk_at dksX3_row_1 9 rfl rfl)
theorem dX3_row_34 : decode cX3_row 34 = .ok (.iconst 0, 1) := dk_3 (dk_at dksX3_row_1 10 rfl rfl)
theorem dX3_row_35 : decode cX3_row 35 = .ok (.putfield 52, 3) := dk_181 0 52 (dk_at dksX3_row_1 11 rfl rfl)
theorem dX3_row_38 : decode cX3_row 38 = .ok (.iload_n 3, 1) := dk_29 (dk_at dksX3_row_1 14 rfl rfl)
theorem dX3_row_39 : decode cX3_row 39 = .ok (.ifCond .ge 9, 3) := dk_156 0 9 (dk_at dksX3_row_1 15 rfl rfl)
theorem dX3_row_42 : decode cX3_row 42 = .ok (.aload_n 0, 1) := dk_42 (dk_at dksX3_row_1 18 rfl rfl)
theorem dX3_row_43 : decode cX3_row 43 = .ok (.iconst 4, 1) := dk_7 (dk_at dksX3_row_1 19 rfl rfl)
theorem dX3_row_44 : decode cX3_row 44 = .ok (.invokevirtual 69, 3) := dk_182 0 69 (dk_at dksX3_row_1 20 rfl rfl)
theorem dX3_row_47 : decode cX3_row 47 = .ok (.ireturn, 1) := dk_172 (dk_at dksX3_row_1 23 rfl rfl)
theorem dX3_row_48 : decode cX3_row 48 = .ok (.aload_n 0, 1) := dk_42 (dk_at dksX3_row_2 0 rfl rfl)
theorem dX3_row_49 : decode cX3_row 49 = .ok (.getfield 7, 3) := dk_180 0 7 (dk_at dksX3_row_2 1 rfl rfl)
theorem dX3_row_52 : decode cX3_row 52 = .ok (.iload_n 1, 1) := dk_27 (dk_at dksX3_row_2 4 rfl rfl)
theorem dX3_row_53 : decode cX3_row 53 = .ok (.iload_n 2, 1) := dk_28 (dk_at dksX3_row_2 5 rfl rfl)
theorem dX3_row_54 : decode cX3_row 54 = .ok (.iastore, 1) := dk_79 (dk_at dksX3_row_2 6 rfl rfl)
theorem dX3_row_55 : decode cX3_row 55 = .ok (.aload_n 0, 1) := dk_42 (dk_at dksX3_row_2 7 rfl rfl)
theorem dX3_row_56 : decode cX3_row 56 = .ok (.getfield 13, 3) := dk_180 0 13 (dk_at dksX3_row_2 8 rfl rfl)
theorem dX3_row_59 : decode cX3_row 59 = .ok (.iload_n 1, 1) := dk_27 (dk_at dksX3_row_2 11 rfl rfl)
theorem dX3_row_60 : decode cX3_row 60 = .ok (.iload_n 3, 1) := dk_29 (dk_at dksX3_row_2 12 rfl rfl)
theorem dX3_row_61 : decode cX3_row 61 = .ok (.iastore, 1) := dk_79 (dk_at dksX3_row_2 13 rfl rfl)
theorem dX3_row_62 : decode cX3_row 62 = .ok (.iconst 0, 1) := dk_3 (dk_at dksX3_row_2 14 rfl rfl)
theorem dX3_row_63 : decode cX3_row 63 = .ok (.istore 4, 2) := dk_54 4 (dk_at dksX3_row_2 15 rfl rfl)
theorem dX3_row_65 : decode cX3_row 65 = .ok (.iload 4, 2) := dk_21 4 (dk_at dksX3_row_2 17 rfl rfl)
theorem dX3_row_67 : decode cX3_row 67 = .ok (.bipush 40, 2) := dk_16 40 (dk_at dksX3_row_2 19 rfl rfl)
theorem dX3_row_69 : decode cX3_row 69 = .ok (.if_icmp .ge 22, 3) := dk_162 0 22 (dk_at dksX3_row_2 21 rfl rfl)
theorem dX3_row_72 : decode cX3_row 72 = .ok (.aload_n 0, 1) := dk_42 (dk_at dksX3_row_3 0 rfl rfl)
theorem dX3_row_73 : decode cX3_row 73 = .ok (.getfield 16, 3) := dk_180 0 16 (dk_at dksX3_row_3 1 rfl rfl)
theorem dX3_row_76 : decode cX3_row 76 = .ok (.bipush 40, 2) := dk_16 40 (dk_at dksX3_row_3 4 rfl rfl)
theorem dX3_row_78 : decode cX3_row 78 = .ok (.iload_n 1, 1) := dk_27 (dk_at dksX3_row_3 6 rfl rfl)
theorem dX3_row_79 : decode cX3_row 79 = .ok (.imul, 1) := dk_104 (dk_at dksX3_row_3 7 rfl rfl)
theorem dX3_row_80 : decode cX3_row 80 = .ok (.iload 4, 2) := dk_21 4 (dk_at dksX3_row_3 8 rfl rfl)
theorem dX3_row_82 : decode cX3_row 82 = .ok (.iadd, 1) := dk_96 (dk_at dksX3_row_3 10 rfl rfl)
theorem dX3_row_83 : decode cX3_row 83 = .ok (.iconst 0, 1) := dk_3 (dk_at dksX3_row_3 11 rfl rfl)
theorem dX3_row_84 : decode cX3_row 84 = .ok (.iastore, 1) := dk_79 (dk_at dksX3_row_3 12 rfl rfl)
theorem dX3_row_85 : decode cX3_row 85 = .ok (.iinc 4 1, 3) := dk_132 4 1 (dk_at dksX3_row_3 13 rfl rfl)
theorem dX3_row_88 : decode cX3_row 88 = .ok (.goto (-23), 3) := dk_167 255 233 (dk_at dksX3_row_3 16 rfl rfl)
theorem dX3_row_91 : decode cX3_row 91 = .ok (.iload_n 3, 1) := dk_29 (dk_at dksX3_row_3 19 rfl rfl)
theorem dX3_row_92 : decode cX3_row 92 = .ok (.ireturn, 1) := dk_172 (dk_at dksX3_row_3 20 rfl rfl)
abbrev cX3_isRow : ByteArray := prog_16_method_5_code
def yX3_isRow : MethodName := ⟨RX3, "isRow", "(I)Z"⟩
def dkwX3_isRow_0 : List UInt8 := [26, 133, 9, 20, 0, 56, 184, 0, 58, 172]
abbrev dktX3_isRow_0 : List UInt8 := dkwX3_isRow_0 ++ []
theorem dksX3_isRow_0 : cX3_isRow.data.toList.drop 0 = dktX3_isRow_0 := by decide +kernel
theorem dX3_isRow_0 : decode cX3_isRow 0 = .ok (.iload_n 0, 1) := dk_26 (dk_at dksX3_isRow_0 0 rfl rfl)
theorem dX3_isRow_1 : decode cX3_isRow 1 = .ok (.i2l, 1) := dk_133 (dk_at dksX3_isRow_0 1 rfl rfl)
theorem dX3_isRow_2 : decode cX3_isRow 2 = .ok (.lconst 0, 1) := dk_9 (dk_at dksX3_isRow_0 2 rfl rfl)
theorem dX3_isRow_3 : decode cX3_isRow 3 = .ok (.ldc2_w 56, 3) := dk_20 0 56 (dk_at dksX3_isRow_0 3 rfl rfl)
theorem dX3_isRow_6 : decode cX3_isRow 6 = .ok (.invokestatic 58, 3) := dk_184 0 58 (dk_at dksX3_isRow_0 6 rfl rfl)
theorem dX3_isRow_9 : decode cX3_isRow 9 = .ok (.ireturn, 1) := dk_172 (dk_at dksX3_isRow_0 9 rfl rfl)
abbrev cX3_in : ByteArray := prog_16_method_3_code
def yX3_in : MethodName := ⟨RX3, "in", "(JJJ)Z"⟩
def dkwX3_in_0 : List UInt8 := [30, 32, 148, 155, 0, 14, 30, 22, 4, 148, 157, 0, 7, 4, 167, 0, 4, 3, 172]
abbrev dktX3_in_0 : List UInt8 := dkwX3_in_0 ++ []
theorem dksX3_in_0 : cX3_in.data.toList.drop 0 = dktX3_in_0 := by decide +kernel
theorem dX3_in_0 : decode cX3_in 0 = .ok (.lload_n 0, 1) := dk_30 (dk_at dksX3_in_0 0 rfl rfl)
theorem dX3_in_1 : decode cX3_in 1 = .ok (.lload_n 2, 1) := dk_32 (dk_at dksX3_in_0 1 rfl rfl)
theorem dX3_in_2 : decode cX3_in 2 = .ok (.lcmp, 1) := dk_148 (dk_at dksX3_in_0 2 rfl rfl)
theorem dX3_in_3 : decode cX3_in 3 = .ok (.ifCond .lt 14, 3) := dk_155 0 14 (dk_at dksX3_in_0 3 rfl rfl)
theorem dX3_in_6 : decode cX3_in 6 = .ok (.lload_n 0, 1) := dk_30 (dk_at dksX3_in_0 6 rfl rfl)
theorem dX3_in_7 : decode cX3_in 7 = .ok (.lload 4, 2) := dk_22 4 (dk_at dksX3_in_0 7 rfl rfl)
theorem dX3_in_9 : decode cX3_in 9 = .ok (.lcmp, 1) := dk_148 (dk_at dksX3_in_0 9 rfl rfl)
theorem dX3_in_10 : decode cX3_in 10 = .ok (.ifCond .gt 7, 3) := dk_157 0 7 (dk_at dksX3_in_0 10 rfl rfl)
theorem dX3_in_13 : decode cX3_in 13 = .ok (.iconst 1, 1) := dk_4 (dk_at dksX3_in_0 13 rfl rfl)
theorem dX3_in_14 : decode cX3_in 14 = .ok (.goto 4, 3) := dk_167 0 4 (dk_at dksX3_in_0 14 rfl rfl)
theorem dX3_in_17 : decode cX3_in 17 = .ok (.iconst 0, 1) := dk_3 (dk_at dksX3_in_0 17 rfl rfl)
theorem dX3_in_18 : decode cX3_in 18 = .ok (.ireturn, 1) := dk_172 (dk_at dksX3_in_0 18 rfl rfl)
abbrev cX3_finding : ByteArray := prog_16_method_4_code
def yX3_finding : MethodName := ⟨RX3, "finding", "(I)I"⟩
def dkwX3_finding_0 : List UInt8 := [42, 27, 181, 0, 52, 18, 55, 27, 100, 172]
abbrev dktX3_finding_0 : List UInt8 := dkwX3_finding_0 ++ []
theorem dksX3_finding_0 : cX3_finding.data.toList.drop 0 = dktX3_finding_0 := by decide +kernel
theorem dX3_finding_0 : decode cX3_finding 0 = .ok (.aload_n 0, 1) := dk_42 (dk_at dksX3_finding_0 0 rfl rfl)
theorem dX3_finding_1 : decode cX3_finding 1 = .ok (.iload_n 1, 1) := dk_27 (dk_at dksX3_finding_0 1 rfl rfl)
theorem dX3_finding_2 : decode cX3_finding 2 = .ok (.putfield 52, 3) := dk_181 0 52 (dk_at dksX3_finding_0 2 rfl rfl)
theorem dX3_finding_5 : decode cX3_finding 5 = .ok (.ldc 55, 2) := dk_18 55 (dk_at dksX3_finding_0 5 rfl rfl)
theorem dX3_finding_7 : decode cX3_finding 7 = .ok (.iload_n 1, 1) := dk_27 (dk_at dksX3_finding_0 7 rfl rfl)
theorem dX3_finding_8 : decode cX3_finding 8 = .ok (.isub, 1) := dk_100 (dk_at dksX3_finding_0 8 rfl rfl)
theorem dX3_finding_9 : decode cX3_finding 9 = .ok (.ireturn, 1) := dk_172 (dk_at dksX3_finding_0 9 rfl rfl)
abbrev cX3_set : ByteArray := prog_16_method_7_code
def yX3_set : MethodName := ⟨RX3, "set", "(III)I"⟩
def dkwX3_set_4 : List UInt8 := [147, 167, 0, 4, 29, 79, 42, 180, 0, 16, 16, 40, 27, 104, 28, 96, 46, 172]
abbrev dktX3_set_4 : List UInt8 := dkwX3_set_4 ++ []
def dkwX3_set_3 : List UInt8 := [180, 0, 7, 27, 46, 154, 0, 8, 29, 145, 167, 0, 19, 42, 180, 0, 7, 27, 46, 4, 160, 0, 8, 29]
abbrev dktX3_set_3 : List UInt8 := dkwX3_set_3 ++ dktX3_set_4
def dkwX3_set_2 : List UInt8 := [184, 0, 58, 154, 0, 9, 42, 5, 182, 0, 69, 172, 42, 180, 0, 16, 16, 40, 27, 104, 28, 96, 42]
abbrev dktX3_set_2 : List UInt8 := dkwX3_set_2 ++ dktX3_set_3
def dkwX3_set_1 : List UInt8 := [27, 46, 156, 0, 9, 42, 4, 182, 0, 69, 172, 28, 133, 9, 42, 180, 0, 13, 27, 46, 4, 100, 133]
abbrev dktX3_set_1 : List UInt8 := dkwX3_set_1 ++ dktX3_set_2
def dkwX3_set_0 : List UInt8 := [42, 3, 181, 0, 48, 27, 184, 0, 62, 154, 0, 6, 18, 68, 172, 42, 3, 181, 0, 52, 42, 180, 0, 7]
abbrev dktX3_set_0 : List UInt8 := dkwX3_set_0 ++ dktX3_set_1
theorem dksX3_set_0 : cX3_set.data.toList.drop 0 = dktX3_set_0 := by decide +kernel
theorem dksX3_set_1 : cX3_set.data.toList.drop 24 = dktX3_set_1 := dk_seg dksX3_set_0 24 rfl rfl
theorem dksX3_set_2 : cX3_set.data.toList.drop 47 = dktX3_set_2 := dk_seg dksX3_set_1 23 rfl rfl
theorem dksX3_set_3 : cX3_set.data.toList.drop 70 = dktX3_set_3 := dk_seg dksX3_set_2 23 rfl rfl
theorem dksX3_set_4 : cX3_set.data.toList.drop 94 = dktX3_set_4 := dk_seg dksX3_set_3 24 rfl rfl
theorem dX3_set_0 : decode cX3_set 0 = .ok (.aload_n 0, 1) := dk_42 (dk_at dksX3_set_0 0 rfl rfl)
theorem dX3_set_1 : decode cX3_set 1 = .ok (.iconst 0, 1) := dk_3 (dk_at dksX3_set_0 1 rfl rfl)
theorem dX3_set_2 : decode cX3_set 2 = .ok (.putfield 48, 3) := dk_181 0 48 (dk_at dksX3_set_0 2 rfl rfl)
theorem dX3_set_5 : decode cX3_set 5 = .ok (.iload_n 1, 1) := dk_27 (dk_at dksX3_set_0 5 rfl rfl)
theorem dX3_set_6 : decode cX3_set 6 = .ok (.invokestatic 62, 3) := dk_184 0 62 (dk_at dksX3_set_0 6 rfl rfl)
theorem dX3_set_9 : decode cX3_set 9 = .ok (.ifCond .ne 6, 3) := dk_154 0 6 (dk_at dksX3_set_0 9 rfl rfl)
theorem dX3_set_12 : decode cX3_set 12 = .ok (.ldc 68, 2) := dk_18 68 (dk_at dksX3_set_0 12 rfl rfl)
theorem dX3_set_14 : decode cX3_set 14 = .ok (.ireturn, 1) := dk_172 (dk_at dksX3_set_0 14 rfl rfl)
theorem dX3_set_15 : decode cX3_set 15 = .ok (.aload_n 0, 1) := dk_42 (dk_at dksX3_set_0 15 rfl rfl)
theorem dX3_set_16 : decode cX3_set 16 = .ok (.iconst 0, 1) := dk_3 (dk_at dksX3_set_0 16 rfl rfl)
theorem dX3_set_17 : decode cX3_set 17 = .ok (.putfield 52, 3) := dk_181 0 52 (dk_at dksX3_set_0 17 rfl rfl)
theorem dX3_set_20 : decode cX3_set 20 = .ok (.aload_n 0, 1) := dk_42 (dk_at dksX3_set_0 20 rfl rfl)
theorem dX3_set_21 : decode cX3_set 21 = .ok (.getfield 7, 3) := dk_180 0 7 (dk_at dksX3_set_0 21 rfl rfl)
theorem dX3_set_24 : decode cX3_set 24 = .ok (.iload_n 1, 1) := dk_27 (dk_at dksX3_set_1 0 rfl rfl)
theorem dX3_set_25 : decode cX3_set 25 = .ok (.iaload, 1) := dk_46 (dk_at dksX3_set_1 1 rfl rfl)
theorem dX3_set_26 : decode cX3_set 26 = .ok (.ifCond .ge 9, 3) := dk_156 0 9 (dk_at dksX3_set_1 2 rfl rfl)
theorem dX3_set_29 : decode cX3_set 29 = .ok (.aload_n 0, 1) := dk_42 (dk_at dksX3_set_1 5 rfl rfl)
theorem dX3_set_30 : decode cX3_set 30 = .ok (.iconst 1, 1) := dk_4 (dk_at dksX3_set_1 6 rfl rfl)
theorem dX3_set_31 : decode cX3_set 31 = .ok (.invokevirtual 69, 3) := dk_182 0 69 (dk_at dksX3_set_1 7 rfl rfl)
theorem dX3_set_34 : decode cX3_set 34 = .ok (.ireturn, 1) := dk_172 (dk_at dksX3_set_1 10 rfl rfl)
theorem dX3_set_35 : decode cX3_set 35 = .ok (.iload_n 2, 1) := dk_28 (dk_at dksX3_set_1 11 rfl rfl)
theorem dX3_set_36 : decode cX3_set 36 = .ok (.i2l, 1) := dk_133 (dk_at dksX3_set_1 12 rfl rfl)
theorem dX3_set_37 : decode cX3_set 37 = .ok (.lconst 0, 1) := dk_9 (dk_at dksX3_set_1 13 rfl rfl)
theorem dX3_set_38 : decode cX3_set 38 = .ok (.aload_n 0, 1) := dk_42 (dk_at dksX3_set_1 14 rfl rfl)
theorem dX3_set_39 : decode cX3_set 39 = .ok (.getfield 13, 3) := dk_180 0 13 (dk_at dksX3_set_1 15 rfl rfl)
theorem dX3_set_42 : decode cX3_set 42 = .ok (.iload_n 1, 1) := dk_27 (dk_at dksX3_set_1 18 rfl rfl)
theorem dX3_set_43 : decode cX3_set 43 = .ok (.iaload, 1) := dk_46 (dk_at dksX3_set_1 19 rfl rfl)
theorem dX3_set_44 : decode cX3_set 44 = .ok (.iconst 1, 1) := dk_4 (dk_at dksX3_set_1 20 rfl rfl)
theorem dX3_set_45 : decode cX3_set 45 = .ok (.isub, 1) := dk_100 (dk_at dksX3_set_1 21 rfl rfl)
theorem dX3_set_46 : decode cX3_set 46 = .ok (.i2l, 1) := dk_133 (dk_at dksX3_set_1 22 rfl rfl)
theorem dX3_set_47 : decode cX3_set 47 = .ok (.invokestatic 58, 3) := dk_184 0 58 (dk_at dksX3_set_2 0 rfl rfl)
theorem dX3_set_50 : decode cX3_set 50 = .ok (.ifCond .ne 9, 3) := dk_154 0 9 (dk_at dksX3_set_2 3 rfl rfl)
theorem dX3_set_53 : decode cX3_set 53 = .ok (.aload_n 0, 1) := dk_42 (dk_at dksX3_set_2 6 rfl rfl)
theorem dX3_set_54 : decode cX3_set 54 = .ok (.iconst 2, 1) := dk_5 (dk_at dksX3_set_2 7 rfl rfl)
theorem dX3_set_55 : decode cX3_set 55 = .ok (.invokevirtual 69, 3) := dk_182 0 69 (dk_at dksX3_set_2 8 rfl rfl)
theorem dX3_set_58 : decode cX3_set 58 = .ok (.ireturn, 1) := dk_172 (dk_at dksX3_set_2 11 rfl rfl)
theorem dX3_set_59 : decode cX3_set 59 = .ok (.aload_n 0, 1) := dk_42 (dk_at dksX3_set_2 12 rfl rfl)
theorem dX3_set_60 : decode cX3_set 60 = .ok (.getfield 16, 3) := dk_180 0 16 (dk_at dksX3_set_2 13 rfl rfl)
theorem dX3_set_63 : decode cX3_set 63 = .ok (.bipush 40, 2) := dk_16 40 (dk_at dksX3_set_2 16 rfl rfl)
theorem dX3_set_65 : decode cX3_set 65 = .ok (.iload_n 1, 1) := dk_27 (dk_at dksX3_set_2 18 rfl rfl)
theorem dX3_set_66 : decode cX3_set 66 = .ok (.imul, 1) := dk_104 (dk_at dksX3_set_2 19 rfl rfl)
theorem dX3_set_67 : decode cX3_set 67 = .ok (.iload_n 2, 1) := dk_28 (dk_at dksX3_set_2 20 rfl rfl)
theorem dX3_set_68 : decode cX3_set 68 = .ok (.iadd, 1) := dk_96 (dk_at dksX3_set_2 21 rfl rfl)
theorem dX3_set_69 : decode cX3_set 69 = .ok (.aload_n 0, 1) := dk_42 (dk_at dksX3_set_2 22 rfl rfl)
theorem dX3_set_70 : decode cX3_set 70 = .ok (.getfield 7, 3) := dk_180 0 7 (dk_at dksX3_set_3 0 rfl rfl)
theorem dX3_set_73 : decode cX3_set 73 = .ok (.iload_n 1, 1) := dk_27 (dk_at dksX3_set_3 3 rfl rfl)
theorem dX3_set_74 : decode cX3_set 74 = .ok (.iaload, 1) := dk_46 (dk_at dksX3_set_3 4 rfl rfl)
theorem dX3_set_75 : decode cX3_set 75 = .ok (.ifCond .ne 8, 3) := dk_154 0 8 (dk_at dksX3_set_3 5 rfl rfl)
theorem dX3_set_78 : decode cX3_set 78 = .ok (.iload_n 3, 1) := dk_29 (dk_at dksX3_set_3 8 rfl rfl)
theorem dX3_set_79 : decode cX3_set 79 = .ok (.i2b, 1) := dk_145 (dk_at dksX3_set_3 9 rfl rfl)
theorem dX3_set_80 : decode cX3_set 80 = .ok (.goto 19, 3) := dk_167 0 19 (dk_at dksX3_set_3 10 rfl rfl)
theorem dX3_set_83 : decode cX3_set 83 = .ok (.aload_n 0, 1) := dk_42 (dk_at dksX3_set_3 13 rfl rfl)
theorem dX3_set_84 : decode cX3_set 84 = .ok (.getfield 7, 3) := dk_180 0 7 (dk_at dksX3_set_3 14 rfl rfl)
theorem dX3_set_87 : decode cX3_set 87 = .ok (.iload_n 1, 1) := dk_27 (dk_at dksX3_set_3 17 rfl rfl)
theorem dX3_set_88 : decode cX3_set 88 = .ok (.iaload, 1) := dk_46 (dk_at dksX3_set_3 18 rfl rfl)
theorem dX3_set_89 : decode cX3_set 89 = .ok (.iconst 1, 1) := dk_4 (dk_at dksX3_set_3 19 rfl rfl)
theorem dX3_set_90 : decode cX3_set 90 = .ok (.if_icmp .ne 8, 3) := dk_160 0 8 (dk_at dksX3_set_3 20 rfl rfl)
theorem dX3_set_93 : decode cX3_set 93 = .ok (.iload_n 3, 1) := dk_29 (dk_at dksX3_set_3 23 rfl rfl)
theorem dX3_set_94 : decode cX3_set 94 = .ok (.i2s, 1) := dk_147 (dk_at dksX3_set_4 0 rfl rfl)
theorem dX3_set_95 : decode cX3_set 95 = .ok (.goto 4, 3) := dk_167 0 4 (dk_at dksX3_set_4 1 rfl rfl)
theorem dX3_set_98 : decode cX3_set 98 = .ok (.iload_n 3, 1) := dk_29 (dk_at dksX3_set_4 4 rfl rfl)
theorem dX3_set_99 : decode cX3_set 99 = .ok (.iastore, 1) := dk_79 (dk_at dksX3_set_4 5 rfl rfl)
theorem dX3_set_100 : decode cX3_set 100 = .ok (.aload_n 0, 1) := dk_42 (dk_at dksX3_set_4 6 rfl rfl)
theorem dX3_set_101 : decode cX3_set 101 = .ok (.getfield 16, 3) := dk_180 0 16 (dk_at dksX3_set_4 7 rfl rfl)
theorem dX3_set_104 : decode cX3_set 104 = .ok (.bipush 40, 2) := dk_16 40 (dk_at dksX3_set_4 10 rfl rfl)
theorem dX3_set_106 : decode cX3_set 106 = .ok (.iload_n 1, 1) := dk_27 (dk_at dksX3_set_4 12 rfl rfl)
theorem dX3_set_107 : decode cX3_set 107 = .ok (.imul, 1) := dk_104 (dk_at dksX3_set_4 13 rfl rfl)
theorem dX3_set_108 : decode cX3_set 108 = .ok (.iload_n 2, 1) := dk_28 (dk_at dksX3_set_4 14 rfl rfl)
theorem dX3_set_109 : decode cX3_set 109 = .ok (.iadd, 1) := dk_96 (dk_at dksX3_set_4 15 rfl rfl)
theorem dX3_set_110 : decode cX3_set 110 = .ok (.iaload, 1) := dk_46 (dk_at dksX3_set_4 16 rfl rfl)
theorem dX3_set_111 : decode cX3_set 111 = .ok (.ireturn, 1) := dk_172 (dk_at dksX3_set_4 17 rfl rfl)
abbrev cX3_copy : ByteArray := prog_16_method_8_code
def yX3_copy : MethodName := ⟨RX3, "copy", "(IIIII)I"⟩
def dkwX3_copy_8 : List UInt8 := [16, 40, 27, 104, 28, 96, 21, 8, 96, 46, 79, 132, 7, 1, 167, 255, 198, 21, 5, 172]
abbrev dktX3_copy_8 : List UInt8 := dkwX3_copy_8 ++ []
def dkwX3_copy_7 : List UInt8 := [21, 7, 100, 54, 8, 42, 180, 0, 16, 16, 40, 29, 104, 21, 4, 96, 21, 8, 96, 42, 180, 0, 16]
abbrev dktX3_copy_7 : List UInt8 := dkwX3_copy_7 ++ dktX3_copy_8
def dkwX3_copy_6 : List UInt8 := [54, 7, 21, 7, 21, 5, 162, 0, 57, 21, 6, 153, 0, 8, 21, 7, 167, 0, 10, 21, 5, 4, 100]
abbrev dktX3_copy_6 : List UInt8 := dkwX3_copy_6 ++ dktX3_copy_7
def dkwX3_copy_5 : List UInt8 := [148, 158, 0, 9, 42, 5, 182, 0, 69, 172, 28, 21, 4, 161, 0, 7, 4, 167, 0, 4, 3, 54, 6, 3]
abbrev dktX3_copy_5 : List UInt8 := dkwX3_copy_5 ++ dktX3_copy_6
def dkwX3_copy_4 : List UInt8 := [180, 0, 13, 27, 46, 133, 148, 157, 0, 21, 21, 4, 133, 21, 5, 133, 97, 42, 180, 0, 13, 29, 46, 133]
abbrev dktX3_copy_4 : List UInt8 := dkwX3_copy_4 ++ dktX3_copy_5
def dkwX3_copy_3 : List UInt8 := [172, 28, 155, 0, 48, 21, 4, 155, 0, 43, 21, 5, 155, 0, 38, 28, 133, 21, 5, 133, 97, 42]
abbrev dktX3_copy_3 : List UInt8 := dkwX3_copy_3 ++ dktX3_copy_4
def dkwX3_copy_2 : List UInt8 := [182, 0, 69, 172, 42, 180, 0, 7, 27, 46, 42, 180, 0, 7, 29, 46, 159, 0, 9, 42, 8, 182, 0, 69]
abbrev dktX3_copy_2 : List UInt8 := dkwX3_copy_2 ++ dktX3_copy_3
def dkwX3_copy_1 : List UInt8 := [181, 0, 52, 42, 180, 0, 7, 27, 46, 155, 0, 12, 42, 180, 0, 7, 29, 46, 156, 0, 9, 42, 4]
abbrev dktX3_copy_1 : List UInt8 := dkwX3_copy_1 ++ dktX3_copy_2
def dkwX3_copy_0 : List UInt8 := [42, 3, 181, 0, 48, 27, 184, 0, 62, 153, 0, 10, 29, 184, 0, 62, 154, 0, 6, 18, 68, 172, 42, 3]
abbrev dktX3_copy_0 : List UInt8 := dkwX3_copy_0 ++ dktX3_copy_1
theorem dksX3_copy_0 : cX3_copy.data.toList.drop 0 = dktX3_copy_0 := by decide +kernel
theorem dksX3_copy_1 : cX3_copy.data.toList.drop 24 = dktX3_copy_1 := dk_seg dksX3_copy_0 24 rfl rfl
theorem dksX3_copy_2 : cX3_copy.data.toList.drop 47 = dktX3_copy_2 := dk_seg dksX3_copy_1 23 rfl rfl
theorem dksX3_copy_3 : cX3_copy.data.toList.drop 71 = dktX3_copy_3 := dk_seg dksX3_copy_2 24 rfl rfl
theorem dksX3_copy_4 : cX3_copy.data.toList.drop 93 = dktX3_copy_4 := dk_seg dksX3_copy_3 22 rfl rfl
theorem dksX3_copy_5 : cX3_copy.data.toList.drop 117 = dktX3_copy_5 := dk_seg dksX3_copy_4 24 rfl rfl
theorem dksX3_copy_6 : cX3_copy.data.toList.drop 141 = dktX3_copy_6 := dk_seg dksX3_copy_5 24 rfl rfl
theorem dksX3_copy_7 : cX3_copy.data.toList.drop 164 = dktX3_copy_7 := dk_seg dksX3_copy_6 23 rfl rfl
theorem dksX3_copy_8 : cX3_copy.data.toList.drop 187 = dktX3_copy_8 := dk_seg dksX3_copy_7 23 rfl rfl
theorem dX3_copy_0 : decode cX3_copy 0 = .ok (.aload_n 0, 1) := dk_42 (dk_at dksX3_copy_0 0 rfl rfl)
theorem dX3_copy_1 : decode cX3_copy 1 = .ok (.iconst 0, 1) := dk_3 (dk_at dksX3_copy_0 1 rfl rfl)
theorem dX3_copy_2 : decode cX3_copy 2 = .ok (.putfield 48, 3) := dk_181 0 48 (dk_at dksX3_copy_0 2 rfl rfl)
theorem dX3_copy_5 : decode cX3_copy 5 = .ok (.iload_n 1, 1) := dk_27 (dk_at dksX3_copy_0 5 rfl rfl)
theorem dX3_copy_6 : decode cX3_copy 6 = .ok (.invokestatic 62, 3) := dk_184 0 62 (dk_at dksX3_copy_0 6 rfl rfl)
theorem dX3_copy_9 : decode cX3_copy 9 = .ok (.ifCond .eq 10, 3) := dk_153 0 10 (dk_at dksX3_copy_0 9 rfl rfl)
theorem dX3_copy_12 : decode cX3_copy 12 = .ok (.iload_n 3, 1) := dk_29 (dk_at dksX3_copy_0 12 rfl rfl)
theorem dX3_copy_13 : decode cX3_copy 13 = .ok (.invokestatic 62, 3) := dk_184 0 62 (dk_at dksX3_copy_0 13 rfl rfl)
theorem dX3_copy_16 : decode cX3_copy 16 = .ok (.ifCond .ne 6, 3) := dk_154 0 6 (dk_at dksX3_copy_0 16 rfl rfl)
theorem dX3_copy_19 : decode cX3_copy 19 = .ok (.ldc 68, 2) := dk_18 68 (dk_at dksX3_copy_0 19 rfl rfl)
theorem dX3_copy_21 : decode cX3_copy 21 = .ok (.ireturn, 1) := dk_172 (dk_at dksX3_copy_0 21 rfl rfl)
theorem dX3_copy_22 : decode cX3_copy 22 = .ok (.aload_n 0, 1) := dk_42 (dk_at dksX3_copy_0 22 rfl rfl)
theorem dX3_copy_23 : decode cX3_copy 23 = .ok (.iconst 0, 1) := dk_3 (dk_at dksX3_copy_0 23 rfl rfl)
theorem dX3_copy_24 : decode cX3_copy 24 = .ok (.putfield 52, 3) := dk_181 0 52 (dk_at dksX3_copy_1 0 rfl rfl)
theorem dX3_copy_27 : decode cX3_copy 27 = .ok (.aload_n 0, 1) := dk_42 (dk_at dksX3_copy_1 3 rfl rfl)
theorem dX3_copy_28 : decode cX3_copy 28 = .ok (.getfield 7, 3) := dk_180 0 7 (dk_at dksX3_copy_1 4 rfl rfl)
theorem dX3_copy_31 : decode cX3_copy 31 = .ok (.iload_n 1, 1) := dk_27 (dk_at dksX3_copy_1 7 rfl rfl)
theorem dX3_copy_32 : decode cX3_copy 32 = .ok (.iaload, 1) := dk_46 (dk_at dksX3_copy_1 8 rfl rfl)
theorem dX3_copy_33 : decode cX3_copy 33 = .ok (.ifCond .lt 12, 3) := dk_155 0 12 (dk_at dksX3_copy_1 9 rfl rfl)
theorem dX3_copy_36 : decode cX3_copy 36 = .ok (.aload_n 0, 1) := dk_42 (dk_at dksX3_copy_1 12 rfl rfl)
theorem dX3_copy_37 : decode cX3_copy 37 = .ok (.getfield 7, 3) := dk_180 0 7 (dk_at dksX3_copy_1 13 rfl rfl)
theorem dX3_copy_40 : decode cX3_copy 40 = .ok (.iload_n 3, 1) := dk_29 (dk_at dksX3_copy_1 16 rfl rfl)
theorem dX3_copy_41 : decode cX3_copy 41 = .ok (.iaload, 1) := dk_46 (dk_at dksX3_copy_1 17 rfl rfl)
theorem dX3_copy_42 : decode cX3_copy 42 = .ok (.ifCond .ge 9, 3) := dk_156 0 9 (dk_at dksX3_copy_1 18 rfl rfl)
theorem dX3_copy_45 : decode cX3_copy 45 = .ok (.aload_n 0, 1) := dk_42 (dk_at dksX3_copy_1 21 rfl rfl)
theorem dX3_copy_46 : decode cX3_copy 46 = .ok (.iconst 1, 1) := dk_4 (dk_at dksX3_copy_1 22 rfl rfl)
theorem dX3_copy_47 : decode cX3_copy 47 = .ok (.invokevirtual 69, 3) := dk_182 0 69 (dk_at dksX3_copy_2 0 rfl rfl)
theorem dX3_copy_50 : decode cX3_copy 50 = .ok (.ireturn, 1) := dk_172 (dk_at dksX3_copy_2 3 rfl rfl)
theorem dX3_copy_51 : decode cX3_copy 51 = .ok (.aload_n 0, 1) := dk_42 (dk_at dksX3_copy_2 4 rfl rfl)
theorem dX3_copy_52 : decode cX3_copy 52 = .ok (.getfield 7, 3) := dk_180 0 7 (dk_at dksX3_copy_2 5 rfl rfl)
theorem dX3_copy_55 : decode cX3_copy 55 = .ok (.iload_n 1, 1) := dk_27 (dk_at dksX3_copy_2 8 rfl rfl)
theorem dX3_copy_56 : decode cX3_copy 56 = .ok (.iaload, 1) := dk_46 (dk_at dksX3_copy_2 9 rfl rfl)
theorem dX3_copy_57 : decode cX3_copy 57 = .ok (.aload_n 0, 1) := dk_42 (dk_at dksX3_copy_2 10 rfl rfl)
theorem dX3_copy_58 : decode cX3_copy 58 = .ok (.getfield 7, 3) := dk_180 0 7 (dk_at dksX3_copy_2 11 rfl rfl)
theorem dX3_copy_61 : decode cX3_copy 61 = .ok (.iload_n 3, 1) := dk_29 (dk_at dksX3_copy_2 14 rfl rfl)
theorem dX3_copy_62 : decode cX3_copy 62 = .ok (.iaload, 1) := dk_46 (dk_at dksX3_copy_2 15 rfl rfl)
theorem dX3_copy_63 : decode cX3_copy 63 = .ok (.if_icmp .eq 9, 3) := dk_159 0 9 (dk_at dksX3_copy_2 16 rfl rfl)
theorem dX3_copy_66 : decode cX3_copy 66 = .ok (.aload_n 0, 1) := dk_42 (dk_at dksX3_copy_2 19 rfl rfl)
theorem dX3_copy_67 : decode cX3_copy 67 = .ok (.iconst 5, 1) := dk_8 (dk_at dksX3_copy_2 20 rfl rfl)
theorem dX3_copy_68 : decode cX3_copy 68 = .ok (.invokevirtual 69, 3) := dk_182 0 69 (dk_at dksX3_copy_2 21 rfl rfl)
theorem dX3_copy_71 : decode cX3_copy 71 = .ok (.ireturn, 1) := dk_172 (dk_at dksX3_copy_3 0 rfl rfl)
theorem dX3_copy_72 : decode cX3_copy 72 = .ok (.iload_n 2, 1) := dk_28 (dk_at dksX3_copy_3 1 rfl rfl)
theorem dX3_copy_73 : decode cX3_copy 73 = .ok (.ifCond .lt 48, 3) := dk_155 0 48 (dk_at dksX3_copy_3 2 rfl rfl)
theorem dX3_copy_76 : decode cX3_copy 76 = .ok (.iload 4, 2) := dk_21 4 (dk_at dksX3_copy_3 5 rfl rfl)
theorem dX3_copy_78 : decode cX3_copy 78 = .ok (.ifCond .lt 43, 3) := dk_155 0 43 (dk_at dksX3_copy_3 7 rfl rfl)
theorem dX3_copy_81 : decode cX3_copy 81 = .ok (.iload 5, 2) := dk_21 5 (dk_at dksX3_copy_3 10 rfl rfl)
theorem dX3_copy_83 : decode cX3_copy 83 = .ok (.ifCond .lt 38, 3) := dk_155 0 38 (dk_at dksX3_copy_3 12 rfl rfl)
theorem dX3_copy_86 : decode cX3_copy 86 = .ok (.iload_n 2, 1) := dk_28 (dk_at dksX3_copy_3 15 rfl rfl)
theorem dX3_copy_87 : decode cX3_copy 87 = .ok (.i2l, 1) := dk_133 (dk_at dksX3_copy_3 16 rfl rfl)
theorem dX3_copy_88 : decode cX3_copy 88 = .ok (.iload 5, 2) := dk_21 5 (dk_at dksX3_copy_3 17 rfl rfl)
theorem dX3_copy_90 : decode cX3_copy 90 = .ok (.i2l, 1) := dk_133 (dk_at dksX3_copy_3 19 rfl rfl)
theorem dX3_copy_91 : decode cX3_copy 91 = .ok (.ladd, 1) := dk_97 (dk_at dksX3_copy_3 20 rfl rfl)
theorem dX3_copy_92 : decode cX3_copy 92 = .ok (.aload_n 0, 1) := dk_42 (dk_at dksX3_copy_3 21 rfl rfl)
theorem dX3_copy_93 : decode cX3_copy 93 = .ok (.getfield 13, 3) := dk_180 0 13 (dk_at dksX3_copy_4 0 rfl rfl)
theorem dX3_copy_96 : decode cX3_copy 96 = .ok (.iload_n 1, 1) := dk_27 (dk_at dksX3_copy_4 3 rfl rfl)
theorem dX3_copy_97 : decode cX3_copy 97 = .ok (.iaload, 1) := dk_46 (dk_at dksX3_copy_4 4 rfl rfl)
theorem dX3_copy_98 : decode cX3_copy 98 = .ok (.i2l, 1) := dk_133 (dk_at dksX3_copy_4 5 rfl rfl)
theorem dX3_copy_99 : decode cX3_copy 99 = .ok (.lcmp, 1) := dk_148 (dk_at dksX3_copy_4 6 rfl rfl)
theorem dX3_copy_100 : decode cX3_copy 100 = .ok (.ifCond .gt 21, 3) := dk_157 0 21 (dk_at dksX3_copy_4 7 rfl rfl)
theorem dX3_copy_103 : decode cX3_copy 103 = .ok (.iload 4, 2) := dk_21 4 (dk_at dksX3_copy_4 10 rfl rfl)
theorem dX3_copy_105 : decode cX3_copy 105 = .ok (.i2l, 1) := dk_133 (dk_at dksX3_copy_4 12 rfl rfl)
theorem dX3_copy_106 : decode cX3_copy 106 = .ok (.iload 5, 2) := dk_21 5 (dk_at dksX3_copy_4 13 rfl rfl)
theorem dX3_copy_108 : decode cX3_copy 108 = .ok (.i2l, 1) := dk_133 (dk_at dksX3_copy_4 15 rfl rfl)
theorem dX3_copy_109 : decode cX3_copy 109 = .ok (.ladd, 1) := dk_97 (dk_at dksX3_copy_4 16 rfl rfl)
theorem dX3_copy_110 : decode cX3_copy 110 = .ok (.aload_n 0, 1) := dk_42 (dk_at dksX3_copy_4 17 rfl rfl)
theorem dX3_copy_111 : decode cX3_copy 111 = .ok (.getfield 13, 3) := dk_180 0 13 (dk_at dksX3_copy_4 18 rfl rfl)
theorem dX3_copy_114 : decode cX3_copy 114 = .ok (.iload_n 3, 1) := dk_29 (dk_at dksX3_copy_4 21 rfl rfl)
theorem dX3_copy_115 : decode cX3_copy 115 = .ok (.iaload, 1) := dk_46 (dk_at dksX3_copy_4 22 rfl rfl)
theorem dX3_copy_116 : decode cX3_copy 116 = .ok (.i2l, 1) := dk_133 (dk_at dksX3_copy_4 23 rfl rfl)
theorem dX3_copy_117 : decode cX3_copy 117 = .ok (.lcmp, 1) := dk_148 (dk_at dksX3_copy_5 0 rfl rfl)
theorem dX3_copy_118 : decode cX3_copy 118 = .ok (.ifCond .le 9, 3) := dk_158 0 9 (dk_at dksX3_copy_5 1 rfl rfl)
theorem dX3_copy_121 : decode cX3_copy 121 = .ok (.aload_n 0, 1) := dk_42 (dk_at dksX3_copy_5 4 rfl rfl)
theorem dX3_copy_122 : decode cX3_copy 122 = .ok (.iconst 2, 1) := dk_5 (dk_at dksX3_copy_5 5 rfl rfl)
theorem dX3_copy_123 : decode cX3_copy 123 = .ok (.invokevirtual 69, 3) := dk_182 0 69 (dk_at dksX3_copy_5 6 rfl rfl)
theorem dX3_copy_126 : decode cX3_copy 126 = .ok (.ireturn, 1) := dk_172 (dk_at dksX3_copy_5 9 rfl rfl)
theorem dX3_copy_127 : decode cX3_copy 127 = .ok (.iload_n 2, 1) := dk_28 (dk_at dksX3_copy_5 10 rfl rfl)
theorem dX3_copy_128 : decode cX3_copy 128 = .ok (.iload 4, 2) := dk_21 4 (dk_at dksX3_copy_5 11 rfl rfl)
theorem dX3_copy_130 : decode cX3_copy 130 = .ok (.if_icmp .lt 7, 3) := dk_161 0 7 (dk_at dksX3_copy_5 13 rfl rfl)
theorem dX3_copy_133 : decode cX3_copy 133 = .ok (.iconst 1, 1) := dk_4 (dk_at dksX3_copy_5 16 rfl rfl)
theorem dX3_copy_134 : decode cX3_copy 134 = .ok (.goto 4, 3) := dk_167 0 4 (dk_at dksX3_copy_5 17 rfl rfl)
theorem dX3_copy_137 : decode cX3_copy 137 = .ok (.iconst 0, 1) := dk_3 (dk_at dksX3_copy_5 20 rfl rfl)
theorem dX3_copy_138 : decode cX3_copy 138 = .ok (.istore 6, 2) := dk_54 6 (dk_at dksX3_copy_5 21 rfl rfl)
theorem dX3_copy_140 : decode cX3_copy 140 = .ok (.iconst 0, 1) := dk_3 (dk_at dksX3_copy_5 23 rfl rfl)
theorem dX3_copy_141 : decode cX3_copy 141 = .ok (.istore 7, 2) := dk_54 7 (dk_at dksX3_copy_6 0 rfl rfl)
theorem dX3_copy_143 : decode cX3_copy 143 = .ok (.iload 7, 2) := dk_21 7 (dk_at dksX3_copy_6 2 rfl rfl)
theorem dX3_copy_145 : decode cX3_copy 145 = .ok (.iload 5, 2) := dk_21 5 (dk_at dksX3_copy_6 4 rfl rfl)
theorem dX3_copy_147 : decode cX3_copy 147 = .ok (.if_icmp .ge 57, 3) := dk_162 0 57 (dk_at dksX3_copy_6 6 rfl rfl)
theorem dX3_copy_150 : decode cX3_copy 150 = .ok (.iload 6, 2) := dk_21 6 (dk_at dksX3_copy_6 9 rfl rfl)
theorem dX3_copy_152 : decode cX3_copy 152 = .ok (.ifCond .eq 8, 3) := dk_153 0 8 (dk_at dksX3_copy_6 11 rfl rfl)
theorem dX3_copy_155 : decode cX3_copy 155 = .ok (.iload 7, 2) := dk_21 7 (dk_at dksX3_copy_6 14 rfl rfl)
theorem dX3_copy_157 : decode cX3_copy 157 = .ok (.goto 10, 3) := dk_167 0 10 (dk_at dksX3_copy_6 16 rfl rfl)
theorem dX3_copy_160 : decode cX3_copy 160 = .ok (.iload 5, 2) := dk_21 5 (dk_at dksX3_copy_6 19 rfl rfl)
theorem dX3_copy_162 : decode cX3_copy 162 = .ok (.iconst 1, 1) := dk_4 (dk_at dksX3_copy_6 21 rfl rfl)
theorem dX3_copy_163 : decode cX3_copy 163 = .ok (.isub, 1) := dk_100 (dk_at dksX3_copy_6 22 rfl rfl)
theorem dX3_copy_164 : decode cX3_copy 164 = .ok (.iload 7, 2) := dk_21 7 (dk_at dksX3_copy_7 0 rfl rfl)
theorem dX3_copy_166 : decode cX3_copy 166 = .ok (.isub, 1) := dk_100 (dk_at dksX3_copy_7 2 rfl rfl)
theorem dX3_copy_167 : decode cX3_copy 167 = .ok (.istore 8, 2) := dk_54 8 (dk_at dksX3_copy_7 3 rfl rfl)
theorem dX3_copy_169 : decode cX3_copy 169 = .ok (.aload_n 0, 1) := dk_42 (dk_at dksX3_copy_7 5 rfl rfl)
theorem dX3_copy_170 : decode cX3_copy 170 = .ok (.getfield 16, 3) := dk_180 0 16 (dk_at dksX3_copy_7 6 rfl rfl)
theorem dX3_copy_173 : decode cX3_copy 173 = .ok (.bipush 40, 2) := dk_16 40 (dk_at dksX3_copy_7 9 rfl rfl)
theorem dX3_copy_175 : decode cX3_copy 175 = .ok (.iload_n 3, 1) := dk_29 (dk_at dksX3_copy_7 11 rfl rfl)
theorem dX3_copy_176 : decode cX3_copy 176 = .ok (.imul, 1) := dk_104 (dk_at dksX3_copy_7 12 rfl rfl)
theorem dX3_copy_177 : decode cX3_copy 177 = .ok (.iload 4, 2) := dk_21 4 (dk_at dksX3_copy_7 13 rfl rfl)
theorem dX3_copy_179 : decode cX3_copy 179 = .ok (.iadd, 1) := dk_96 (dk_at dksX3_copy_7 15 rfl rfl)
theorem dX3_copy_180 : decode cX3_copy 180 = .ok (.iload 8, 2) := dk_21 8 (dk_at dksX3_copy_7 16 rfl rfl)
theorem dX3_copy_182 : decode cX3_copy 182 = .ok (.iadd, 1) := dk_96 (dk_at dksX3_copy_7 18 rfl rfl)
theorem dX3_copy_183 : decode cX3_copy 183 = .ok (.aload_n 0, 1) := dk_42 (dk_at dksX3_copy_7 19 rfl rfl)
theorem dX3_copy_184 : decode cX3_copy 184 = .ok (.getfield 16, 3) := dk_180 0 16 (dk_at dksX3_copy_7 20 rfl rfl)
theorem dX3_copy_187 : decode cX3_copy 187 = .ok (.bipush 40, 2) := dk_16 40 (dk_at dksX3_copy_8 0 rfl rfl)
theorem dX3_copy_189 : decode cX3_copy 189 = .ok (.iload_n 1, 1) := dk_27 (dk_at dksX3_copy_8 2 rfl rfl)
theorem dX3_copy_190 : decode cX3_copy 190 = .ok (.imul, 1) := dk_104 (dk_at dksX3_copy_8 3 rfl rfl)
theorem dX3_copy_191 : decode cX3_copy 191 = .ok (.iload_n 2, 1) := dk_28 (dk_at dksX3_copy_8 4 rfl rfl)
theorem dX3_copy_192 : decode cX3_copy 192 = .ok (.iadd, 1) := dk_96 (dk_at dksX3_copy_8 5 rfl rfl)
theorem dX3_copy_193 : decode cX3_copy 193 = .ok (.iload 8, 2) := dk_21 8 (dk_at dksX3_copy_8 6 rfl rfl)
theorem dX3_copy_195 : decode cX3_copy 195 = .ok (.iadd, 1) := dk_96 (dk_at dksX3_copy_8 8 rfl rfl)
theorem dX3_copy_196 : decode cX3_copy 196 = .ok (.iaload, 1) := dk_46 (dk_at dksX3_copy_8 9 rfl rfl)
theorem dX3_copy_197 : decode cX3_copy 197 = .ok (.iastore, 1) := dk_79 (dk_at dksX3_copy_8 10 rfl rfl)
theorem dX3_copy_198 : decode cX3_copy 198 = .ok (.iinc 7 1, 3) := dk_132 7 1 (dk_at dksX3_copy_8 11 rfl rfl)
theorem dX3_copy_201 : decode cX3_copy 201 = .ok (.goto (-58), 3) := dk_167 255 198 (dk_at dksX3_copy_8 14 rfl rfl)
theorem dX3_copy_204 : decode cX3_copy 204 = .ok (.iload 5, 2) := dk_21 5 (dk_at dksX3_copy_8 17 rfl rfl)
theorem dX3_copy_206 : decode cX3_copy 206 = .ok (.ireturn, 1) := dk_172 (dk_at dksX3_copy_8 19 rfl rfl)
abbrev cX3_drop : ByteArray := prog_16_method_9_code
def yX3_drop : MethodName := ⟨RX3, "drop", "(I)I"⟩
def dkwX3_drop_2 : List UInt8 := [172]
abbrev dktX3_drop_2 : List UInt8 := dkwX3_drop_2 ++ []
def dkwX3_drop_1 : List UInt8 := [27, 46, 156, 0, 9, 42, 4, 182, 0, 69, 172, 42, 180, 0, 7, 27, 2, 79, 42, 180, 0, 13, 27, 46]
abbrev dktX3_drop_1 : List UInt8 := dkwX3_drop_1 ++ dktX3_drop_2
def dkwX3_drop_0 : List UInt8 := [42, 3, 181, 0, 48, 27, 184, 0, 62, 154, 0, 6, 18, 68, 172, 42, 3, 181, 0, 52, 42, 180, 0, 7]
abbrev dktX3_drop_0 : List UInt8 := dkwX3_drop_0 ++ dktX3_drop_1
theorem dksX3_drop_0 : cX3_drop.data.toList.drop 0 = dktX3_drop_0 := by decide +kernel
theorem dksX3_drop_1 : cX3_drop.data.toList.drop 24 = dktX3_drop_1 := dk_seg dksX3_drop_0 24 rfl rfl
theorem dksX3_drop_2 : cX3_drop.data.toList.drop 48 = dktX3_drop_2 := dk_seg dksX3_drop_1 24 rfl rfl
theorem dX3_drop_0 : decode cX3_drop 0 = .ok (.aload_n 0, 1) := dk_42 (dk_at dksX3_drop_0 0 rfl rfl)
theorem dX3_drop_1 : decode cX3_drop 1 = .ok (.iconst 0, 1) := dk_3 (dk_at dksX3_drop_0 1 rfl rfl)
theorem dX3_drop_2 : decode cX3_drop 2 = .ok (.putfield 48, 3) := dk_181 0 48 (dk_at dksX3_drop_0 2 rfl rfl)
theorem dX3_drop_5 : decode cX3_drop 5 = .ok (.iload_n 1, 1) := dk_27 (dk_at dksX3_drop_0 5 rfl rfl)
theorem dX3_drop_6 : decode cX3_drop 6 = .ok (.invokestatic 62, 3) := dk_184 0 62 (dk_at dksX3_drop_0 6 rfl rfl)
theorem dX3_drop_9 : decode cX3_drop 9 = .ok (.ifCond .ne 6, 3) := dk_154 0 6 (dk_at dksX3_drop_0 9 rfl rfl)
theorem dX3_drop_12 : decode cX3_drop 12 = .ok (.ldc 68, 2) := dk_18 68 (dk_at dksX3_drop_0 12 rfl rfl)
theorem dX3_drop_14 : decode cX3_drop 14 = .ok (.ireturn, 1) := dk_172 (dk_at dksX3_drop_0 14 rfl rfl)
theorem dX3_drop_15 : decode cX3_drop 15 = .ok (.aload_n 0, 1) := dk_42 (dk_at dksX3_drop_0 15 rfl rfl)
theorem dX3_drop_16 : decode cX3_drop 16 = .ok (.iconst 0, 1) := dk_3 (dk_at dksX3_drop_0 16 rfl rfl)
theorem dX3_drop_17 : decode cX3_drop 17 = .ok (.putfield 52, 3) := dk_181 0 52 (dk_at dksX3_drop_0 17 rfl rfl)
theorem dX3_drop_20 : decode cX3_drop 20 = .ok (.aload_n 0, 1) := dk_42 (dk_at dksX3_drop_0 20 rfl rfl)
theorem dX3_drop_21 : decode cX3_drop 21 = .ok (.getfield 7, 3) := dk_180 0 7 (dk_at dksX3_drop_0 21 rfl rfl)
theorem dX3_drop_24 : decode cX3_drop 24 = .ok (.iload_n 1, 1) := dk_27 (dk_at dksX3_drop_1 0 rfl rfl)
theorem dX3_drop_25 : decode cX3_drop 25 = .ok (.iaload, 1) := dk_46 (dk_at dksX3_drop_1 1 rfl rfl)
theorem dX3_drop_26 : decode cX3_drop 26 = .ok (.ifCond .ge 9, 3) := dk_156 0 9 (dk_at dksX3_drop_1 2 rfl rfl)
theorem dX3_drop_29 : decode cX3_drop 29 = .ok (.aload_n 0, 1) := dk_42 (dk_at dksX3_drop_1 5 rfl rfl)
theorem dX3_drop_30 : decode cX3_drop 30 = .ok (.iconst 1, 1) := dk_4 (dk_at dksX3_drop_1 6 rfl rfl)
theorem dX3_drop_31 : decode cX3_drop 31 = .ok (.invokevirtual 69, 3) := dk_182 0 69 (dk_at dksX3_drop_1 7 rfl rfl)
theorem dX3_drop_34 : decode cX3_drop 34 = .ok (.ireturn, 1) := dk_172 (dk_at dksX3_drop_1 10 rfl rfl)
theorem dX3_drop_35 : decode cX3_drop 35 = .ok (.aload_n 0, 1) := dk_42 (dk_at dksX3_drop_1 11 rfl rfl)
theorem dX3_drop_36 : decode cX3_drop 36 = .ok (.getfield 7, 3) := dk_180 0 7 (dk_at dksX3_drop_1 12 rfl rfl)
theorem dX3_drop_39 : decode cX3_drop 39 = .ok (.iload_n 1, 1) := dk_27 (dk_at dksX3_drop_1 15 rfl rfl)
theorem dX3_drop_40 : decode cX3_drop 40 = .ok (.iconst (-1), 1) := dk_2 (dk_at dksX3_drop_1 16 rfl rfl)
theorem dX3_drop_41 : decode cX3_drop 41 = .ok (.iastore, 1) := dk_79 (dk_at dksX3_drop_1 17 rfl rfl)
theorem dX3_drop_42 : decode cX3_drop 42 = .ok (.aload_n 0, 1) := dk_42 (dk_at dksX3_drop_1 18 rfl rfl)
theorem dX3_drop_43 : decode cX3_drop 43 = .ok (.getfield 13, 3) := dk_180 0 13 (dk_at dksX3_drop_1 19 rfl rfl)
theorem dX3_drop_46 : decode cX3_drop 46 = .ok (.iload_n 1, 1) := dk_27 (dk_at dksX3_drop_1 22 rfl rfl)
theorem dX3_drop_47 : decode cX3_drop 47 = .ok (.iaload, 1) := dk_46 (dk_at dksX3_drop_1 23 rfl rfl)
theorem dX3_drop_48 : decode cX3_drop 48 = .ok (.ireturn, 1) := dk_172 (dk_at dksX3_drop_2 0 rfl rfl)
abbrev cX3_feed : ByteArray := prog_16_method_10_code
def yX3_feed : MethodName := ⟨RX3, "feed", "(JI)I"⟩
def dkwX3_feed_3 : List UInt8 := [180, 0, 75, 4, 96, 181, 0, 75, 132, 4, 255, 167, 255, 217, 42, 180, 0, 75, 172]
abbrev dktX3_feed_3 : List UInt8 := dkwX3_feed_3 ++ []
def dkwX3_feed_2 : List UInt8 := [180, 0, 28, 42, 180, 0, 75, 31, 16, 8, 21, 4, 104, 123, 20, 0, 79, 127, 136, 79, 42, 89]
abbrev dktX3_feed_2 : List UInt8 := dkwX3_feed_2 ++ dktX3_feed_3
def dkwX3_feed_1 : List UInt8 := [29, 96, 17, 1, 144, 164, 0, 6, 18, 78, 172, 29, 4, 100, 54, 4, 21, 4, 155, 0, 40, 42]
abbrev dktX3_feed_1 : List UInt8 := dkwX3_feed_1 ++ dktX3_feed_2
def dkwX3_feed_0 : List UInt8 := [42, 3, 181, 0, 48, 29, 133, 10, 20, 0, 73, 184, 0, 58, 154, 0, 6, 18, 68, 172, 42, 180, 0, 75]
abbrev dktX3_feed_0 : List UInt8 := dkwX3_feed_0 ++ dktX3_feed_1
theorem dksX3_feed_0 : cX3_feed.data.toList.drop 0 = dktX3_feed_0 := by decide +kernel
theorem dksX3_feed_1 : cX3_feed.data.toList.drop 24 = dktX3_feed_1 := dk_seg dksX3_feed_0 24 rfl rfl
theorem dksX3_feed_2 : cX3_feed.data.toList.drop 46 = dktX3_feed_2 := dk_seg dksX3_feed_1 22 rfl rfl
theorem dksX3_feed_3 : cX3_feed.data.toList.drop 68 = dktX3_feed_3 := dk_seg dksX3_feed_2 22 rfl rfl
theorem dX3_feed_0 : decode cX3_feed 0 = .ok (.aload_n 0, 1) := dk_42 (dk_at dksX3_feed_0 0 rfl rfl)
theorem dX3_feed_1 : decode cX3_feed 1 = .ok (.iconst 0, 1) := dk_3 (dk_at dksX3_feed_0 1 rfl rfl)
theorem dX3_feed_2 : decode cX3_feed 2 = .ok (.putfield 48, 3) := dk_181 0 48 (dk_at dksX3_feed_0 2 rfl rfl)
theorem dX3_feed_5 : decode cX3_feed 5 = .ok (.iload_n 3, 1) := dk_29 (dk_at dksX3_feed_0 5 rfl rfl)
theorem dX3_feed_6 : decode cX3_feed 6 = .ok (.i2l, 1) := dk_133 (dk_at dksX3_feed_0 6 rfl rfl)
theorem dX3_feed_7 : decode cX3_feed 7 = .ok (.lconst 1, 1) := dk_10 (dk_at dksX3_feed_0 7 rfl rfl)
theorem dX3_feed_8 : decode cX3_feed 8 = .ok (.ldc2_w 73, 3) := dk_20 0 73 (dk_at dksX3_feed_0 8 rfl rfl)
theorem dX3_feed_11 : decode cX3_feed 11 = .ok (.invokestatic 58, 3) := dk_184 0 58 (dk_at dksX3_feed_0 11 rfl rfl)
theorem dX3_feed_14 : decode cX3_feed 14 = .ok (.ifCond .ne 6, 3) := dk_154 0 6 (dk_at dksX3_feed_0 14 rfl rfl)
theorem dX3_feed_17 : decode cX3_feed 17 = .ok (.ldc 68, 2) := dk_18 68 (dk_at dksX3_feed_0 17 rfl rfl)
theorem dX3_feed_19 : decode cX3_feed 19 = .ok (.ireturn, 1) := dk_172 (dk_at dksX3_feed_0 19 rfl rfl)
theorem dX3_feed_20 : decode cX3_feed 20 = .ok (.aload_n 0, 1) := dk_42 (dk_at dksX3_feed_0 20 rfl rfl)
theorem dX3_feed_21 : decode cX3_feed 21 = .ok (.getfield 75, 3) := dk_180 0 75 (dk_at dksX3_feed_0 21 rfl rfl)
theorem dX3_feed_24 : decode cX3_feed 24 = .ok (.iload_n 3, 1) := dk_29 (dk_at dksX3_feed_1 0 rfl rfl)
theorem dX3_feed_25 : decode cX3_feed 25 = .ok (.iadd, 1) := dk_96 (dk_at dksX3_feed_1 1 rfl rfl)
theorem dX3_feed_26 : decode cX3_feed 26 = .ok (.sipush 400, 3) := dk_17 1 144 (dk_at dksX3_feed_1 2 rfl rfl)
theorem dX3_feed_29 : decode cX3_feed 29 = .ok (.if_icmp .le 6, 3) := dk_164 0 6 (dk_at dksX3_feed_1 5 rfl rfl)
theorem dX3_feed_32 : decode cX3_feed 32 = .ok (.ldc 78, 2) := dk_18 78 (dk_at dksX3_feed_1 8 rfl rfl)
theorem dX3_feed_34 : decode cX3_feed 34 = .ok (.ireturn, 1) := dk_172 (dk_at dksX3_feed_1 10 rfl rfl)
theorem dX3_feed_35 : decode cX3_feed 35 = .ok (.iload_n 3, 1) := dk_29 (dk_at dksX3_feed_1 11 rfl rfl)
theorem dX3_feed_36 : decode cX3_feed 36 = .ok (.iconst 1, 1) := dk_4 (dk_at dksX3_feed_1 12 rfl rfl)
theorem dX3_feed_37 : decode cX3_feed 37 = .ok (.isub, 1) := dk_100 (dk_at dksX3_feed_1 13 rfl rfl)
theorem dX3_feed_38 : decode cX3_feed 38 = .ok (.istore 4, 2) := dk_54 4 (dk_at dksX3_feed_1 14 rfl rfl)
theorem dX3_feed_40 : decode cX3_feed 40 = .ok (.iload 4, 2) := dk_21 4 (dk_at dksX3_feed_1 16 rfl rfl)
theorem dX3_feed_42 : decode cX3_feed 42 = .ok (.ifCond .lt 40, 3) := dk_155 0 40 (dk_at dksX3_feed_1 18 rfl rfl)
theorem dX3_feed_45 : decode cX3_feed 45 = .ok (.aload_n 0, 1) := dk_42 (dk_at dksX3_feed_1 21 rfl rfl)
theorem dX3_feed_46 : decode cX3_feed 46 = .ok (.getfield 28, 3) := dk_180 0 28 (dk_at dksX3_feed_2 0 rfl rfl)
theorem dX3_feed_49 : decode cX3_feed 49 = .ok (.aload_n 0, 1) := dk_42 (dk_at dksX3_feed_2 3 rfl rfl)
theorem dX3_feed_50 : decode cX3_feed 50 = .ok (.getfield 75, 3) := dk_180 0 75 (dk_at dksX3_feed_2 4 rfl rfl)
theorem dX3_feed_53 : decode cX3_feed 53 = .ok (.lload_n 1, 1) := dk_31 (dk_at dksX3_feed_2 7 rfl rfl)
theorem dX3_feed_54 : decode cX3_feed 54 = .ok (.bipush 8, 2) := dk_16 8 (dk_at dksX3_feed_2 8 rfl rfl)
theorem dX3_feed_56 : decode cX3_feed 56 = .ok (.iload 4, 2) := dk_21 4 (dk_at dksX3_feed_2 10 rfl rfl)
theorem dX3_feed_58 : decode cX3_feed 58 = .ok (.imul, 1) := dk_104 (dk_at dksX3_feed_2 12 rfl rfl)
theorem dX3_feed_59 : decode cX3_feed 59 = .ok (.lshr, 1) := dk_123 (dk_at dksX3_feed_2 13 rfl rfl)
theorem dX3_feed_60 : decode cX3_feed 60 = .ok (.ldc2_w 79, 3) := dk_20 0 79 (dk_at dksX3_feed_2 14 rfl rfl)
theorem dX3_feed_63 : decode cX3_feed 63 = .ok (.land, 1) := dk_127 (dk_at dksX3_feed_2 17 rfl rfl)
theorem dX3_feed_64 : decode cX3_feed 64 = .ok (.l2i, 1) := dk_136 (dk_at dksX3_feed_2 18 rfl rfl)
theorem dX3_feed_65 : decode cX3_feed 65 = .ok (.iastore, 1) := dk_79 (dk_at dksX3_feed_2 19 rfl rfl)
theorem dX3_feed_66 : decode cX3_feed 66 = .ok (.aload_n 0, 1) := dk_42 (dk_at dksX3_feed_2 20 rfl rfl)
theorem dX3_feed_67 : decode cX3_feed 67 = .ok (.dup, 1) := dk_89 (dk_at dksX3_feed_2 21 rfl rfl)
theorem dX3_feed_68 : decode cX3_feed 68 = .ok (.getfield 75, 3) := dk_180 0 75 (dk_at dksX3_feed_3 0 rfl rfl)
theorem dX3_feed_71 : decode cX3_feed 71 = .ok (.iconst 1, 1) := dk_4 (dk_at dksX3_feed_3 3 rfl rfl)
theorem dX3_feed_72 : decode cX3_feed 72 = .ok (.iadd, 1) := dk_96 (dk_at dksX3_feed_3 4 rfl rfl)
theorem dX3_feed_73 : decode cX3_feed 73 = .ok (.putfield 75, 3) := dk_181 0 75 (dk_at dksX3_feed_3 5 rfl rfl)
theorem dX3_feed_76 : decode cX3_feed 76 = .ok (.iinc 4 (-1), 3) := dk_132 4 255 (dk_at dksX3_feed_3 8 rfl rfl)
theorem dX3_feed_79 : decode cX3_feed 79 = .ok (.goto (-39), 3) := dk_167 255 217 (dk_at dksX3_feed_3 11 rfl rfl)
theorem dX3_feed_82 : decode cX3_feed 82 = .ok (.aload_n 0, 1) := dk_42 (dk_at dksX3_feed_3 14 rfl rfl)
theorem dX3_feed_83 : decode cX3_feed 83 = .ok (.getfield 75, 3) := dk_180 0 75 (dk_at dksX3_feed_3 15 rfl rfl)
theorem dX3_feed_86 : decode cX3_feed 86 = .ok (.ireturn, 1) := dk_172 (dk_at dksX3_feed_3 18 rfl rfl)
abbrev cX3_league : ByteArray := prog_16_method_26_code
def yX3_league : MethodName := ⟨RX3, "league", "()I"⟩
def dkwX3_league_8 : List UInt8 := [167, 255, 235, 42, 180, 0, 19, 6, 46, 172]
abbrev dktX3_league_8 : List UInt8 := dkwX3_league_8 ++ []
def dkwX3_league_7 : List UInt8 := [3, 60, 27, 16, 68, 162, 0, 21, 42, 180, 0, 19, 27, 42, 180, 0, 22, 27, 46, 79, 132, 1, 1]
abbrev dktX3_league_7 : List UInt8 := dkwX3_league_7 ++ dktX3_league_8
def dkwX3_league_6 : List UInt8 := [158, 0, 19, 42, 42, 180, 0, 106, 181, 0, 171, 18, 174, 42, 180, 0, 112, 100, 172, 42, 3, 181, 0, 175]
abbrev dktX3_league_6 : List UInt8 := dkwX3_league_6 ++ dktX3_league_7
def dkwX3_league_5 : List UInt8 := [180, 0, 106, 154, 0, 16, 42, 180, 0, 94, 4, 159, 0, 8, 42, 4, 182, 0, 115, 42, 180, 0, 106]
abbrev dktX3_league_5 : List UInt8 := dkwX3_league_5 ++ dktX3_league_6
def dkwX3_league_4 : List UInt8 := [167, 255, 241, 42, 182, 0, 148, 20, 0, 166, 148, 154, 0, 10, 42, 182, 0, 168, 167, 255, 241, 42]
abbrev dktX3_league_4 : List UInt8 := dkwX3_league_4 ++ dktX3_league_5
def dkwX3_league_3 : List UInt8 := [182, 0, 141, 79, 42, 182, 0, 145, 42, 182, 0, 148, 20, 0, 161, 148, 154, 0, 10, 42, 182, 0, 163]
abbrev dktX3_league_3 : List UInt8 := dkwX3_league_3 ++ dktX3_league_4
def dkwX3_league_2 : List UInt8 := [182, 0, 123, 42, 180, 0, 22, 3, 42, 4, 8, 182, 0, 141, 79, 42, 180, 0, 22, 4, 42, 3, 16, 20]
abbrev dktX3_league_2 : List UInt8 := dkwX3_league_2 ++ dktX3_league_3
def dkwX3_league_1 : List UInt8 := [132, 1, 1, 167, 255, 240, 42, 42, 182, 0, 148, 20, 0, 159, 148, 154, 0, 7, 4, 167, 0, 4, 3]
abbrev dktX3_league_1 : List UInt8 := dkwX3_league_1 ++ dktX3_league_2
def dkwX3_league_0 : List UInt8 := [42, 3, 181, 0, 48, 42, 182, 0, 156, 3, 60, 27, 16, 68, 162, 0, 16, 42, 180, 0, 22, 27, 3, 79]
abbrev dktX3_league_0 : List UInt8 := dkwX3_league_0 ++ dktX3_league_1
theorem dksX3_league_0 : cX3_league.data.toList.drop 0 = dktX3_league_0 := by decide +kernel
theorem dksX3_league_1 : cX3_league.data.toList.drop 24 = dktX3_league_1 := dk_seg dksX3_league_0 24 rfl rfl
theorem dksX3_league_2 : cX3_league.data.toList.drop 47 = dktX3_league_2 := dk_seg dksX3_league_1 23 rfl rfl
theorem dksX3_league_3 : cX3_league.data.toList.drop 71 = dktX3_league_3 := dk_seg dksX3_league_2 24 rfl rfl
theorem dksX3_league_4 : cX3_league.data.toList.drop 94 = dktX3_league_4 := dk_seg dksX3_league_3 23 rfl rfl
theorem dksX3_league_5 : cX3_league.data.toList.drop 116 = dktX3_league_5 := dk_seg dksX3_league_4 22 rfl rfl
theorem dksX3_league_6 : cX3_league.data.toList.drop 139 = dktX3_league_6 := dk_seg dksX3_league_5 23 rfl rfl
theorem dksX3_league_7 : cX3_league.data.toList.drop 163 = dktX3_league_7 := dk_seg dksX3_league_6 24 rfl rfl
theorem dksX3_league_8 : cX3_league.data.toList.drop 186 = dktX3_league_8 := dk_seg dksX3_league_7 23 rfl rfl
theorem dX3_league_0 : decode cX3_league 0 = .ok (.aload_n 0, 1) := dk_42 (dk_at dksX3_league_0 0 rfl rfl)
theorem dX3_league_1 : decode cX3_league 1 = .ok (.iconst 0, 1) := dk_3 (dk_at dksX3_league_0 1 rfl rfl)
theorem dX3_league_2 : decode cX3_league 2 = .ok (.putfield 48, 3) := dk_181 0 48 (dk_at dksX3_league_0 2 rfl rfl)
theorem dX3_league_5 : decode cX3_league 5 = .ok (.aload_n 0, 1) := dk_42 (dk_at dksX3_league_0 5 rfl rfl)
theorem dX3_league_6 : decode cX3_league 6 = .ok (.invokevirtual 156, 3) := dk_182 0 156 (dk_at dksX3_league_0 6 rfl rfl)
theorem dX3_league_9 : decode cX3_league 9 = .ok (.iconst 0, 1) := dk_3 (dk_at dksX3_league_0 9 rfl rfl)
theorem dX3_league_10 : decode cX3_league 10 = .ok (.istore_n 1, 1) := dk_60 (dk_at dksX3_league_0 10 rfl rfl)
theorem dX3_league_11 : decode cX3_league 11 = .ok (.iload_n 1, 1) := dk_27 (dk_at dksX3_league_0 11 rfl rfl)
theorem dX3_league_12 : decode cX3_league 12 = .ok (.bipush 68, 2) := dk_16 68 (dk_at dksX3_league_0 12 rfl rfl)
theorem dX3_league_14 : decode cX3_league 14 = .ok (.if_icmp .ge 16, 3) := dk_162 0 16 (dk_at dksX3_league_0 14 rfl rfl)
theorem dX3_league_17 : decode cX3_league 17 = .ok (.aload_n 0, 1) := dk_42 (dk_at dksX3_league_0 17 rfl rfl)
theorem dX3_league_18 : decode cX3_league 18 = .ok (.getfield 22, 3) := dk_180 0 22 (dk_at dksX3_league_0 18 rfl rfl)
theorem dX3_league_21 : decode cX3_league 21 = .ok (.iload_n 1, 1) := dk_27 (dk_at dksX3_league_0 21 rfl rfl)
theorem dX3_league_22 : decode cX3_league 22 = .ok (.iconst 0, 1) := dk_3 (dk_at dksX3_league_0 22 rfl rfl)
theorem dX3_league_23 : decode cX3_league 23 = .ok (.iastore, 1) := dk_79 (dk_at dksX3_league_0 23 rfl rfl)
theorem dX3_league_24 : decode cX3_league 24 = .ok (.iinc 1 1, 3) := dk_132 1 1 (dk_at dksX3_league_1 0 rfl rfl)
theorem dX3_league_27 : decode cX3_league 27 = .ok (.goto (-16), 3) := dk_167 255 240 (dk_at dksX3_league_1 3 rfl rfl)
theorem dX3_league_30 : decode cX3_league 30 = .ok (.aload_n 0, 1) := dk_42 (dk_at dksX3_league_1 6 rfl rfl)
theorem dX3_league_31 : decode cX3_league 31 = .ok (.aload_n 0, 1) := dk_42 (dk_at dksX3_league_1 7 rfl rfl)
theorem dX3_league_32 : decode cX3_league 32 = .ok (.invokevirtual 148, 3) := dk_182 0 148 (dk_at dksX3_league_1 8 rfl rfl)
theorem dX3_league_35 : decode cX3_league 35 = .ok (.ldc2_w 159, 3) := dk_20 0 159 (dk_at dksX3_league_1 11 rfl rfl)
theorem dX3_league_38 : decode cX3_league 38 = .ok (.lcmp, 1) := dk_148 (dk_at dksX3_league_1 14 rfl rfl)
theorem dX3_league_39 : decode cX3_league 39 = .ok (.ifCond .ne 7, 3) := dk_154 0 7 (dk_at dksX3_league_1 15 rfl rfl)
theorem dX3_league_42 : decode cX3_league 42 = .ok (.iconst 1, 1) := dk_4 (dk_at dksX3_league_1 18 rfl rfl)
theorem dX3_league_43 : decode cX3_league 43 = .ok (.goto 4, 3) := dk_167 0 4 (dk_at dksX3_league_1 19 rfl rfl)
theorem dX3_league_46 : decode cX3_league 46 = .ok (.iconst 0, 1) := dk_3 (dk_at dksX3_league_1 22 rfl rfl)
theorem dX3_league_47 : decode cX3_league 47 = .ok (.invokevirtual 123, 3) := dk_182 0 123 (dk_at dksX3_league_2 0 rfl rfl)
theorem dX3_league_50 : decode cX3_league 50 = .ok (.aload_n 0, 1) := dk_42 (dk_at dksX3_league_2 3 rfl rfl)
theorem dX3_league_51 : decode cX3_league 51 = .ok (.getfield 22, 3) := dk_180 0 22 (dk_at dksX3_league_2 4 rfl rfl)
theorem dX3_league_54 : decode cX3_league 54 = .ok (.iconst 0, 1) := dk_3 (dk_at dksX3_league_2 7 rfl rfl)
theorem dX3_league_55 : decode cX3_league 55 = .ok (.aload_n 0, 1) := dk_42 (dk_at dksX3_league_2 8 rfl rfl)
theorem dX3_league_56 : decode cX3_league 56 = .ok (.iconst 1, 1) := dk_4 (dk_at dksX3_league_2 9 rfl rfl)
theorem dX3_league_57 : decode cX3_league 57 = .ok (.iconst 5, 1) := dk_8 (dk_at dksX3_league_2 10 rfl rfl)
theorem dX3_league_58 : decode cX3_league 58 = .ok (.invokevirtual 141, 3) := dk_182 0 141 (dk_at dksX3_league_2 11 rfl rfl)
theorem dX3_league_61 : decode cX3_league 61 = .ok (.iastore, 1) := dk_79 (dk_at dksX3_league_2 14 rfl rfl)
theorem dX3_league_62 : decode cX3_league 62 = .ok (.aload_n 0, 1) := dk_42 (dk_at dksX3_league_2 15 rfl rfl)
theorem dX3_league_63 : decode cX3_league 63 = .ok (.getfield 22, 3) := dk_180 0 22 (dk_at dksX3_league_2 16 rfl rfl)
theorem dX3_league_66 : decode cX3_league 66 = .ok (.iconst 1, 1) := dk_4 (dk_at dksX3_league_2 19 rfl rfl)
theorem dX3_league_67 : decode cX3_league 67 = .ok (.aload_n 0, 1) := dk_42 (dk_at dksX3_league_2 20 rfl rfl)
theorem dX3_league_68 : decode cX3_league 68 = .ok (.iconst 0, 1) := dk_3 (dk_at dksX3_league_2 21 rfl rfl)
theorem dX3_league_69 : decode cX3_league 69 = .ok (.bipush 20, 2) := dk_16 20 (dk_at dksX3_league_2 22 rfl rfl)
theorem dX3_league_71 : decode cX3_league 71 = .ok (.invokevirtual 141, 3) := dk_182 0 141 (dk_at dksX3_league_3 0 rfl rfl)
theorem dX3_league_74 : decode cX3_league 74 = .ok (.iastore, 1) := dk_79 (dk_at dksX3_league_3 3 rfl rfl)
theorem dX3_league_75 : decode cX3_league 75 = .ok (.aload_n 0, 1) := dk_42 (dk_at dksX3_league_3 4 rfl rfl)
theorem dX3_league_76 : decode cX3_league 76 = .ok (.invokevirtual 145, 3) := dk_182 0 145 (dk_at dksX3_league_3 5 rfl rfl)
theorem dX3_league_79 : decode cX3_league 79 = .ok (.aload_n 0, 1) := dk_42 (dk_at dksX3_league_3 8 rfl rfl)
theorem dX3_league_80 : decode cX3_league 80 = .ok (.invokevirtual 148, 3) := dk_182 0 148 (dk_at dksX3_league_3 9 rfl rfl)
theorem dX3_league_83 : decode cX3_league 83 = .ok (.ldc2_w 161, 3) := dk_20 0 161 (dk_at dksX3_league_3 12 rfl rfl)
theorem dX3_league_86 : decode cX3_league 86 = .ok (.lcmp, 1) := dk_148 (dk_at dksX3_league_3 15 rfl rfl)
theorem dX3_league_87 : decode cX3_league 87 = .ok (.ifCond .ne 10, 3) := dk_154 0 10 (dk_at dksX3_league_3 16 rfl rfl)
theorem dX3_league_90 : decode cX3_league 90 = .ok (.aload_n 0, 1) := dk_42 (dk_at dksX3_league_3 19 rfl rfl)
theorem dX3_league_91 : decode cX3_league 91 = .ok (.invokevirtual 163, 3) := dk_182 0 163 (dk_at dksX3_league_3 20 rfl rfl)
theorem dX3_league_94 : decode cX3_league 94 = .ok (.goto (-15), 3) := dk_167 255 241 (dk_at dksX3_league_4 0 rfl rfl)
theorem dX3_league_97 : decode cX3_league 97 = .ok (.aload_n 0, 1) := dk_42 (dk_at dksX3_league_4 3 rfl rfl)
theorem dX3_league_98 : decode cX3_league 98 = .ok (.invokevirtual 148, 3) := dk_182 0 148 (dk_at dksX3_league_4 4 rfl rfl)
theorem dX3_league_101 : decode cX3_league 101 = .ok (.ldc2_w 166, 3) := dk_20 0 166 (dk_at dksX3_league_4 7 rfl rfl)
theorem dX3_league_104 : decode cX3_league 104 = .ok (.lcmp, 1) := dk_148 (dk_at dksX3_league_4 10 rfl rfl)
theorem dX3_league_105 : decode cX3_league 105 = .ok (.ifCond .ne 10, 3) := dk_154 0 10 (dk_at dksX3_league_4 11 rfl rfl)
theorem dX3_league_108 : decode cX3_league 108 = .ok (.aload_n 0, 1) := dk_42 (dk_at dksX3_league_4 14 rfl rfl)
theorem dX3_league_109 : decode cX3_league 109 = .ok (.invokevirtual 168, 3) := dk_182 0 168 (dk_at dksX3_league_4 15 rfl rfl)
theorem dX3_league_112 : decode cX3_league 112 = .ok (.goto (-15), 3) := dk_167 255 241 (dk_at dksX3_league_4 18 rfl rfl)
theorem dX3_league_115 : decode cX3_league 115 = .ok (.aload_n 0, 1) := dk_42 (dk_at dksX3_league_4 21 rfl rfl)
theorem dX3_league_116 : decode cX3_league 116 = .ok (.getfield 106, 3) := dk_180 0 106 (dk_at dksX3_league_5 0 rfl rfl)
theorem dX3_league_119 : decode cX3_league 119 = .ok (.ifCond .ne 16, 3) := dk_154 0 16 (dk_at dksX3_league_5 3 rfl rfl)
theorem dX3_league_122 : decode cX3_league 122 = .ok (.aload_n 0, 1) := dk_42 (dk_at dksX3_league_5 6 rfl rfl)
theorem dX3_league_123 : decode cX3_league 123 = .ok (.getfield 94, 3) := dk_180 0 94 (dk_at dksX3_league_5 7 rfl rfl)
theorem dX3_league_126 : decode cX3_league 126 = .ok (.iconst 1, 1) := dk_4 (dk_at dksX3_league_5 10 rfl rfl)
theorem dX3_league_127 : decode cX3_league 127 = .ok (.if_icmp .eq 8, 3) := dk_159 0 8 (dk_at dksX3_league_5 11 rfl rfl)
theorem dX3_league_130 : decode cX3_league 130 = .ok (.aload_n 0, 1) := dk_42 (dk_at dksX3_league_5 14 rfl rfl)
theorem dX3_league_131 : decode cX3_league 131 = .ok (.iconst 1, 1) := dk_4 (dk_at dksX3_league_5 15 rfl rfl)
theorem dX3_league_132 : decode cX3_league 132 = .ok (.invokevirtual 115, 3) := dk_182 0 115 (dk_at dksX3_league_5 16 rfl rfl)
theorem dX3_league_135 : decode cX3_league 135 = .ok (.aload_n 0, 1) := dk_42 (dk_at dksX3_league_5 19 rfl rfl)
theorem dX3_league_136 : decode cX3_league 136 = .ok (.getfield 106, 3) := dk_180 0 106 (dk_at dksX3_league_5 20 rfl rfl)
theorem dX3_league_139 : decode cX3_league 139 = .ok (.ifCond .le 19, 3) := dk_158 0 19 (dk_at dksX3_league_6 0 rfl rfl)
theorem dX3_league_142 : decode cX3_league 142 = .ok (.aload_n 0, 1) := dk_42 (dk_at dksX3_league_6 3 rfl rfl)
theorem dX3_league_143 : decode cX3_league 143 = .ok (.aload_n 0, 1) := dk_42 (dk_at dksX3_league_6 4 rfl rfl)
theorem dX3_league_144 : decode cX3_league 144 = .ok (.getfield 106, 3) := dk_180 0 106 (dk_at dksX3_league_6 5 rfl rfl)
theorem dX3_league_147 : decode cX3_league 147 = .ok (.putfield 171, 3) := dk_181 0 171 (dk_at dksX3_league_6 8 rfl rfl)
theorem dX3_league_150 : decode cX3_league 150 = .ok (.ldc 174, 2) := dk_18 174 (dk_at dksX3_league_6 11 rfl rfl)
theorem dX3_league_152 : decode cX3_league 152 = .ok (.aload_n 0, 1) := dk_42 (dk_at dksX3_league_6 13 rfl rfl)
theorem dX3_league_153 : decode cX3_league 153 = .ok (.getfield 112, 3) := dk_180 0 112 (dk_at dksX3_league_6 14 rfl rfl)
theorem dX3_league_156 : decode cX3_league 156 = .ok (.isub, 1) := dk_100 (dk_at dksX3_league_6 17 rfl rfl)
theorem dX3_league_157 : decode cX3_league 157 = .ok (.ireturn, 1) := dk_172 (dk_at dksX3_league_6 18 rfl rfl)
theorem dX3_league_158 : decode cX3_league 158 = .ok (.aload_n 0, 1) := dk_42 (dk_at dksX3_league_6 19 rfl rfl)
theorem dX3_league_159 : decode cX3_league 159 = .ok (.iconst 0, 1) := dk_3 (dk_at dksX3_league_6 20 rfl rfl)
theorem dX3_league_160 : decode cX3_league 160 = .ok (.putfield 175, 3) := dk_181 0 175 (dk_at dksX3_league_6 21 rfl rfl)
theorem dX3_league_163 : decode cX3_league 163 = .ok (.iconst 0, 1) := dk_3 (dk_at dksX3_league_7 0 rfl rfl)
theorem dX3_league_164 : decode cX3_league 164 = .ok (.istore_n 1, 1) := dk_60 (dk_at dksX3_league_7 1 rfl rfl)
theorem dX3_league_165 : decode cX3_league 165 = .ok (.iload_n 1, 1) := dk_27 (dk_at dksX3_league_7 2 rfl rfl)
theorem dX3_league_166 : decode cX3_league 166 = .ok (.bipush 68, 2) := dk_16 68 (dk_at dksX3_league_7 3 rfl rfl)
theorem dX3_league_168 : decode cX3_league 168 = .ok (.if_icmp .ge 21, 3) := dk_162 0 21 (dk_at dksX3_league_7 5 rfl rfl)
theorem dX3_league_171 : decode cX3_league 171 = .ok (.aload_n 0, 1) := dk_42 (dk_at dksX3_league_7 8 rfl rfl)
theorem dX3_league_172 : decode cX3_league 172 = .ok (.getfield 19, 3) := dk_180 0 19 (dk_at dksX3_league_7 9 rfl rfl)
theorem dX3_league_175 : decode cX3_league 175 = .ok (.iload_n 1, 1) := dk_27 (dk_at dksX3_league_7 12 rfl rfl)
theorem dX3_league_176 : decode cX3_league 176 = .ok (.aload_n 0, 1) := dk_42 (dk_at dksX3_league_7 13 rfl rfl)
theorem dX3_league_177 : decode cX3_league 177 = .ok (.getfield 22, 3) := dk_180 0 22 (dk_at dksX3_league_7 14 rfl rfl)
theorem dX3_league_180 : decode cX3_league 180 = .ok (.iload_n 1, 1) := dk_27 (dk_at dksX3_league_7 17 rfl rfl)
theorem dX3_league_181 : decode cX3_league 181 = .ok (.iaload, 1) := dk_46 (dk_at dksX3_league_7 18 rfl rfl)
theorem dX3_league_182 : decode cX3_league 182 = .ok (.iastore, 1) := dk_79 (dk_at dksX3_league_7 19 rfl rfl)
theorem dX3_league_183 : decode cX3_league 183 = .ok (.iinc 1 1, 3) := dk_132 1 1 (dk_at dksX3_league_7 20 rfl rfl)
theorem dX3_league_186 : decode cX3_league 186 = .ok (.goto (-21), 3) := dk_167 255 235 (dk_at dksX3_league_8 0 rfl rfl)
theorem dX3_league_189 : decode cX3_league 189 = .ok (.aload_n 0, 1) := dk_42 (dk_at dksX3_league_8 3 rfl rfl)
theorem dX3_league_190 : decode cX3_league 190 = .ok (.getfield 19, 3) := dk_180 0 19 (dk_at dksX3_league_8 4 rfl rfl)
theorem dX3_league_193 : decode cX3_league 193 = .ok (.iconst 3, 1) := dk_6 (dk_at dksX3_league_8 7 rfl rfl)
theorem dX3_league_194 : decode cX3_league 194 = .ok (.iaload, 1) := dk_46 (dk_at dksX3_league_8 8 rfl rfl)
theorem dX3_league_195 : decode cX3_league 195 = .ok (.ireturn, 1) := dk_172 (dk_at dksX3_league_8 9 rfl rfl)
abbrev cX3_begin : ByteArray := prog_16_method_15_code
def yX3_begin : MethodName := ⟨RX3, "begin", "()V"⟩
def dkwX3_begin_1 : List UInt8 := [182, 0, 109, 177]
abbrev dktX3_begin_1 : List UInt8 := dkwX3_begin_1 ++ []
def dkwX3_begin_0 : List UInt8 := [42, 42, 180, 0, 75, 181, 0, 81, 42, 3, 181, 0, 75, 42, 3, 181, 0, 85, 42, 3, 181, 0, 106, 42]
abbrev dktX3_begin_0 : List UInt8 := dkwX3_begin_0 ++ dktX3_begin_1
theorem dksX3_begin_0 : cX3_begin.data.toList.drop 0 = dktX3_begin_0 := by decide +kernel
theorem dksX3_begin_1 : cX3_begin.data.toList.drop 24 = dktX3_begin_1 := dk_seg dksX3_begin_0 24 rfl rfl
theorem dX3_begin_0 : decode cX3_begin 0 = .ok (.aload_n 0, 1) := dk_42 (dk_at dksX3_begin_0 0 rfl rfl)
theorem dX3_begin_1 : decode cX3_begin 1 = .ok (.aload_n 0, 1) := dk_42 (dk_at dksX3_begin_0 1 rfl rfl)
theorem dX3_begin_2 : decode cX3_begin 2 = .ok (.getfield 75, 3) := dk_180 0 75 (dk_at dksX3_begin_0 2 rfl rfl)
theorem dX3_begin_5 : decode cX3_begin 5 = .ok (.putfield 81, 3) := dk_181 0 81 (dk_at dksX3_begin_0 5 rfl rfl)
theorem dX3_begin_8 : decode cX3_begin 8 = .ok (.aload_n 0, 1) := dk_42 (dk_at dksX3_begin_0 8 rfl rfl)
theorem dX3_begin_9 : decode cX3_begin 9 = .ok (.iconst 0, 1) := dk_3 (dk_at dksX3_begin_0 9 rfl rfl)
theorem dX3_begin_10 : decode cX3_begin 10 = .ok (.putfield 75, 3) := dk_181 0 75 (dk_at dksX3_begin_0 10 rfl rfl)
theorem dX3_begin_13 : decode cX3_begin 13 = .ok (.aload_n 0, 1) := dk_42 (dk_at dksX3_begin_0 13 rfl rfl)
theorem dX3_begin_14 : decode cX3_begin 14 = .ok (.iconst 0, 1) := dk_3 (dk_at dksX3_begin_0 14 rfl rfl)
theorem dX3_begin_15 : decode cX3_begin 15 = .ok (.putfield 85, 3) := dk_181 0 85 (dk_at dksX3_begin_0 15 rfl rfl)
theorem dX3_begin_18 : decode cX3_begin 18 = .ok (.aload_n 0, 1) := dk_42 (dk_at dksX3_begin_0 18 rfl rfl)
theorem dX3_begin_19 : decode cX3_begin 19 = .ok (.iconst 0, 1) := dk_3 (dk_at dksX3_begin_0 19 rfl rfl)
theorem dX3_begin_20 : decode cX3_begin 20 = .ok (.putfield 106, 3) := dk_181 0 106 (dk_at dksX3_begin_0 20 rfl rfl)
theorem dX3_begin_23 : decode cX3_begin 23 = .ok (.aload_n 0, 1) := dk_42 (dk_at dksX3_begin_0 23 rfl rfl)
theorem dX3_begin_24 : decode cX3_begin 24 = .ok (.invokevirtual 109, 3) := dk_182 0 109 (dk_at dksX3_begin_1 0 rfl rfl)
theorem dX3_begin_27 : decode cX3_begin 27 = .ok (.return_, 1) := dk_177 (dk_at dksX3_begin_1 3 rfl rfl)
abbrev cX3_next : ByteArray := prog_16_method_14_code
def yX3_next : MethodName := ⟨RX3, "next", "()V"⟩
def dkwX3_next_8 : List UInt8 := [7, 167, 0, 4, 3, 181, 0, 94, 42, 42, 180, 0, 85, 181, 0, 103, 177]
abbrev dktX3_next_8 : List UInt8 := dkwX3_next_8 ++ []
def dkwX3_next_7 : List UInt8 := [6, 181, 0, 94, 167, 0, 28, 42, 89, 180, 0, 85, 4, 96, 181, 0, 85, 42, 27, 16, 59, 160, 0, 7]
abbrev dktX3_next_7 : List UInt8 := dkwX3_next_7 ++ dktX3_next_8
def dkwX3_next_6 : List UInt8 := [181, 0, 85, 167, 255, 232, 42, 42, 180, 0, 85, 42, 180, 0, 91, 100, 6, 164, 0, 7, 3, 167, 0, 4]
abbrev dktX3_next_6 : List UInt8 := dkwX3_next_6 ++ dktX3_next_7
def dkwX3_next_5 : List UInt8 := [153, 0, 55, 42, 42, 180, 0, 85, 182, 0, 88, 184, 0, 100, 153, 0, 16, 42, 89, 180, 0, 85, 4, 96]
abbrev dktX3_next_5 : List UInt8 := dkwX3_next_5 ++ dktX3_next_6
def dkwX3_next_4 : List UInt8 := [180, 0, 85, 4, 96, 181, 0, 85, 167, 255, 232, 42, 5, 181, 0, 94, 167, 0, 87, 27, 184, 0, 100]
abbrev dktX3_next_4 : List UInt8 := dkwX3_next_4 ++ dktX3_next_5
def dkwX3_next_3 : List UInt8 := [184, 0, 97, 153, 0, 38, 42, 42, 180, 0, 85, 182, 0, 88, 184, 0, 97, 153, 0, 16, 42, 89]
abbrev dktX3_next_3 : List UInt8 := dkwX3_next_3 ++ dktX3_next_4
def dkwX3_next_2 : List UInt8 := [42, 42, 180, 0, 85, 182, 0, 88, 60, 27, 18, 84, 160, 0, 11, 42, 4, 181, 0, 94, 167, 0, 129, 27]
abbrev dktX3_next_2 : List UInt8 := dkwX3_next_2 ++ dktX3_next_3
def dkwX3_next_1 : List UInt8 := [160, 0, 16, 42, 89, 180, 0, 85, 4, 96, 181, 0, 85, 167, 255, 220, 42, 42, 180, 0, 85, 181, 0, 91]
abbrev dktX3_next_1 : List UInt8 := dkwX3_next_1 ++ dktX3_next_2
def dkwX3_next_0 : List UInt8 := [42, 42, 180, 0, 85, 182, 0, 88, 16, 32, 159, 0, 16, 42, 42, 180, 0, 85, 182, 0, 88, 16, 10]
abbrev dktX3_next_0 : List UInt8 := dkwX3_next_0 ++ dktX3_next_1
theorem dksX3_next_0 : cX3_next.data.toList.drop 0 = dktX3_next_0 := by decide +kernel
theorem dksX3_next_1 : cX3_next.data.toList.drop 23 = dktX3_next_1 := dk_seg dksX3_next_0 23 rfl rfl
theorem dksX3_next_2 : cX3_next.data.toList.drop 47 = dktX3_next_2 := dk_seg dksX3_next_1 24 rfl rfl
theorem dksX3_next_3 : cX3_next.data.toList.drop 71 = dktX3_next_3 := dk_seg dksX3_next_2 24 rfl rfl
theorem dksX3_next_4 : cX3_next.data.toList.drop 93 = dktX3_next_4 := dk_seg dksX3_next_3 22 rfl rfl
theorem dksX3_next_5 : cX3_next.data.toList.drop 116 = dktX3_next_5 := dk_seg dksX3_next_4 23 rfl rfl
theorem dksX3_next_6 : cX3_next.data.toList.drop 140 = dktX3_next_6 := dk_seg dksX3_next_5 24 rfl rfl
theorem dksX3_next_7 : cX3_next.data.toList.drop 164 = dktX3_next_7 := dk_seg dksX3_next_6 24 rfl rfl
theorem dksX3_next_8 : cX3_next.data.toList.drop 188 = dktX3_next_8 := dk_seg dksX3_next_7 24 rfl rfl
theorem dX3_next_0 : decode cX3_next 0 = .ok (.aload_n 0, 1) := dk_42 (dk_at dksX3_next_0 0 rfl rfl)
theorem dX3_next_1 : decode cX3_next 1 = .ok (.aload_n 0, 1) := dk_42 (dk_at dksX3_next_0 1 rfl rfl)
theorem dX3_next_2 : decode cX3_next 2 = .ok (.getfield 85, 3) := dk_180 0 85 (dk_at dksX3_next_0 2 rfl rfl)
theorem dX3_next_5 : decode cX3_next 5 = .ok (.invokevirtual 88, 3) := dk_182 0 88 (dk_at dksX3_next_0 5 rfl rfl)
theorem dX3_next_8 : decode cX3_next 8 = .ok (.bipush 32, 2) := dk_16 32 (dk_at dksX3_next_0 8 rfl rfl)
theorem dX3_next_10 : decode cX3_next 10 = .ok (.if_icmp .eq 16, 3) := dk_159 0 16 (dk_at dksX3_next_0 10 rfl rfl)
theorem dX3_next_13 : decode cX3_next 13 = .ok (.aload_n 0, 1) := dk_42 (dk_at dksX3_next_0 13 rfl rfl)
theorem dX3_next_14 : decode cX3_next 14 = .ok (.aload_n 0, 1) := dk_42 (dk_at dksX3_next_0 14 rfl rfl)
theorem dX3_next_15 : decode cX3_next 15 = .ok (.getfield 85, 3) := dk_180 0 85 (dk_at dksX3_next_0 15 rfl rfl)
theorem dX3_next_18 : decode cX3_next 18 = .ok (.invokevirtual 88, 3) := dk_182 0 88 (dk_at dksX3_next_0 18 rfl rfl)
theorem dX3_next_21 : decode cX3_next 21 = .ok (.bipush 10, 2) := dk_16 10 (dk_at dksX3_next_0 21 rfl rfl)
theorem dX3_next_23 : decode cX3_next 23 = .ok (.if_icmp .ne 16, 3) := dk_160 0 16 (dk_at dksX3_next_1 0 rfl rfl)
theorem dX3_next_26 : decode cX3_next 26 = .ok (.aload_n 0, 1) := dk_42 (dk_at dksX3_next_1 3 rfl rfl)
theorem dX3_next_27 : decode cX3_next 27 = .ok (.dup, 1) := dk_89 (dk_at dksX3_next_1 4 rfl rfl)
theorem dX3_next_28 : decode cX3_next 28 = .ok (.getfield 85, 3) := dk_180 0 85 (dk_at dksX3_next_1 5 rfl rfl)
theorem dX3_next_31 : decode cX3_next 31 = .ok (.iconst 1, 1) := dk_4 (dk_at dksX3_next_1 8 rfl rfl)
theorem dX3_next_32 : decode cX3_next 32 = .ok (.iadd, 1) := dk_96 (dk_at dksX3_next_1 9 rfl rfl)
theorem dX3_next_33 : decode cX3_next 33 = .ok (.putfield 85, 3) := dk_181 0 85 (dk_at dksX3_next_1 10 rfl rfl)
theorem dX3_next_36 : decode cX3_next 36 = .ok (.goto (-36), 3) := dk_167 255 220 (dk_at dksX3_next_1 13 rfl rfl)
theorem dX3_next_39 : decode cX3_next 39 = .ok (.aload_n 0, 1) := dk_42 (dk_at dksX3_next_1 16 rfl rfl)
theorem dX3_next_40 : decode cX3_next 40 = .ok (.aload_n 0, 1) := dk_42 (dk_at dksX3_next_1 17 rfl rfl)
theorem dX3_next_41 : decode cX3_next 41 = .ok (.getfield 85, 3) := dk_180 0 85 (dk_at dksX3_next_1 18 rfl rfl)
theorem dX3_next_44 : decode cX3_next 44 = .ok (.putfield 91, 3) := dk_181 0 91 (dk_at dksX3_next_1 21 rfl rfl)
theorem dX3_next_47 : decode cX3_next 47 = .ok (.aload_n 0, 1) := dk_42 (dk_at dksX3_next_2 0 rfl rfl)
theorem dX3_next_48 : decode cX3_next 48 = .ok (.aload_n 0, 1) := dk_42 (dk_at dksX3_next_2 1 rfl rfl)
theorem dX3_next_49 : decode cX3_next 49 = .ok (.getfield 85, 3) := dk_180 0 85 (dk_at dksX3_next_2 2 rfl rfl)
theorem dX3_next_52 : decode cX3_next 52 = .ok (.invokevirtual 88, 3) := dk_182 0 88 (dk_at dksX3_next_2 5 rfl rfl)
theorem dX3_next_55 : decode cX3_next 55 = .ok (.istore_n 1, 1) := dk_60 (dk_at dksX3_next_2 8 rfl rfl)
theorem dX3_next_56 : decode cX3_next 56 = .ok (.iload_n 1, 1) := dk_27 (dk_at dksX3_next_2 9 rfl rfl)
theorem dX3_next_57 : decode cX3_next 57 = .ok (.ldc 84, 2) := dk_18 84 (dk_at dksX3_next_2 10 rfl rfl)
theorem dX3_next_59 : decode cX3_next 59 = .ok (.if_icmp .ne 11, 3) := dk_160 0 11 (dk_at dksX3_next_2 12 rfl rfl)
theorem dX3_next_62 : decode cX3_next 62 = .ok (.aload_n 0, 1) := dk_42 (dk_at dksX3_next_2 15 rfl rfl)
theorem dX3_next_63 : decode cX3_next 63 = .ok (.iconst 1, 1) := dk_4 (dk_at dksX3_next_2 16 rfl rfl)
theorem dX3_next_64 : decode cX3_next 64 = .ok (.putfield 94, 3) := dk_181 0 94 (dk_at dksX3_next_2 17 rfl rfl)
theorem dX3_next_67 : decode cX3_next 67 = .ok (.goto 129, 3) := dk_167 0 129 (dk_at dksX3_next_2 20 rfl rfl)
theorem dX3_next_70 : decode cX3_next 70 = .ok (.iload_n 1, 1) := dk_27 (dk_at dksX3_next_2 23 rfl rfl)
theorem dX3_next_71 : decode cX3_next 71 = .ok (.invokestatic 97, 3) := dk_184 0 97 (dk_at dksX3_next_3 0 rfl rfl)
theorem dX3_next_74 : decode cX3_next 74 = .ok (.ifCond .eq 38, 3) := dk_153 0 38 (dk_at dksX3_next_3 3 rfl rfl)
theorem dX3_next_77 : decode cX3_next 77 = .ok (.aload_n 0, 1) := dk_42 (dk_at dksX3_next_3 6 rfl rfl)
theorem dX3_next_78 : decode cX3_next 78 = .ok (.aload_n 0, 1) := dk_42 (dk_at dksX3_next_3 7 rfl rfl)
theorem dX3_next_79 : decode cX3_next 79 = .ok (.getfield 85, 3) := dk_180 0 85 (dk_at dksX3_next_3 8 rfl rfl)
theorem dX3_next_82 : decode cX3_next 82 = .ok (.invokevirtual 88, 3) := dk_182 0 88 (dk_at dksX3_next_3 11 rfl rfl)
theorem dX3_next_85 : decode cX3_next 85 = .ok (.invokestatic 97, 3) := dk_184 0 97 (dk_at dksX3_next_3 14 rfl rfl)
theorem dX3_next_88 : decode cX3_next 88 = .ok (.ifCond .eq 16, 3) := dk_153 0 16 (dk_at dksX3_next_3 17 rfl rfl)
theorem dX3_next_91 : decode cX3_next 91 = .ok (.aload_n 0, 1) := dk_42 (dk_at dksX3_next_3 20 rfl rfl)
theorem dX3_next_92 : decode cX3_next 92 = .ok (.dup, 1) := dk_89 (dk_at dksX3_next_3 21 rfl rfl)
theorem dX3_next_93 : decode cX3_next 93 = .ok (.getfield 85, 3) := dk_180 0 85 (dk_at dksX3_next_4 0 rfl rfl)
theorem dX3_next_96 : decode cX3_next 96 = .ok (.iconst 1, 1) := dk_4 (dk_at dksX3_next_4 3 rfl rfl)
theorem dX3_next_97 : decode cX3_next 97 = .ok (.iadd, 1) := dk_96 (dk_at dksX3_next_4 4 rfl rfl)
theorem dX3_next_98 : decode cX3_next 98 = .ok (.putfield 85, 3) := dk_181 0 85 (dk_at dksX3_next_4 5 rfl rfl)
theorem dX3_next_101 : decode cX3_next 101 = .ok (.goto (-24), 3) := dk_167 255 232 (dk_at dksX3_next_4 8 rfl rfl)
theorem dX3_next_104 : decode cX3_next 104 = .ok (.aload_n 0, 1) := dk_42 (dk_at dksX3_next_4 11 rfl rfl)
theorem dX3_next_105 : decode cX3_next 105 = .ok (.iconst 2, 1) := dk_5 (dk_at dksX3_next_4 12 rfl rfl)
theorem dX3_next_106 : decode cX3_next 106 = .ok (.putfield 94, 3) := dk_181 0 94 (dk_at dksX3_next_4 13 rfl rfl)
theorem dX3_next_109 : decode cX3_next 109 = .ok (.goto 87, 3) := dk_167 0 87 (dk_at dksX3_next_4 16 rfl rfl)
theorem dX3_next_112 : decode cX3_next 112 = .ok (.iload_n 1, 1) := dk_27 (dk_at dksX3_next_4 19 rfl rfl)
theorem dX3_next_113 : decode cX3_next 113 = .ok (.invokestatic 100, 3) := dk_184 0 100 (dk_at dksX3_next_4 20 rfl rfl)
theorem dX3_next_116 : decode cX3_next 116 = .ok (.ifCond .eq 55, 3) := dk_153 0 55 (dk_at dksX3_next_5 0 rfl rfl)
theorem dX3_next_119 : decode cX3_next 119 = .ok (.aload_n 0, 1) := dk_42 (dk_at dksX3_next_5 3 rfl rfl)
theorem dX3_next_120 : decode cX3_next 120 = .ok (.aload_n 0, 1) := dk_42 (dk_at dksX3_next_5 4 rfl rfl)
theorem dX3_next_121 : decode cX3_next 121 = .ok (.getfield 85, 3) := dk_180 0 85 (dk_at dksX3_next_5 5 rfl rfl)
theorem dX3_next_124 : decode cX3_next 124 = .ok (.invokevirtual 88, 3) := dk_182 0 88 (dk_at dksX3_next_5 8 rfl rfl)
theorem dX3_next_127 : decode cX3_next 127 = .ok (.invokestatic 100, 3) := dk_184 0 100 (dk_at dksX3_next_5 11 rfl rfl)
theorem dX3_next_130 : decode cX3_next 130 = .ok (.ifCond .eq 16, 3) := dk_153 0 16 (dk_at dksX3_next_5 14 rfl rfl)
theorem dX3_next_133 : decode cX3_next 133 = .ok (.aload_n 0, 1) := dk_42 (dk_at dksX3_next_5 17 rfl rfl)
theorem dX3_next_134 : decode cX3_next 134 = .ok (.dup, 1) := dk_89 (dk_at dksX3_next_5 18 rfl rfl)
theorem dX3_next_135 : decode cX3_next 135 = .ok (.getfield 85, 3) := dk_180 0 85 (dk_at dksX3_next_5 19 rfl rfl)
theorem dX3_next_138 : decode cX3_next 138 = .ok (.iconst 1, 1) := dk_4 (dk_at dksX3_next_5 22 rfl rfl)
theorem dX3_next_139 : decode cX3_next 139 = .ok (.iadd, 1) := dk_96 (dk_at dksX3_next_5 23 rfl rfl)
theorem dX3_next_140 : decode cX3_next 140 = .ok (.putfield 85, 3) := dk_181 0 85 (dk_at dksX3_next_6 0 rfl rfl)
theorem dX3_next_143 : decode cX3_next 143 = .ok (.goto (-24), 3) := dk_167 255 232 (dk_at dksX3_next_6 3 rfl rfl)
theorem dX3_next_146 : decode cX3_next 146 = .ok (.aload_n 0, 1) := dk_42 (dk_at dksX3_next_6 6 rfl rfl)
theorem dX3_next_147 : decode cX3_next 147 = .ok (.aload_n 0, 1) := dk_42 (dk_at dksX3_next_6 7 rfl rfl)
theorem dX3_next_148 : decode cX3_next 148 = .ok (.getfield 85, 3) := dk_180 0 85 (dk_at dksX3_next_6 8 rfl rfl)
theorem dX3_next_151 : decode cX3_next 151 = .ok (.aload_n 0, 1) := dk_42 (dk_at dksX3_next_6 11 rfl rfl)
theorem dX3_next_152 : decode cX3_next 152 = .ok (.getfield 91, 3) := dk_180 0 91 (dk_at dksX3_next_6 12 rfl rfl)
theorem dX3_next_155 : decode cX3_next 155 = .ok (.isub, 1) := dk_100 (dk_at dksX3_next_6 15 rfl rfl)
theorem dX3_next_156 : decode cX3_next 156 = .ok (.iconst 3, 1) := dk_6 (dk_at dksX3_next_6 16 rfl rfl)
theorem dX3_next_157 : decode cX3_next 157 = .ok (.if_icmp .le 7, 3) := dk_164 0 7 (dk_at dksX3_next_6 17 rfl rfl)
theorem dX3_next_160 : decode cX3_next 160 = .ok (.iconst 0, 1) := dk_3 (dk_at dksX3_next_6 20 rfl rfl)
theorem dX3_next_161 : decode cX3_next 161 = .ok (.goto 4, 3) := dk_167 0 4 (dk_at dksX3_next_6 21 rfl rfl)
theorem dX3_next_164 : decode cX3_next 164 = .ok (.iconst 3, 1) := dk_6 (dk_at dksX3_next_7 0 rfl rfl)
theorem dX3_next_165 : decode cX3_next 165 = .ok (.putfield 94, 3) := dk_181 0 94 (dk_at dksX3_next_7 1 rfl rfl)
theorem dX3_next_168 : decode cX3_next 168 = .ok (.goto 28, 3) := dk_167 0 28 (dk_at dksX3_next_7 4 rfl rfl)
theorem dX3_next_171 : decode cX3_next 171 = .ok (.aload_n 0, 1) := dk_42 (dk_at dksX3_next_7 7 rfl rfl)
theorem dX3_next_172 : decode cX3_next 172 = .ok (.dup, 1) := dk_89 (dk_at dksX3_next_7 8 rfl rfl)
theorem dX3_next_173 : decode cX3_next 173 = .ok (.getfield 85, 3) := dk_180 0 85 (dk_at dksX3_next_7 9 rfl rfl)
theorem dX3_next_176 : decode cX3_next 176 = .ok (.iconst 1, 1) := dk_4 (dk_at dksX3_next_7 12 rfl rfl)
theorem dX3_next_177 : decode cX3_next 177 = .ok (.iadd, 1) := dk_96 (dk_at dksX3_next_7 13 rfl rfl)
theorem dX3_next_178 : decode cX3_next 178 = .ok (.putfield 85, 3) := dk_181 0 85 (dk_at dksX3_next_7 14 rfl rfl)
theorem dX3_next_181 : decode cX3_next 181 = .ok (.aload_n 0, 1) := dk_42 (dk_at dksX3_next_7 17 rfl rfl)
theorem dX3_next_182 : decode cX3_next 182 = .ok (.iload_n 1, 1) := dk_27 (dk_at dksX3_next_7 18 rfl rfl)
theorem dX3_next_183 : decode cX3_next 183 = .ok (.bipush 59, 2) := dk_16 59 (dk_at dksX3_next_7 19 rfl rfl)
theorem dX3_next_185 : decode cX3_next 185 = .ok (.if_icmp .ne 7, 3) := dk_160 0 7 (dk_at dksX3_next_7 21 rfl rfl)
theorem dX3_next_188 : decode cX3_next 188 = .ok (.iconst 4, 1) := dk_7 (dk_at dksX3_next_8 0 rfl rfl)
theorem dX3_next_189 : decode cX3_next 189 = .ok (.goto 4, 3) := dk_167 0 4 (dk_at dksX3_next_8 1 rfl rfl)
theorem dX3_next_192 : decode cX3_next 192 = .ok (.iconst 0, 1) := dk_3 (dk_at dksX3_next_8 4 rfl rfl)
theorem dX3_next_193 : decode cX3_next 193 = .ok (.putfield 94, 3) := dk_181 0 94 (dk_at dksX3_next_8 5 rfl rfl)
theorem dX3_next_196 : decode cX3_next 196 = .ok (.aload_n 0, 1) := dk_42 (dk_at dksX3_next_8 8 rfl rfl)
theorem dX3_next_197 : decode cX3_next 197 = .ok (.aload_n 0, 1) := dk_42 (dk_at dksX3_next_8 9 rfl rfl)
theorem dX3_next_198 : decode cX3_next 198 = .ok (.getfield 85, 3) := dk_180 0 85 (dk_at dksX3_next_8 10 rfl rfl)
theorem dX3_next_201 : decode cX3_next 201 = .ok (.putfield 103, 3) := dk_181 0 103 (dk_at dksX3_next_8 13 rfl rfl)
theorem dX3_next_204 : decode cX3_next 204 = .ok (.return_, 1) := dk_177 (dk_at dksX3_next_8 16 rfl rfl)
abbrev cX3_byteAt : ByteArray := prog_16_method_11_code
def yX3_byteAt : MethodName := ⟨RX3, "byteAt", "(I)I"⟩
def dkwX3_byteAt_0 : List UInt8 := [27, 42, 180, 0, 81, 162, 0, 12, 42, 180, 0, 28, 27, 46, 167, 0, 5, 18, 84, 172]
abbrev dktX3_byteAt_0 : List UInt8 := dkwX3_byteAt_0 ++ []
theorem dksX3_byteAt_0 : cX3_byteAt.data.toList.drop 0 = dktX3_byteAt_0 := by decide +kernel
theorem dX3_byteAt_0 : decode cX3_byteAt 0 = .ok (.iload_n 1, 1) := dk_27 (dk_at dksX3_byteAt_0 0 rfl rfl)
theorem dX3_byteAt_1 : decode cX3_byteAt 1 = .ok (.aload_n 0, 1) := dk_42 (dk_at dksX3_byteAt_0 1 rfl rfl)
theorem dX3_byteAt_2 : decode cX3_byteAt 2 = .ok (.getfield 81, 3) := dk_180 0 81 (dk_at dksX3_byteAt_0 2 rfl rfl)
theorem dX3_byteAt_5 : decode cX3_byteAt 5 = .ok (.if_icmp .ge 12, 3) := dk_162 0 12 (dk_at dksX3_byteAt_0 5 rfl rfl)
theorem dX3_byteAt_8 : decode cX3_byteAt 8 = .ok (.aload_n 0, 1) := dk_42 (dk_at dksX3_byteAt_0 8 rfl rfl)
theorem dX3_byteAt_9 : decode cX3_byteAt 9 = .ok (.getfield 28, 3) := dk_180 0 28 (dk_at dksX3_byteAt_0 9 rfl rfl)
theorem dX3_byteAt_12 : decode cX3_byteAt 12 = .ok (.iload_n 1, 1) := dk_27 (dk_at dksX3_byteAt_0 12 rfl rfl)
theorem dX3_byteAt_13 : decode cX3_byteAt 13 = .ok (.iaload, 1) := dk_46 (dk_at dksX3_byteAt_0 13 rfl rfl)
theorem dX3_byteAt_14 : decode cX3_byteAt 14 = .ok (.goto 5, 3) := dk_167 0 5 (dk_at dksX3_byteAt_0 14 rfl rfl)
theorem dX3_byteAt_17 : decode cX3_byteAt 17 = .ok (.ldc 84, 2) := dk_18 84 (dk_at dksX3_byteAt_0 17 rfl rfl)
theorem dX3_byteAt_19 : decode cX3_byteAt 19 = .ok (.ireturn, 1) := dk_172 (dk_at dksX3_byteAt_0 19 rfl rfl)
abbrev cX3_isLetter : ByteArray := prog_16_method_12_code
def yX3_isLetter : MethodName := ⟨RX3, "isLetter", "(I)Z"⟩
def dkwX3_isLetter_0 : List UInt8 := [26, 16, 97, 161, 0, 13, 26, 16, 122, 163, 0, 7, 4, 167, 0, 4, 3, 172]
abbrev dktX3_isLetter_0 : List UInt8 := dkwX3_isLetter_0 ++ []
theorem dksX3_isLetter_0 : cX3_isLetter.data.toList.drop 0 = dktX3_isLetter_0 := by decide +kernel
theorem dX3_isLetter_0 : decode cX3_isLetter 0 = .ok (.iload_n 0, 1) := dk_26 (dk_at dksX3_isLetter_0 0 rfl rfl)
theorem dX3_isLetter_1 : decode cX3_isLetter 1 = .ok (.bipush 97, 2) := dk_16 97 (dk_at dksX3_isLetter_0 1 rfl rfl)
theorem dX3_isLetter_3 : decode cX3_isLetter 3 = .ok (.if_icmp .lt 13, 3) := dk_161 0 13 (dk_at dksX3_isLetter_0 3 rfl rfl)
theorem dX3_isLetter_6 : decode cX3_isLetter 6 = .ok (.iload_n 0, 1) := dk_26 (dk_at dksX3_isLetter_0 6 rfl rfl)
theorem dX3_isLetter_7 : decode cX3_isLetter 7 = .ok (.bipush 122, 2) := dk_16 122 (dk_at dksX3_isLetter_0 7 rfl rfl)
theorem dX3_isLetter_9 : decode cX3_isLetter 9 = .ok (.if_icmp .gt 7, 3) := dk_163 0 7 (dk_at dksX3_isLetter_0 9 rfl rfl)
theorem dX3_isLetter_12 : decode cX3_isLetter 12 = .ok (.iconst 1, 1) := dk_4 (dk_at dksX3_isLetter_0 12 rfl rfl)
theorem dX3_isLetter_13 : decode cX3_isLetter 13 = .ok (.goto 4, 3) := dk_167 0 4 (dk_at dksX3_isLetter_0 13 rfl rfl)
theorem dX3_isLetter_16 : decode cX3_isLetter 16 = .ok (.iconst 0, 1) := dk_3 (dk_at dksX3_isLetter_0 16 rfl rfl)
theorem dX3_isLetter_17 : decode cX3_isLetter 17 = .ok (.ireturn, 1) := dk_172 (dk_at dksX3_isLetter_0 17 rfl rfl)
abbrev cX3_isFigure : ByteArray := prog_16_method_13_code
def yX3_isFigure : MethodName := ⟨RX3, "isFigure", "(I)Z"⟩
def dkwX3_isFigure_0 : List UInt8 := [26, 16, 48, 161, 0, 13, 26, 16, 57, 163, 0, 7, 4, 167, 0, 4, 3, 172]
abbrev dktX3_isFigure_0 : List UInt8 := dkwX3_isFigure_0 ++ []
theorem dksX3_isFigure_0 : cX3_isFigure.data.toList.drop 0 = dktX3_isFigure_0 := by decide +kernel
theorem dX3_isFigure_0 : decode cX3_isFigure 0 = .ok (.iload_n 0, 1) := dk_26 (dk_at dksX3_isFigure_0 0 rfl rfl)
theorem dX3_isFigure_1 : decode cX3_isFigure 1 = .ok (.bipush 48, 2) := dk_16 48 (dk_at dksX3_isFigure_0 1 rfl rfl)
theorem dX3_isFigure_3 : decode cX3_isFigure 3 = .ok (.if_icmp .lt 13, 3) := dk_161 0 13 (dk_at dksX3_isFigure_0 3 rfl rfl)
theorem dX3_isFigure_6 : decode cX3_isFigure 6 = .ok (.iload_n 0, 1) := dk_26 (dk_at dksX3_isFigure_0 6 rfl rfl)
theorem dX3_isFigure_7 : decode cX3_isFigure 7 = .ok (.bipush 57, 2) := dk_16 57 (dk_at dksX3_isFigure_0 7 rfl rfl)
theorem dX3_isFigure_9 : decode cX3_isFigure 9 = .ok (.if_icmp .gt 7, 3) := dk_163 0 7 (dk_at dksX3_isFigure_0 9 rfl rfl)
theorem dX3_isFigure_12 : decode cX3_isFigure 12 = .ok (.iconst 1, 1) := dk_4 (dk_at dksX3_isFigure_0 12 rfl rfl)
theorem dX3_isFigure_13 : decode cX3_isFigure 13 = .ok (.goto 4, 3) := dk_167 0 4 (dk_at dksX3_isFigure_0 13 rfl rfl)
theorem dX3_isFigure_16 : decode cX3_isFigure 16 = .ok (.iconst 0, 1) := dk_3 (dk_at dksX3_isFigure_0 16 rfl rfl)
theorem dX3_isFigure_17 : decode cX3_isFigure 17 = .ok (.ireturn, 1) := dk_172 (dk_at dksX3_isFigure_0 17 rfl rfl)
abbrev cX3_name : ByteArray := prog_16_method_18_code
def yX3_name : MethodName := ⟨RX3, "name", "()J"⟩
def dkwX3_name_2 : List UInt8 := [129, 64, 132, 3, 1, 167, 255, 210, 42, 180, 0, 106, 154, 0, 7, 31, 167, 0, 4, 9, 173]
abbrev dktX3_name_2 : List UInt8 := dkwX3_name_2 ++ []
def dkwX3_name_1 : List UInt8 := [180, 0, 103, 42, 180, 0, 91, 100, 16, 8, 162, 0, 22, 31, 16, 8, 121, 42, 180, 0, 28, 29, 46, 133]
abbrev dktX3_name_1 : List UInt8 := dkwX3_name_1 ++ dktX3_name_2
def dkwX3_name_0 : List UInt8 := [9, 64, 42, 180, 0, 91, 62, 29, 42, 180, 0, 103, 162, 0, 44, 42, 180, 0, 94, 5, 160, 0, 36, 42]
abbrev dktX3_name_0 : List UInt8 := dkwX3_name_0 ++ dktX3_name_1
theorem dksX3_name_0 : cX3_name.data.toList.drop 0 = dktX3_name_0 := by decide +kernel
theorem dksX3_name_1 : cX3_name.data.toList.drop 24 = dktX3_name_1 := dk_seg dksX3_name_0 24 rfl rfl
theorem dksX3_name_2 : cX3_name.data.toList.drop 48 = dktX3_name_2 := dk_seg dksX3_name_1 24 rfl rfl
theorem dX3_name_0 : decode cX3_name 0 = .ok (.lconst 0, 1) := dk_9 (dk_at dksX3_name_0 0 rfl rfl)
theorem dX3_name_1 : decode cX3_name 1 = .ok (.lstore_n 1, 1) := dk_64 (dk_at dksX3_name_0 1 rfl rfl)
theorem dX3_name_2 : decode cX3_name 2 = .ok (.aload_n 0, 1) := dk_42 (dk_at dksX3_name_0 2 rfl rfl)
theorem dX3_name_3 : decode cX3_name 3 = .ok (.getfield 91, 3) := dk_180 0 91 (dk_at dksX3_name_0 3 rfl rfl)
theorem dX3_name_6 : decode cX3_name 6 = .ok (.istore_n 3, 1) := dk_62 (dk_at dksX3_name_0 6 rfl rfl)
theorem dX3_name_7 : decode cX3_name 7 = .ok (.iload_n 3, 1) := dk_29 (dk_at dksX3_name_0 7 rfl rfl)
theorem dX3_name_8 : decode cX3_name 8 = .ok (.aload_n 0, 1) := dk_42 (dk_at dksX3_name_0 8 rfl rfl)
theorem dX3_name_9 : decode cX3_name 9 = .ok (.getfield 103, 3) := dk_180 0 103 (dk_at dksX3_name_0 9 rfl rfl)
theorem dX3_name_12 : decode cX3_name 12 = .ok (.if_icmp .ge 44, 3) := dk_162 0 44 (dk_at dksX3_name_0 12 rfl rfl)
theorem dX3_name_15 : decode cX3_name 15 = .ok (.aload_n 0, 1) := dk_42 (dk_at dksX3_name_0 15 rfl rfl)
theorem dX3_name_16 : decode cX3_name 16 = .ok (.getfield 94, 3) := dk_180 0 94 (dk_at dksX3_name_0 16 rfl rfl)
theorem dX3_name_19 : decode cX3_name 19 = .ok (.iconst 2, 1) := dk_5 (dk_at dksX3_name_0 19 rfl rfl)
theorem dX3_name_20 : decode cX3_name 20 = .ok (.if_icmp .ne 36, 3) := dk_160 0 36 (dk_at dksX3_name_0 20 rfl rfl)
theorem dX3_name_23 : decode cX3_name 23 = .ok (.aload_n 0, 1) := dk_42 (dk_at dksX3_name_0 23 rfl rfl)
theorem dX3_name_24 : decode cX3_name 24 = .ok (.getfield 103, 3) := dk_180 0 103 (dk_at dksX3_name_1 0 rfl rfl)
theorem dX3_name_27 : decode cX3_name 27 = .ok (.aload_n 0, 1) := dk_42 (dk_at dksX3_name_1 3 rfl rfl)
theorem dX3_name_28 : decode cX3_name 28 = .ok (.getfield 91, 3) := dk_180 0 91 (dk_at dksX3_name_1 4 rfl rfl)
theorem dX3_name_31 : decode cX3_name 31 = .ok (.isub, 1) := dk_100 (dk_at dksX3_name_1 7 rfl rfl)
theorem dX3_name_32 : decode cX3_name 32 = .ok (.bipush 8, 2) := dk_16 8 (dk_at dksX3_name_1 8 rfl rfl)
theorem dX3_name_34 : decode cX3_name 34 = .ok (.if_icmp .ge 22, 3) := dk_162 0 22 (dk_at dksX3_name_1 10 rfl rfl)
theorem dX3_name_37 : decode cX3_name 37 = .ok (.lload_n 1, 1) := dk_31 (dk_at dksX3_name_1 13 rfl rfl)
theorem dX3_name_38 : decode cX3_name 38 = .ok (.bipush 8, 2) := dk_16 8 (dk_at dksX3_name_1 14 rfl rfl)
theorem dX3_name_40 : decode cX3_name 40 = .ok (.lshl, 1) := dk_121 (dk_at dksX3_name_1 16 rfl rfl)
theorem dX3_name_41 : decode cX3_name 41 = .ok (.aload_n 0, 1) := dk_42 (dk_at dksX3_name_1 17 rfl rfl)
theorem dX3_name_42 : decode cX3_name 42 = .ok (.getfield 28, 3) := dk_180 0 28 (dk_at dksX3_name_1 18 rfl rfl)
theorem dX3_name_45 : decode cX3_name 45 = .ok (.iload_n 3, 1) := dk_29 (dk_at dksX3_name_1 21 rfl rfl)
theorem dX3_name_46 : decode cX3_name 46 = .ok (.iaload, 1) := dk_46 (dk_at dksX3_name_1 22 rfl rfl)
theorem dX3_name_47 : decode cX3_name 47 = .ok (.i2l, 1) := dk_133 (dk_at dksX3_name_1 23 rfl rfl)
theorem dX3_name_48 : decode cX3_name 48 = .ok (.lor, 1) := dk_129 (dk_at dksX3_name_2 0 rfl rfl)
theorem dX3_name_49 : decode cX3_name 49 = .ok (.lstore_n 1, 1) := dk_64 (dk_at dksX3_name_2 1 rfl rfl)
theorem dX3_name_50 : decode cX3_name 50 = .ok (.iinc 3 1, 3) := dk_132 3 1 (dk_at dksX3_name_2 2 rfl rfl)
theorem dX3_name_53 : decode cX3_name 53 = .ok (.goto (-46), 3) := dk_167 255 210 (dk_at dksX3_name_2 5 rfl rfl)
theorem dX3_name_56 : decode cX3_name 56 = .ok (.aload_n 0, 1) := dk_42 (dk_at dksX3_name_2 8 rfl rfl)
theorem dX3_name_57 : decode cX3_name 57 = .ok (.getfield 106, 3) := dk_180 0 106 (dk_at dksX3_name_2 9 rfl rfl)
theorem dX3_name_60 : decode cX3_name 60 = .ok (.ifCond .ne 7, 3) := dk_154 0 7 (dk_at dksX3_name_2 12 rfl rfl)
theorem dX3_name_63 : decode cX3_name 63 = .ok (.lload_n 1, 1) := dk_31 (dk_at dksX3_name_2 15 rfl rfl)
theorem dX3_name_64 : decode cX3_name 64 = .ok (.goto 4, 3) := dk_167 0 4 (dk_at dksX3_name_2 16 rfl rfl)
theorem dX3_name_67 : decode cX3_name 67 = .ok (.lconst 0, 1) := dk_9 (dk_at dksX3_name_2 19 rfl rfl)
theorem dX3_name_68 : decode cX3_name 68 = .ok (.lreturn, 1) := dk_173 (dk_at dksX3_name_2 20 rfl rfl)
abbrev cX3_must : ByteArray := prog_16_method_17_code
def yX3_must : MethodName := ⟨RX3, "must", "(Z)V"⟩
def dkwX3_must_0 : List UInt8 := [27, 154, 0, 8, 42, 4, 182, 0, 115, 42, 180, 0, 106, 154, 0, 7, 42, 182, 0, 109, 177]
abbrev dktX3_must_0 : List UInt8 := dkwX3_must_0 ++ []
theorem dksX3_must_0 : cX3_must.data.toList.drop 0 = dktX3_must_0 := by decide +kernel
theorem dX3_must_0 : decode cX3_must 0 = .ok (.iload_n 1, 1) := dk_27 (dk_at dksX3_must_0 0 rfl rfl)
theorem dX3_must_1 : decode cX3_must 1 = .ok (.ifCond .ne 8, 3) := dk_154 0 8 (dk_at dksX3_must_0 1 rfl rfl)
theorem dX3_must_4 : decode cX3_must 4 = .ok (.aload_n 0, 1) := dk_42 (dk_at dksX3_must_0 4 rfl rfl)
theorem dX3_must_5 : decode cX3_must 5 = .ok (.iconst 1, 1) := dk_4 (dk_at dksX3_must_0 5 rfl rfl)
theorem dX3_must_6 : decode cX3_must 6 = .ok (.invokevirtual 115, 3) := dk_182 0 115 (dk_at dksX3_must_0 6 rfl rfl)
theorem dX3_must_9 : decode cX3_must 9 = .ok (.aload_n 0, 1) := dk_42 (dk_at dksX3_must_0 9 rfl rfl)
theorem dX3_must_10 : decode cX3_must 10 = .ok (.getfield 106, 3) := dk_180 0 106 (dk_at dksX3_must_0 10 rfl rfl)
theorem dX3_must_13 : decode cX3_must 13 = .ok (.ifCond .ne 7, 3) := dk_154 0 7 (dk_at dksX3_must_0 13 rfl rfl)
theorem dX3_must_16 : decode cX3_must 16 = .ok (.aload_n 0, 1) := dk_42 (dk_at dksX3_must_0 16 rfl rfl)
theorem dX3_must_17 : decode cX3_must 17 = .ok (.invokevirtual 109, 3) := dk_182 0 109 (dk_at dksX3_must_0 17 rfl rfl)
theorem dX3_must_20 : decode cX3_must 20 = .ok (.return_, 1) := dk_177 (dk_at dksX3_must_0 20 rfl rfl)
abbrev cX3_bad : ByteArray := prog_16_method_16_code
def yX3_bad : MethodName := ⟨RX3, "bad", "(I)V"⟩
def dkwX3_bad_0 : List UInt8 := [42, 180, 0, 106, 154, 0, 16, 42, 27, 181, 0, 106, 42, 42, 180, 0, 91, 181, 0, 112, 177]
abbrev dktX3_bad_0 : List UInt8 := dkwX3_bad_0 ++ []
theorem dksX3_bad_0 : cX3_bad.data.toList.drop 0 = dktX3_bad_0 := by decide +kernel
theorem dX3_bad_0 : decode cX3_bad 0 = .ok (.aload_n 0, 1) := dk_42 (dk_at dksX3_bad_0 0 rfl rfl)
theorem dX3_bad_1 : decode cX3_bad 1 = .ok (.getfield 106, 3) := dk_180 0 106 (dk_at dksX3_bad_0 1 rfl rfl)
theorem dX3_bad_4 : decode cX3_bad 4 = .ok (.ifCond .ne 16, 3) := dk_154 0 16 (dk_at dksX3_bad_0 4 rfl rfl)
theorem dX3_bad_7 : decode cX3_bad 7 = .ok (.aload_n 0, 1) := dk_42 (dk_at dksX3_bad_0 7 rfl rfl)
theorem dX3_bad_8 : decode cX3_bad 8 = .ok (.iload_n 1, 1) := dk_27 (dk_at dksX3_bad_0 8 rfl rfl)
theorem dX3_bad_9 : decode cX3_bad 9 = .ok (.putfield 106, 3) := dk_181 0 106 (dk_at dksX3_bad_0 9 rfl rfl)
theorem dX3_bad_12 : decode cX3_bad 12 = .ok (.aload_n 0, 1) := dk_42 (dk_at dksX3_bad_0 12 rfl rfl)
theorem dX3_bad_13 : decode cX3_bad 13 = .ok (.aload_n 0, 1) := dk_42 (dk_at dksX3_bad_0 13 rfl rfl)
theorem dX3_bad_14 : decode cX3_bad 14 = .ok (.getfield 91, 3) := dk_180 0 91 (dk_at dksX3_bad_0 14 rfl rfl)
theorem dX3_bad_17 : decode cX3_bad 17 = .ok (.putfield 112, 3) := dk_181 0 112 (dk_at dksX3_bad_0 17 rfl rfl)
theorem dX3_bad_20 : decode cX3_bad 20 = .ok (.return_, 1) := dk_177 (dk_at dksX3_bad_0 20 rfl rfl)
abbrev cX3_number : ByteArray := prog_16_method_20_code
def yX3_number : MethodName := ⟨RX3, "number", "(II)I"⟩
def dkwX3_number_2 : List UInt8 := [4, 167, 0, 4, 3, 182, 0, 123, 29, 172]
abbrev dktX3_number_2 : List UInt8 := dkwX3_number_2 ++ []
def dkwX3_number_1 : List UInt8 := [27, 133, 28, 133, 184, 0, 58, 154, 0, 8, 42, 5, 182, 0, 115, 42, 42, 180, 0, 94, 6, 160, 0, 7]
abbrev dktX3_number_1 : List UInt8 := dkwX3_number_1 ++ dktX3_number_2
def dkwX3_number_0 : List UInt8 := [42, 180, 0, 106, 158, 0, 5, 3, 172, 42, 182, 0, 119, 62, 42, 180, 0, 94, 6, 160, 0, 20, 29, 133]
abbrev dktX3_number_0 : List UInt8 := dkwX3_number_0 ++ dktX3_number_1
theorem dksX3_number_0 : cX3_number.data.toList.drop 0 = dktX3_number_0 := by decide +kernel
theorem dksX3_number_1 : cX3_number.data.toList.drop 24 = dktX3_number_1 := dk_seg dksX3_number_0 24 rfl rfl
theorem dksX3_number_2 : cX3_number.data.toList.drop 48 = dktX3_number_2 := dk_seg dksX3_number_1 24 rfl rfl
theorem dX3_number_0 : decode cX3_number 0 = .ok (.aload_n 0, 1) := dk_42 (dk_at dksX3_number_0 0 rfl rfl)
theorem dX3_number_1 : decode cX3_number 1 = .ok (.getfield 106, 3) := dk_180 0 106 (dk_at dksX3_number_0 1 rfl rfl)
theorem dX3_number_4 : decode cX3_number 4 = .ok (.ifCond .le 5, 3) := dk_158 0 5 (dk_at dksX3_number_0 4 rfl rfl)
theorem dX3_number_7 : decode cX3_number 7 = .ok (.iconst 0, 1) := dk_3 (dk_at dksX3_number_0 7 rfl rfl)
theorem dX3_number_8 : decode cX3_number 8 = .ok (.ireturn, 1) := dk_172 (dk_at dksX3_number_0 8 rfl rfl)
theorem dX3_number_9 : decode cX3_number 9 = .ok (.aload_n 0, 1) := dk_42 (dk_at dksX3_number_0 9 rfl rfl)
theorem dX3_number_10 : decode cX3_number 10 = .ok (.invokevirtual 119, 3) := dk_182 0 119 (dk_at dksX3_number_0 10 rfl rfl)
theorem dX3_number_13 : decode cX3_number 13 = .ok (.istore_n 3, 1) := dk_62 (dk_at dksX3_number_0 13 rfl rfl)
theorem dX3_number_14 : decode cX3_number 14 = .ok (.aload_n 0, 1) := dk_42 (dk_at dksX3_number_0 14 rfl rfl)
theorem dX3_number_15 : decode cX3_number 15 = .ok (.getfield 94, 3) := dk_180 0 94 (dk_at dksX3_number_0 15 rfl rfl)
theorem dX3_number_18 : decode cX3_number 18 = .ok (.iconst 3, 1) := dk_6 (dk_at dksX3_number_0 18 rfl rfl)
theorem dX3_number_19 : decode cX3_number 19 = .ok (.if_icmp .ne 20, 3) := dk_160 0 20 (dk_at dksX3_number_0 19 rfl rfl)
theorem dX3_number_22 : decode cX3_number 22 = .ok (.iload_n 3, 1) := dk_29 (dk_at dksX3_number_0 22 rfl rfl)
theorem dX3_number_23 : decode cX3_number 23 = .ok (.i2l, 1) := dk_133 (dk_at dksX3_number_0 23 rfl rfl)
theorem dX3_number_24 : decode cX3_number 24 = .ok (.iload_n 1, 1) := dk_27 (dk_at dksX3_number_1 0 rfl rfl)
theorem dX3_number_25 : decode cX3_number 25 = .ok (.i2l, 1) := dk_133 (dk_at dksX3_number_1 1 rfl rfl)
theorem dX3_number_26 : decode cX3_number 26 = .ok (.iload_n 2, 1) := dk_28 (dk_at dksX3_number_1 2 rfl rfl)
theorem dX3_number_27 : decode cX3_number 27 = .ok (.i2l, 1) := dk_133 (dk_at dksX3_number_1 3 rfl rfl)
theorem dX3_number_28 : decode cX3_number 28 = .ok (.invokestatic 58, 3) := dk_184 0 58 (dk_at dksX3_number_1 4 rfl rfl)
theorem dX3_number_31 : decode cX3_number 31 = .ok (.ifCond .ne 8, 3) := dk_154 0 8 (dk_at dksX3_number_1 7 rfl rfl)
theorem dX3_number_34 : decode cX3_number 34 = .ok (.aload_n 0, 1) := dk_42 (dk_at dksX3_number_1 10 rfl rfl)
theorem dX3_number_35 : decode cX3_number 35 = .ok (.iconst 2, 1) := dk_5 (dk_at dksX3_number_1 11 rfl rfl)
theorem dX3_number_36 : decode cX3_number 36 = .ok (.invokevirtual 115, 3) := dk_182 0 115 (dk_at dksX3_number_1 12 rfl rfl)
theorem dX3_number_39 : decode cX3_number 39 = .ok (.aload_n 0, 1) := dk_42 (dk_at dksX3_number_1 15 rfl rfl)
theorem dX3_number_40 : decode cX3_number 40 = .ok (.aload_n 0, 1) := dk_42 (dk_at dksX3_number_1 16 rfl rfl)
theorem dX3_number_41 : decode cX3_number 41 = .ok (.getfield 94, 3) := dk_180 0 94 (dk_at dksX3_number_1 17 rfl rfl)
theorem dX3_number_44 : decode cX3_number 44 = .ok (.iconst 3, 1) := dk_6 (dk_at dksX3_number_1 20 rfl rfl)
theorem dX3_number_45 : decode cX3_number 45 = .ok (.if_icmp .ne 7, 3) := dk_160 0 7 (dk_at dksX3_number_1 21 rfl rfl)
theorem dX3_number_48 : decode cX3_number 48 = .ok (.iconst 1, 1) := dk_4 (dk_at dksX3_number_2 0 rfl rfl)
theorem dX3_number_49 : decode cX3_number 49 = .ok (.goto 4, 3) := dk_167 0 4 (dk_at dksX3_number_2 1 rfl rfl)
theorem dX3_number_52 : decode cX3_number 52 = .ok (.iconst 0, 1) := dk_3 (dk_at dksX3_number_2 4 rfl rfl)
theorem dX3_number_53 : decode cX3_number 53 = .ok (.invokevirtual 123, 3) := dk_182 0 123 (dk_at dksX3_number_2 5 rfl rfl)
theorem dX3_number_56 : decode cX3_number 56 = .ok (.iload_n 3, 1) := dk_29 (dk_at dksX3_number_2 8 rfl rfl)
theorem dX3_number_57 : decode cX3_number 57 = .ok (.ireturn, 1) := dk_172 (dk_at dksX3_number_2 9 rfl rfl)
abbrev cX3_figures : ByteArray := prog_16_method_19_code
def yX3_figures : MethodName := ⟨RX3, "figures", "()I"⟩
def dkwX3_figures_1 : List UInt8 := [16, 10, 27, 104, 42, 180, 0, 28, 28, 46, 96, 16, 48, 100, 60, 132, 2, 1, 167, 255, 222, 27, 172]
abbrev dktX3_figures_1 : List UInt8 := dkwX3_figures_1 ++ []
def dkwX3_figures_0 : List UInt8 := [3, 60, 42, 180, 0, 91, 61, 28, 42, 180, 0, 103, 162, 0, 32, 42, 180, 0, 94, 6, 160, 0, 24]
abbrev dktX3_figures_0 : List UInt8 := dkwX3_figures_0 ++ dktX3_figures_1
theorem dksX3_figures_0 : cX3_figures.data.toList.drop 0 = dktX3_figures_0 := by decide +kernel
theorem dksX3_figures_1 : cX3_figures.data.toList.drop 23 = dktX3_figures_1 := dk_seg dksX3_figures_0 23 rfl rfl
theorem dX3_figures_0 : decode cX3_figures 0 = .ok (.iconst 0, 1) := dk_3 (dk_at dksX3_figures_0 0 rfl rfl)
theorem dX3_figures_1 : decode cX3_figures 1 = .ok (.istore_n 1, 1) := dk_60 (dk_at dksX3_figures_0 1 rfl rfl)
theorem dX3_figures_2 : decode cX3_figures 2 = .ok (.aload_n 0, 1) := dk_42 (dk_at dksX3_figures_0 2 rfl rfl)
theorem dX3_figures_3 : decode cX3_figures 3 = .ok (.getfield 91, 3) := dk_180 0 91 (dk_at dksX3_figures_0 3 rfl rfl)
theorem dX3_figures_6 : decode cX3_figures 6 = .ok (.istore_n 2, 1) := dk_61 (dk_at dksX3_figures_0 6 rfl rfl)
theorem dX3_figures_7 : decode cX3_figures 7 = .ok (.iload_n 2, 1) := dk_28 (dk_at dksX3_figures_0 7 rfl rfl)
theorem dX3_figures_8 : decode cX3_figures 8 = .ok (.aload_n 0, 1) := dk_42 (dk_at dksX3_figures_0 8 rfl rfl)
theorem dX3_figures_9 : decode cX3_figures 9 = .ok (.getfield 103, 3) := dk_180 0 103 (dk_at dksX3_figures_0 9 rfl rfl)
theorem dX3_figures_12 : decode cX3_figures 12 = .ok (.if_icmp .ge 32, 3) := dk_162 0 32 (dk_at dksX3_figures_0 12 rfl rfl)
theorem dX3_figures_15 : decode cX3_figures 15 = .ok (.aload_n 0, 1) := dk_42 (dk_at dksX3_figures_0 15 rfl rfl)
theorem dX3_figures_16 : decode cX3_figures 16 = .ok (.getfield 94, 3) := dk_180 0 94 (dk_at dksX3_figures_0 16 rfl rfl)
theorem dX3_figures_19 : decode cX3_figures 19 = .ok (.iconst 3, 1) := dk_6 (dk_at dksX3_figures_0 19 rfl rfl)
theorem dX3_figures_20 : decode cX3_figures 20 = .ok (.if_icmp .ne 24, 3) := dk_160 0 24 (dk_at dksX3_figures_0 20 rfl rfl)
theorem dX3_figures_23 : decode cX3_figures 23 = .ok (.bipush 10, 2) := dk_16 10 (dk_at dksX3_figures_1 0 rfl rfl)
theorem dX3_figures_25 : decode cX3_figures 25 = .ok (.iload_n 1, 1) := dk_27 (dk_at dksX3_figures_1 2 rfl rfl)
theorem dX3_figures_26 : decode cX3_figures 26 = .ok (.imul, 1) := dk_104 (dk_at dksX3_figures_1 3 rfl rfl)
theorem dX3_figures_27 : decode cX3_figures 27 = .ok (.aload_n 0, 1) := dk_42 (dk_at dksX3_figures_1 4 rfl rfl)
theorem dX3_figures_28 : decode cX3_figures 28 = .ok (.getfield 28, 3) := dk_180 0 28 (dk_at dksX3_figures_1 5 rfl rfl)
theorem dX3_figures_31 : decode cX3_figures 31 = .ok (.iload_n 2, 1) := dk_28 (dk_at dksX3_figures_1 8 rfl rfl)
theorem dX3_figures_32 : decode cX3_figures 32 = .ok (.iaload, 1) := dk_46 (dk_at dksX3_figures_1 9 rfl rfl)
theorem dX3_figures_33 : decode cX3_figures 33 = .ok (.iadd, 1) := dk_96 (dk_at dksX3_figures_1 10 rfl rfl)
theorem dX3_figures_34 : decode cX3_figures 34 = .ok (.bipush 48, 2) := dk_16 48 (dk_at dksX3_figures_1 11 rfl rfl)
theorem dX3_figures_36 : decode cX3_figures 36 = .ok (.isub, 1) := dk_100 (dk_at dksX3_figures_1 13 rfl rfl)
theorem dX3_figures_37 : decode cX3_figures 37 = .ok (.istore_n 1, 1) := dk_60 (dk_at dksX3_figures_1 14 rfl rfl)
theorem dX3_figures_38 : decode cX3_figures 38 = .ok (.iinc 2 1, 3) := dk_132 2 1 (dk_at dksX3_figures_1 15 rfl rfl)
theorem dX3_figures_41 : decode cX3_figures 41 = .ok (.goto (-34), 3) := dk_167 255 222 (dk_at dksX3_figures_1 18 rfl rfl)
theorem dX3_figures_44 : decode cX3_figures 44 = .ok (.iload_n 1, 1) := dk_27 (dk_at dksX3_figures_1 21 rfl rfl)
theorem dX3_figures_45 : decode cX3_figures 45 = .ok (.ireturn, 1) := dk_172 (dk_at dksX3_figures_1 22 rfl rfl)
abbrev cX3_mustEnd : ByteArray := prog_16_method_22_code
def yX3_mustEnd : MethodName := ⟨RX3, "mustEnd", "()V"⟩
def dkwX3_mustEnd_1 : List UInt8 := [177]
abbrev dktX3_mustEnd_1 : List UInt8 := dkwX3_mustEnd_1 ++ []
def dkwX3_mustEnd_0 : List UInt8 := [42, 180, 0, 106, 154, 0, 20, 42, 42, 180, 0, 94, 7, 160, 0, 7, 4, 167, 0, 4, 3, 182, 0, 123]
abbrev dktX3_mustEnd_0 : List UInt8 := dkwX3_mustEnd_0 ++ dktX3_mustEnd_1
theorem dksX3_mustEnd_0 : cX3_mustEnd.data.toList.drop 0 = dktX3_mustEnd_0 := by decide +kernel
theorem dksX3_mustEnd_1 : cX3_mustEnd.data.toList.drop 24 = dktX3_mustEnd_1 := dk_seg dksX3_mustEnd_0 24 rfl rfl
theorem dX3_mustEnd_0 : decode cX3_mustEnd 0 = .ok (.aload_n 0, 1) := dk_42 (dk_at dksX3_mustEnd_0 0 rfl rfl)
theorem dX3_mustEnd_1 : decode cX3_mustEnd 1 = .ok (.getfield 106, 3) := dk_180 0 106 (dk_at dksX3_mustEnd_0 1 rfl rfl)
theorem dX3_mustEnd_4 : decode cX3_mustEnd 4 = .ok (.ifCond .ne 20, 3) := dk_154 0 20 (dk_at dksX3_mustEnd_0 4 rfl rfl)
theorem dX3_mustEnd_7 : decode cX3_mustEnd 7 = .ok (.aload_n 0, 1) := dk_42 (dk_at dksX3_mustEnd_0 7 rfl rfl)
theorem dX3_mustEnd_8 : decode cX3_mustEnd 8 = .ok (.aload_n 0, 1) := dk_42 (dk_at dksX3_mustEnd_0 8 rfl rfl)
theorem dX3_mustEnd_9 : decode cX3_mustEnd 9 = .ok (.getfield 94, 3) := dk_180 0 94 (dk_at dksX3_mustEnd_0 9 rfl rfl)
theorem dX3_mustEnd_12 : decode cX3_mustEnd 12 = .ok (.iconst 4, 1) := dk_7 (dk_at dksX3_mustEnd_0 12 rfl rfl)
theorem dX3_mustEnd_13 : decode cX3_mustEnd 13 = .ok (.if_icmp .ne 7, 3) := dk_160 0 7 (dk_at dksX3_mustEnd_0 13 rfl rfl)
theorem dX3_mustEnd_16 : decode cX3_mustEnd 16 = .ok (.iconst 1, 1) := dk_4 (dk_at dksX3_mustEnd_0 16 rfl rfl)
theorem dX3_mustEnd_17 : decode cX3_mustEnd 17 = .ok (.goto 4, 3) := dk_167 0 4 (dk_at dksX3_mustEnd_0 17 rfl rfl)
theorem dX3_mustEnd_20 : decode cX3_mustEnd 20 = .ok (.iconst 0, 1) := dk_3 (dk_at dksX3_mustEnd_0 20 rfl rfl)
theorem dX3_mustEnd_21 : decode cX3_mustEnd 21 = .ok (.invokevirtual 123, 3) := dk_182 0 123 (dk_at dksX3_mustEnd_0 21 rfl rfl)
theorem dX3_mustEnd_24 : decode cX3_mustEnd 24 = .ok (.return_, 1) := dk_177 (dk_at dksX3_mustEnd_1 0 rfl rfl)
abbrev cX3_readWay : ByteArray := prog_16_method_24_code
def yX3_readWay : MethodName := ⟨RX3, "readWay", "()V"⟩
def dkwX3_readWay_6 : List UInt8 := [42, 180, 0, 22, 5, 92, 46, 4, 96, 79, 177]
abbrev dktX3_readWay_6 : List UInt8 := dkwX3_readWay_6 ++ []
def dkwX3_readWay_5 : List UInt8 := [96, 28, 79, 42, 180, 0, 22, 21, 5, 5, 96, 29, 79, 42, 180, 0, 22, 21, 5, 6, 96, 21, 4, 79]
abbrev dktX3_readWay_5 : List UInt8 := dkwX3_readWay_5 ++ dktX3_readWay_6
def dkwX3_readWay_4 : List UInt8 := [180, 0, 22, 5, 46, 104, 96, 54, 5, 42, 180, 0, 22, 21, 5, 27, 79, 42, 180, 0, 22, 21, 5, 4]
abbrev dktX3_readWay_4 : List UInt8 := dkwX3_readWay_4 ++ dktX3_readWay_5
def dkwX3_readWay_3 : List UInt8 := [62, 42, 3, 29, 182, 0, 141, 54, 4, 42, 182, 0, 145, 42, 180, 0, 106, 154, 0, 64, 7, 7, 42]
abbrev dktX3_readWay_3 : List UInt8 := dkwX3_readWay_3 ++ dktX3_readWay_4
def dkwX3_readWay_2 : List UInt8 := [182, 0, 115, 42, 3, 42, 180, 0, 22, 3, 46, 4, 100, 182, 0, 141, 61, 42, 4, 16, 20, 182, 0, 141]
abbrev dktX3_readWay_2 : List UInt8 := dkwX3_readWay_2 ++ dktX3_readWay_3
def dkwX3_readWay_1 : List UInt8 := [180, 0, 106, 154, 0, 24, 42, 180, 0, 94, 6, 160, 0, 16, 42, 182, 0, 119, 27, 160, 0, 8, 42, 5]
abbrev dktX3_readWay_1 : List UInt8 := dkwX3_readWay_1 ++ dktX3_readWay_2
def dkwX3_readWay_0 : List UInt8 := [42, 5, 16, 8, 182, 0, 137, 42, 3, 42, 180, 0, 22, 3, 46, 4, 100, 182, 0, 141, 60, 42]
abbrev dktX3_readWay_0 : List UInt8 := dkwX3_readWay_0 ++ dktX3_readWay_1
theorem dksX3_readWay_0 : cX3_readWay.data.toList.drop 0 = dktX3_readWay_0 := by decide +kernel
theorem dksX3_readWay_1 : cX3_readWay.data.toList.drop 22 = dktX3_readWay_1 := dk_seg dksX3_readWay_0 22 rfl rfl
theorem dksX3_readWay_2 : cX3_readWay.data.toList.drop 46 = dktX3_readWay_2 := dk_seg dksX3_readWay_1 24 rfl rfl
theorem dksX3_readWay_3 : cX3_readWay.data.toList.drop 70 = dktX3_readWay_3 := dk_seg dksX3_readWay_2 24 rfl rfl
theorem dksX3_readWay_4 : cX3_readWay.data.toList.drop 93 = dktX3_readWay_4 := dk_seg dksX3_readWay_3 23 rfl rfl
theorem dksX3_readWay_5 : cX3_readWay.data.toList.drop 117 = dktX3_readWay_5 := dk_seg dksX3_readWay_4 24 rfl rfl
theorem dksX3_readWay_6 : cX3_readWay.data.toList.drop 141 = dktX3_readWay_6 := dk_seg dksX3_readWay_5 24 rfl rfl
theorem dX3_readWay_0 : decode cX3_readWay 0 = .ok (.aload_n 0, 1) := dk_42 (dk_at dksX3_readWay_0 0 rfl rfl)
theorem dX3_readWay_1 : decode cX3_readWay 1 = .ok (.iconst 2, 1) := dk_5 (dk_at dksX3_readWay_0 1 rfl rfl)
theorem dX3_readWay_2 : decode cX3_readWay 2 = .ok (.bipush 8, 2) := dk_16 8 (dk_at dksX3_readWay_0 2 rfl rfl)
theorem dX3_readWay_4 : decode cX3_readWay 4 = .ok (.invokevirtual 137, 3) := dk_182 0 137 (dk_at dksX3_readWay_0 4 rfl rfl)
theorem dX3_readWay_7 : decode cX3_readWay 7 = .ok (.aload_n 0, 1) := dk_42 (dk_at dksX3_readWay_0 7 rfl rfl)
theorem dX3_readWay_8 : decode cX3_readWay 8 = .ok (.iconst 0, 1) := dk_3 (dk_at dksX3_readWay_0 8 rfl rfl)
theorem dX3_readWay_9 : decode cX3_readWay 9 = .ok (.aload_n 0, 1) := dk_42 (dk_at dksX3_readWay_0 9 rfl rfl)
theorem dX3_readWay_10 : decode cX3_readWay 10 = .ok (.getfield 22, 3) := dk_180 0 22 (dk_at dksX3_readWay_0 10 rfl rfl)
theorem dX3_readWay_13 : decode cX3_readWay 13 = .ok (.iconst 0, 1) := dk_3 (dk_at dksX3_readWay_0 13 rfl rfl)
theorem dX3_readWay_14 : decode cX3_readWay 14 = .ok (.iaload, 1) := dk_46 (dk_at dksX3_readWay_0 14 rfl rfl)
theorem dX3_readWay_15 : decode cX3_readWay 15 = .ok (.iconst 1, 1) := dk_4 (dk_at dksX3_readWay_0 15 rfl rfl)
theorem dX3_readWay_16 : decode cX3_readWay 16 = .ok (.isub, 1) := dk_100 (dk_at dksX3_readWay_0 16 rfl rfl)
theorem dX3_readWay_17 : decode cX3_readWay 17 = .ok (.invokevirtual 141, 3) := dk_182 0 141 (dk_at dksX3_readWay_0 17 rfl rfl)
theorem dX3_readWay_20 : decode cX3_readWay 20 = .ok (.istore_n 1, 1) := dk_60 (dk_at dksX3_readWay_0 20 rfl rfl)
theorem dX3_readWay_21 : decode cX3_readWay 21 = .ok (.aload_n 0, 1) := dk_42 (dk_at dksX3_readWay_0 21 rfl rfl)
theorem dX3_readWay_22 : decode cX3_readWay 22 = .ok (.getfield 106, 3) := dk_180 0 106 (dk_at dksX3_readWay_1 0 rfl rfl)
theorem dX3_readWay_25 : decode cX3_readWay 25 = .ok (.ifCond .ne 24, 3) := dk_154 0 24 (dk_at dksX3_readWay_1 3 rfl rfl)
theorem dX3_readWay_28 : decode cX3_readWay 28 = .ok (.aload_n 0, 1) := dk_42 (dk_at dksX3_readWay_1 6 rfl rfl)
theorem dX3_readWay_29 : decode cX3_readWay 29 = .ok (.getfield 94, 3) := dk_180 0 94 (dk_at dksX3_readWay_1 7 rfl rfl)
theorem dX3_readWay_32 : decode cX3_readWay 32 = .ok (.iconst 3, 1) := dk_6 (dk_at dksX3_readWay_1 10 rfl rfl)
theorem dX3_readWay_33 : decode cX3_readWay 33 = .ok (.if_icmp .ne 16, 3) := dk_160 0 16 (dk_at dksX3_readWay_1 11 rfl rfl)
theorem dX3_readWay_36 : decode cX3_readWay 36 = .ok (.aload_n 0, 1) := dk_42 (dk_at dksX3_readWay_1 14 rfl rfl)
theorem dX3_readWay_37 : decode cX3_readWay 37 = .ok (.invokevirtual 119, 3) := dk_182 0 119 (dk_at dksX3_readWay_1 15 rfl rfl)
theorem dX3_readWay_40 : decode cX3_readWay 40 = .ok (.iload_n 1, 1) := dk_27 (dk_at dksX3_readWay_1 18 rfl rfl)
theorem dX3_readWay_41 : decode cX3_readWay 41 = .ok (.if_icmp .ne 8, 3) := dk_160 0 8 (dk_at dksX3_readWay_1 19 rfl rfl)
theorem dX3_readWay_44 : decode cX3_readWay 44 = .ok (.aload_n 0, 1) := dk_42 (dk_at dksX3_readWay_1 22 rfl rfl)
theorem dX3_readWay_45 : decode cX3_readWay 45 = .ok (.iconst 2, 1) := dk_5 (dk_at dksX3_readWay_1 23 rfl rfl)
theorem dX3_readWay_46 : decode cX3_readWay 46 = .ok (.invokevirtual 115, 3) := dk_182 0 115 (dk_at dksX3_readWay_2 0 rfl rfl)
theorem dX3_readWay_49 : decode cX3_readWay 49 = .ok (.aload_n 0, 1) := dk_42 (dk_at dksX3_readWay_2 3 rfl rfl)
theorem dX3_readWay_50 : decode cX3_readWay 50 = .ok (.iconst 0, 1) := dk_3 (dk_at dksX3_readWay_2 4 rfl rfl)
theorem dX3_readWay_51 : decode cX3_readWay 51 = .ok (.aload_n 0, 1) := dk_42 (dk_at dksX3_readWay_2 5 rfl rfl)
theorem dX3_readWay_52 : decode cX3_readWay 52 = .ok (.getfield 22, 3) := dk_180 0 22 (dk_at dksX3_readWay_2 6 rfl rfl)
theorem dX3_readWay_55 : decode cX3_readWay 55 = .ok (.iconst 0, 1) := dk_3 (dk_at dksX3_readWay_2 9 rfl rfl)
theorem dX3_readWay_56 : decode cX3_readWay 56 = .ok (.iaload, 1) := dk_46 (dk_at dksX3_readWay_2 10 rfl rfl)
theorem dX3_readWay_57 : decode cX3_readWay 57 = .ok (.iconst 1, 1) := dk_4 (dk_at dksX3_readWay_2 11 rfl rfl)
theorem dX3_readWay_58 : decode cX3_readWay 58 = .ok (.isub, 1) := dk_100 (dk_at dksX3_readWay_2 12 rfl rfl)
theorem dX3_readWay_59 : decode cX3_readWay 59 = .ok (.invokevirtual 141, 3) := dk_182 0 141 (dk_at dksX3_readWay_2 13 rfl rfl)
theorem dX3_readWay_62 : decode cX3_readWay 62 = .ok (.istore_n 2, 1) := dk_61 (dk_at dksX3_readWay_2 16 rfl rfl)
theorem dX3_readWay_63 : decode cX3_readWay 63 = .ok (.aload_n 0, 1) := dk_42 (dk_at dksX3_readWay_2 17 rfl rfl)
theorem dX3_readWay_64 : decode cX3_readWay 64 = .ok (.iconst 1, 1) := dk_4 (dk_at dksX3_readWay_2 18 rfl rfl)
theorem dX3_readWay_65 : decode cX3_readWay 65 = .ok (.bipush 20, 2) := dk_16 20 (dk_at dksX3_readWay_2 19 rfl rfl)
theorem dX3_readWay_67 : decode cX3_readWay 67 = .ok (.invokevirtual 141, 3) := dk_182 0 141 (dk_at dksX3_readWay_2 21 rfl rfl)
theorem dX3_readWay_70 : decode cX3_readWay 70 = .ok (.istore_n 3, 1) := dk_62 (dk_at dksX3_readWay_3 0 rfl rfl)
theorem dX3_readWay_71 : decode cX3_readWay 71 = .ok (.aload_n 0, 1) := dk_42 (dk_at dksX3_readWay_3 1 rfl rfl)
theorem dX3_readWay_72 : decode cX3_readWay 72 = .ok (.iconst 0, 1) := dk_3 (dk_at dksX3_readWay_3 2 rfl rfl)
theorem dX3_readWay_73 : decode cX3_readWay 73 = .ok (.iload_n 3, 1) := dk_29 (dk_at dksX3_readWay_3 3 rfl rfl)
theorem dX3_readWay_74 : decode cX3_readWay 74 = .ok (.invokevirtual 141, 3) := dk_182 0 141 (dk_at dksX3_readWay_3 4 rfl rfl)
theorem dX3_readWay_77 : decode cX3_readWay 77 = .ok (.istore 4, 2) := dk_54 4 (dk_at dksX3_readWay_3 7 rfl rfl)
theorem dX3_readWay_79 : decode cX3_readWay 79 = .ok (.aload_n 0, 1) := dk_42 (dk_at dksX3_readWay_3 9 rfl rfl)
theorem dX3_readWay_80 : decode cX3_readWay 80 = .ok (.invokevirtual 145, 3) := dk_182 0 145 (dk_at dksX3_readWay_3 10 rfl rfl)
theorem dX3_readWay_83 : decode cX3_readWay 83 = .ok (.aload_n 0, 1) := dk_42 (dk_at dksX3_readWay_3 13 rfl rfl)
theorem dX3_readWay_84 : decode cX3_readWay 84 = .ok (.getfield 106, 3) := dk_180 0 106 (dk_at dksX3_readWay_3 14 rfl rfl)
theorem dX3_readWay_87 : decode cX3_readWay 87 = .ok (.ifCond .ne 64, 3) := dk_154 0 64 (dk_at dksX3_readWay_3 17 rfl rfl)
theorem dX3_readWay_90 : decode cX3_readWay 90 = .ok (.iconst 4, 1) := dk_7 (dk_at dksX3_readWay_3 20 rfl rfl)
theorem dX3_readWay_91 : decode cX3_readWay 91 = .ok (.iconst 4, 1) := dk_7 (dk_at dksX3_readWay_3 21 rfl rfl)
theorem dX3_readWay_92 : decode cX3_readWay 92 = .ok (.aload_n 0, 1) := dk_42 (dk_at dksX3_readWay_3 22 rfl rfl)
theorem dX3_readWay_93 : decode cX3_readWay 93 = .ok (.getfield 22, 3) := dk_180 0 22 (dk_at dksX3_readWay_4 0 rfl rfl)
theorem dX3_readWay_96 : decode cX3_readWay 96 = .ok (.iconst 2, 1) := dk_5 (dk_at dksX3_readWay_4 3 rfl rfl)
theorem dX3_readWay_97 : decode cX3_readWay 97 = .ok (.iaload, 1) := dk_46 (dk_at dksX3_readWay_4 4 rfl rfl)
theorem dX3_readWay_98 : decode cX3_readWay 98 = .ok (.imul, 1) := dk_104 (dk_at dksX3_readWay_4 5 rfl rfl)
theorem dX3_readWay_99 : decode cX3_readWay 99 = .ok (.iadd, 1) := dk_96 (dk_at dksX3_readWay_4 6 rfl rfl)
theorem dX3_readWay_100 : decode cX3_readWay 100 = .ok (.istore 5, 2) := dk_54 5 (dk_at dksX3_readWay_4 7 rfl rfl)
theorem dX3_readWay_102 : decode cX3_readWay 102 = .ok (.aload_n 0, 1) := dk_42 (dk_at dksX3_readWay_4 9 rfl rfl)
theorem dX3_readWay_103 : decode cX3_readWay 103 = .ok (.getfield 22, 3) := dk_180 0 22 (dk_at dksX3_readWay_4 10 rfl rfl)
theorem dX3_readWay_106 : decode cX3_readWay 106 = .ok (.iload 5, 2) := dk_21 5 (dk_at dksX3_readWay_4 13 rfl rfl)
theorem dX3_readWay_108 : decode cX3_readWay 108 = .ok (.iload_n 1, 1) := dk_27 (dk_at dksX3_readWay_4 15 rfl rfl)
theorem dX3_readWay_109 : decode cX3_readWay 109 = .ok (.iastore, 1) := dk_79 (dk_at dksX3_readWay_4 16 rfl rfl)
theorem dX3_readWay_110 : decode cX3_readWay 110 = .ok (.aload_n 0, 1) := dk_42 (dk_at dksX3_readWay_4 17 rfl rfl)
theorem dX3_readWay_111 : decode cX3_readWay 111 = .ok (.getfield 22, 3) := dk_180 0 22 (dk_at dksX3_readWay_4 18 rfl rfl)
theorem dX3_readWay_114 : decode cX3_readWay 114 = .ok (.iload 5, 2) := dk_21 5 (dk_at dksX3_readWay_4 21 rfl rfl)
theorem dX3_readWay_116 : decode cX3_readWay 116 = .ok (.iconst 1, 1) := dk_4 (dk_at dksX3_readWay_4 23 rfl rfl)
theorem dX3_readWay_117 : decode cX3_readWay 117 = .ok (.iadd, 1) := dk_96 (dk_at dksX3_readWay_5 0 rfl rfl)
theorem dX3_readWay_118 : decode cX3_readWay 118 = .ok (.iload_n 2, 1) := dk_28 (dk_at dksX3_readWay_5 1 rfl rfl)
theorem dX3_readWay_119 : decode cX3_readWay 119 = .ok (.iastore, 1) := dk_79 (dk_at dksX3_readWay_5 2 rfl rfl)
theorem dX3_readWay_120 : decode cX3_readWay 120 = .ok (.aload_n 0, 1) := dk_42 (dk_at dksX3_readWay_5 3 rfl rfl)
theorem dX3_readWay_121 : decode cX3_readWay 121 = .ok (.getfield 22, 3) := dk_180 0 22 (dk_at dksX3_readWay_5 4 rfl rfl)
theorem dX3_readWay_124 : decode cX3_readWay 124 = .ok (.iload 5, 2) := dk_21 5 (dk_at dksX3_readWay_5 7 rfl rfl)
theorem dX3_readWay_126 : decode cX3_readWay 126 = .ok (.iconst 2, 1) := dk_5 (dk_at dksX3_readWay_5 9 rfl rfl)
theorem dX3_readWay_127 : decode cX3_readWay 127 = .ok (.iadd, 1) := dk_96 (dk_at dksX3_readWay_5 10 rfl rfl)
theorem dX3_readWay_128 : decode cX3_readWay 128 = .ok (.iload_n 3, 1) := dk_29 (dk_at dksX3_readWay_5 11 rfl rfl)
theorem dX3_readWay_129 : decode cX3_readWay 129 = .ok (.iastore, 1) := dk_79 (dk_at dksX3_readWay_5 12 rfl rfl)
theorem dX3_readWay_130 : decode cX3_readWay 130 = .ok (.aload_n 0, 1) := dk_42 (dk_at dksX3_readWay_5 13 rfl rfl)
theorem dX3_readWay_131 : decode cX3_readWay 131 = .ok (.getfield 22, 3) := dk_180 0 22 (dk_at dksX3_readWay_5 14 rfl rfl)
theorem dX3_readWay_134 : decode cX3_readWay 134 = .ok (.iload 5, 2) := dk_21 5 (dk_at dksX3_readWay_5 17 rfl rfl)
theorem dX3_readWay_136 : decode cX3_readWay 136 = .ok (.iconst 3, 1) := dk_6 (dk_at dksX3_readWay_5 19 rfl rfl)
theorem dX3_readWay_137 : decode cX3_readWay 137 = .ok (.iadd, 1) := dk_96 (dk_at dksX3_readWay_5 20 rfl rfl)
theorem dX3_readWay_138 : decode cX3_readWay 138 = .ok (.iload 4, 2) := dk_21 4 (dk_at dksX3_readWay_5 21 rfl rfl)
theorem dX3_readWay_140 : decode cX3_readWay 140 = .ok (.iastore, 1) := dk_79 (dk_at dksX3_readWay_5 23 rfl rfl)
theorem dX3_readWay_141 : decode cX3_readWay 141 = .ok (.aload_n 0, 1) := dk_42 (dk_at dksX3_readWay_6 0 rfl rfl)
theorem dX3_readWay_142 : decode cX3_readWay 142 = .ok (.getfield 22, 3) := dk_180 0 22 (dk_at dksX3_readWay_6 1 rfl rfl)
theorem dX3_readWay_145 : decode cX3_readWay 145 = .ok (.iconst 2, 1) := dk_5 (dk_at dksX3_readWay_6 4 rfl rfl)
theorem dX3_readWay_146 : decode cX3_readWay 146 = .ok (.dup2, 1) := dk_92 (dk_at dksX3_readWay_6 5 rfl rfl)
theorem dX3_readWay_147 : decode cX3_readWay 147 = .ok (.iaload, 1) := dk_46 (dk_at dksX3_readWay_6 6 rfl rfl)
theorem dX3_readWay_148 : decode cX3_readWay 148 = .ok (.iconst 1, 1) := dk_4 (dk_at dksX3_readWay_6 7 rfl rfl)
theorem dX3_readWay_149 : decode cX3_readWay 149 = .ok (.iadd, 1) := dk_96 (dk_at dksX3_readWay_6 8 rfl rfl)
theorem dX3_readWay_150 : decode cX3_readWay 150 = .ok (.iastore, 1) := dk_79 (dk_at dksX3_readWay_6 9 rfl rfl)
theorem dX3_readWay_151 : decode cX3_readWay 151 = .ok (.return_, 1) := dk_177 (dk_at dksX3_readWay_6 10 rfl rfl)
abbrev cX3_begins : ByteArray := prog_16_method_23_code
def yX3_begins : MethodName := ⟨RX3, "begins", "(II)V"⟩
def dkwX3_begins_0 : List UInt8 := [42, 180, 0, 22, 27, 46, 28, 160, 0, 8, 42, 6, 182, 0, 115, 42, 4, 182, 0, 123, 177]
abbrev dktX3_begins_0 : List UInt8 := dkwX3_begins_0 ++ []
theorem dksX3_begins_0 : cX3_begins.data.toList.drop 0 = dktX3_begins_0 := by decide +kernel
theorem dX3_begins_0 : decode cX3_begins 0 = .ok (.aload_n 0, 1) := dk_42 (dk_at dksX3_begins_0 0 rfl rfl)
theorem dX3_begins_1 : decode cX3_begins 1 = .ok (.getfield 22, 3) := dk_180 0 22 (dk_at dksX3_begins_0 1 rfl rfl)
theorem dX3_begins_4 : decode cX3_begins 4 = .ok (.iload_n 1, 1) := dk_27 (dk_at dksX3_begins_0 4 rfl rfl)
theorem dX3_begins_5 : decode cX3_begins 5 = .ok (.iaload, 1) := dk_46 (dk_at dksX3_begins_0 5 rfl rfl)
theorem dX3_begins_6 : decode cX3_begins 6 = .ok (.iload_n 2, 1) := dk_28 (dk_at dksX3_begins_0 6 rfl rfl)
theorem dX3_begins_7 : decode cX3_begins 7 = .ok (.if_icmp .ne 8, 3) := dk_160 0 8 (dk_at dksX3_begins_0 7 rfl rfl)
theorem dX3_begins_10 : decode cX3_begins 10 = .ok (.aload_n 0, 1) := dk_42 (dk_at dksX3_begins_0 10 rfl rfl)
theorem dX3_begins_11 : decode cX3_begins 11 = .ok (.iconst 3, 1) := dk_6 (dk_at dksX3_begins_0 11 rfl rfl)
theorem dX3_begins_12 : decode cX3_begins 12 = .ok (.invokevirtual 115, 3) := dk_182 0 115 (dk_at dksX3_begins_0 12 rfl rfl)
theorem dX3_begins_15 : decode cX3_begins 15 = .ok (.aload_n 0, 1) := dk_42 (dk_at dksX3_begins_0 15 rfl rfl)
theorem dX3_begins_16 : decode cX3_begins 16 = .ok (.iconst 1, 1) := dk_4 (dk_at dksX3_begins_0 16 rfl rfl)
theorem dX3_begins_17 : decode cX3_begins 17 = .ok (.invokevirtual 123, 3) := dk_182 0 123 (dk_at dksX3_begins_0 17 rfl rfl)
theorem dX3_begins_20 : decode cX3_begins 20 = .ok (.return_, 1) := dk_177 (dk_at dksX3_begins_0 20 rfl rfl)
abbrev cX3_readPerson : ByteArray := prog_16_method_25_code
def yX3_readPerson : MethodName := ⟨RX3, "readPerson", "()V"⟩
def dkwX3_readPerson_5 : List UInt8 := [21, 4, 7, 96, 29, 79, 42, 180, 0, 22, 6, 92, 46, 4, 96, 79, 177]
abbrev dktX3_readPerson_5 : List UInt8 := dkwX3_readPerson_5 ++ []
def dkwX3_readPerson_4 : List UInt8 := [180, 0, 22, 21, 4, 4, 96, 28, 79, 42, 180, 0, 22, 21, 4, 5, 96, 29, 79, 42, 180, 0, 22]
abbrev dktX3_readPerson_4 : List UInt8 := dkwX3_readPerson_4 ++ dktX3_readPerson_5
def dkwX3_readPerson_3 : List UInt8 := [16, 36, 16, 8, 42, 180, 0, 22, 6, 46, 104, 96, 54, 4, 42, 180, 0, 22, 21, 4, 27, 79, 42]
abbrev dktX3_readPerson_3 : List UInt8 := dkwX3_readPerson_3 ++ dktX3_readPerson_4
def dkwX3_readPerson_2 : List UInt8 := [182, 0, 141, 61, 42, 3, 16, 99, 182, 0, 141, 62, 42, 182, 0, 145, 42, 180, 0, 106, 154, 0, 65]
abbrev dktX3_readPerson_2 : List UInt8 := dkwX3_readPerson_2 ++ dktX3_readPerson_3
def dkwX3_readPerson_1 : List UInt8 := [18, 84, 159, 0, 7, 4, 167, 0, 4, 3, 182, 0, 123, 42, 3, 42, 180, 0, 22, 3, 46, 4, 100]
abbrev dktX3_readPerson_1 : List UInt8 := dkwX3_readPerson_1 ++ dktX3_readPerson_2
def dkwX3_readPerson_0 : List UInt8 := [42, 6, 7, 182, 0, 137, 42, 182, 0, 148, 184, 0, 152, 60, 42, 180, 0, 106, 154, 0, 18, 42, 27]
abbrev dktX3_readPerson_0 : List UInt8 := dkwX3_readPerson_0 ++ dktX3_readPerson_1
theorem dksX3_readPerson_0 : cX3_readPerson.data.toList.drop 0 = dktX3_readPerson_0 := by decide +kernel
theorem dksX3_readPerson_1 : cX3_readPerson.data.toList.drop 23 = dktX3_readPerson_1 := dk_seg dksX3_readPerson_0 23 rfl rfl
theorem dksX3_readPerson_2 : cX3_readPerson.data.toList.drop 46 = dktX3_readPerson_2 := dk_seg dksX3_readPerson_1 23 rfl rfl
theorem dksX3_readPerson_3 : cX3_readPerson.data.toList.drop 69 = dktX3_readPerson_3 := dk_seg dksX3_readPerson_2 23 rfl rfl
theorem dksX3_readPerson_4 : cX3_readPerson.data.toList.drop 92 = dktX3_readPerson_4 := dk_seg dksX3_readPerson_3 23 rfl rfl
theorem dksX3_readPerson_5 : cX3_readPerson.data.toList.drop 115 = dktX3_readPerson_5 := dk_seg dksX3_readPerson_4 23 rfl rfl
theorem dX3_readPerson_0 : decode cX3_readPerson 0 = .ok (.aload_n 0, 1) := dk_42 (dk_at dksX3_readPerson_0 0 rfl rfl)
theorem dX3_readPerson_1 : decode cX3_readPerson 1 = .ok (.iconst 3, 1) := dk_6 (dk_at dksX3_readPerson_0 1 rfl rfl)
theorem dX3_readPerson_2 : decode cX3_readPerson 2 = .ok (.iconst 4, 1) := dk_7 (dk_at dksX3_readPerson_0 2 rfl rfl)
theorem dX3_readPerson_3 : decode cX3_readPerson 3 = .ok (.invokevirtual 137, 3) := dk_182 0 137 (dk_at dksX3_readPerson_0 3 rfl rfl)
theorem dX3_readPerson_6 : decode cX3_readPerson 6 = .ok (.aload_n 0, 1) := dk_42 (dk_at dksX3_readPerson_0 6 rfl rfl)
theorem dX3_readPerson_7 : decode cX3_readPerson 7 = .ok (.invokevirtual 148, 3) := dk_182 0 148 (dk_at dksX3_readPerson_0 7 rfl rfl)
theorem dX3_readPerson_10 : decode cX3_readPerson 10 = .ok (.invokestatic 152, 3) := dk_184 0 152 (dk_at dksX3_readPerson_0 10 rfl rfl)
theorem dX3_readPerson_13 : decode cX3_readPerson 13 = .ok (.istore_n 1, 1) := dk_60 (dk_at dksX3_readPerson_0 13 rfl rfl)
theorem dX3_readPerson_14 : decode cX3_readPerson 14 = .ok (.aload_n 0, 1) := dk_42 (dk_at dksX3_readPerson_0 14 rfl rfl)
theorem dX3_readPerson_15 : decode cX3_readPerson 15 = .ok (.getfield 106, 3) := dk_180 0 106 (dk_at dksX3_readPerson_0 15 rfl rfl)
theorem dX3_readPerson_18 : decode cX3_readPerson 18 = .ok (.ifCond .ne 18, 3) := dk_154 0 18 (dk_at dksX3_readPerson_0 18 rfl rfl)
theorem dX3_readPerson_21 : decode cX3_readPerson 21 = .ok (.aload_n 0, 1) := dk_42 (dk_at dksX3_readPerson_0 21 rfl rfl)
theorem dX3_readPerson_22 : decode cX3_readPerson 22 = .ok (.iload_n 1, 1) := dk_27 (dk_at dksX3_readPerson_0 22 rfl rfl)
theorem dX3_readPerson_23 : decode cX3_readPerson 23 = .ok (.ldc 84, 2) := dk_18 84 (dk_at dksX3_readPerson_1 0 rfl rfl)
theorem dX3_readPerson_25 : decode cX3_readPerson 25 = .ok (.if_icmp .eq 7, 3) := dk_159 0 7 (dk_at dksX3_readPerson_1 2 rfl rfl)
theorem dX3_readPerson_28 : decode cX3_readPerson 28 = .ok (.iconst 1, 1) := dk_4 (dk_at dksX3_readPerson_1 5 rfl rfl)
theorem dX3_readPerson_29 : decode cX3_readPerson 29 = .ok (.goto 4, 3) := dk_167 0 4 (dk_at dksX3_readPerson_1 6 rfl rfl)
theorem dX3_readPerson_32 : decode cX3_readPerson 32 = .ok (.iconst 0, 1) := dk_3 (dk_at dksX3_readPerson_1 9 rfl rfl)
theorem dX3_readPerson_33 : decode cX3_readPerson 33 = .ok (.invokevirtual 123, 3) := dk_182 0 123 (dk_at dksX3_readPerson_1 10 rfl rfl)
theorem dX3_readPerson_36 : decode cX3_readPerson 36 = .ok (.aload_n 0, 1) := dk_42 (dk_at dksX3_readPerson_1 13 rfl rfl)
theorem dX3_readPerson_37 : decode cX3_readPerson 37 = .ok (.iconst 0, 1) := dk_3 (dk_at dksX3_readPerson_1 14 rfl rfl)
theorem dX3_readPerson_38 : decode cX3_readPerson 38 = .ok (.aload_n 0, 1) := dk_42 (dk_at dksX3_readPerson_1 15 rfl rfl)
theorem dX3_readPerson_39 : decode cX3_readPerson 39 = .ok (.getfield 22, 3) := dk_180 0 22 (dk_at dksX3_readPerson_1 16 rfl rfl)
theorem dX3_readPerson_42 : decode cX3_readPerson 42 = .ok (.iconst 0, 1) := dk_3 (dk_at dksX3_readPerson_1 19 rfl rfl)
theorem dX3_readPerson_43 : decode cX3_readPerson 43 = .ok (.iaload, 1) := dk_46 (dk_at dksX3_readPerson_1 20 rfl rfl)
theorem dX3_readPerson_44 : decode cX3_readPerson 44 = .ok (.iconst 1, 1) := dk_4 (dk_at dksX3_readPerson_1 21 rfl rfl)
theorem dX3_readPerson_45 : decode cX3_readPerson 45 = .ok (.isub, 1) := dk_100 (dk_at dksX3_readPerson_1 22 rfl rfl)
theorem dX3_readPerson_46 : decode cX3_readPerson 46 = .ok (.invokevirtual 141, 3) := dk_182 0 141 (dk_at dksX3_readPerson_2 0 rfl rfl)
theorem dX3_readPerson_49 : decode cX3_readPerson 49 = .ok (.istore_n 2, 1) := dk_61 (dk_at dksX3_readPerson_2 3 rfl rfl)
theorem dX3_readPerson_50 : decode cX3_readPerson 50 = .ok (.aload_n 0, 1) := dk_42 (dk_at dksX3_readPerson_2 4 rfl rfl)
theorem dX3_readPerson_51 : decode cX3_readPerson 51 = .ok (.iconst 0, 1) := dk_3 (dk_at dksX3_readPerson_2 5 rfl rfl)
theorem dX3_readPerson_52 : decode cX3_readPerson 52 = .ok (.bipush 99, 2) := dk_16 99 (dk_at dksX3_readPerson_2 6 rfl rfl)
theorem dX3_readPerson_54 : decode cX3_readPerson 54 = .ok (.invokevirtual 141, 3) := dk_182 0 141 (dk_at dksX3_readPerson_2 8 rfl rfl)
theorem dX3_readPerson_57 : decode cX3_readPerson 57 = .ok (.istore_n 3, 1) := dk_62 (dk_at dksX3_readPerson_2 11 rfl rfl)
theorem dX3_readPerson_58 : decode cX3_readPerson 58 = .ok (.aload_n 0, 1) := dk_42 (dk_at dksX3_readPerson_2 12 rfl rfl)
theorem dX3_readPerson_59 : decode cX3_readPerson 59 = .ok (.invokevirtual 145, 3) := dk_182 0 145 (dk_at dksX3_readPerson_2 13 rfl rfl)
theorem dX3_readPerson_62 : decode cX3_readPerson 62 = .ok (.aload_n 0, 1) := dk_42 (dk_at dksX3_readPerson_2 16 rfl rfl)
theorem dX3_readPerson_63 : decode cX3_readPerson 63 = .ok (.getfield 106, 3) := dk_180 0 106 (dk_at dksX3_readPerson_2 17 rfl rfl)
theorem dX3_readPerson_66 : decode cX3_readPerson 66 = .ok (.ifCond .ne 65, 3) := dk_154 0 65 (dk_at dksX3_readPerson_2 20 rfl rfl)
theorem dX3_readPerson_69 : decode cX3_readPerson 69 = .ok (.bipush 36, 2) := dk_16 36 (dk_at dksX3_readPerson_3 0 rfl rfl)
theorem dX3_readPerson_71 : decode cX3_readPerson 71 = .ok (.bipush 8, 2) := dk_16 8 (dk_at dksX3_readPerson_3 2 rfl rfl)
theorem dX3_readPerson_73 : decode cX3_readPerson 73 = .ok (.aload_n 0, 1) := dk_42 (dk_at dksX3_readPerson_3 4 rfl rfl)
theorem dX3_readPerson_74 : decode cX3_readPerson 74 = .ok (.getfield 22, 3) := dk_180 0 22 (dk_at dksX3_readPerson_3 5 rfl rfl)
theorem dX3_readPerson_77 : decode cX3_readPerson 77 = .ok (.iconst 3, 1) := dk_6 (dk_at dksX3_readPerson_3 8 rfl rfl)
theorem dX3_readPerson_78 : decode cX3_readPerson 78 = .ok (.iaload, 1) := dk_46 (dk_at dksX3_readPerson_3 9 rfl rfl)
theorem dX3_readPerson_79 : decode cX3_readPerson 79 = .ok (.imul, 1) := dk_104 (dk_at dksX3_readPerson_3 10 rfl rfl)
theorem dX3_readPerson_80 : decode cX3_readPerson 80 = .ok (.iadd, 1) := dk_96 (dk_at dksX3_readPerson_3 11 rfl rfl)
theorem dX3_readPerson_81 : decode cX3_readPerson 81 = .ok (.istore 4, 2) := dk_54 4 (dk_at dksX3_readPerson_3 12 rfl rfl)
theorem dX3_readPerson_83 : decode cX3_readPerson 83 = .ok (.aload_n 0, 1) := dk_42 (dk_at dksX3_readPerson_3 14 rfl rfl)
theorem dX3_readPerson_84 : decode cX3_readPerson 84 = .ok (.getfield 22, 3) := dk_180 0 22 (dk_at dksX3_readPerson_3 15 rfl rfl)
theorem dX3_readPerson_87 : decode cX3_readPerson 87 = .ok (.iload 4, 2) := dk_21 4 (dk_at dksX3_readPerson_3 18 rfl rfl)
theorem dX3_readPerson_89 : decode cX3_readPerson 89 = .ok (.iload_n 1, 1) := dk_27 (dk_at dksX3_readPerson_3 20 rfl rfl)
theorem dX3_readPerson_90 : decode cX3_readPerson 90 = .ok (.iastore, 1) := dk_79 (dk_at dksX3_readPerson_3 21 rfl rfl)
theorem dX3_readPerson_91 : decode cX3_readPerson 91 = .ok (.aload_n 0, 1) := dk_42 (dk_at dksX3_readPerson_3 22 rfl rfl)
theorem dX3_readPerson_92 : decode cX3_readPerson 92 = .ok (.getfield 22, 3) := dk_180 0 22 (dk_at dksX3_readPerson_4 0 rfl rfl)
theorem dX3_readPerson_95 : decode cX3_readPerson 95 = .ok (.iload 4, 2) := dk_21 4 (dk_at dksX3_readPerson_4 3 rfl rfl)
theorem dX3_readPerson_97 : decode cX3_readPerson 97 = .ok (.iconst 1, 1) := dk_4 (dk_at dksX3_readPerson_4 5 rfl rfl)
theorem dX3_readPerson_98 : decode cX3_readPerson 98 = .ok (.iadd, 1) := dk_96 (dk_at dksX3_readPerson_4 6 rfl rfl)
theorem dX3_readPerson_99 : decode cX3_readPerson 99 = .ok (.iload_n 2, 1) := dk_28 (dk_at dksX3_readPerson_4 7 rfl rfl)
theorem dX3_readPerson_100 : decode cX3_readPerson 100 = .ok (.iastore, 1) := dk_79 (dk_at dksX3_readPerson_4 8 rfl rfl)
theorem dX3_readPerson_101 : decode cX3_readPerson 101 = .ok (.aload_n 0, 1) := dk_42 (dk_at dksX3_readPerson_4 9 rfl rfl)
theorem dX3_readPerson_102 : decode cX3_readPerson 102 = .ok (.getfield 22, 3) := dk_180 0 22 (dk_at dksX3_readPerson_4 10 rfl rfl)
theorem dX3_readPerson_105 : decode cX3_readPerson 105 = .ok (.iload 4, 2) := dk_21 4 (dk_at dksX3_readPerson_4 13 rfl rfl)
theorem dX3_readPerson_107 : decode cX3_readPerson 107 = .ok (.iconst 2, 1) := dk_5 (dk_at dksX3_readPerson_4 15 rfl rfl)
theorem dX3_readPerson_108 : decode cX3_readPerson 108 = .ok (.iadd, 1) := dk_96 (dk_at dksX3_readPerson_4 16 rfl rfl)
theorem dX3_readPerson_109 : decode cX3_readPerson 109 = .ok (.iload_n 3, 1) := dk_29 (dk_at dksX3_readPerson_4 17 rfl rfl)
theorem dX3_readPerson_110 : decode cX3_readPerson 110 = .ok (.iastore, 1) := dk_79 (dk_at dksX3_readPerson_4 18 rfl rfl)
theorem dX3_readPerson_111 : decode cX3_readPerson 111 = .ok (.aload_n 0, 1) := dk_42 (dk_at dksX3_readPerson_4 19 rfl rfl)
theorem dX3_readPerson_112 : decode cX3_readPerson 112 = .ok (.getfield 22, 3) := dk_180 0 22 (dk_at dksX3_readPerson_4 20 rfl rfl)
theorem dX3_readPerson_115 : decode cX3_readPerson 115 = .ok (.iload 4, 2) := dk_21 4 (dk_at dksX3_readPerson_5 0 rfl rfl)
theorem dX3_readPerson_117 : decode cX3_readPerson 117 = .ok (.iconst 4, 1) := dk_7 (dk_at dksX3_readPerson_5 2 rfl rfl)
theorem dX3_readPerson_118 : decode cX3_readPerson 118 = .ok (.iadd, 1) := dk_96 (dk_at dksX3_readPerson_5 3 rfl rfl)
theorem dX3_readPerson_119 : decode cX3_readPerson 119 = .ok (.iload_n 3, 1) := dk_29 (dk_at dksX3_readPerson_5 4 rfl rfl)
theorem dX3_readPerson_120 : decode cX3_readPerson 120 = .ok (.iastore, 1) := dk_79 (dk_at dksX3_readPerson_5 5 rfl rfl)
theorem dX3_readPerson_121 : decode cX3_readPerson 121 = .ok (.aload_n 0, 1) := dk_42 (dk_at dksX3_readPerson_5 6 rfl rfl)
theorem dX3_readPerson_122 : decode cX3_readPerson 122 = .ok (.getfield 22, 3) := dk_180 0 22 (dk_at dksX3_readPerson_5 7 rfl rfl)
theorem dX3_readPerson_125 : decode cX3_readPerson 125 = .ok (.iconst 3, 1) := dk_6 (dk_at dksX3_readPerson_5 10 rfl rfl)
theorem dX3_readPerson_126 : decode cX3_readPerson 126 = .ok (.dup2, 1) := dk_92 (dk_at dksX3_readPerson_5 11 rfl rfl)
theorem dX3_readPerson_127 : decode cX3_readPerson 127 = .ok (.iaload, 1) := dk_46 (dk_at dksX3_readPerson_5 12 rfl rfl)
theorem dX3_readPerson_128 : decode cX3_readPerson 128 = .ok (.iconst 1, 1) := dk_4 (dk_at dksX3_readPerson_5 13 rfl rfl)
theorem dX3_readPerson_129 : decode cX3_readPerson 129 = .ok (.iadd, 1) := dk_96 (dk_at dksX3_readPerson_5 14 rfl rfl)
theorem dX3_readPerson_130 : decode cX3_readPerson 130 = .ok (.iastore, 1) := dk_79 (dk_at dksX3_readPerson_5 15 rfl rfl)
theorem dX3_readPerson_131 : decode cX3_readPerson 131 = .ok (.return_, 1) := dk_177 (dk_at dksX3_readPerson_5 16 rfl rfl)
abbrev cX3_kindBy : ByteArray := prog_16_method_21_code
def yX3_kindBy : MethodName := ⟨RX3, "kindBy", "(J)I"⟩
def dkwX3_kindBy_2 : List UInt8 := [30, 20, 0, 135, 148, 154, 0, 7, 8, 167, 0, 5, 18, 84, 172]
abbrev dktX3_kindBy_2 : List UInt8 := dkwX3_kindBy_2 ++ []
def dkwX3_kindBy_1 : List UInt8 := [30, 20, 0, 131, 148, 154, 0, 7, 6, 167, 0, 29, 30, 20, 0, 133, 148, 154, 0, 7, 7, 167, 0, 17]
abbrev dktX3_kindBy_1 : List UInt8 := dkwX3_kindBy_1 ++ dktX3_kindBy_2
def dkwX3_kindBy_0 : List UInt8 := [30, 20, 0, 127, 148, 154, 0, 7, 4, 167, 0, 53, 30, 20, 0, 129, 148, 154, 0, 7, 5, 167, 0, 41]
abbrev dktX3_kindBy_0 : List UInt8 := dkwX3_kindBy_0 ++ dktX3_kindBy_1
theorem dksX3_kindBy_0 : cX3_kindBy.data.toList.drop 0 = dktX3_kindBy_0 := by decide +kernel
theorem dksX3_kindBy_1 : cX3_kindBy.data.toList.drop 24 = dktX3_kindBy_1 := dk_seg dksX3_kindBy_0 24 rfl rfl
theorem dksX3_kindBy_2 : cX3_kindBy.data.toList.drop 48 = dktX3_kindBy_2 := dk_seg dksX3_kindBy_1 24 rfl rfl
theorem dX3_kindBy_0 : decode cX3_kindBy 0 = .ok (.lload_n 0, 1) := dk_30 (dk_at dksX3_kindBy_0 0 rfl rfl)
theorem dX3_kindBy_1 : decode cX3_kindBy 1 = .ok (.ldc2_w 127, 3) := dk_20 0 127 (dk_at dksX3_kindBy_0 1 rfl rfl)
theorem dX3_kindBy_4 : decode cX3_kindBy 4 = .ok (.lcmp, 1) := dk_148 (dk_at dksX3_kindBy_0 4 rfl rfl)
theorem dX3_kindBy_5 : decode cX3_kindBy 5 = .ok (.ifCond .ne 7, 3) := dk_154 0 7 (dk_at dksX3_kindBy_0 5 rfl rfl)
theorem dX3_kindBy_8 : decode cX3_kindBy 8 = .ok (.iconst 1, 1) := dk_4 (dk_at dksX3_kindBy_0 8 rfl rfl)
theorem dX3_kindBy_9 : decode cX3_kindBy 9 = .ok (.goto 53, 3) := dk_167 0 53 (dk_at dksX3_kindBy_0 9 rfl rfl)
theorem dX3_kindBy_12 : decode cX3_kindBy 12 = .ok (.lload_n 0, 1) := dk_30 (dk_at dksX3_kindBy_0 12 rfl rfl)
theorem dX3_kindBy_13 : decode cX3_kindBy 13 = .ok (.ldc2_w 129, 3) := dk_20 0 129 (dk_at dksX3_kindBy_0 13 rfl rfl)
theorem dX3_kindBy_16 : decode cX3_kindBy 16 = .ok (.lcmp, 1) := dk_148 (dk_at dksX3_kindBy_0 16 rfl rfl)
theorem dX3_kindBy_17 : decode cX3_kindBy 17 = .ok (.ifCond .ne 7, 3) := dk_154 0 7 (dk_at dksX3_kindBy_0 17 rfl rfl)
theorem dX3_kindBy_20 : decode cX3_kindBy 20 = .ok (.iconst 2, 1) := dk_5 (dk_at dksX3_kindBy_0 20 rfl rfl)
theorem dX3_kindBy_21 : decode cX3_kindBy 21 = .ok (.goto 41, 3) := dk_167 0 41 (dk_at dksX3_kindBy_0 21 rfl rfl)
theorem dX3_kindBy_24 : decode cX3_kindBy 24 = .ok (.lload_n 0, 1) := dk_30 (dk_at dksX3_kindBy_1 0 rfl rfl)
theorem dX3_kindBy_25 : decode cX3_kindBy 25 = .ok (.ldc2_w 131, 3) := dk_20 0 131 (dk_at dksX3_kindBy_1 1 rfl rfl)
theorem dX3_kindBy_28 : decode cX3_kindBy 28 = .ok (.lcmp, 1) := dk_148 (dk_at dksX3_kindBy_1 4 rfl rfl)
theorem dX3_kindBy_29 : decode cX3_kindBy 29 = .ok (.ifCond .ne 7, 3) := dk_154 0 7 (dk_at dksX3_kindBy_1 5 rfl rfl)
theorem dX3_kindBy_32 : decode cX3_kindBy 32 = .ok (.iconst 3, 1) := dk_6 (dk_at dksX3_kindBy_1 8 rfl rfl)
theorem dX3_kindBy_33 : decode cX3_kindBy 33 = .ok (.goto 29, 3) := dk_167 0 29 (dk_at dksX3_kindBy_1 9 rfl rfl)
theorem dX3_kindBy_36 : decode cX3_kindBy 36 = .ok (.lload_n 0, 1) := dk_30 (dk_at dksX3_kindBy_1 12 rfl rfl)
theorem dX3_kindBy_37 : decode cX3_kindBy 37 = .ok (.ldc2_w 133, 3) := dk_20 0 133 (dk_at dksX3_kindBy_1 13 rfl rfl)
theorem dX3_kindBy_40 : decode cX3_kindBy 40 = .ok (.lcmp, 1) := dk_148 (dk_at dksX3_kindBy_1 16 rfl rfl)
theorem dX3_kindBy_41 : decode cX3_kindBy 41 = .ok (.ifCond .ne 7, 3) := dk_154 0 7 (dk_at dksX3_kindBy_1 17 rfl rfl)
theorem dX3_kindBy_44 : decode cX3_kindBy 44 = .ok (.iconst 4, 1) := dk_7 (dk_at dksX3_kindBy_1 20 rfl rfl)
theorem dX3_kindBy_45 : decode cX3_kindBy 45 = .ok (.goto 17, 3) := dk_167 0 17 (dk_at dksX3_kindBy_1 21 rfl rfl)
theorem dX3_kindBy_48 : decode cX3_kindBy 48 = .ok (.lload_n 0, 1) := dk_30 (dk_at dksX3_kindBy_2 0 rfl rfl)
theorem dX3_kindBy_49 : decode cX3_kindBy 49 = .ok (.ldc2_w 135, 3) := dk_20 0 135 (dk_at dksX3_kindBy_2 1 rfl rfl)
theorem dX3_kindBy_52 : decode cX3_kindBy 52 = .ok (.lcmp, 1) := dk_148 (dk_at dksX3_kindBy_2 4 rfl rfl)
theorem dX3_kindBy_53 : decode cX3_kindBy 53 = .ok (.ifCond .ne 7, 3) := dk_154 0 7 (dk_at dksX3_kindBy_2 5 rfl rfl)
theorem dX3_kindBy_56 : decode cX3_kindBy 56 = .ok (.iconst 5, 1) := dk_8 (dk_at dksX3_kindBy_2 8 rfl rfl)
theorem dX3_kindBy_57 : decode cX3_kindBy 57 = .ok (.goto 5, 3) := dk_167 0 5 (dk_at dksX3_kindBy_2 9 rfl rfl)
theorem dX3_kindBy_60 : decode cX3_kindBy 60 = .ok (.ldc 84, 2) := dk_18 84 (dk_at dksX3_kindBy_2 12 rfl rfl)
theorem dX3_kindBy_62 : decode cX3_kindBy 62 = .ok (.ireturn, 1) := dk_172 (dk_at dksX3_kindBy_2 14 rfl rfl)
abbrev cX3_fault : ByteArray := prog_16_method_27_code
def yX3_fault : MethodName := ⟨RX3, "fault", "()I"⟩
def dkwX3_fault_0 : List UInt8 := [42, 3, 181, 0, 48, 42, 180, 0, 171, 172]
abbrev dktX3_fault_0 : List UInt8 := dkwX3_fault_0 ++ []
theorem dksX3_fault_0 : cX3_fault.data.toList.drop 0 = dktX3_fault_0 := by decide +kernel
theorem dX3_fault_0 : decode cX3_fault 0 = .ok (.aload_n 0, 1) := dk_42 (dk_at dksX3_fault_0 0 rfl rfl)
theorem dX3_fault_1 : decode cX3_fault 1 = .ok (.iconst 0, 1) := dk_3 (dk_at dksX3_fault_0 1 rfl rfl)
theorem dX3_fault_2 : decode cX3_fault 2 = .ok (.putfield 48, 3) := dk_181 0 48 (dk_at dksX3_fault_0 2 rfl rfl)
theorem dX3_fault_5 : decode cX3_fault 5 = .ok (.aload_n 0, 1) := dk_42 (dk_at dksX3_fault_0 5 rfl rfl)
theorem dX3_fault_6 : decode cX3_fault 6 = .ok (.getfield 171, 3) := dk_180 0 171 (dk_at dksX3_fault_0 6 rfl rfl)
theorem dX3_fault_9 : decode cX3_fault 9 = .ok (.ireturn, 1) := dk_172 (dk_at dksX3_fault_0 9 rfl rfl)
abbrev cX3_sail : ByteArray := prog_16_method_39_code
def yX3_sail : MethodName := ⟨RX3, "sail", "(II)I"⟩
def dkwX3_sail_1 : List UInt8 := [182, 0, 205, 167, 0, 5, 18, 68, 172]
abbrev dktX3_sail_1 : List UInt8 := dkwX3_sail_1 ++ []
def dkwX3_sail_0 : List UInt8 := [42, 3, 181, 0, 48, 42, 27, 182, 0, 199, 153, 0, 20, 42, 28, 182, 0, 202, 153, 0, 12, 42, 27, 28]
abbrev dktX3_sail_0 : List UInt8 := dkwX3_sail_0 ++ dktX3_sail_1
theorem dksX3_sail_0 : cX3_sail.data.toList.drop 0 = dktX3_sail_0 := by decide +kernel
theorem dksX3_sail_1 : cX3_sail.data.toList.drop 24 = dktX3_sail_1 := dk_seg dksX3_sail_0 24 rfl rfl
theorem dX3_sail_0 : decode cX3_sail 0 = .ok (.aload_n 0, 1) := dk_42 (dk_at dksX3_sail_0 0 rfl rfl)
theorem dX3_sail_1 : decode cX3_sail 1 = .ok (.iconst 0, 1) := dk_3 (dk_at dksX3_sail_0 1 rfl rfl)
theorem dX3_sail_2 : decode cX3_sail 2 = .ok (.putfield 48, 3) := dk_181 0 48 (dk_at dksX3_sail_0 2 rfl rfl)
theorem dX3_sail_5 : decode cX3_sail 5 = .ok (.aload_n 0, 1) := dk_42 (dk_at dksX3_sail_0 5 rfl rfl)
theorem dX3_sail_6 : decode cX3_sail 6 = .ok (.iload_n 1, 1) := dk_27 (dk_at dksX3_sail_0 6 rfl rfl)
theorem dX3_sail_7 : decode cX3_sail 7 = .ok (.invokevirtual 199, 3) := dk_182 0 199 (dk_at dksX3_sail_0 7 rfl rfl)
theorem dX3_sail_10 : decode cX3_sail 10 = .ok (.ifCond .eq 20, 3) := dk_153 0 20 (dk_at dksX3_sail_0 10 rfl rfl)
theorem dX3_sail_13 : decode cX3_sail 13 = .ok (.aload_n 0, 1) := dk_42 (dk_at dksX3_sail_0 13 rfl rfl)
theorem dX3_sail_14 : decode cX3_sail 14 = .ok (.iload_n 2, 1) := dk_28 (dk_at dksX3_sail_0 14 rfl rfl)
theorem dX3_sail_15 : decode cX3_sail 15 = .ok (.invokevirtual 202, 3) := dk_182 0 202 (dk_at dksX3_sail_0 15 rfl rfl)
theorem dX3_sail_18 : decode cX3_sail 18 = .ok (.ifCond .eq 12, 3) := dk_153 0 12 (dk_at dksX3_sail_0 18 rfl rfl)
theorem dX3_sail_21 : decode cX3_sail 21 = .ok (.aload_n 0, 1) := dk_42 (dk_at dksX3_sail_0 21 rfl rfl)
theorem dX3_sail_22 : decode cX3_sail 22 = .ok (.iload_n 1, 1) := dk_27 (dk_at dksX3_sail_0 22 rfl rfl)
theorem dX3_sail_23 : decode cX3_sail 23 = .ok (.iload_n 2, 1) := dk_28 (dk_at dksX3_sail_0 23 rfl rfl)
theorem dX3_sail_24 : decode cX3_sail 24 = .ok (.invokevirtual 205, 3) := dk_182 0 205 (dk_at dksX3_sail_1 0 rfl rfl)
theorem dX3_sail_27 : decode cX3_sail 27 = .ok (.goto 5, 3) := dk_167 0 5 (dk_at dksX3_sail_1 3 rfl rfl)
theorem dX3_sail_30 : decode cX3_sail 30 = .ok (.ldc 68, 2) := dk_18 68 (dk_at dksX3_sail_1 6 rfl rfl)
theorem dX3_sail_32 : decode cX3_sail 32 = .ok (.ireturn, 1) := dk_172 (dk_at dksX3_sail_1 8 rfl rfl)
abbrev cX3_isPerson : ByteArray := prog_16_method_29_code
def yX3_isPerson : MethodName := ⟨RX3, "isPerson", "(I)Z"⟩
def dkwX3_isPerson_0 : List UInt8 := [27, 133, 9, 42, 180, 0, 19, 6, 46, 4, 100, 133, 184, 0, 58, 172]
abbrev dktX3_isPerson_0 : List UInt8 := dkwX3_isPerson_0 ++ []
theorem dksX3_isPerson_0 : cX3_isPerson.data.toList.drop 0 = dktX3_isPerson_0 := by decide +kernel
theorem dX3_isPerson_0 : decode cX3_isPerson 0 = .ok (.iload_n 1, 1) := dk_27 (dk_at dksX3_isPerson_0 0 rfl rfl)
theorem dX3_isPerson_1 : decode cX3_isPerson 1 = .ok (.i2l, 1) := dk_133 (dk_at dksX3_isPerson_0 1 rfl rfl)
theorem dX3_isPerson_2 : decode cX3_isPerson 2 = .ok (.lconst 0, 1) := dk_9 (dk_at dksX3_isPerson_0 2 rfl rfl)
theorem dX3_isPerson_3 : decode cX3_isPerson 3 = .ok (.aload_n 0, 1) := dk_42 (dk_at dksX3_isPerson_0 3 rfl rfl)
theorem dX3_isPerson_4 : decode cX3_isPerson 4 = .ok (.getfield 19, 3) := dk_180 0 19 (dk_at dksX3_isPerson_0 4 rfl rfl)
theorem dX3_isPerson_7 : decode cX3_isPerson 7 = .ok (.iconst 3, 1) := dk_6 (dk_at dksX3_isPerson_0 7 rfl rfl)
theorem dX3_isPerson_8 : decode cX3_isPerson 8 = .ok (.iaload, 1) := dk_46 (dk_at dksX3_isPerson_0 8 rfl rfl)
theorem dX3_isPerson_9 : decode cX3_isPerson 9 = .ok (.iconst 1, 1) := dk_4 (dk_at dksX3_isPerson_0 9 rfl rfl)
theorem dX3_isPerson_10 : decode cX3_isPerson 10 = .ok (.isub, 1) := dk_100 (dk_at dksX3_isPerson_0 10 rfl rfl)
theorem dX3_isPerson_11 : decode cX3_isPerson 11 = .ok (.i2l, 1) := dk_133 (dk_at dksX3_isPerson_0 11 rfl rfl)
theorem dX3_isPerson_12 : decode cX3_isPerson 12 = .ok (.invokestatic 58, 3) := dk_184 0 58 (dk_at dksX3_isPerson_0 12 rfl rfl)
theorem dX3_isPerson_15 : decode cX3_isPerson 15 = .ok (.ireturn, 1) := dk_172 (dk_at dksX3_isPerson_0 15 rfl rfl)
abbrev cX3_isWay : ByteArray := prog_16_method_30_code
def yX3_isWay : MethodName := ⟨RX3, "isWay", "(I)Z"⟩
def dkwX3_isWay_0 : List UInt8 := [27, 133, 9, 42, 180, 0, 19, 5, 46, 4, 100, 133, 184, 0, 58, 172]
abbrev dktX3_isWay_0 : List UInt8 := dkwX3_isWay_0 ++ []
theorem dksX3_isWay_0 : cX3_isWay.data.toList.drop 0 = dktX3_isWay_0 := by decide +kernel
theorem dX3_isWay_0 : decode cX3_isWay 0 = .ok (.iload_n 1, 1) := dk_27 (dk_at dksX3_isWay_0 0 rfl rfl)
theorem dX3_isWay_1 : decode cX3_isWay 1 = .ok (.i2l, 1) := dk_133 (dk_at dksX3_isWay_0 1 rfl rfl)
theorem dX3_isWay_2 : decode cX3_isWay 2 = .ok (.lconst 0, 1) := dk_9 (dk_at dksX3_isWay_0 2 rfl rfl)
theorem dX3_isWay_3 : decode cX3_isWay 3 = .ok (.aload_n 0, 1) := dk_42 (dk_at dksX3_isWay_0 3 rfl rfl)
theorem dX3_isWay_4 : decode cX3_isWay 4 = .ok (.getfield 19, 3) := dk_180 0 19 (dk_at dksX3_isWay_0 4 rfl rfl)
theorem dX3_isWay_7 : decode cX3_isWay 7 = .ok (.iconst 2, 1) := dk_5 (dk_at dksX3_isWay_0 7 rfl rfl)
theorem dX3_isWay_8 : decode cX3_isWay 8 = .ok (.iaload, 1) := dk_46 (dk_at dksX3_isWay_0 8 rfl rfl)
theorem dX3_isWay_9 : decode cX3_isWay 9 = .ok (.iconst 1, 1) := dk_4 (dk_at dksX3_isWay_0 9 rfl rfl)
theorem dX3_isWay_10 : decode cX3_isWay 10 = .ok (.isub, 1) := dk_100 (dk_at dksX3_isWay_0 10 rfl rfl)
theorem dX3_isWay_11 : decode cX3_isWay 11 = .ok (.i2l, 1) := dk_133 (dk_at dksX3_isWay_0 11 rfl rfl)
theorem dX3_isWay_12 : decode cX3_isWay 12 = .ok (.invokestatic 58, 3) := dk_184 0 58 (dk_at dksX3_isWay_0 12 rfl rfl)
theorem dX3_isWay_15 : decode cX3_isWay 15 = .ok (.ireturn, 1) := dk_172 (dk_at dksX3_isWay_0 15 rfl rfl)
abbrev cX3_goes : ByteArray := prog_16_method_38_code
def yX3_goes : MethodName := ⟨RX3, "goes", "(II)I"⟩
def dkwX3_goes_3 : List UInt8 := [16, 8, 27, 104, 96, 4, 96, 29, 79, 29, 172]
abbrev dktX3_goes_3 : List UInt8 := dkwX3_goes_3 ++ []
def dkwX3_goes_2 : List UInt8 := [42, 27, 42, 28, 5, 182, 0, 178, 42, 27, 28, 182, 0, 192, 182, 0, 195, 42, 180, 0, 19, 16, 36]
abbrev dktX3_goes_2 : List UInt8 := dkwX3_goes_2 ++ dktX3_goes_3
def dkwX3_goes_1 : List UInt8 := [6, 182, 0, 181, 42, 28, 5, 182, 0, 178, 96, 17, 0, 200, 164, 0, 6, 18, 78, 172, 42, 182, 0, 189]
abbrev dktX3_goes_1 : List UInt8 := dkwX3_goes_1 ++ dktX3_goes_2
def dkwX3_goes_0 : List UInt8 := [42, 27, 28, 42, 27, 4, 182, 0, 181, 182, 0, 184, 62, 29, 18, 84, 160, 0, 6, 18, 188, 172, 42, 27]
abbrev dktX3_goes_0 : List UInt8 := dkwX3_goes_0 ++ dktX3_goes_1
theorem dksX3_goes_0 : cX3_goes.data.toList.drop 0 = dktX3_goes_0 := by decide +kernel
theorem dksX3_goes_1 : cX3_goes.data.toList.drop 24 = dktX3_goes_1 := dk_seg dksX3_goes_0 24 rfl rfl
theorem dksX3_goes_2 : cX3_goes.data.toList.drop 48 = dktX3_goes_2 := dk_seg dksX3_goes_1 24 rfl rfl
theorem dksX3_goes_3 : cX3_goes.data.toList.drop 71 = dktX3_goes_3 := dk_seg dksX3_goes_2 23 rfl rfl
theorem dX3_goes_0 : decode cX3_goes 0 = .ok (.aload_n 0, 1) := dk_42 (dk_at dksX3_goes_0 0 rfl rfl)
theorem dX3_goes_1 : decode cX3_goes 1 = .ok (.iload_n 1, 1) := dk_27 (dk_at dksX3_goes_0 1 rfl rfl)
theorem dX3_goes_2 : decode cX3_goes 2 = .ok (.iload_n 2, 1) := dk_28 (dk_at dksX3_goes_0 2 rfl rfl)
theorem dX3_goes_3 : decode cX3_goes 3 = .ok (.aload_n 0, 1) := dk_42 (dk_at dksX3_goes_0 3 rfl rfl)
theorem dX3_goes_4 : decode cX3_goes 4 = .ok (.iload_n 1, 1) := dk_27 (dk_at dksX3_goes_0 4 rfl rfl)
theorem dX3_goes_5 : decode cX3_goes 5 = .ok (.iconst 1, 1) := dk_4 (dk_at dksX3_goes_0 5 rfl rfl)
theorem dX3_goes_6 : decode cX3_goes 6 = .ok (.invokevirtual 181, 3) := dk_182 0 181 (dk_at dksX3_goes_0 6 rfl rfl)
theorem dX3_goes_9 : decode cX3_goes 9 = .ok (.invokevirtual 184, 3) := dk_182 0 184 (dk_at dksX3_goes_0 9 rfl rfl)
theorem dX3_goes_12 : decode cX3_goes 12 = .ok (.istore_n 3, 1) := dk_62 (dk_at dksX3_goes_0 12 rfl rfl)
theorem dX3_goes_13 : decode cX3_goes 13 = .ok (.iload_n 3, 1) := dk_29 (dk_at dksX3_goes_0 13 rfl rfl)
theorem dX3_goes_14 : decode cX3_goes 14 = .ok (.ldc 84, 2) := dk_18 84 (dk_at dksX3_goes_0 14 rfl rfl)
theorem dX3_goes_16 : decode cX3_goes 16 = .ok (.if_icmp .ne 6, 3) := dk_160 0 6 (dk_at dksX3_goes_0 16 rfl rfl)
theorem dX3_goes_19 : decode cX3_goes 19 = .ok (.ldc 188, 2) := dk_18 188 (dk_at dksX3_goes_0 19 rfl rfl)
theorem dX3_goes_21 : decode cX3_goes 21 = .ok (.ireturn, 1) := dk_172 (dk_at dksX3_goes_0 21 rfl rfl)
theorem dX3_goes_22 : decode cX3_goes 22 = .ok (.aload_n 0, 1) := dk_42 (dk_at dksX3_goes_0 22 rfl rfl)
theorem dX3_goes_23 : decode cX3_goes 23 = .ok (.iload_n 1, 1) := dk_27 (dk_at dksX3_goes_0 23 rfl rfl)
theorem dX3_goes_24 : decode cX3_goes 24 = .ok (.iconst 3, 1) := dk_6 (dk_at dksX3_goes_1 0 rfl rfl)
theorem dX3_goes_25 : decode cX3_goes 25 = .ok (.invokevirtual 181, 3) := dk_182 0 181 (dk_at dksX3_goes_1 1 rfl rfl)
theorem dX3_goes_28 : decode cX3_goes 28 = .ok (.aload_n 0, 1) := dk_42 (dk_at dksX3_goes_1 4 rfl rfl)
theorem dX3_goes_29 : decode cX3_goes 29 = .ok (.iload_n 2, 1) := dk_28 (dk_at dksX3_goes_1 5 rfl rfl)
theorem dX3_goes_30 : decode cX3_goes 30 = .ok (.iconst 2, 1) := dk_5 (dk_at dksX3_goes_1 6 rfl rfl)
theorem dX3_goes_31 : decode cX3_goes 31 = .ok (.invokevirtual 178, 3) := dk_182 0 178 (dk_at dksX3_goes_1 7 rfl rfl)
theorem dX3_goes_34 : decode cX3_goes 34 = .ok (.iadd, 1) := dk_96 (dk_at dksX3_goes_1 10 rfl rfl)
theorem dX3_goes_35 : decode cX3_goes 35 = .ok (.sipush 200, 3) := dk_17 0 200 (dk_at dksX3_goes_1 11 rfl rfl)
theorem dX3_goes_38 : decode cX3_goes 38 = .ok (.if_icmp .le 6, 3) := dk_164 0 6 (dk_at dksX3_goes_1 14 rfl rfl)
theorem dX3_goes_41 : decode cX3_goes 41 = .ok (.ldc 78, 2) := dk_18 78 (dk_at dksX3_goes_1 17 rfl rfl)
theorem dX3_goes_43 : decode cX3_goes 43 = .ok (.ireturn, 1) := dk_172 (dk_at dksX3_goes_1 19 rfl rfl)
theorem dX3_goes_44 : decode cX3_goes 44 = .ok (.aload_n 0, 1) := dk_42 (dk_at dksX3_goes_1 20 rfl rfl)
theorem dX3_goes_45 : decode cX3_goes 45 = .ok (.invokevirtual 189, 3) := dk_182 0 189 (dk_at dksX3_goes_1 21 rfl rfl)
theorem dX3_goes_48 : decode cX3_goes 48 = .ok (.aload_n 0, 1) := dk_42 (dk_at dksX3_goes_2 0 rfl rfl)
theorem dX3_goes_49 : decode cX3_goes 49 = .ok (.iload_n 1, 1) := dk_27 (dk_at dksX3_goes_2 1 rfl rfl)
theorem dX3_goes_50 : decode cX3_goes 50 = .ok (.aload_n 0, 1) := dk_42 (dk_at dksX3_goes_2 2 rfl rfl)
theorem dX3_goes_51 : decode cX3_goes 51 = .ok (.iload_n 2, 1) := dk_28 (dk_at dksX3_goes_2 3 rfl rfl)
theorem dX3_goes_52 : decode cX3_goes 52 = .ok (.iconst 2, 1) := dk_5 (dk_at dksX3_goes_2 4 rfl rfl)
theorem dX3_goes_53 : decode cX3_goes 53 = .ok (.invokevirtual 178, 3) := dk_182 0 178 (dk_at dksX3_goes_2 5 rfl rfl)
theorem dX3_goes_56 : decode cX3_goes 56 = .ok (.aload_n 0, 1) := dk_42 (dk_at dksX3_goes_2 8 rfl rfl)
theorem dX3_goes_57 : decode cX3_goes 57 = .ok (.iload_n 1, 1) := dk_27 (dk_at dksX3_goes_2 9 rfl rfl)
theorem dX3_goes_58 : decode cX3_goes 58 = .ok (.iload_n 2, 1) := dk_28 (dk_at dksX3_goes_2 10 rfl rfl)
theorem dX3_goes_59 : decode cX3_goes 59 = .ok (.invokevirtual 192, 3) := dk_182 0 192 (dk_at dksX3_goes_2 11 rfl rfl)
theorem dX3_goes_62 : decode cX3_goes 62 = .ok (.invokevirtual 195, 3) := dk_182 0 195 (dk_at dksX3_goes_2 14 rfl rfl)
theorem dX3_goes_65 : decode cX3_goes 65 = .ok (.aload_n 0, 1) := dk_42 (dk_at dksX3_goes_2 17 rfl rfl)
theorem dX3_goes_66 : decode cX3_goes 66 = .ok (.getfield 19, 3) := dk_180 0 19 (dk_at dksX3_goes_2 18 rfl rfl)
theorem dX3_goes_69 : decode cX3_goes 69 = .ok (.bipush 36, 2) := dk_16 36 (dk_at dksX3_goes_2 21 rfl rfl)
theorem dX3_goes_71 : decode cX3_goes 71 = .ok (.bipush 8, 2) := dk_16 8 (dk_at dksX3_goes_3 0 rfl rfl)
theorem dX3_goes_73 : decode cX3_goes 73 = .ok (.iload_n 1, 1) := dk_27 (dk_at dksX3_goes_3 2 rfl rfl)
theorem dX3_goes_74 : decode cX3_goes 74 = .ok (.imul, 1) := dk_104 (dk_at dksX3_goes_3 3 rfl rfl)
theorem dX3_goes_75 : decode cX3_goes 75 = .ok (.iadd, 1) := dk_96 (dk_at dksX3_goes_3 4 rfl rfl)
theorem dX3_goes_76 : decode cX3_goes 76 = .ok (.iconst 1, 1) := dk_4 (dk_at dksX3_goes_3 5 rfl rfl)
theorem dX3_goes_77 : decode cX3_goes 77 = .ok (.iadd, 1) := dk_96 (dk_at dksX3_goes_3 6 rfl rfl)
theorem dX3_goes_78 : decode cX3_goes 78 = .ok (.iload_n 3, 1) := dk_29 (dk_at dksX3_goes_3 7 rfl rfl)
theorem dX3_goes_79 : decode cX3_goes 79 = .ok (.iastore, 1) := dk_79 (dk_at dksX3_goes_3 8 rfl rfl)
theorem dX3_goes_80 : decode cX3_goes 80 = .ok (.iload_n 3, 1) := dk_29 (dk_at dksX3_goes_3 9 rfl rfl)
theorem dX3_goes_81 : decode cX3_goes 81 = .ok (.ireturn, 1) := dk_172 (dk_at dksX3_goes_3 10 rfl rfl)
abbrev cX3_of : ByteArray := prog_16_method_32_code
def yX3_of : MethodName := ⟨RX3, "of", "(II)I"⟩
def dkwX3_of_0 : List UInt8 := [42, 180, 0, 19, 16, 36, 16, 8, 27, 104, 96, 28, 96, 46, 172]
abbrev dktX3_of_0 : List UInt8 := dkwX3_of_0 ++ []
theorem dksX3_of_0 : cX3_of.data.toList.drop 0 = dktX3_of_0 := by decide +kernel
theorem dX3_of_0 : decode cX3_of 0 = .ok (.aload_n 0, 1) := dk_42 (dk_at dksX3_of_0 0 rfl rfl)
theorem dX3_of_1 : decode cX3_of 1 = .ok (.getfield 19, 3) := dk_180 0 19 (dk_at dksX3_of_0 1 rfl rfl)
theorem dX3_of_4 : decode cX3_of 4 = .ok (.bipush 36, 2) := dk_16 36 (dk_at dksX3_of_0 4 rfl rfl)
theorem dX3_of_6 : decode cX3_of 6 = .ok (.bipush 8, 2) := dk_16 8 (dk_at dksX3_of_0 6 rfl rfl)
theorem dX3_of_8 : decode cX3_of 8 = .ok (.iload_n 1, 1) := dk_27 (dk_at dksX3_of_0 8 rfl rfl)
theorem dX3_of_9 : decode cX3_of 9 = .ok (.imul, 1) := dk_104 (dk_at dksX3_of_0 9 rfl rfl)
theorem dX3_of_10 : decode cX3_of 10 = .ok (.iadd, 1) := dk_96 (dk_at dksX3_of_0 10 rfl rfl)
theorem dX3_of_11 : decode cX3_of 11 = .ok (.iload_n 2, 1) := dk_28 (dk_at dksX3_of_0 11 rfl rfl)
theorem dX3_of_12 : decode cX3_of 12 = .ok (.iadd, 1) := dk_96 (dk_at dksX3_of_0 12 rfl rfl)
theorem dX3_of_13 : decode cX3_of 13 = .ok (.iaload, 1) := dk_46 (dk_at dksX3_of_0 13 rfl rfl)
theorem dX3_of_14 : decode cX3_of 14 = .ok (.ireturn, 1) := dk_172 (dk_at dksX3_of_0 14 rfl rfl)
abbrev cX3_endOf : ByteArray := prog_16_method_34_code
def yX3_endOf : MethodName := ⟨RX3, "endOf", "(III)I"⟩
def dkwX3_endOf_3 : List UInt8 := [21, 4, 172]
abbrev dktX3_endOf_3 : List UInt8 := dkwX3_endOf_3 ++ []
def dkwX3_endOf_2 : List UInt8 := [182, 0, 181, 8, 160, 0, 19, 42, 28, 5, 182, 0, 178, 16, 10, 164, 0, 8, 18, 84, 167, 0, 5]
abbrev dktX3_endOf_2 : List UInt8 := dkwX3_endOf_2 ++ dktX3_endOf_3
def dkwX3_endOf_1 : List UInt8 := [182, 0, 178, 29, 160, 0, 12, 42, 28, 3, 182, 0, 178, 167, 0, 5, 18, 84, 54, 4, 42, 27, 3]
abbrev dktX3_endOf_1 : List UInt8 := dkwX3_endOf_1 ++ dktX3_endOf_2
def dkwX3_endOf_0 : List UInt8 := [42, 28, 3, 182, 0, 178, 29, 160, 0, 12, 42, 28, 4, 182, 0, 178, 167, 0, 24, 42, 28, 4]
abbrev dktX3_endOf_0 : List UInt8 := dkwX3_endOf_0 ++ dktX3_endOf_1
theorem dksX3_endOf_0 : cX3_endOf.data.toList.drop 0 = dktX3_endOf_0 := by decide +kernel
theorem dksX3_endOf_1 : cX3_endOf.data.toList.drop 22 = dktX3_endOf_1 := dk_seg dksX3_endOf_0 22 rfl rfl
theorem dksX3_endOf_2 : cX3_endOf.data.toList.drop 45 = dktX3_endOf_2 := dk_seg dksX3_endOf_1 23 rfl rfl
theorem dksX3_endOf_3 : cX3_endOf.data.toList.drop 68 = dktX3_endOf_3 := dk_seg dksX3_endOf_2 23 rfl rfl
theorem dX3_endOf_0 : decode cX3_endOf 0 = .ok (.aload_n 0, 1) := dk_42 (dk_at dksX3_endOf_0 0 rfl rfl)
theorem dX3_endOf_1 : decode cX3_endOf 1 = .ok (.iload_n 2, 1) := dk_28 (dk_at dksX3_endOf_0 1 rfl rfl)
theorem dX3_endOf_2 : decode cX3_endOf 2 = .ok (.iconst 0, 1) := dk_3 (dk_at dksX3_endOf_0 2 rfl rfl)
theorem dX3_endOf_3 : decode cX3_endOf 3 = .ok (.invokevirtual 178, 3) := dk_182 0 178 (dk_at dksX3_endOf_0 3 rfl rfl)
theorem dX3_endOf_6 : decode cX3_endOf 6 = .ok (.iload_n 3, 1) := dk_29 (dk_at dksX3_endOf_0 6 rfl rfl)
theorem dX3_endOf_7 : decode cX3_endOf 7 = .ok (.if_icmp .ne 12, 3) := dk_160 0 12 (dk_at dksX3_endOf_0 7 rfl rfl)
theorem dX3_endOf_10 : decode cX3_endOf 10 = .ok (.aload_n 0, 1) := dk_42 (dk_at dksX3_endOf_0 10 rfl rfl)
theorem dX3_endOf_11 : decode cX3_endOf 11 = .ok (.iload_n 2, 1) := dk_28 (dk_at dksX3_endOf_0 11 rfl rfl)
theorem dX3_endOf_12 : decode cX3_endOf 12 = .ok (.iconst 1, 1) := dk_4 (dk_at dksX3_endOf_0 12 rfl rfl)
theorem dX3_endOf_13 : decode cX3_endOf 13 = .ok (.invokevirtual 178, 3) := dk_182 0 178 (dk_at dksX3_endOf_0 13 rfl rfl)
theorem dX3_endOf_16 : decode cX3_endOf 16 = .ok (.goto 24, 3) := dk_167 0 24 (dk_at dksX3_endOf_0 16 rfl rfl)
theorem dX3_endOf_19 : decode cX3_endOf 19 = .ok (.aload_n 0, 1) := dk_42 (dk_at dksX3_endOf_0 19 rfl rfl)
theorem dX3_endOf_20 : decode cX3_endOf 20 = .ok (.iload_n 2, 1) := dk_28 (dk_at dksX3_endOf_0 20 rfl rfl)
theorem dX3_endOf_21 : decode cX3_endOf 21 = .ok (.iconst 1, 1) := dk_4 (dk_at dksX3_endOf_0 21 rfl rfl)
theorem dX3_endOf_22 : decode cX3_endOf 22 = .ok (.invokevirtual 178, 3) := dk_182 0 178 (dk_at dksX3_endOf_1 0 rfl rfl)
theorem dX3_endOf_25 : decode cX3_endOf 25 = .ok (.iload_n 3, 1) := dk_29 (dk_at dksX3_endOf_1 3 rfl rfl)
theorem dX3_endOf_26 : decode cX3_endOf 26 = .ok (.if_icmp .ne 12, 3) := dk_160 0 12 (dk_at dksX3_endOf_1 4 rfl rfl)
theorem dX3_endOf_29 : decode cX3_endOf 29 = .ok (.aload_n 0, 1) := dk_42 (dk_at dksX3_endOf_1 7 rfl rfl)
theorem dX3_endOf_30 : decode cX3_endOf 30 = .ok (.iload_n 2, 1) := dk_28 (dk_at dksX3_endOf_1 8 rfl rfl)
theorem dX3_endOf_31 : decode cX3_endOf 31 = .ok (.iconst 0, 1) := dk_3 (dk_at dksX3_endOf_1 9 rfl rfl)
theorem dX3_endOf_32 : decode cX3_endOf 32 = .ok (.invokevirtual 178, 3) := dk_182 0 178 (dk_at dksX3_endOf_1 10 rfl rfl)
theorem dX3_endOf_35 : decode cX3_endOf 35 = .ok (.goto 5, 3) := dk_167 0 5 (dk_at dksX3_endOf_1 13 rfl rfl)
theorem dX3_endOf_38 : decode cX3_endOf 38 = .ok (.ldc 84, 2) := dk_18 84 (dk_at dksX3_endOf_1 16 rfl rfl)
theorem dX3_endOf_40 : decode cX3_endOf 40 = .ok (.istore 4, 2) := dk_54 4 (dk_at dksX3_endOf_1 18 rfl rfl)
theorem dX3_endOf_42 : decode cX3_endOf 42 = .ok (.aload_n 0, 1) := dk_42 (dk_at dksX3_endOf_1 20 rfl rfl)
theorem dX3_endOf_43 : decode cX3_endOf 43 = .ok (.iload_n 1, 1) := dk_27 (dk_at dksX3_endOf_1 21 rfl rfl)
theorem dX3_endOf_44 : decode cX3_endOf 44 = .ok (.iconst 0, 1) := dk_3 (dk_at dksX3_endOf_1 22 rfl rfl)
theorem dX3_endOf_45 : decode cX3_endOf 45 = .ok (.invokevirtual 181, 3) := dk_182 0 181 (dk_at dksX3_endOf_2 0 rfl rfl)
theorem dX3_endOf_48 : decode cX3_endOf 48 = .ok (.iconst 5, 1) := dk_8 (dk_at dksX3_endOf_2 3 rfl rfl)
theorem dX3_endOf_49 : decode cX3_endOf 49 = .ok (.if_icmp .ne 19, 3) := dk_160 0 19 (dk_at dksX3_endOf_2 4 rfl rfl)
theorem dX3_endOf_52 : decode cX3_endOf 52 = .ok (.aload_n 0, 1) := dk_42 (dk_at dksX3_endOf_2 7 rfl rfl)
theorem dX3_endOf_53 : decode cX3_endOf 53 = .ok (.iload_n 2, 1) := dk_28 (dk_at dksX3_endOf_2 8 rfl rfl)
theorem dX3_endOf_54 : decode cX3_endOf 54 = .ok (.iconst 2, 1) := dk_5 (dk_at dksX3_endOf_2 9 rfl rfl)
theorem dX3_endOf_55 : decode cX3_endOf 55 = .ok (.invokevirtual 178, 3) := dk_182 0 178 (dk_at dksX3_endOf_2 10 rfl rfl)
theorem dX3_endOf_58 : decode cX3_endOf 58 = .ok (.bipush 10, 2) := dk_16 10 (dk_at dksX3_endOf_2 13 rfl rfl)
theorem dX3_endOf_60 : decode cX3_endOf 60 = .ok (.if_icmp .le 8, 3) := dk_164 0 8 (dk_at dksX3_endOf_2 15 rfl rfl)
theorem dX3_endOf_63 : decode cX3_endOf 63 = .ok (.ldc 84, 2) := dk_18 84 (dk_at dksX3_endOf_2 18 rfl rfl)
theorem dX3_endOf_65 : decode cX3_endOf 65 = .ok (.goto 5, 3) := dk_167 0 5 (dk_at dksX3_endOf_2 20 rfl rfl)
theorem dX3_endOf_68 : decode cX3_endOf 68 = .ok (.iload 4, 2) := dk_21 4 (dk_at dksX3_endOf_3 0 rfl rfl)
theorem dX3_endOf_70 : decode cX3_endOf 70 = .ok (.ireturn, 1) := dk_172 (dk_at dksX3_endOf_3 2 rfl rfl)
abbrev cX3_wayOf : ByteArray := prog_16_method_33_code
def yX3_wayOf : MethodName := ⟨RX3, "wayOf", "(II)I"⟩
def dkwX3_wayOf_0 : List UInt8 := [42, 180, 0, 19, 7, 7, 27, 104, 96, 28, 96, 46, 172]
abbrev dktX3_wayOf_0 : List UInt8 := dkwX3_wayOf_0 ++ []
theorem dksX3_wayOf_0 : cX3_wayOf.data.toList.drop 0 = dktX3_wayOf_0 := by decide +kernel
theorem dX3_wayOf_0 : decode cX3_wayOf 0 = .ok (.aload_n 0, 1) := dk_42 (dk_at dksX3_wayOf_0 0 rfl rfl)
theorem dX3_wayOf_1 : decode cX3_wayOf 1 = .ok (.getfield 19, 3) := dk_180 0 19 (dk_at dksX3_wayOf_0 1 rfl rfl)
theorem dX3_wayOf_4 : decode cX3_wayOf 4 = .ok (.iconst 4, 1) := dk_7 (dk_at dksX3_wayOf_0 4 rfl rfl)
theorem dX3_wayOf_5 : decode cX3_wayOf 5 = .ok (.iconst 4, 1) := dk_7 (dk_at dksX3_wayOf_0 5 rfl rfl)
theorem dX3_wayOf_6 : decode cX3_wayOf 6 = .ok (.iload_n 1, 1) := dk_27 (dk_at dksX3_wayOf_0 6 rfl rfl)
theorem dX3_wayOf_7 : decode cX3_wayOf 7 = .ok (.imul, 1) := dk_104 (dk_at dksX3_wayOf_0 7 rfl rfl)
theorem dX3_wayOf_8 : decode cX3_wayOf 8 = .ok (.iadd, 1) := dk_96 (dk_at dksX3_wayOf_0 8 rfl rfl)
theorem dX3_wayOf_9 : decode cX3_wayOf 9 = .ok (.iload_n 2, 1) := dk_28 (dk_at dksX3_wayOf_0 9 rfl rfl)
theorem dX3_wayOf_10 : decode cX3_wayOf 10 = .ok (.iadd, 1) := dk_96 (dk_at dksX3_wayOf_0 10 rfl rfl)
theorem dX3_wayOf_11 : decode cX3_wayOf 11 = .ok (.iaload, 1) := dk_46 (dk_at dksX3_wayOf_0 11 rfl rfl)
theorem dX3_wayOf_12 : decode cX3_wayOf 12 = .ok (.ireturn, 1) := dk_172 (dk_at dksX3_wayOf_0 12 rfl rfl)
abbrev cX3_keep : ByteArray := prog_16_method_36_code
def yX3_keep : MethodName := ⟨RX3, "keep", "()V"⟩
def dkwX3_keep_3 : List UInt8 := [42, 180, 0, 19, 27, 46, 79, 132, 1, 1, 167, 255, 227, 42, 89, 180, 0, 175, 4, 96, 181, 0, 175, 177]
abbrev dktX3_keep_3 : List UInt8 := dkwX3_keep_3 ++ []
def dkwX3_keep_2 : List UInt8 := [181, 0, 175, 3, 60, 27, 16, 68, 162, 0, 29, 42, 180, 0, 25, 16, 68, 42, 180, 0, 175, 104, 27, 96]
abbrev dktX3_keep_2 : List UInt8 := dkwX3_keep_2 ++ dktX3_keep_3
def dkwX3_keep_1 : List UInt8 := [180, 0, 25, 27, 16, 68, 96, 46, 79, 132, 1, 1, 167, 255, 231, 42, 89, 180, 0, 175, 4, 100]
abbrev dktX3_keep_1 : List UInt8 := dkwX3_keep_1 ++ dktX3_keep_2
def dkwX3_keep_0 : List UInt8 := [42, 180, 0, 175, 16, 24, 160, 0, 43, 3, 60, 27, 17, 6, 28, 162, 0, 24, 42, 180, 0, 25, 27, 42]
abbrev dktX3_keep_0 : List UInt8 := dkwX3_keep_0 ++ dktX3_keep_1
theorem dksX3_keep_0 : cX3_keep.data.toList.drop 0 = dktX3_keep_0 := by decide +kernel
theorem dksX3_keep_1 : cX3_keep.data.toList.drop 24 = dktX3_keep_1 := dk_seg dksX3_keep_0 24 rfl rfl
theorem dksX3_keep_2 : cX3_keep.data.toList.drop 46 = dktX3_keep_2 := dk_seg dksX3_keep_1 22 rfl rfl
theorem dksX3_keep_3 : cX3_keep.data.toList.drop 70 = dktX3_keep_3 := dk_seg dksX3_keep_2 24 rfl rfl
theorem dX3_keep_0 : decode cX3_keep 0 = .ok (.aload_n 0, 1) := dk_42 (dk_at dksX3_keep_0 0 rfl rfl)
theorem dX3_keep_1 : decode cX3_keep 1 = .ok (.getfield 175, 3) := dk_180 0 175 (dk_at dksX3_keep_0 1 rfl rfl)
theorem dX3_keep_4 : decode cX3_keep 4 = .ok (.bipush 24, 2) := dk_16 24 (dk_at dksX3_keep_0 4 rfl rfl)
theorem dX3_keep_6 : decode cX3_keep 6 = .ok (.if_icmp .ne 43, 3) := dk_160 0 43 (dk_at dksX3_keep_0 6 rfl rfl)
theorem dX3_keep_9 : decode cX3_keep 9 = .ok (.iconst 0, 1) := dk_3 (dk_at dksX3_keep_0 9 rfl rfl)
theorem dX3_keep_10 : decode cX3_keep 10 = .ok (.istore_n 1, 1) := dk_60 (dk_at dksX3_keep_0 10 rfl rfl)
theorem dX3_keep_11 : decode cX3_keep 11 = .ok (.iload_n 1, 1) := dk_27 (dk_at dksX3_keep_0 11 rfl rfl)
theorem dX3_keep_12 : decode cX3_keep 12 = .ok (.sipush 1564, 3) := dk_17 6 28 (dk_at dksX3_keep_0 12 rfl rfl)
theorem dX3_keep_15 : decode cX3_keep 15 = .ok (.if_icmp .ge 24, 3) := dk_162 0 24 (dk_at dksX3_keep_0 15 rfl rfl)
theorem dX3_keep_18 : decode cX3_keep 18 = .ok (.aload_n 0, 1) := dk_42 (dk_at dksX3_keep_0 18 rfl rfl)
theorem dX3_keep_19 : decode cX3_keep 19 = .ok (.getfield 25, 3) := dk_180 0 25 (dk_at dksX3_keep_0 19 rfl rfl)
theorem dX3_keep_22 : decode cX3_keep 22 = .ok (.iload_n 1, 1) := dk_27 (dk_at dksX3_keep_0 22 rfl rfl)
theorem dX3_keep_23 : decode cX3_keep 23 = .ok (.aload_n 0, 1) := dk_42 (dk_at dksX3_keep_0 23 rfl rfl)
theorem dX3_keep_24 : decode cX3_keep 24 = .ok (.getfield 25, 3) := dk_180 0 25 (dk_at dksX3_keep_1 0 rfl rfl)
theorem dX3_keep_27 : decode cX3_keep 27 = .ok (.iload_n 1, 1) := dk_27 (dk_at dksX3_keep_1 3 rfl rfl)
theorem dX3_keep_28 : decode cX3_keep 28 = .ok (.bipush 68, 2) := dk_16 68 (dk_at dksX3_keep_1 4 rfl rfl)
theorem dX3_keep_30 : decode cX3_keep 30 = .ok (.iadd, 1) := dk_96 (dk_at dksX3_keep_1 6 rfl rfl)
theorem dX3_keep_31 : decode cX3_keep 31 = .ok (.iaload, 1) := dk_46 (dk_at dksX3_keep_1 7 rfl rfl)
theorem dX3_keep_32 : decode cX3_keep 32 = .ok (.iastore, 1) := dk_79 (dk_at dksX3_keep_1 8 rfl rfl)
theorem dX3_keep_33 : decode cX3_keep 33 = .ok (.iinc 1 1, 3) := dk_132 1 1 (dk_at dksX3_keep_1 9 rfl rfl)
theorem dX3_keep_36 : decode cX3_keep 36 = .ok (.goto (-25), 3) := dk_167 255 231 (dk_at dksX3_keep_1 12 rfl rfl)
theorem dX3_keep_39 : decode cX3_keep 39 = .ok (.aload_n 0, 1) := dk_42 (dk_at dksX3_keep_1 15 rfl rfl)
theorem dX3_keep_40 : decode cX3_keep 40 = .ok (.dup, 1) := dk_89 (dk_at dksX3_keep_1 16 rfl rfl)
theorem dX3_keep_41 : decode cX3_keep 41 = .ok (.getfield 175, 3) := dk_180 0 175 (dk_at dksX3_keep_1 17 rfl rfl)
theorem dX3_keep_44 : decode cX3_keep 44 = .ok (.iconst 1, 1) := dk_4 (dk_at dksX3_keep_1 20 rfl rfl)
theorem dX3_keep_45 : decode cX3_keep 45 = .ok (.isub, 1) := dk_100 (dk_at dksX3_keep_1 21 rfl rfl)
theorem dX3_keep_46 : decode cX3_keep 46 = .ok (.putfield 175, 3) := dk_181 0 175 (dk_at dksX3_keep_2 0 rfl rfl)
theorem dX3_keep_49 : decode cX3_keep 49 = .ok (.iconst 0, 1) := dk_3 (dk_at dksX3_keep_2 3 rfl rfl)
theorem dX3_keep_50 : decode cX3_keep 50 = .ok (.istore_n 1, 1) := dk_60 (dk_at dksX3_keep_2 4 rfl rfl)
theorem dX3_keep_51 : decode cX3_keep 51 = .ok (.iload_n 1, 1) := dk_27 (dk_at dksX3_keep_2 5 rfl rfl)
theorem dX3_keep_52 : decode cX3_keep 52 = .ok (.bipush 68, 2) := dk_16 68 (dk_at dksX3_keep_2 6 rfl rfl)
theorem dX3_keep_54 : decode cX3_keep 54 = .ok (.if_icmp .ge 29, 3) := dk_162 0 29 (dk_at dksX3_keep_2 8 rfl rfl)
theorem dX3_keep_57 : decode cX3_keep 57 = .ok (.aload_n 0, 1) := dk_42 (dk_at dksX3_keep_2 11 rfl rfl)
theorem dX3_keep_58 : decode cX3_keep 58 = .ok (.getfield 25, 3) := dk_180 0 25 (dk_at dksX3_keep_2 12 rfl rfl)
theorem dX3_keep_61 : decode cX3_keep 61 = .ok (.bipush 68, 2) := dk_16 68 (dk_at dksX3_keep_2 15 rfl rfl)
theorem dX3_keep_63 : decode cX3_keep 63 = .ok (.aload_n 0, 1) := dk_42 (dk_at dksX3_keep_2 17 rfl rfl)
theorem dX3_keep_64 : decode cX3_keep 64 = .ok (.getfield 175, 3) := dk_180 0 175 (dk_at dksX3_keep_2 18 rfl rfl)
theorem dX3_keep_67 : decode cX3_keep 67 = .ok (.imul, 1) := dk_104 (dk_at dksX3_keep_2 21 rfl rfl)
theorem dX3_keep_68 : decode cX3_keep 68 = .ok (.iload_n 1, 1) := dk_27 (dk_at dksX3_keep_2 22 rfl rfl)
theorem dX3_keep_69 : decode cX3_keep 69 = .ok (.iadd, 1) := dk_96 (dk_at dksX3_keep_2 23 rfl rfl)
theorem dX3_keep_70 : decode cX3_keep 70 = .ok (.aload_n 0, 1) := dk_42 (dk_at dksX3_keep_3 0 rfl rfl)
theorem dX3_keep_71 : decode cX3_keep 71 = .ok (.getfield 19, 3) := dk_180 0 19 (dk_at dksX3_keep_3 1 rfl rfl)
theorem dX3_keep_74 : decode cX3_keep 74 = .ok (.iload_n 1, 1) := dk_27 (dk_at dksX3_keep_3 4 rfl rfl)
theorem dX3_keep_75 : decode cX3_keep 75 = .ok (.iaload, 1) := dk_46 (dk_at dksX3_keep_3 5 rfl rfl)
theorem dX3_keep_76 : decode cX3_keep 76 = .ok (.iastore, 1) := dk_79 (dk_at dksX3_keep_3 6 rfl rfl)
theorem dX3_keep_77 : decode cX3_keep 77 = .ok (.iinc 1 1, 3) := dk_132 1 1 (dk_at dksX3_keep_3 7 rfl rfl)
theorem dX3_keep_80 : decode cX3_keep 80 = .ok (.goto (-29), 3) := dk_167 255 227 (dk_at dksX3_keep_3 10 rfl rfl)
theorem dX3_keep_83 : decode cX3_keep 83 = .ok (.aload_n 0, 1) := dk_42 (dk_at dksX3_keep_3 13 rfl rfl)
theorem dX3_keep_84 : decode cX3_keep 84 = .ok (.dup, 1) := dk_89 (dk_at dksX3_keep_3 14 rfl rfl)
theorem dX3_keep_85 : decode cX3_keep 85 = .ok (.getfield 175, 3) := dk_180 0 175 (dk_at dksX3_keep_3 15 rfl rfl)
theorem dX3_keep_88 : decode cX3_keep 88 = .ok (.iconst 1, 1) := dk_4 (dk_at dksX3_keep_3 18 rfl rfl)
theorem dX3_keep_89 : decode cX3_keep 89 = .ok (.iadd, 1) := dk_96 (dk_at dksX3_keep_3 19 rfl rfl)
theorem dX3_keep_90 : decode cX3_keep 90 = .ok (.putfield 175, 3) := dk_181 0 175 (dk_at dksX3_keep_3 20 rfl rfl)
theorem dX3_keep_93 : decode cX3_keep 93 = .ok (.return_, 1) := dk_177 (dk_at dksX3_keep_3 23 rfl rfl)
abbrev cX3_agesBy : ByteArray := prog_16_method_35_code
def yX3_agesBy : MethodName := ⟨RX3, "agesBy", "(II)I"⟩
def dkwX3_agesBy_2 : List UInt8 := [29, 158, 0, 9, 29, 4, 100, 167, 0, 4, 3, 172, 3, 172, 42, 28, 5, 182, 0, 178, 172, 29, 172]
abbrev dktX3_agesBy_2 : List UInt8 := dkwX3_agesBy_2 ++ []
def dkwX3_agesBy_1 : List UInt8 := [170, 0, 0, 0, 0, 0, 48, 0, 0, 0, 2, 0, 0, 0, 4, 0, 0, 0, 27, 0, 0, 0, 39, 0, 0, 0, 41]
abbrev dktX3_agesBy_1 : List UInt8 := dkwX3_agesBy_1 ++ dktX3_agesBy_2
def dkwX3_agesBy_0 : List UInt8 := [42, 28, 6, 182, 0, 178, 62, 42, 27, 3, 182, 0, 181]
abbrev dktX3_agesBy_0 : List UInt8 := dkwX3_agesBy_0 ++ dktX3_agesBy_1
theorem dksX3_agesBy_0 : cX3_agesBy.data.toList.drop 0 = dktX3_agesBy_0 := by decide +kernel
theorem dksX3_agesBy_1 : cX3_agesBy.data.toList.drop 13 = dktX3_agesBy_1 := dk_seg dksX3_agesBy_0 13 rfl rfl
theorem dksX3_agesBy_2 : cX3_agesBy.data.toList.drop 40 = dktX3_agesBy_2 := dk_seg dksX3_agesBy_1 27 rfl rfl
theorem dX3_agesBy_0 : decode cX3_agesBy 0 = .ok (.aload_n 0, 1) := dk_42 (dk_at dksX3_agesBy_0 0 rfl rfl)
theorem dX3_agesBy_1 : decode cX3_agesBy 1 = .ok (.iload_n 2, 1) := dk_28 (dk_at dksX3_agesBy_0 1 rfl rfl)
theorem dX3_agesBy_2 : decode cX3_agesBy 2 = .ok (.iconst 3, 1) := dk_6 (dk_at dksX3_agesBy_0 2 rfl rfl)
theorem dX3_agesBy_3 : decode cX3_agesBy 3 = .ok (.invokevirtual 178, 3) := dk_182 0 178 (dk_at dksX3_agesBy_0 3 rfl rfl)
theorem dX3_agesBy_6 : decode cX3_agesBy 6 = .ok (.istore_n 3, 1) := dk_62 (dk_at dksX3_agesBy_0 6 rfl rfl)
theorem dX3_agesBy_7 : decode cX3_agesBy 7 = .ok (.aload_n 0, 1) := dk_42 (dk_at dksX3_agesBy_0 7 rfl rfl)
theorem dX3_agesBy_8 : decode cX3_agesBy 8 = .ok (.iload_n 1, 1) := dk_27 (dk_at dksX3_agesBy_0 8 rfl rfl)
theorem dX3_agesBy_9 : decode cX3_agesBy 9 = .ok (.iconst 0, 1) := dk_3 (dk_at dksX3_agesBy_0 9 rfl rfl)
theorem dX3_agesBy_10 : decode cX3_agesBy 10 = .ok (.invokevirtual 181, 3) := dk_182 0 181 (dk_at dksX3_agesBy_0 10 rfl rfl)
theorem dX3_agesBy_13 : decode cX3_agesBy 13 = .ok (.tableswitch 48 2 4 #[27, 39, 41], 27) := by decide +kernel
theorem dX3_agesBy_40 : decode cX3_agesBy 40 = .ok (.iload_n 3, 1) := dk_29 (dk_at dksX3_agesBy_2 0 rfl rfl)
theorem dX3_agesBy_41 : decode cX3_agesBy 41 = .ok (.ifCond .le 9, 3) := dk_158 0 9 (dk_at dksX3_agesBy_2 1 rfl rfl)
theorem dX3_agesBy_44 : decode cX3_agesBy 44 = .ok (.iload_n 3, 1) := dk_29 (dk_at dksX3_agesBy_2 4 rfl rfl)
theorem dX3_agesBy_45 : decode cX3_agesBy 45 = .ok (.iconst 1, 1) := dk_4 (dk_at dksX3_agesBy_2 5 rfl rfl)
theorem dX3_agesBy_46 : decode cX3_agesBy 46 = .ok (.isub, 1) := dk_100 (dk_at dksX3_agesBy_2 6 rfl rfl)
theorem dX3_agesBy_47 : decode cX3_agesBy 47 = .ok (.goto 4, 3) := dk_167 0 4 (dk_at dksX3_agesBy_2 7 rfl rfl)
theorem dX3_agesBy_50 : decode cX3_agesBy 50 = .ok (.iconst 0, 1) := dk_3 (dk_at dksX3_agesBy_2 10 rfl rfl)
theorem dX3_agesBy_51 : decode cX3_agesBy 51 = .ok (.ireturn, 1) := dk_172 (dk_at dksX3_agesBy_2 11 rfl rfl)
theorem dX3_agesBy_52 : decode cX3_agesBy 52 = .ok (.iconst 0, 1) := dk_3 (dk_at dksX3_agesBy_2 12 rfl rfl)
theorem dX3_agesBy_53 : decode cX3_agesBy 53 = .ok (.ireturn, 1) := dk_172 (dk_at dksX3_agesBy_2 13 rfl rfl)
theorem dX3_agesBy_54 : decode cX3_agesBy 54 = .ok (.aload_n 0, 1) := dk_42 (dk_at dksX3_agesBy_2 14 rfl rfl)
theorem dX3_agesBy_55 : decode cX3_agesBy 55 = .ok (.iload_n 2, 1) := dk_28 (dk_at dksX3_agesBy_2 15 rfl rfl)
theorem dX3_agesBy_56 : decode cX3_agesBy 56 = .ok (.iconst 2, 1) := dk_5 (dk_at dksX3_agesBy_2 16 rfl rfl)
theorem dX3_agesBy_57 : decode cX3_agesBy 57 = .ok (.invokevirtual 178, 3) := dk_182 0 178 (dk_at dksX3_agesBy_2 17 rfl rfl)
theorem dX3_agesBy_60 : decode cX3_agesBy 60 = .ok (.ireturn, 1) := dk_172 (dk_at dksX3_agesBy_2 20 rfl rfl)
theorem dX3_agesBy_61 : decode cX3_agesBy 61 = .ok (.iload_n 3, 1) := dk_29 (dk_at dksX3_agesBy_2 21 rfl rfl)
theorem dX3_agesBy_62 : decode cX3_agesBy 62 = .ok (.ireturn, 1) := dk_172 (dk_at dksX3_agesBy_2 22 rfl rfl)
abbrev cX3_ages : ByteArray := prog_16_method_37_code
def yX3_ages : MethodName := ⟨RX3, "ages", "(III)V"⟩
def dkwX3_ages_1 : List UInt8 := [16, 8, 27, 104, 96, 7, 96, 92, 46, 29, 96, 79, 177]
abbrev dktX3_ages_1 : List UInt8 := dkwX3_ages_1 ++ []
def dkwX3_ages_0 : List UInt8 := [42, 180, 0, 19, 16, 36, 16, 8, 27, 104, 96, 6, 96, 92, 46, 28, 96, 79, 42, 180, 0, 19, 16, 36]
abbrev dktX3_ages_0 : List UInt8 := dkwX3_ages_0 ++ dktX3_ages_1
theorem dksX3_ages_0 : cX3_ages.data.toList.drop 0 = dktX3_ages_0 := by decide +kernel
theorem dksX3_ages_1 : cX3_ages.data.toList.drop 24 = dktX3_ages_1 := dk_seg dksX3_ages_0 24 rfl rfl
theorem dX3_ages_0 : decode cX3_ages 0 = .ok (.aload_n 0, 1) := dk_42 (dk_at dksX3_ages_0 0 rfl rfl)
theorem dX3_ages_1 : decode cX3_ages 1 = .ok (.getfield 19, 3) := dk_180 0 19 (dk_at dksX3_ages_0 1 rfl rfl)
theorem dX3_ages_4 : decode cX3_ages 4 = .ok (.bipush 36, 2) := dk_16 36 (dk_at dksX3_ages_0 4 rfl rfl)
theorem dX3_ages_6 : decode cX3_ages 6 = .ok (.bipush 8, 2) := dk_16 8 (dk_at dksX3_ages_0 6 rfl rfl)
theorem dX3_ages_8 : decode cX3_ages 8 = .ok (.iload_n 1, 1) := dk_27 (dk_at dksX3_ages_0 8 rfl rfl)
theorem dX3_ages_9 : decode cX3_ages 9 = .ok (.imul, 1) := dk_104 (dk_at dksX3_ages_0 9 rfl rfl)
theorem dX3_ages_10 : decode cX3_ages 10 = .ok (.iadd, 1) := dk_96 (dk_at dksX3_ages_0 10 rfl rfl)
theorem dX3_ages_11 : decode cX3_ages 11 = .ok (.iconst 3, 1) := dk_6 (dk_at dksX3_ages_0 11 rfl rfl)
theorem dX3_ages_12 : decode cX3_ages 12 = .ok (.iadd, 1) := dk_96 (dk_at dksX3_ages_0 12 rfl rfl)
theorem dX3_ages_13 : decode cX3_ages 13 = .ok (.dup2, 1) := dk_92 (dk_at dksX3_ages_0 13 rfl rfl)
theorem dX3_ages_14 : decode cX3_ages 14 = .ok (.iaload, 1) := dk_46 (dk_at dksX3_ages_0 14 rfl rfl)
theorem dX3_ages_15 : decode cX3_ages 15 = .ok (.iload_n 2, 1) := dk_28 (dk_at dksX3_ages_0 15 rfl rfl)
theorem dX3_ages_16 : decode cX3_ages 16 = .ok (.iadd, 1) := dk_96 (dk_at dksX3_ages_0 16 rfl rfl)
theorem dX3_ages_17 : decode cX3_ages 17 = .ok (.iastore, 1) := dk_79 (dk_at dksX3_ages_0 17 rfl rfl)
theorem dX3_ages_18 : decode cX3_ages 18 = .ok (.aload_n 0, 1) := dk_42 (dk_at dksX3_ages_0 18 rfl rfl)
theorem dX3_ages_19 : decode cX3_ages 19 = .ok (.getfield 19, 3) := dk_180 0 19 (dk_at dksX3_ages_0 19 rfl rfl)
theorem dX3_ages_22 : decode cX3_ages 22 = .ok (.bipush 36, 2) := dk_16 36 (dk_at dksX3_ages_0 22 rfl rfl)
theorem dX3_ages_24 : decode cX3_ages 24 = .ok (.bipush 8, 2) := dk_16 8 (dk_at dksX3_ages_1 0 rfl rfl)
theorem dX3_ages_26 : decode cX3_ages 26 = .ok (.iload_n 1, 1) := dk_27 (dk_at dksX3_ages_1 2 rfl rfl)
theorem dX3_ages_27 : decode cX3_ages 27 = .ok (.imul, 1) := dk_104 (dk_at dksX3_ages_1 3 rfl rfl)
theorem dX3_ages_28 : decode cX3_ages 28 = .ok (.iadd, 1) := dk_96 (dk_at dksX3_ages_1 4 rfl rfl)
theorem dX3_ages_29 : decode cX3_ages 29 = .ok (.iconst 4, 1) := dk_7 (dk_at dksX3_ages_1 5 rfl rfl)
theorem dX3_ages_30 : decode cX3_ages 30 = .ok (.iadd, 1) := dk_96 (dk_at dksX3_ages_1 6 rfl rfl)
theorem dX3_ages_31 : decode cX3_ages 31 = .ok (.dup2, 1) := dk_92 (dk_at dksX3_ages_1 7 rfl rfl)
theorem dX3_ages_32 : decode cX3_ages 32 = .ok (.iaload, 1) := dk_46 (dk_at dksX3_ages_1 8 rfl rfl)
theorem dX3_ages_33 : decode cX3_ages 33 = .ok (.iload_n 3, 1) := dk_29 (dk_at dksX3_ages_1 9 rfl rfl)
theorem dX3_ages_34 : decode cX3_ages 34 = .ok (.iadd, 1) := dk_96 (dk_at dksX3_ages_1 10 rfl rfl)
theorem dX3_ages_35 : decode cX3_ages 35 = .ok (.iastore, 1) := dk_79 (dk_at dksX3_ages_1 11 rfl rfl)
theorem dX3_ages_36 : decode cX3_ages 36 = .ok (.return_, 1) := dk_177 (dk_at dksX3_ages_1 12 rfl rfl)
abbrev cX3_sails : ByteArray := prog_16_method_40_code
def yX3_sails : MethodName := ⟨RX3, "sails", "(IIII)I"⟩
def dkwX3_sails_7 : List UInt8 := [172]
abbrev dktX3_sails_7 : List UInt8 := dkwX3_sails_7 ++ []
def dkwX3_sails_6 : List UInt8 := [16, 40, 28, 104, 29, 96, 21, 5, 96, 46, 182, 0, 205, 155, 0, 9, 132, 5, 1, 167, 255, 224, 21, 5]
abbrev dktX3_sails_6 : List UInt8 := dkwX3_sails_6 ++ dktX3_sails_7
def dkwX3_sails_5 : List UInt8 := [167, 255, 222, 42, 3, 181, 0, 52, 3, 54, 5, 21, 5, 21, 4, 162, 0, 31, 42, 27, 42, 180, 0, 16]
abbrev dktX3_sails_5 : List UInt8 := dkwX3_sails_5 ++ dktX3_sails_6
def dkwX3_sails_4 : List UInt8 := [16, 40, 28, 104, 29, 96, 21, 5, 96, 46, 182, 0, 202, 154, 0, 6, 18, 68, 172, 132, 5, 1]
abbrev dktX3_sails_4 : List UInt8 := dkwX3_sails_4 ++ dktX3_sails_5
def dkwX3_sails_3 : List UInt8 := [158, 0, 9, 42, 5, 182, 0, 69, 172, 3, 54, 5, 21, 5, 21, 4, 162, 0, 33, 42, 42, 180, 0, 16]
abbrev dktX3_sails_3 : List UInt8 := dkwX3_sails_3 ++ dktX3_sails_4
def dkwX3_sails_2 : List UInt8 := [182, 0, 69, 172, 29, 155, 0, 20, 29, 133, 21, 4, 133, 97, 42, 180, 0, 13, 28, 46, 133, 148]
abbrev dktX3_sails_2 : List UInt8 := dkwX3_sails_2 ++ dktX3_sails_3
def dkwX3_sails_1 : List UInt8 := [20, 0, 208, 184, 0, 58, 154, 0, 6, 18, 68, 172, 42, 180, 0, 7, 28, 46, 156, 0, 9, 42, 4]
abbrev dktX3_sails_1 : List UInt8 := dkwX3_sails_1 ++ dktX3_sails_2
def dkwX3_sails_0 : List UInt8 := [42, 3, 181, 0, 48, 42, 27, 182, 0, 199, 153, 0, 23, 28, 184, 0, 62, 153, 0, 16, 21, 4, 133, 10]
abbrev dktX3_sails_0 : List UInt8 := dkwX3_sails_0 ++ dktX3_sails_1
theorem dksX3_sails_0 : cX3_sails.data.toList.drop 0 = dktX3_sails_0 := by decide +kernel
theorem dksX3_sails_1 : cX3_sails.data.toList.drop 24 = dktX3_sails_1 := dk_seg dksX3_sails_0 24 rfl rfl
theorem dksX3_sails_2 : cX3_sails.data.toList.drop 47 = dktX3_sails_2 := dk_seg dksX3_sails_1 23 rfl rfl
theorem dksX3_sails_3 : cX3_sails.data.toList.drop 69 = dktX3_sails_3 := dk_seg dksX3_sails_2 22 rfl rfl
theorem dksX3_sails_4 : cX3_sails.data.toList.drop 93 = dktX3_sails_4 := dk_seg dksX3_sails_3 24 rfl rfl
theorem dksX3_sails_5 : cX3_sails.data.toList.drop 115 = dktX3_sails_5 := dk_seg dksX3_sails_4 22 rfl rfl
theorem dksX3_sails_6 : cX3_sails.data.toList.drop 139 = dktX3_sails_6 := dk_seg dksX3_sails_5 24 rfl rfl
theorem dksX3_sails_7 : cX3_sails.data.toList.drop 163 = dktX3_sails_7 := dk_seg dksX3_sails_6 24 rfl rfl
theorem dX3_sails_0 : decode cX3_sails 0 = .ok (.aload_n 0, 1) := dk_42 (dk_at dksX3_sails_0 0 rfl rfl)
theorem dX3_sails_1 : decode cX3_sails 1 = .ok (.iconst 0, 1) := dk_3 (dk_at dksX3_sails_0 1 rfl rfl)
theorem dX3_sails_2 : decode cX3_sails 2 = .ok (.putfield 48, 3) := dk_181 0 48 (dk_at dksX3_sails_0 2 rfl rfl)
theorem dX3_sails_5 : decode cX3_sails 5 = .ok (.aload_n 0, 1) := dk_42 (dk_at dksX3_sails_0 5 rfl rfl)
theorem dX3_sails_6 : decode cX3_sails 6 = .ok (.iload_n 1, 1) := dk_27 (dk_at dksX3_sails_0 6 rfl rfl)
theorem dX3_sails_7 : decode cX3_sails 7 = .ok (.invokevirtual 199, 3) := dk_182 0 199 (dk_at dksX3_sails_0 7 rfl rfl)
theorem dX3_sails_10 : decode cX3_sails 10 = .ok (.ifCond .eq 23, 3) := dk_153 0 23 (dk_at dksX3_sails_0 10 rfl rfl)
theorem dX3_sails_13 : decode cX3_sails 13 = .ok (.iload_n 2, 1) := dk_28 (dk_at dksX3_sails_0 13 rfl rfl)
theorem dX3_sails_14 : decode cX3_sails 14 = .ok (.invokestatic 62, 3) := dk_184 0 62 (dk_at dksX3_sails_0 14 rfl rfl)
theorem dX3_sails_17 : decode cX3_sails 17 = .ok (.ifCond .eq 16, 3) := dk_153 0 16 (dk_at dksX3_sails_0 17 rfl rfl)
theorem dX3_sails_20 : decode cX3_sails 20 = .ok (.iload 4, 2) := dk_21 4 (dk_at dksX3_sails_0 20 rfl rfl)
theorem dX3_sails_22 : decode cX3_sails 22 = .ok (.i2l, 1) := dk_133 (dk_at dksX3_sails_0 22 rfl rfl)
theorem dX3_sails_23 : decode cX3_sails 23 = .ok (.lconst 1, 1) := dk_10 (dk_at dksX3_sails_0 23 rfl rfl)
theorem dX3_sails_24 : decode cX3_sails 24 = .ok (.ldc2_w 208, 3) := dk_20 0 208 (dk_at dksX3_sails_1 0 rfl rfl)
theorem dX3_sails_27 : decode cX3_sails 27 = .ok (.invokestatic 58, 3) := dk_184 0 58 (dk_at dksX3_sails_1 3 rfl rfl)
theorem dX3_sails_30 : decode cX3_sails 30 = .ok (.ifCond .ne 6, 3) := dk_154 0 6 (dk_at dksX3_sails_1 6 rfl rfl)
theorem dX3_sails_33 : decode cX3_sails 33 = .ok (.ldc 68, 2) := dk_18 68 (dk_at dksX3_sails_1 9 rfl rfl)
theorem dX3_sails_35 : decode cX3_sails 35 = .ok (.ireturn, 1) := dk_172 (dk_at dksX3_sails_1 11 rfl rfl)
theorem dX3_sails_36 : decode cX3_sails 36 = .ok (.aload_n 0, 1) := dk_42 (dk_at dksX3_sails_1 12 rfl rfl)
theorem dX3_sails_37 : decode cX3_sails 37 = .ok (.getfield 7, 3) := dk_180 0 7 (dk_at dksX3_sails_1 13 rfl rfl)
theorem dX3_sails_40 : decode cX3_sails 40 = .ok (.iload_n 2, 1) := dk_28 (dk_at dksX3_sails_1 16 rfl rfl)
theorem dX3_sails_41 : decode cX3_sails 41 = .ok (.iaload, 1) := dk_46 (dk_at dksX3_sails_1 17 rfl rfl)
theorem dX3_sails_42 : decode cX3_sails 42 = .ok (.ifCond .ge 9, 3) := dk_156 0 9 (dk_at dksX3_sails_1 18 rfl rfl)
theorem dX3_sails_45 : decode cX3_sails 45 = .ok (.aload_n 0, 1) := dk_42 (dk_at dksX3_sails_1 21 rfl rfl)
theorem dX3_sails_46 : decode cX3_sails 46 = .ok (.iconst 1, 1) := dk_4 (dk_at dksX3_sails_1 22 rfl rfl)
theorem dX3_sails_47 : decode cX3_sails 47 = .ok (.invokevirtual 69, 3) := dk_182 0 69 (dk_at dksX3_sails_2 0 rfl rfl)
theorem dX3_sails_50 : decode cX3_sails 50 = .ok (.ireturn, 1) := dk_172 (dk_at dksX3_sails_2 3 rfl rfl)
theorem dX3_sails_51 : decode cX3_sails 51 = .ok (.iload_n 3, 1) := dk_29 (dk_at dksX3_sails_2 4 rfl rfl)
theorem dX3_sails_52 : decode cX3_sails 52 = .ok (.ifCond .lt 20, 3) := dk_155 0 20 (dk_at dksX3_sails_2 5 rfl rfl)
theorem dX3_sails_55 : decode cX3_sails 55 = .ok (.iload_n 3, 1) := dk_29 (dk_at dksX3_sails_2 8 rfl rfl)
theorem dX3_sails_56 : decode cX3_sails 56 = .ok (.i2l, 1) := dk_133 (dk_at dksX3_sails_2 9 rfl rfl)
theorem dX3_sails_57 : decode cX3_sails 57 = .ok (.iload 4, 2) := dk_21 4 (dk_at dksX3_sails_2 10 rfl rfl)
theorem dX3_sails_59 : decode cX3_sails 59 = .ok (.i2l, 1) := dk_133 (dk_at dksX3_sails_2 12 rfl rfl)
theorem dX3_sails_60 : decode cX3_sails 60 = .ok (.ladd, 1) := dk_97 (dk_at dksX3_sails_2 13 rfl rfl)
theorem dX3_sails_61 : decode cX3_sails 61 = .ok (.aload_n 0, 1) := dk_42 (dk_at dksX3_sails_2 14 rfl rfl)
theorem dX3_sails_62 : decode cX3_sails 62 = .ok (.getfield 13, 3) := dk_180 0 13 (dk_at dksX3_sails_2 15 rfl rfl)
theorem dX3_sails_65 : decode cX3_sails 65 = .ok (.iload_n 2, 1) := dk_28 (dk_at dksX3_sails_2 18 rfl rfl)
theorem dX3_sails_66 : decode cX3_sails 66 = .ok (.iaload, 1) := dk_46 (dk_at dksX3_sails_2 19 rfl rfl)
theorem dX3_sails_67 : decode cX3_sails 67 = .ok (.i2l, 1) := dk_133 (dk_at dksX3_sails_2 20 rfl rfl)
theorem dX3_sails_68 : decode cX3_sails 68 = .ok (.lcmp, 1) := dk_148 (dk_at dksX3_sails_2 21 rfl rfl)
theorem dX3_sails_69 : decode cX3_sails 69 = .ok (.ifCond .le 9, 3) := dk_158 0 9 (dk_at dksX3_sails_3 0 rfl rfl)
theorem dX3_sails_72 : decode cX3_sails 72 = .ok (.aload_n 0, 1) := dk_42 (dk_at dksX3_sails_3 3 rfl rfl)
theorem dX3_sails_73 : decode cX3_sails 73 = .ok (.iconst 2, 1) := dk_5 (dk_at dksX3_sails_3 4 rfl rfl)
theorem dX3_sails_74 : decode cX3_sails 74 = .ok (.invokevirtual 69, 3) := dk_182 0 69 (dk_at dksX3_sails_3 5 rfl rfl)
theorem dX3_sails_77 : decode cX3_sails 77 = .ok (.ireturn, 1) := dk_172 (dk_at dksX3_sails_3 8 rfl rfl)
theorem dX3_sails_78 : decode cX3_sails 78 = .ok (.iconst 0, 1) := dk_3 (dk_at dksX3_sails_3 9 rfl rfl)
theorem dX3_sails_79 : decode cX3_sails 79 = .ok (.istore 5, 2) := dk_54 5 (dk_at dksX3_sails_3 10 rfl rfl)
theorem dX3_sails_81 : decode cX3_sails 81 = .ok (.iload 5, 2) := dk_21 5 (dk_at dksX3_sails_3 12 rfl rfl)
theorem dX3_sails_83 : decode cX3_sails 83 = .ok (.iload 4, 2) := dk_21 4 (dk_at dksX3_sails_3 14 rfl rfl)
theorem dX3_sails_85 : decode cX3_sails 85 = .ok (.if_icmp .ge 33, 3) := dk_162 0 33 (dk_at dksX3_sails_3 16 rfl rfl)
theorem dX3_sails_88 : decode cX3_sails 88 = .ok (.aload_n 0, 1) := dk_42 (dk_at dksX3_sails_3 19 rfl rfl)
theorem dX3_sails_89 : decode cX3_sails 89 = .ok (.aload_n 0, 1) := dk_42 (dk_at dksX3_sails_3 20 rfl rfl)
theorem dX3_sails_90 : decode cX3_sails 90 = .ok (.getfield 16, 3) := dk_180 0 16 (dk_at dksX3_sails_3 21 rfl rfl)
theorem dX3_sails_93 : decode cX3_sails 93 = .ok (.bipush 40, 2) := dk_16 40 (dk_at dksX3_sails_4 0 rfl rfl)
theorem dX3_sails_95 : decode cX3_sails 95 = .ok (.iload_n 2, 1) := dk_28 (dk_at dksX3_sails_4 2 rfl rfl)
theorem dX3_sails_96 : decode cX3_sails 96 = .ok (.imul, 1) := dk_104 (dk_at dksX3_sails_4 3 rfl rfl)
theorem dX3_sails_97 : decode cX3_sails 97 = .ok (.iload_n 3, 1) := dk_29 (dk_at dksX3_sails_4 4 rfl rfl)
theorem dX3_sails_98 : decode cX3_sails 98 = .ok (.iadd, 1) := dk_96 (dk_at dksX3_sails_4 5 rfl rfl)
theorem dX3_sails_99 : decode cX3_sails 99 = .ok (.iload 5, 2) := dk_21 5 (dk_at dksX3_sails_4 6 rfl rfl)
theorem dX3_sails_101 : decode cX3_sails 101 = .ok (.iadd, 1) := dk_96 (dk_at dksX3_sails_4 8 rfl rfl)
theorem dX3_sails_102 : decode cX3_sails 102 = .ok (.iaload, 1) := dk_46 (dk_at dksX3_sails_4 9 rfl rfl)
theorem dX3_sails_103 : decode cX3_sails 103 = .ok (.invokevirtual 202, 3) := dk_182 0 202 (dk_at dksX3_sails_4 10 rfl rfl)
theorem dX3_sails_106 : decode cX3_sails 106 = .ok (.ifCond .ne 6, 3) := dk_154 0 6 (dk_at dksX3_sails_4 13 rfl rfl)
theorem dX3_sails_109 : decode cX3_sails 109 = .ok (.ldc 68, 2) := dk_18 68 (dk_at dksX3_sails_4 16 rfl rfl)
theorem dX3_sails_111 : decode cX3_sails 111 = .ok (.ireturn, 1) := dk_172 (dk_at dksX3_sails_4 18 rfl rfl)
theorem dX3_sails_112 : decode cX3_sails 112 = .ok (.iinc 5 1, 3) := dk_132 5 1 (dk_at dksX3_sails_4 19 rfl rfl)
theorem dX3_sails_115 : decode cX3_sails 115 = .ok (.goto (-34), 3) := dk_167 255 222 (dk_at dksX3_sails_5 0 rfl rfl)
theorem dX3_sails_118 : decode cX3_sails 118 = .ok (.aload_n 0, 1) := dk_42 (dk_at dksX3_sails_5 3 rfl rfl)
theorem dX3_sails_119 : decode cX3_sails 119 = .ok (.iconst 0, 1) := dk_3 (dk_at dksX3_sails_5 4 rfl rfl)
theorem dX3_sails_120 : decode cX3_sails 120 = .ok (.putfield 52, 3) := dk_181 0 52 (dk_at dksX3_sails_5 5 rfl rfl)
theorem dX3_sails_123 : decode cX3_sails 123 = .ok (.iconst 0, 1) := dk_3 (dk_at dksX3_sails_5 8 rfl rfl)
theorem dX3_sails_124 : decode cX3_sails 124 = .ok (.istore 5, 2) := dk_54 5 (dk_at dksX3_sails_5 9 rfl rfl)
theorem dX3_sails_126 : decode cX3_sails 126 = .ok (.iload 5, 2) := dk_21 5 (dk_at dksX3_sails_5 11 rfl rfl)
theorem dX3_sails_128 : decode cX3_sails 128 = .ok (.iload 4, 2) := dk_21 4 (dk_at dksX3_sails_5 13 rfl rfl)
theorem dX3_sails_130 : decode cX3_sails 130 = .ok (.if_icmp .ge 31, 3) := dk_162 0 31 (dk_at dksX3_sails_5 15 rfl rfl)
theorem dX3_sails_133 : decode cX3_sails 133 = .ok (.aload_n 0, 1) := dk_42 (dk_at dksX3_sails_5 18 rfl rfl)
theorem dX3_sails_134 : decode cX3_sails 134 = .ok (.iload_n 1, 1) := dk_27 (dk_at dksX3_sails_5 19 rfl rfl)
theorem dX3_sails_135 : decode cX3_sails 135 = .ok (.aload_n 0, 1) := dk_42 (dk_at dksX3_sails_5 20 rfl rfl)
theorem dX3_sails_136 : decode cX3_sails 136 = .ok (.getfield 16, 3) := dk_180 0 16 (dk_at dksX3_sails_5 21 rfl rfl)
theorem dX3_sails_139 : decode cX3_sails 139 = .ok (.bipush 40, 2) := dk_16 40 (dk_at dksX3_sails_6 0 rfl rfl)
theorem dX3_sails_141 : decode cX3_sails 141 = .ok (.iload_n 2, 1) := dk_28 (dk_at dksX3_sails_6 2 rfl rfl)
theorem dX3_sails_142 : decode cX3_sails 142 = .ok (.imul, 1) := dk_104 (dk_at dksX3_sails_6 3 rfl rfl)
theorem dX3_sails_143 : decode cX3_sails 143 = .ok (.iload_n 3, 1) := dk_29 (dk_at dksX3_sails_6 4 rfl rfl)
theorem dX3_sails_144 : decode cX3_sails 144 = .ok (.iadd, 1) := dk_96 (dk_at dksX3_sails_6 5 rfl rfl)
theorem dX3_sails_145 : decode cX3_sails 145 = .ok (.iload 5, 2) := dk_21 5 (dk_at dksX3_sails_6 6 rfl rfl)
theorem dX3_sails_147 : decode cX3_sails 147 = .ok (.iadd, 1) := dk_96 (dk_at dksX3_sails_6 8 rfl rfl)
theorem dX3_sails_148 : decode cX3_sails 148 = .ok (.iaload, 1) := dk_46 (dk_at dksX3_sails_6 9 rfl rfl)
theorem dX3_sails_149 : decode cX3_sails 149 = .ok (.invokevirtual 205, 3) := dk_182 0 205 (dk_at dksX3_sails_6 10 rfl rfl)
theorem dX3_sails_152 : decode cX3_sails 152 = .ok (.ifCond .lt 9, 3) := dk_155 0 9 (dk_at dksX3_sails_6 13 rfl rfl)
theorem dX3_sails_155 : decode cX3_sails 155 = .ok (.iinc 5 1, 3) := dk_132 5 1 (dk_at dksX3_sails_6 16 rfl rfl)
theorem dX3_sails_158 : decode cX3_sails 158 = .ok (.goto (-32), 3) := dk_167 255 224 (dk_at dksX3_sails_6 19 rfl rfl)
theorem dX3_sails_161 : decode cX3_sails 161 = .ok (.iload 5, 2) := dk_21 5 (dk_at dksX3_sails_6 22 rfl rfl)
theorem dX3_sails_163 : decode cX3_sails 163 = .ok (.ireturn, 1) := dk_172 (dk_at dksX3_sails_7 0 rfl rfl)
abbrev cX3_stay : ByteArray := prog_16_method_41_code
def yX3_stay : MethodName := ⟨RX3, "stay", "(II)I"⟩
def dkwX3_stay_2 : List UInt8 := [182, 0, 189, 42, 27, 28, 28, 182, 0, 195, 42, 27, 7, 182, 0, 181, 172]
abbrev dktX3_stay_2 : List UInt8 := dkwX3_stay_2 ++ []
def dkwX3_stay_1 : List UInt8 := [154, 0, 6, 18, 68, 172, 42, 27, 6, 182, 0, 181, 28, 96, 17, 0, 200, 164, 0, 6, 18, 78, 172, 42]
abbrev dktX3_stay_1 : List UInt8 := dkwX3_stay_1 ++ dktX3_stay_2
def dkwX3_stay_0 : List UInt8 := [42, 3, 181, 0, 48, 42, 27, 182, 0, 199, 153, 0, 15, 28, 133, 10, 20, 0, 210, 184, 0, 58]
abbrev dktX3_stay_0 : List UInt8 := dkwX3_stay_0 ++ dktX3_stay_1
theorem dksX3_stay_0 : cX3_stay.data.toList.drop 0 = dktX3_stay_0 := by decide +kernel
theorem dksX3_stay_1 : cX3_stay.data.toList.drop 22 = dktX3_stay_1 := dk_seg dksX3_stay_0 22 rfl rfl
theorem dksX3_stay_2 : cX3_stay.data.toList.drop 46 = dktX3_stay_2 := dk_seg dksX3_stay_1 24 rfl rfl
theorem dX3_stay_0 : decode cX3_stay 0 = .ok (.aload_n 0, 1) := dk_42 (dk_at dksX3_stay_0 0 rfl rfl)
theorem dX3_stay_1 : decode cX3_stay 1 = .ok (.iconst 0, 1) := dk_3 (dk_at dksX3_stay_0 1 rfl rfl)
theorem dX3_stay_2 : decode cX3_stay 2 = .ok (.putfield 48, 3) := dk_181 0 48 (dk_at dksX3_stay_0 2 rfl rfl)
theorem dX3_stay_5 : decode cX3_stay 5 = .ok (.aload_n 0, 1) := dk_42 (dk_at dksX3_stay_0 5 rfl rfl)
theorem dX3_stay_6 : decode cX3_stay 6 = .ok (.iload_n 1, 1) := dk_27 (dk_at dksX3_stay_0 6 rfl rfl)
theorem dX3_stay_7 : decode cX3_stay 7 = .ok (.invokevirtual 199, 3) := dk_182 0 199 (dk_at dksX3_stay_0 7 rfl rfl)
theorem dX3_stay_10 : decode cX3_stay 10 = .ok (.ifCond .eq 15, 3) := dk_153 0 15 (dk_at dksX3_stay_0 10 rfl rfl)
theorem dX3_stay_13 : decode cX3_stay 13 = .ok (.iload_n 2, 1) := dk_28 (dk_at dksX3_stay_0 13 rfl rfl)
theorem dX3_stay_14 : decode cX3_stay 14 = .ok (.i2l, 1) := dk_133 (dk_at dksX3_stay_0 14 rfl rfl)
theorem dX3_stay_15 : decode cX3_stay 15 = .ok (.lconst 1, 1) := dk_10 (dk_at dksX3_stay_0 15 rfl rfl)
theorem dX3_stay_16 : decode cX3_stay 16 = .ok (.ldc2_w 210, 3) := dk_20 0 210 (dk_at dksX3_stay_0 16 rfl rfl)
theorem dX3_stay_19 : decode cX3_stay 19 = .ok (.invokestatic 58, 3) := dk_184 0 58 (dk_at dksX3_stay_0 19 rfl rfl)
theorem dX3_stay_22 : decode cX3_stay 22 = .ok (.ifCond .ne 6, 3) := dk_154 0 6 (dk_at dksX3_stay_1 0 rfl rfl)
theorem dX3_stay_25 : decode cX3_stay 25 = .ok (.ldc 68, 2) := dk_18 68 (dk_at dksX3_stay_1 3 rfl rfl)
theorem dX3_stay_27 : decode cX3_stay 27 = .ok (.ireturn, 1) := dk_172 (dk_at dksX3_stay_1 5 rfl rfl)
theorem dX3_stay_28 : decode cX3_stay 28 = .ok (.aload_n 0, 1) := dk_42 (dk_at dksX3_stay_1 6 rfl rfl)
theorem dX3_stay_29 : decode cX3_stay 29 = .ok (.iload_n 1, 1) := dk_27 (dk_at dksX3_stay_1 7 rfl rfl)
theorem dX3_stay_30 : decode cX3_stay 30 = .ok (.iconst 3, 1) := dk_6 (dk_at dksX3_stay_1 8 rfl rfl)
theorem dX3_stay_31 : decode cX3_stay 31 = .ok (.invokevirtual 181, 3) := dk_182 0 181 (dk_at dksX3_stay_1 9 rfl rfl)
theorem dX3_stay_34 : decode cX3_stay 34 = .ok (.iload_n 2, 1) := dk_28 (dk_at dksX3_stay_1 12 rfl rfl)
theorem dX3_stay_35 : decode cX3_stay 35 = .ok (.iadd, 1) := dk_96 (dk_at dksX3_stay_1 13 rfl rfl)
theorem dX3_stay_36 : decode cX3_stay 36 = .ok (.sipush 200, 3) := dk_17 0 200 (dk_at dksX3_stay_1 14 rfl rfl)
theorem dX3_stay_39 : decode cX3_stay 39 = .ok (.if_icmp .le 6, 3) := dk_164 0 6 (dk_at dksX3_stay_1 17 rfl rfl)
theorem dX3_stay_42 : decode cX3_stay 42 = .ok (.ldc 78, 2) := dk_18 78 (dk_at dksX3_stay_1 20 rfl rfl)
theorem dX3_stay_44 : decode cX3_stay 44 = .ok (.ireturn, 1) := dk_172 (dk_at dksX3_stay_1 22 rfl rfl)
theorem dX3_stay_45 : decode cX3_stay 45 = .ok (.aload_n 0, 1) := dk_42 (dk_at dksX3_stay_1 23 rfl rfl)
theorem dX3_stay_46 : decode cX3_stay 46 = .ok (.invokevirtual 189, 3) := dk_182 0 189 (dk_at dksX3_stay_2 0 rfl rfl)
theorem dX3_stay_49 : decode cX3_stay 49 = .ok (.aload_n 0, 1) := dk_42 (dk_at dksX3_stay_2 3 rfl rfl)
theorem dX3_stay_50 : decode cX3_stay 50 = .ok (.iload_n 1, 1) := dk_27 (dk_at dksX3_stay_2 4 rfl rfl)
theorem dX3_stay_51 : decode cX3_stay 51 = .ok (.iload_n 2, 1) := dk_28 (dk_at dksX3_stay_2 5 rfl rfl)
theorem dX3_stay_52 : decode cX3_stay 52 = .ok (.iload_n 2, 1) := dk_28 (dk_at dksX3_stay_2 6 rfl rfl)
theorem dX3_stay_53 : decode cX3_stay 53 = .ok (.invokevirtual 195, 3) := dk_182 0 195 (dk_at dksX3_stay_2 7 rfl rfl)
theorem dX3_stay_56 : decode cX3_stay 56 = .ok (.aload_n 0, 1) := dk_42 (dk_at dksX3_stay_2 10 rfl rfl)
theorem dX3_stay_57 : decode cX3_stay 57 = .ok (.iload_n 1, 1) := dk_27 (dk_at dksX3_stay_2 11 rfl rfl)
theorem dX3_stay_58 : decode cX3_stay 58 = .ok (.iconst 4, 1) := dk_7 (dk_at dksX3_stay_2 12 rfl rfl)
theorem dX3_stay_59 : decode cX3_stay 59 = .ok (.invokevirtual 181, 3) := dk_182 0 181 (dk_at dksX3_stay_2 13 rfl rfl)
theorem dX3_stay_62 : decode cX3_stay 62 = .ok (.ireturn, 1) := dk_172 (dk_at dksX3_stay_2 16 rfl rfl)
abbrev cX3_meet : ByteArray := prog_16_method_42_code
def yX3_meet : MethodName := ⟨RX3, "meet", "(II)I"⟩
def dkwX3_meet_4 : List UInt8 := [182, 0, 195, 42, 27, 7, 182, 0, 181, 42, 28, 7, 182, 0, 181, 100, 172]
abbrev dktX3_meet_4 : List UInt8 := dkwX3_meet_4 ++ []
def dkwX3_meet_3 : List UInt8 := [167, 0, 4, 28, 29, 156, 0, 8, 29, 116, 167, 0, 4, 29, 29, 156, 0, 8, 29, 116, 167, 0, 4, 29]
abbrev dktX3_meet_3 : List UInt8 := dkwX3_meet_3 ++ dktX3_meet_4
def dkwX3_meet_2 : List UInt8 := [42, 182, 0, 189, 42, 27, 6, 182, 0, 181, 42, 28, 6, 182, 0, 181, 100, 62, 42, 29, 156, 0, 7, 27]
abbrev dktX3_meet_2 : List UInt8 := dkwX3_meet_2 ++ dktX3_meet_3
def dkwX3_meet_1 : List UInt8 := [160, 0, 6, 18, 68, 172, 42, 27, 4, 182, 0, 181, 42, 28, 4, 182, 0, 181, 159, 0, 6, 18, 188, 172]
abbrev dktX3_meet_1 : List UInt8 := dkwX3_meet_1 ++ dktX3_meet_2
def dkwX3_meet_0 : List UInt8 := [42, 3, 181, 0, 48, 42, 27, 182, 0, 199, 153, 0, 16, 42, 28, 182, 0, 199, 153, 0, 8, 27, 28]
abbrev dktX3_meet_0 : List UInt8 := dkwX3_meet_0 ++ dktX3_meet_1
theorem dksX3_meet_0 : cX3_meet.data.toList.drop 0 = dktX3_meet_0 := by decide +kernel
theorem dksX3_meet_1 : cX3_meet.data.toList.drop 23 = dktX3_meet_1 := dk_seg dksX3_meet_0 23 rfl rfl
theorem dksX3_meet_2 : cX3_meet.data.toList.drop 47 = dktX3_meet_2 := dk_seg dksX3_meet_1 24 rfl rfl
theorem dksX3_meet_3 : cX3_meet.data.toList.drop 71 = dktX3_meet_3 := dk_seg dksX3_meet_2 24 rfl rfl
theorem dksX3_meet_4 : cX3_meet.data.toList.drop 95 = dktX3_meet_4 := dk_seg dksX3_meet_3 24 rfl rfl
theorem dX3_meet_0 : decode cX3_meet 0 = .ok (.aload_n 0, 1) := dk_42 (dk_at dksX3_meet_0 0 rfl rfl)
theorem dX3_meet_1 : decode cX3_meet 1 = .ok (.iconst 0, 1) := dk_3 (dk_at dksX3_meet_0 1 rfl rfl)
theorem dX3_meet_2 : decode cX3_meet 2 = .ok (.putfield 48, 3) := dk_181 0 48 (dk_at dksX3_meet_0 2 rfl rfl)
theorem dX3_meet_5 : decode cX3_meet 5 = .ok (.aload_n 0, 1) := dk_42 (dk_at dksX3_meet_0 5 rfl rfl)
theorem dX3_meet_6 : decode cX3_meet 6 = .ok (.iload_n 1, 1) := dk_27 (dk_at dksX3_meet_0 6 rfl rfl)
theorem dX3_meet_7 : decode cX3_meet 7 = .ok (.invokevirtual 199, 3) := dk_182 0 199 (dk_at dksX3_meet_0 7 rfl rfl)
theorem dX3_meet_10 : decode cX3_meet 10 = .ok (.ifCond .eq 16, 3) := dk_153 0 16 (dk_at dksX3_meet_0 10 rfl rfl)
theorem dX3_meet_13 : decode cX3_meet 13 = .ok (.aload_n 0, 1) := dk_42 (dk_at dksX3_meet_0 13 rfl rfl)
theorem dX3_meet_14 : decode cX3_meet 14 = .ok (.iload_n 2, 1) := dk_28 (dk_at dksX3_meet_0 14 rfl rfl)
theorem dX3_meet_15 : decode cX3_meet 15 = .ok (.invokevirtual 199, 3) := dk_182 0 199 (dk_at dksX3_meet_0 15 rfl rfl)
theorem dX3_meet_18 : decode cX3_meet 18 = .ok (.ifCond .eq 8, 3) := dk_153 0 8 (dk_at dksX3_meet_0 18 rfl rfl)
theorem dX3_meet_21 : decode cX3_meet 21 = .ok (.iload_n 1, 1) := dk_27 (dk_at dksX3_meet_0 21 rfl rfl)
theorem dX3_meet_22 : decode cX3_meet 22 = .ok (.iload_n 2, 1) := dk_28 (dk_at dksX3_meet_0 22 rfl rfl)
theorem dX3_meet_23 : decode cX3_meet 23 = .ok (.if_icmp .ne 6, 3) := dk_160 0 6 (dk_at dksX3_meet_1 0 rfl rfl)
theorem dX3_meet_26 : decode cX3_meet 26 = .ok (.ldc 68, 2) := dk_18 68 (dk_at dksX3_meet_1 3 rfl rfl)
theorem dX3_meet_28 : decode cX3_meet 28 = .ok (.ireturn, 1) := dk_172 (dk_at dksX3_meet_1 5 rfl rfl)
theorem dX3_meet_29 : decode cX3_meet 29 = .ok (.aload_n 0, 1) := dk_42 (dk_at dksX3_meet_1 6 rfl rfl)
theorem dX3_meet_30 : decode cX3_meet 30 = .ok (.iload_n 1, 1) := dk_27 (dk_at dksX3_meet_1 7 rfl rfl)
theorem dX3_meet_31 : decode cX3_meet 31 = .ok (.iconst 1, 1) := dk_4 (dk_at dksX3_meet_1 8 rfl rfl)
theorem dX3_meet_32 : decode cX3_meet 32 = .ok (.invokevirtual 181, 3) := dk_182 0 181 (dk_at dksX3_meet_1 9 rfl rfl)
theorem dX3_meet_35 : decode cX3_meet 35 = .ok (.aload_n 0, 1) := dk_42 (dk_at dksX3_meet_1 12 rfl rfl)
theorem dX3_meet_36 : decode cX3_meet 36 = .ok (.iload_n 2, 1) := dk_28 (dk_at dksX3_meet_1 13 rfl rfl)
theorem dX3_meet_37 : decode cX3_meet 37 = .ok (.iconst 1, 1) := dk_4 (dk_at dksX3_meet_1 14 rfl rfl)
theorem dX3_meet_38 : decode cX3_meet 38 = .ok (.invokevirtual 181, 3) := dk_182 0 181 (dk_at dksX3_meet_1 15 rfl rfl)
theorem dX3_meet_41 : decode cX3_meet 41 = .ok (.if_icmp .eq 6, 3) := dk_159 0 6 (dk_at dksX3_meet_1 18 rfl rfl)
theorem dX3_meet_44 : decode cX3_meet 44 = .ok (.ldc 188, 2) := dk_18 188 (dk_at dksX3_meet_1 21 rfl rfl)
theorem dX3_meet_46 : decode cX3_meet 46 = .ok (.ireturn, 1) := dk_172 (dk_at dksX3_meet_1 23 rfl rfl)
theorem dX3_meet_47 : decode cX3_meet 47 = .ok (.aload_n 0, 1) := dk_42 (dk_at dksX3_meet_2 0 rfl rfl)
theorem dX3_meet_48 : decode cX3_meet 48 = .ok (.invokevirtual 189, 3) := dk_182 0 189 (dk_at dksX3_meet_2 1 rfl rfl)
theorem dX3_meet_51 : decode cX3_meet 51 = .ok (.aload_n 0, 1) := dk_42 (dk_at dksX3_meet_2 4 rfl rfl)
theorem dX3_meet_52 : decode cX3_meet 52 = .ok (.iload_n 1, 1) := dk_27 (dk_at dksX3_meet_2 5 rfl rfl)
theorem dX3_meet_53 : decode cX3_meet 53 = .ok (.iconst 3, 1) := dk_6 (dk_at dksX3_meet_2 6 rfl rfl)
theorem dX3_meet_54 : decode cX3_meet 54 = .ok (.invokevirtual 181, 3) := dk_182 0 181 (dk_at dksX3_meet_2 7 rfl rfl)
theorem dX3_meet_57 : decode cX3_meet 57 = .ok (.aload_n 0, 1) := dk_42 (dk_at dksX3_meet_2 10 rfl rfl)
theorem dX3_meet_58 : decode cX3_meet 58 = .ok (.iload_n 2, 1) := dk_28 (dk_at dksX3_meet_2 11 rfl rfl)
theorem dX3_meet_59 : decode cX3_meet 59 = .ok (.iconst 3, 1) := dk_6 (dk_at dksX3_meet_2 12 rfl rfl)
theorem dX3_meet_60 : decode cX3_meet 60 = .ok (.invokevirtual 181, 3) := dk_182 0 181 (dk_at dksX3_meet_2 13 rfl rfl)
theorem dX3_meet_63 : decode cX3_meet 63 = .ok (.isub, 1) := dk_100 (dk_at dksX3_meet_2 16 rfl rfl)
theorem dX3_meet_64 : decode cX3_meet 64 = .ok (.istore_n 3, 1) := dk_62 (dk_at dksX3_meet_2 17 rfl rfl)
theorem dX3_meet_65 : decode cX3_meet 65 = .ok (.aload_n 0, 1) := dk_42 (dk_at dksX3_meet_2 18 rfl rfl)
theorem dX3_meet_66 : decode cX3_meet 66 = .ok (.iload_n 3, 1) := dk_29 (dk_at dksX3_meet_2 19 rfl rfl)
theorem dX3_meet_67 : decode cX3_meet 67 = .ok (.ifCond .ge 7, 3) := dk_156 0 7 (dk_at dksX3_meet_2 20 rfl rfl)
theorem dX3_meet_70 : decode cX3_meet 70 = .ok (.iload_n 1, 1) := dk_27 (dk_at dksX3_meet_2 23 rfl rfl)
theorem dX3_meet_71 : decode cX3_meet 71 = .ok (.goto 4, 3) := dk_167 0 4 (dk_at dksX3_meet_3 0 rfl rfl)
theorem dX3_meet_74 : decode cX3_meet 74 = .ok (.iload_n 2, 1) := dk_28 (dk_at dksX3_meet_3 3 rfl rfl)
theorem dX3_meet_75 : decode cX3_meet 75 = .ok (.iload_n 3, 1) := dk_29 (dk_at dksX3_meet_3 4 rfl rfl)
theorem dX3_meet_76 : decode cX3_meet 76 = .ok (.ifCond .ge 8, 3) := dk_156 0 8 (dk_at dksX3_meet_3 5 rfl rfl)
theorem dX3_meet_79 : decode cX3_meet 79 = .ok (.iload_n 3, 1) := dk_29 (dk_at dksX3_meet_3 8 rfl rfl)
theorem dX3_meet_80 : decode cX3_meet 80 = .ok (.ineg, 1) := dk_116 (dk_at dksX3_meet_3 9 rfl rfl)
theorem dX3_meet_81 : decode cX3_meet 81 = .ok (.goto 4, 3) := dk_167 0 4 (dk_at dksX3_meet_3 10 rfl rfl)
theorem dX3_meet_84 : decode cX3_meet 84 = .ok (.iload_n 3, 1) := dk_29 (dk_at dksX3_meet_3 13 rfl rfl)
theorem dX3_meet_85 : decode cX3_meet 85 = .ok (.iload_n 3, 1) := dk_29 (dk_at dksX3_meet_3 14 rfl rfl)
theorem dX3_meet_86 : decode cX3_meet 86 = .ok (.ifCond .ge 8, 3) := dk_156 0 8 (dk_at dksX3_meet_3 15 rfl rfl)
theorem dX3_meet_89 : decode cX3_meet 89 = .ok (.iload_n 3, 1) := dk_29 (dk_at dksX3_meet_3 18 rfl rfl)
theorem dX3_meet_90 : decode cX3_meet 90 = .ok (.ineg, 1) := dk_116 (dk_at dksX3_meet_3 19 rfl rfl)
theorem dX3_meet_91 : decode cX3_meet 91 = .ok (.goto 4, 3) := dk_167 0 4 (dk_at dksX3_meet_3 20 rfl rfl)
theorem dX3_meet_94 : decode cX3_meet 94 = .ok (.iload_n 3, 1) := dk_29 (dk_at dksX3_meet_3 23 rfl rfl)
theorem dX3_meet_95 : decode cX3_meet 95 = .ok (.invokevirtual 195, 3) := dk_182 0 195 (dk_at dksX3_meet_4 0 rfl rfl)
theorem dX3_meet_98 : decode cX3_meet 98 = .ok (.aload_n 0, 1) := dk_42 (dk_at dksX3_meet_4 3 rfl rfl)
theorem dX3_meet_99 : decode cX3_meet 99 = .ok (.iload_n 1, 1) := dk_27 (dk_at dksX3_meet_4 4 rfl rfl)
theorem dX3_meet_100 : decode cX3_meet 100 = .ok (.iconst 4, 1) := dk_7 (dk_at dksX3_meet_4 5 rfl rfl)
theorem dX3_meet_101 : decode cX3_meet 101 = .ok (.invokevirtual 181, 3) := dk_182 0 181 (dk_at dksX3_meet_4 6 rfl rfl)
theorem dX3_meet_104 : decode cX3_meet 104 = .ok (.aload_n 0, 1) := dk_42 (dk_at dksX3_meet_4 9 rfl rfl)
theorem dX3_meet_105 : decode cX3_meet 105 = .ok (.iload_n 2, 1) := dk_28 (dk_at dksX3_meet_4 10 rfl rfl)
theorem dX3_meet_106 : decode cX3_meet 106 = .ok (.iconst 4, 1) := dk_7 (dk_at dksX3_meet_4 11 rfl rfl)
theorem dX3_meet_107 : decode cX3_meet 107 = .ok (.invokevirtual 181, 3) := dk_182 0 181 (dk_at dksX3_meet_4 12 rfl rfl)
theorem dX3_meet_110 : decode cX3_meet 110 = .ok (.isub, 1) := dk_100 (dk_at dksX3_meet_4 15 rfl rfl)
theorem dX3_meet_111 : decode cX3_meet 111 = .ok (.ireturn, 1) := dk_172 (dk_at dksX3_meet_4 16 rfl rfl)
abbrev cX3_borrow : ByteArray := prog_16_method_45_code
def yX3_borrow : MethodName := ⟨RX3, "borrow", "(II)I"⟩
def dkwX3_borrow_4 : List UInt8 := [182, 0, 181, 79, 29, 172]
abbrev dktX3_borrow_4 : List UInt8 := dkwX3_borrow_4 ++ []
def dkwX3_borrow_3 : List UInt8 := [27, 6, 182, 0, 181, 79, 42, 180, 0, 19, 16, 36, 16, 8, 27, 104, 96, 16, 7, 96, 42, 27, 7]
abbrev dktX3_borrow_3 : List UInt8 := dkwX3_borrow_3 ++ dktX3_borrow_4
def dkwX3_borrow_2 : List UInt8 := [16, 8, 27, 104, 96, 8, 96, 28, 79, 42, 180, 0, 19, 16, 36, 16, 8, 27, 104, 96, 16, 6, 96, 42]
abbrev dktX3_borrow_2 : List UInt8 := dkwX3_borrow_2 ++ dktX3_borrow_3
def dkwX3_borrow_1 : List UInt8 := [154, 0, 6, 18, 68, 172, 42, 182, 0, 189, 42, 27, 3, 182, 0, 218, 62, 42, 180, 0, 19, 16, 36]
abbrev dktX3_borrow_1 : List UInt8 := dkwX3_borrow_1 ++ dktX3_borrow_2
def dkwX3_borrow_0 : List UInt8 := [42, 3, 181, 0, 48, 42, 27, 182, 0, 199, 153, 0, 15, 28, 133, 10, 20, 0, 216, 184, 0, 58]
abbrev dktX3_borrow_0 : List UInt8 := dkwX3_borrow_0 ++ dktX3_borrow_1
theorem dksX3_borrow_0 : cX3_borrow.data.toList.drop 0 = dktX3_borrow_0 := by decide +kernel
theorem dksX3_borrow_1 : cX3_borrow.data.toList.drop 22 = dktX3_borrow_1 := dk_seg dksX3_borrow_0 22 rfl rfl
theorem dksX3_borrow_2 : cX3_borrow.data.toList.drop 45 = dktX3_borrow_2 := dk_seg dksX3_borrow_1 23 rfl rfl
theorem dksX3_borrow_3 : cX3_borrow.data.toList.drop 69 = dktX3_borrow_3 := dk_seg dksX3_borrow_2 24 rfl rfl
theorem dksX3_borrow_4 : cX3_borrow.data.toList.drop 92 = dktX3_borrow_4 := dk_seg dksX3_borrow_3 23 rfl rfl
theorem dX3_borrow_0 : decode cX3_borrow 0 = .ok (.aload_n 0, 1) := dk_42 (dk_at dksX3_borrow_0 0 rfl rfl)
theorem dX3_borrow_1 : decode cX3_borrow 1 = .ok (.iconst 0, 1) := dk_3 (dk_at dksX3_borrow_0 1 rfl rfl)
theorem dX3_borrow_2 : decode cX3_borrow 2 = .ok (.putfield 48, 3) := dk_181 0 48 (dk_at dksX3_borrow_0 2 rfl rfl)
theorem dX3_borrow_5 : decode cX3_borrow 5 = .ok (.aload_n 0, 1) := dk_42 (dk_at dksX3_borrow_0 5 rfl rfl)
theorem dX3_borrow_6 : decode cX3_borrow 6 = .ok (.iload_n 1, 1) := dk_27 (dk_at dksX3_borrow_0 6 rfl rfl)
theorem dX3_borrow_7 : decode cX3_borrow 7 = .ok (.invokevirtual 199, 3) := dk_182 0 199 (dk_at dksX3_borrow_0 7 rfl rfl)
theorem dX3_borrow_10 : decode cX3_borrow 10 = .ok (.ifCond .eq 15, 3) := dk_153 0 15 (dk_at dksX3_borrow_0 10 rfl rfl)
theorem dX3_borrow_13 : decode cX3_borrow 13 = .ok (.iload_n 2, 1) := dk_28 (dk_at dksX3_borrow_0 13 rfl rfl)
theorem dX3_borrow_14 : decode cX3_borrow 14 = .ok (.i2l, 1) := dk_133 (dk_at dksX3_borrow_0 14 rfl rfl)
theorem dX3_borrow_15 : decode cX3_borrow 15 = .ok (.lconst 1, 1) := dk_10 (dk_at dksX3_borrow_0 15 rfl rfl)
theorem dX3_borrow_16 : decode cX3_borrow 16 = .ok (.ldc2_w 216, 3) := dk_20 0 216 (dk_at dksX3_borrow_0 16 rfl rfl)
theorem dX3_borrow_19 : decode cX3_borrow 19 = .ok (.invokestatic 58, 3) := dk_184 0 58 (dk_at dksX3_borrow_0 19 rfl rfl)
theorem dX3_borrow_22 : decode cX3_borrow 22 = .ok (.ifCond .ne 6, 3) := dk_154 0 6 (dk_at dksX3_borrow_1 0 rfl rfl)
theorem dX3_borrow_25 : decode cX3_borrow 25 = .ok (.ldc 68, 2) := dk_18 68 (dk_at dksX3_borrow_1 3 rfl rfl)
theorem dX3_borrow_27 : decode cX3_borrow 27 = .ok (.ireturn, 1) := dk_172 (dk_at dksX3_borrow_1 5 rfl rfl)
theorem dX3_borrow_28 : decode cX3_borrow 28 = .ok (.aload_n 0, 1) := dk_42 (dk_at dksX3_borrow_1 6 rfl rfl)
theorem dX3_borrow_29 : decode cX3_borrow 29 = .ok (.invokevirtual 189, 3) := dk_182 0 189 (dk_at dksX3_borrow_1 7 rfl rfl)
theorem dX3_borrow_32 : decode cX3_borrow 32 = .ok (.aload_n 0, 1) := dk_42 (dk_at dksX3_borrow_1 10 rfl rfl)
theorem dX3_borrow_33 : decode cX3_borrow 33 = .ok (.iload_n 1, 1) := dk_27 (dk_at dksX3_borrow_1 11 rfl rfl)
theorem dX3_borrow_34 : decode cX3_borrow 34 = .ok (.iconst 0, 1) := dk_3 (dk_at dksX3_borrow_1 12 rfl rfl)
theorem dX3_borrow_35 : decode cX3_borrow 35 = .ok (.invokevirtual 218, 3) := dk_182 0 218 (dk_at dksX3_borrow_1 13 rfl rfl)
theorem dX3_borrow_38 : decode cX3_borrow 38 = .ok (.istore_n 3, 1) := dk_62 (dk_at dksX3_borrow_1 16 rfl rfl)
theorem dX3_borrow_39 : decode cX3_borrow 39 = .ok (.aload_n 0, 1) := dk_42 (dk_at dksX3_borrow_1 17 rfl rfl)
theorem dX3_borrow_40 : decode cX3_borrow 40 = .ok (.getfield 19, 3) := dk_180 0 19 (dk_at dksX3_borrow_1 18 rfl rfl)
theorem dX3_borrow_43 : decode cX3_borrow 43 = .ok (.bipush 36, 2) := dk_16 36 (dk_at dksX3_borrow_1 21 rfl rfl)
theorem dX3_borrow_45 : decode cX3_borrow 45 = .ok (.bipush 8, 2) := dk_16 8 (dk_at dksX3_borrow_2 0 rfl rfl)
theorem dX3_borrow_47 : decode cX3_borrow 47 = .ok (.iload_n 1, 1) := dk_27 (dk_at dksX3_borrow_2 2 rfl rfl)
theorem dX3_borrow_48 : decode cX3_borrow 48 = .ok (.imul, 1) := dk_104 (dk_at dksX3_borrow_2 3 rfl rfl)
theorem dX3_borrow_49 : decode cX3_borrow 49 = .ok (.iadd, 1) := dk_96 (dk_at dksX3_borrow_2 4 rfl rfl)
theorem dX3_borrow_50 : decode cX3_borrow 50 = .ok (.iconst 5, 1) := dk_8 (dk_at dksX3_borrow_2 5 rfl rfl)
theorem dX3_borrow_51 : decode cX3_borrow 51 = .ok (.iadd, 1) := dk_96 (dk_at dksX3_borrow_2 6 rfl rfl)
theorem dX3_borrow_52 : decode cX3_borrow 52 = .ok (.iload_n 2, 1) := dk_28 (dk_at dksX3_borrow_2 7 rfl rfl)
theorem dX3_borrow_53 : decode cX3_borrow 53 = .ok (.iastore, 1) := dk_79 (dk_at dksX3_borrow_2 8 rfl rfl)
theorem dX3_borrow_54 : decode cX3_borrow 54 = .ok (.aload_n 0, 1) := dk_42 (dk_at dksX3_borrow_2 9 rfl rfl)
theorem dX3_borrow_55 : decode cX3_borrow 55 = .ok (.getfield 19, 3) := dk_180 0 19 (dk_at dksX3_borrow_2 10 rfl rfl)
theorem dX3_borrow_58 : decode cX3_borrow 58 = .ok (.bipush 36, 2) := dk_16 36 (dk_at dksX3_borrow_2 13 rfl rfl)
theorem dX3_borrow_60 : decode cX3_borrow 60 = .ok (.bipush 8, 2) := dk_16 8 (dk_at dksX3_borrow_2 15 rfl rfl)
theorem dX3_borrow_62 : decode cX3_borrow 62 = .ok (.iload_n 1, 1) := dk_27 (dk_at dksX3_borrow_2 17 rfl rfl)
theorem dX3_borrow_63 : decode cX3_borrow 63 = .ok (.imul, 1) := dk_104 (dk_at dksX3_borrow_2 18 rfl rfl)
theorem dX3_borrow_64 : decode cX3_borrow 64 = .ok (.iadd, 1) := dk_96 (dk_at dksX3_borrow_2 19 rfl rfl)
theorem dX3_borrow_65 : decode cX3_borrow 65 = .ok (.bipush 6, 2) := dk_16 6 (dk_at dksX3_borrow_2 20 rfl rfl)
theorem dX3_borrow_67 : decode cX3_borrow 67 = .ok (.iadd, 1) := dk_96 (dk_at dksX3_borrow_2 22 rfl rfl)
theorem dX3_borrow_68 : decode cX3_borrow 68 = .ok (.aload_n 0, 1) := dk_42 (dk_at dksX3_borrow_2 23 rfl rfl)
theorem dX3_borrow_69 : decode cX3_borrow 69 = .ok (.iload_n 1, 1) := dk_27 (dk_at dksX3_borrow_3 0 rfl rfl)
theorem dX3_borrow_70 : decode cX3_borrow 70 = .ok (.iconst 3, 1) := dk_6 (dk_at dksX3_borrow_3 1 rfl rfl)
theorem dX3_borrow_71 : decode cX3_borrow 71 = .ok (.invokevirtual 181, 3) := dk_182 0 181 (dk_at dksX3_borrow_3 2 rfl rfl)
theorem dX3_borrow_74 : decode cX3_borrow 74 = .ok (.iastore, 1) := dk_79 (dk_at dksX3_borrow_3 5 rfl rfl)
theorem dX3_borrow_75 : decode cX3_borrow 75 = .ok (.aload_n 0, 1) := dk_42 (dk_at dksX3_borrow_3 6 rfl rfl)
theorem dX3_borrow_76 : decode cX3_borrow 76 = .ok (.getfield 19, 3) := dk_180 0 19 (dk_at dksX3_borrow_3 7 rfl rfl)
theorem dX3_borrow_79 : decode cX3_borrow 79 = .ok (.bipush 36, 2) := dk_16 36 (dk_at dksX3_borrow_3 10 rfl rfl)
theorem dX3_borrow_81 : decode cX3_borrow 81 = .ok (.bipush 8, 2) := dk_16 8 (dk_at dksX3_borrow_3 12 rfl rfl)
theorem dX3_borrow_83 : decode cX3_borrow 83 = .ok (.iload_n 1, 1) := dk_27 (dk_at dksX3_borrow_3 14 rfl rfl)
theorem dX3_borrow_84 : decode cX3_borrow 84 = .ok (.imul, 1) := dk_104 (dk_at dksX3_borrow_3 15 rfl rfl)
theorem dX3_borrow_85 : decode cX3_borrow 85 = .ok (.iadd, 1) := dk_96 (dk_at dksX3_borrow_3 16 rfl rfl)
theorem dX3_borrow_86 : decode cX3_borrow 86 = .ok (.bipush 7, 2) := dk_16 7 (dk_at dksX3_borrow_3 17 rfl rfl)
theorem dX3_borrow_88 : decode cX3_borrow 88 = .ok (.iadd, 1) := dk_96 (dk_at dksX3_borrow_3 19 rfl rfl)
theorem dX3_borrow_89 : decode cX3_borrow 89 = .ok (.aload_n 0, 1) := dk_42 (dk_at dksX3_borrow_3 20 rfl rfl)
theorem dX3_borrow_90 : decode cX3_borrow 90 = .ok (.iload_n 1, 1) := dk_27 (dk_at dksX3_borrow_3 21 rfl rfl)
theorem dX3_borrow_91 : decode cX3_borrow 91 = .ok (.iconst 4, 1) := dk_7 (dk_at dksX3_borrow_3 22 rfl rfl)
theorem dX3_borrow_92 : decode cX3_borrow 92 = .ok (.invokevirtual 181, 3) := dk_182 0 181 (dk_at dksX3_borrow_4 0 rfl rfl)
theorem dX3_borrow_95 : decode cX3_borrow 95 = .ok (.iastore, 1) := dk_79 (dk_at dksX3_borrow_4 3 rfl rfl)
theorem dX3_borrow_96 : decode cX3_borrow 96 = .ok (.iload_n 3, 1) := dk_29 (dk_at dksX3_borrow_4 4 rfl rfl)
theorem dX3_borrow_97 : decode cX3_borrow 97 = .ok (.ireturn, 1) := dk_172 (dk_at dksX3_borrow_4 5 rfl rfl)
abbrev cX3_owedBy : ByteArray := prog_16_method_44_code
def yX3_owedBy : MethodName := ⟨RX3, "owedBy", "(II)I"⟩
def dkwX3_owedBy_1 : List UInt8 := [100, 167, 0, 17, 42, 27, 7, 182, 0, 181, 42, 27, 16, 7, 182, 0, 181, 100, 182, 0, 213, 172]
abbrev dktX3_owedBy_1 : List UInt8 := dkwX3_owedBy_1 ++ []
def dkwX3_owedBy_0 : List UInt8 := [42, 42, 27, 8, 182, 0, 181, 28, 154, 0, 20, 42, 27, 6, 182, 0, 181, 42, 27, 16, 6, 182, 0, 181]
abbrev dktX3_owedBy_0 : List UInt8 := dkwX3_owedBy_0 ++ dktX3_owedBy_1
theorem dksX3_owedBy_0 : cX3_owedBy.data.toList.drop 0 = dktX3_owedBy_0 := by decide +kernel
theorem dksX3_owedBy_1 : cX3_owedBy.data.toList.drop 24 = dktX3_owedBy_1 := dk_seg dksX3_owedBy_0 24 rfl rfl
theorem dX3_owedBy_0 : decode cX3_owedBy 0 = .ok (.aload_n 0, 1) := dk_42 (dk_at dksX3_owedBy_0 0 rfl rfl)
theorem dX3_owedBy_1 : decode cX3_owedBy 1 = .ok (.aload_n 0, 1) := dk_42 (dk_at dksX3_owedBy_0 1 rfl rfl)
theorem dX3_owedBy_2 : decode cX3_owedBy 2 = .ok (.iload_n 1, 1) := dk_27 (dk_at dksX3_owedBy_0 2 rfl rfl)
theorem dX3_owedBy_3 : decode cX3_owedBy 3 = .ok (.iconst 5, 1) := dk_8 (dk_at dksX3_owedBy_0 3 rfl rfl)
theorem dX3_owedBy_4 : decode cX3_owedBy 4 = .ok (.invokevirtual 181, 3) := dk_182 0 181 (dk_at dksX3_owedBy_0 4 rfl rfl)
theorem dX3_owedBy_7 : decode cX3_owedBy 7 = .ok (.iload_n 2, 1) := dk_28 (dk_at dksX3_owedBy_0 7 rfl rfl)
theorem dX3_owedBy_8 : decode cX3_owedBy 8 = .ok (.ifCond .ne 20, 3) := dk_154 0 20 (dk_at dksX3_owedBy_0 8 rfl rfl)
theorem dX3_owedBy_11 : decode cX3_owedBy 11 = .ok (.aload_n 0, 1) := dk_42 (dk_at dksX3_owedBy_0 11 rfl rfl)
theorem dX3_owedBy_12 : decode cX3_owedBy 12 = .ok (.iload_n 1, 1) := dk_27 (dk_at dksX3_owedBy_0 12 rfl rfl)
theorem dX3_owedBy_13 : decode cX3_owedBy 13 = .ok (.iconst 3, 1) := dk_6 (dk_at dksX3_owedBy_0 13 rfl rfl)
theorem dX3_owedBy_14 : decode cX3_owedBy 14 = .ok (.invokevirtual 181, 3) := dk_182 0 181 (dk_at dksX3_owedBy_0 14 rfl rfl)
theorem dX3_owedBy_17 : decode cX3_owedBy 17 = .ok (.aload_n 0, 1) := dk_42 (dk_at dksX3_owedBy_0 17 rfl rfl)
theorem dX3_owedBy_18 : decode cX3_owedBy 18 = .ok (.iload_n 1, 1) := dk_27 (dk_at dksX3_owedBy_0 18 rfl rfl)
theorem dX3_owedBy_19 : decode cX3_owedBy 19 = .ok (.bipush 6, 2) := dk_16 6 (dk_at dksX3_owedBy_0 19 rfl rfl)
theorem dX3_owedBy_21 : decode cX3_owedBy 21 = .ok (.invokevirtual 181, 3) := dk_182 0 181 (dk_at dksX3_owedBy_0 21 rfl rfl)
theorem dX3_owedBy_24 : decode cX3_owedBy 24 = .ok (.isub, 1) := dk_100 (dk_at dksX3_owedBy_1 0 rfl rfl)
theorem dX3_owedBy_25 : decode cX3_owedBy 25 = .ok (.goto 17, 3) := dk_167 0 17 (dk_at dksX3_owedBy_1 1 rfl rfl)
theorem dX3_owedBy_28 : decode cX3_owedBy 28 = .ok (.aload_n 0, 1) := dk_42 (dk_at dksX3_owedBy_1 4 rfl rfl)
theorem dX3_owedBy_29 : decode cX3_owedBy 29 = .ok (.iload_n 1, 1) := dk_27 (dk_at dksX3_owedBy_1 5 rfl rfl)
theorem dX3_owedBy_30 : decode cX3_owedBy 30 = .ok (.iconst 4, 1) := dk_7 (dk_at dksX3_owedBy_1 6 rfl rfl)
theorem dX3_owedBy_31 : decode cX3_owedBy 31 = .ok (.invokevirtual 181, 3) := dk_182 0 181 (dk_at dksX3_owedBy_1 7 rfl rfl)
theorem dX3_owedBy_34 : decode cX3_owedBy 34 = .ok (.aload_n 0, 1) := dk_42 (dk_at dksX3_owedBy_1 10 rfl rfl)
theorem dX3_owedBy_35 : decode cX3_owedBy 35 = .ok (.iload_n 1, 1) := dk_27 (dk_at dksX3_owedBy_1 11 rfl rfl)
theorem dX3_owedBy_36 : decode cX3_owedBy 36 = .ok (.bipush 7, 2) := dk_16 7 (dk_at dksX3_owedBy_1 12 rfl rfl)
theorem dX3_owedBy_38 : decode cX3_owedBy 38 = .ok (.invokevirtual 181, 3) := dk_182 0 181 (dk_at dksX3_owedBy_1 14 rfl rfl)
theorem dX3_owedBy_41 : decode cX3_owedBy 41 = .ok (.isub, 1) := dk_100 (dk_at dksX3_owedBy_1 17 rfl rfl)
theorem dX3_owedBy_42 : decode cX3_owedBy 42 = .ok (.invokevirtual 213, 3) := dk_182 0 213 (dk_at dksX3_owedBy_1 18 rfl rfl)
theorem dX3_owedBy_45 : decode cX3_owedBy 45 = .ok (.ireturn, 1) := dk_172 (dk_at dksX3_owedBy_1 21 rfl rfl)
abbrev cX3_grown : ByteArray := prog_16_method_43_code
def yX3_grown : MethodName := ⟨RX3, "grown", "(II)I"⟩
def dkwX3_grown_2 : List UInt8 := [172]
abbrev dktX3_grown_2 : List UInt8 := dkwX3_grown_2 ++ []
def dkwX3_grown_1 : List UInt8 := [54, 5, 21, 5, 18, 212, 164, 0, 8, 18, 212, 167, 0, 5, 21, 5, 62, 132, 4, 1, 167, 255, 217, 29]
abbrev dktX3_grown_1 : List UInt8 := dkwX3_grown_1 ++ dktX3_grown_2
def dkwX3_grown_0 : List UInt8 := [27, 62, 3, 54, 4, 21, 4, 28, 162, 0, 39, 29, 29, 42, 180, 0, 19, 4, 46, 104, 16, 100, 108, 96]
abbrev dktX3_grown_0 : List UInt8 := dkwX3_grown_0 ++ dktX3_grown_1
theorem dksX3_grown_0 : cX3_grown.data.toList.drop 0 = dktX3_grown_0 := by decide +kernel
theorem dksX3_grown_1 : cX3_grown.data.toList.drop 24 = dktX3_grown_1 := dk_seg dksX3_grown_0 24 rfl rfl
theorem dksX3_grown_2 : cX3_grown.data.toList.drop 48 = dktX3_grown_2 := dk_seg dksX3_grown_1 24 rfl rfl
theorem dX3_grown_0 : decode cX3_grown 0 = .ok (.iload_n 1, 1) := dk_27 (dk_at dksX3_grown_0 0 rfl rfl)
theorem dX3_grown_1 : decode cX3_grown 1 = .ok (.istore_n 3, 1) := dk_62 (dk_at dksX3_grown_0 1 rfl rfl)
theorem dX3_grown_2 : decode cX3_grown 2 = .ok (.iconst 0, 1) := dk_3 (dk_at dksX3_grown_0 2 rfl rfl)
theorem dX3_grown_3 : decode cX3_grown 3 = .ok (.istore 4, 2) := dk_54 4 (dk_at dksX3_grown_0 3 rfl rfl)
theorem dX3_grown_5 : decode cX3_grown 5 = .ok (.iload 4, 2) := dk_21 4 (dk_at dksX3_grown_0 5 rfl rfl)
theorem dX3_grown_7 : decode cX3_grown 7 = .ok (.iload_n 2, 1) := dk_28 (dk_at dksX3_grown_0 7 rfl rfl)
theorem dX3_grown_8 : decode cX3_grown 8 = .ok (.if_icmp .ge 39, 3) := dk_162 0 39 (dk_at dksX3_grown_0 8 rfl rfl)
theorem dX3_grown_11 : decode cX3_grown 11 = .ok (.iload_n 3, 1) := dk_29 (dk_at dksX3_grown_0 11 rfl rfl)
theorem dX3_grown_12 : decode cX3_grown 12 = .ok (.iload_n 3, 1) := dk_29 (dk_at dksX3_grown_0 12 rfl rfl)
theorem dX3_grown_13 : decode cX3_grown 13 = .ok (.aload_n 0, 1) := dk_42 (dk_at dksX3_grown_0 13 rfl rfl)
theorem dX3_grown_14 : decode cX3_grown 14 = .ok (.getfield 19, 3) := dk_180 0 19 (dk_at dksX3_grown_0 14 rfl rfl)
theorem dX3_grown_17 : decode cX3_grown 17 = .ok (.iconst 1, 1) := dk_4 (dk_at dksX3_grown_0 17 rfl rfl)
theorem dX3_grown_18 : decode cX3_grown 18 = .ok (.iaload, 1) := dk_46 (dk_at dksX3_grown_0 18 rfl rfl)
theorem dX3_grown_19 : decode cX3_grown 19 = .ok (.imul, 1) := dk_104 (dk_at dksX3_grown_0 19 rfl rfl)
theorem dX3_grown_20 : decode cX3_grown 20 = .ok (.bipush 100, 2) := dk_16 100 (dk_at dksX3_grown_0 20 rfl rfl)
theorem dX3_grown_22 : decode cX3_grown 22 = .ok (.idiv, 1) := dk_108 (dk_at dksX3_grown_0 22 rfl rfl)
theorem dX3_grown_23 : decode cX3_grown 23 = .ok (.iadd, 1) := dk_96 (dk_at dksX3_grown_0 23 rfl rfl)
theorem dX3_grown_24 : decode cX3_grown 24 = .ok (.istore 5, 2) := dk_54 5 (dk_at dksX3_grown_1 0 rfl rfl)
theorem dX3_grown_26 : decode cX3_grown 26 = .ok (.iload 5, 2) := dk_21 5 (dk_at dksX3_grown_1 2 rfl rfl)
theorem dX3_grown_28 : decode cX3_grown 28 = .ok (.ldc 212, 2) := dk_18 212 (dk_at dksX3_grown_1 4 rfl rfl)
theorem dX3_grown_30 : decode cX3_grown 30 = .ok (.if_icmp .le 8, 3) := dk_164 0 8 (dk_at dksX3_grown_1 6 rfl rfl)
theorem dX3_grown_33 : decode cX3_grown 33 = .ok (.ldc 212, 2) := dk_18 212 (dk_at dksX3_grown_1 9 rfl rfl)
theorem dX3_grown_35 : decode cX3_grown 35 = .ok (.goto 5, 3) := dk_167 0 5 (dk_at dksX3_grown_1 11 rfl rfl)
theorem dX3_grown_38 : decode cX3_grown 38 = .ok (.iload 5, 2) := dk_21 5 (dk_at dksX3_grown_1 14 rfl rfl)
theorem dX3_grown_40 : decode cX3_grown 40 = .ok (.istore_n 3, 1) := dk_62 (dk_at dksX3_grown_1 16 rfl rfl)
theorem dX3_grown_41 : decode cX3_grown 41 = .ok (.iinc 4 1, 3) := dk_132 4 1 (dk_at dksX3_grown_1 17 rfl rfl)
theorem dX3_grown_44 : decode cX3_grown 44 = .ok (.goto (-39), 3) := dk_167 255 217 (dk_at dksX3_grown_1 20 rfl rfl)
theorem dX3_grown_47 : decode cX3_grown 47 = .ok (.iload_n 3, 1) := dk_29 (dk_at dksX3_grown_1 23 rfl rfl)
theorem dX3_grown_48 : decode cX3_grown 48 = .ok (.ireturn, 1) := dk_172 (dk_at dksX3_grown_2 0 rfl rfl)
abbrev cX3_undo : ByteArray := prog_16_method_46_code
def yX3_undo : MethodName := ⟨RX3, "undo", "()I"⟩
def dkwX3_undo_2 : List UInt8 := [180, 0, 175, 104, 27, 96, 46, 79, 132, 1, 1, 167, 255, 227, 42, 180, 0, 175, 172]
abbrev dktX3_undo_2 : List UInt8 := dkwX3_undo_2 ++ []
def dkwX3_undo_1 : List UInt8 := [181, 0, 175, 3, 60, 27, 16, 68, 162, 0, 29, 42, 180, 0, 19, 27, 42, 180, 0, 25, 16, 68, 42]
abbrev dktX3_undo_1 : List UInt8 := dkwX3_undo_1 ++ dktX3_undo_2
def dkwX3_undo_0 : List UInt8 := [42, 3, 181, 0, 48, 42, 180, 0, 175, 154, 0, 6, 18, 188, 172, 42, 89, 180, 0, 175, 4, 100]
abbrev dktX3_undo_0 : List UInt8 := dkwX3_undo_0 ++ dktX3_undo_1
theorem dksX3_undo_0 : cX3_undo.data.toList.drop 0 = dktX3_undo_0 := by decide +kernel
theorem dksX3_undo_1 : cX3_undo.data.toList.drop 22 = dktX3_undo_1 := dk_seg dksX3_undo_0 22 rfl rfl
theorem dksX3_undo_2 : cX3_undo.data.toList.drop 45 = dktX3_undo_2 := dk_seg dksX3_undo_1 23 rfl rfl
theorem dX3_undo_0 : decode cX3_undo 0 = .ok (.aload_n 0, 1) := dk_42 (dk_at dksX3_undo_0 0 rfl rfl)
theorem dX3_undo_1 : decode cX3_undo 1 = .ok (.iconst 0, 1) := dk_3 (dk_at dksX3_undo_0 1 rfl rfl)
theorem dX3_undo_2 : decode cX3_undo 2 = .ok (.putfield 48, 3) := dk_181 0 48 (dk_at dksX3_undo_0 2 rfl rfl)
theorem dX3_undo_5 : decode cX3_undo 5 = .ok (.aload_n 0, 1) := dk_42 (dk_at dksX3_undo_0 5 rfl rfl)
theorem dX3_undo_6 : decode cX3_undo 6 = .ok (.getfield 175, 3) := dk_180 0 175 (dk_at dksX3_undo_0 6 rfl rfl)
theorem dX3_undo_9 : decode cX3_undo 9 = .ok (.ifCond .ne 6, 3) := dk_154 0 6 (dk_at dksX3_undo_0 9 rfl rfl)
theorem dX3_undo_12 : decode cX3_undo 12 = .ok (.ldc 188, 2) := dk_18 188 (dk_at dksX3_undo_0 12 rfl rfl)
theorem dX3_undo_14 : decode cX3_undo 14 = .ok (.ireturn, 1) := dk_172 (dk_at dksX3_undo_0 14 rfl rfl)
theorem dX3_undo_15 : decode cX3_undo 15 = .ok (.aload_n 0, 1) := dk_42 (dk_at dksX3_undo_0 15 rfl rfl)
theorem dX3_undo_16 : decode cX3_undo 16 = .ok (.dup, 1) := dk_89 (dk_at dksX3_undo_0 16 rfl rfl)
theorem dX3_undo_17 : decode cX3_undo 17 = .ok (.getfield 175, 3) := dk_180 0 175 (dk_at dksX3_undo_0 17 rfl rfl)
theorem dX3_undo_20 : decode cX3_undo 20 = .ok (.iconst 1, 1) := dk_4 (dk_at dksX3_undo_0 20 rfl rfl)
theorem dX3_undo_21 : decode cX3_undo 21 = .ok (.isub, 1) := dk_100 (dk_at dksX3_undo_0 21 rfl rfl)
theorem dX3_undo_22 : decode cX3_undo 22 = .ok (.putfield 175, 3) := dk_181 0 175 (dk_at dksX3_undo_1 0 rfl rfl)
theorem dX3_undo_25 : decode cX3_undo 25 = .ok (.iconst 0, 1) := dk_3 (dk_at dksX3_undo_1 3 rfl rfl)
theorem dX3_undo_26 : decode cX3_undo 26 = .ok (.istore_n 1, 1) := dk_60 (dk_at dksX3_undo_1 4 rfl rfl)
theorem dX3_undo_27 : decode cX3_undo 27 = .ok (.iload_n 1, 1) := dk_27 (dk_at dksX3_undo_1 5 rfl rfl)
theorem dX3_undo_28 : decode cX3_undo 28 = .ok (.bipush 68, 2) := dk_16 68 (dk_at dksX3_undo_1 6 rfl rfl)
theorem dX3_undo_30 : decode cX3_undo 30 = .ok (.if_icmp .ge 29, 3) := dk_162 0 29 (dk_at dksX3_undo_1 8 rfl rfl)
theorem dX3_undo_33 : decode cX3_undo 33 = .ok (.aload_n 0, 1) := dk_42 (dk_at dksX3_undo_1 11 rfl rfl)
theorem dX3_undo_34 : decode cX3_undo 34 = .ok (.getfield 19, 3) := dk_180 0 19 (dk_at dksX3_undo_1 12 rfl rfl)
theorem dX3_undo_37 : decode cX3_undo 37 = .ok (.iload_n 1, 1) := dk_27 (dk_at dksX3_undo_1 15 rfl rfl)
theorem dX3_undo_38 : decode cX3_undo 38 = .ok (.aload_n 0, 1) := dk_42 (dk_at dksX3_undo_1 16 rfl rfl)
theorem dX3_undo_39 : decode cX3_undo 39 = .ok (.getfield 25, 3) := dk_180 0 25 (dk_at dksX3_undo_1 17 rfl rfl)
theorem dX3_undo_42 : decode cX3_undo 42 = .ok (.bipush 68, 2) := dk_16 68 (dk_at dksX3_undo_1 20 rfl rfl)
theorem dX3_undo_44 : decode cX3_undo 44 = .ok (.aload_n 0, 1) := dk_42 (dk_at dksX3_undo_1 22 rfl rfl)
theorem dX3_undo_45 : decode cX3_undo 45 = .ok (.getfield 175, 3) := dk_180 0 175 (dk_at dksX3_undo_2 0 rfl rfl)
theorem dX3_undo_48 : decode cX3_undo 48 = .ok (.imul, 1) := dk_104 (dk_at dksX3_undo_2 3 rfl rfl)
theorem dX3_undo_49 : decode cX3_undo 49 = .ok (.iload_n 1, 1) := dk_27 (dk_at dksX3_undo_2 4 rfl rfl)
theorem dX3_undo_50 : decode cX3_undo 50 = .ok (.iadd, 1) := dk_96 (dk_at dksX3_undo_2 5 rfl rfl)
theorem dX3_undo_51 : decode cX3_undo 51 = .ok (.iaload, 1) := dk_46 (dk_at dksX3_undo_2 6 rfl rfl)
theorem dX3_undo_52 : decode cX3_undo 52 = .ok (.iastore, 1) := dk_79 (dk_at dksX3_undo_2 7 rfl rfl)
theorem dX3_undo_53 : decode cX3_undo 53 = .ok (.iinc 1 1, 3) := dk_132 1 1 (dk_at dksX3_undo_2 8 rfl rfl)
theorem dX3_undo_56 : decode cX3_undo 56 = .ok (.goto (-29), 3) := dk_167 255 227 (dk_at dksX3_undo_2 11 rfl rfl)
theorem dX3_undo_59 : decode cX3_undo 59 = .ok (.aload_n 0, 1) := dk_42 (dk_at dksX3_undo_2 14 rfl rfl)
theorem dX3_undo_60 : decode cX3_undo 60 = .ok (.getfield 175, 3) := dk_180 0 175 (dk_at dksX3_undo_2 15 rfl rfl)
theorem dX3_undo_63 : decode cX3_undo 63 = .ok (.ireturn, 1) := dk_172 (dk_at dksX3_undo_2 18 rfl rfl)
abbrev cX3_person : ByteArray := prog_16_method_47_code
def yX3_person : MethodName := ⟨RX3, "person", "(II)I"⟩
def dkwX3_person_5 : List UInt8 := [182, 0, 218, 172]
abbrev dktX3_person_5 : List UInt8 := dkwX3_person_5 ++ []
def dkwX3_person_4 : List UInt8 := [182, 0, 181, 42, 27, 5, 182, 0, 181, 96, 42, 27, 7, 182, 0, 181, 100, 172, 42, 27, 28, 7, 100]
abbrev dktX3_person_4 : List UInt8 := dkwX3_person_4 ++ dktX3_person_5
def dkwX3_person_3 : List UInt8 := [42, 27, 4, 182, 0, 181, 172, 42, 27, 6, 182, 0, 181, 172, 42, 27, 7, 182, 0, 181, 172, 42, 27, 6]
abbrev dktX3_person_3 : List UInt8 := dkwX3_person_3 ++ dktX3_person_4
def dkwX3_person_2 : List UInt8 := [170, 0, 0, 0, 0, 0, 73, 0, 0, 0, 0, 0, 0, 0, 3, 0, 0, 0, 31, 0, 0, 0, 38, 0, 0, 0, 45, 0, 0, 0, 52]
abbrev dktX3_person_2 : List UInt8 := dkwX3_person_2 ++ dktX3_person_3
def dkwX3_person_1 : List UInt8 := [154, 0, 6, 18, 68, 172, 28]
abbrev dktX3_person_1 : List UInt8 := dkwX3_person_1 ++ dktX3_person_2
def dkwX3_person_0 : List UInt8 := [42, 3, 181, 0, 48, 42, 27, 182, 0, 199, 153, 0, 15, 28, 133, 9, 20, 0, 221, 184, 0, 58]
abbrev dktX3_person_0 : List UInt8 := dkwX3_person_0 ++ dktX3_person_1
theorem dksX3_person_0 : cX3_person.data.toList.drop 0 = dktX3_person_0 := by decide +kernel
theorem dksX3_person_1 : cX3_person.data.toList.drop 22 = dktX3_person_1 := dk_seg dksX3_person_0 22 rfl rfl
theorem dksX3_person_2 : cX3_person.data.toList.drop 29 = dktX3_person_2 := dk_seg dksX3_person_1 7 rfl rfl
theorem dksX3_person_3 : cX3_person.data.toList.drop 60 = dktX3_person_3 := dk_seg dksX3_person_2 31 rfl rfl
theorem dksX3_person_4 : cX3_person.data.toList.drop 84 = dktX3_person_4 := dk_seg dksX3_person_3 24 rfl rfl
theorem dksX3_person_5 : cX3_person.data.toList.drop 107 = dktX3_person_5 := dk_seg dksX3_person_4 23 rfl rfl
theorem dX3_person_0 : decode cX3_person 0 = .ok (.aload_n 0, 1) := dk_42 (dk_at dksX3_person_0 0 rfl rfl)
theorem dX3_person_1 : decode cX3_person 1 = .ok (.iconst 0, 1) := dk_3 (dk_at dksX3_person_0 1 rfl rfl)
theorem dX3_person_2 : decode cX3_person 2 = .ok (.putfield 48, 3) := dk_181 0 48 (dk_at dksX3_person_0 2 rfl rfl)
theorem dX3_person_5 : decode cX3_person 5 = .ok (.aload_n 0, 1) := dk_42 (dk_at dksX3_person_0 5 rfl rfl)
theorem dX3_person_6 : decode cX3_person 6 = .ok (.iload_n 1, 1) := dk_27 (dk_at dksX3_person_0 6 rfl rfl)
theorem dX3_person_7 : decode cX3_person 7 = .ok (.invokevirtual 199, 3) := dk_182 0 199 (dk_at dksX3_person_0 7 rfl rfl)
theorem dX3_person_10 : decode cX3_person 10 = .ok (.ifCond .eq 15, 3) := dk_153 0 15 (dk_at dksX3_person_0 10 rfl rfl)
theorem dX3_person_13 : decode cX3_person 13 = .ok (.iload_n 2, 1) := dk_28 (dk_at dksX3_person_0 13 rfl rfl)
theorem dX3_person_14 : decode cX3_person 14 = .ok (.i2l, 1) := dk_133 (dk_at dksX3_person_0 14 rfl rfl)
theorem dX3_person_15 : decode cX3_person 15 = .ok (.lconst 0, 1) := dk_9 (dk_at dksX3_person_0 15 rfl rfl)
theorem dX3_person_16 : decode cX3_person 16 = .ok (.ldc2_w 221, 3) := dk_20 0 221 (dk_at dksX3_person_0 16 rfl rfl)
theorem dX3_person_19 : decode cX3_person 19 = .ok (.invokestatic 58, 3) := dk_184 0 58 (dk_at dksX3_person_0 19 rfl rfl)
theorem dX3_person_22 : decode cX3_person 22 = .ok (.ifCond .ne 6, 3) := dk_154 0 6 (dk_at dksX3_person_1 0 rfl rfl)
theorem dX3_person_25 : decode cX3_person 25 = .ok (.ldc 68, 2) := dk_18 68 (dk_at dksX3_person_1 3 rfl rfl)
theorem dX3_person_27 : decode cX3_person 27 = .ok (.ireturn, 1) := dk_172 (dk_at dksX3_person_1 5 rfl rfl)
theorem dX3_person_28 : decode cX3_person 28 = .ok (.iload_n 2, 1) := dk_28 (dk_at dksX3_person_1 6 rfl rfl)
theorem dX3_person_29 : decode cX3_person 29 = .ok (.tableswitch 73 0 3 #[31, 38, 45, 52], 31) := by decide +kernel
theorem dX3_person_60 : decode cX3_person 60 = .ok (.aload_n 0, 1) := dk_42 (dk_at dksX3_person_3 0 rfl rfl)
theorem dX3_person_61 : decode cX3_person 61 = .ok (.iload_n 1, 1) := dk_27 (dk_at dksX3_person_3 1 rfl rfl)
theorem dX3_person_62 : decode cX3_person 62 = .ok (.iconst 1, 1) := dk_4 (dk_at dksX3_person_3 2 rfl rfl)
theorem dX3_person_63 : decode cX3_person 63 = .ok (.invokevirtual 181, 3) := dk_182 0 181 (dk_at dksX3_person_3 3 rfl rfl)
theorem dX3_person_66 : decode cX3_person 66 = .ok (.ireturn, 1) := dk_172 (dk_at dksX3_person_3 6 rfl rfl)
theorem dX3_person_67 : decode cX3_person 67 = .ok (.aload_n 0, 1) := dk_42 (dk_at dksX3_person_3 7 rfl rfl)
theorem dX3_person_68 : decode cX3_person 68 = .ok (.iload_n 1, 1) := dk_27 (dk_at dksX3_person_3 8 rfl rfl)
theorem dX3_person_69 : decode cX3_person 69 = .ok (.iconst 3, 1) := dk_6 (dk_at dksX3_person_3 9 rfl rfl)
theorem dX3_person_70 : decode cX3_person 70 = .ok (.invokevirtual 181, 3) := dk_182 0 181 (dk_at dksX3_person_3 10 rfl rfl)
theorem dX3_person_73 : decode cX3_person 73 = .ok (.ireturn, 1) := dk_172 (dk_at dksX3_person_3 13 rfl rfl)
theorem dX3_person_74 : decode cX3_person 74 = .ok (.aload_n 0, 1) := dk_42 (dk_at dksX3_person_3 14 rfl rfl)
theorem dX3_person_75 : decode cX3_person 75 = .ok (.iload_n 1, 1) := dk_27 (dk_at dksX3_person_3 15 rfl rfl)
theorem dX3_person_76 : decode cX3_person 76 = .ok (.iconst 4, 1) := dk_7 (dk_at dksX3_person_3 16 rfl rfl)
theorem dX3_person_77 : decode cX3_person 77 = .ok (.invokevirtual 181, 3) := dk_182 0 181 (dk_at dksX3_person_3 17 rfl rfl)
theorem dX3_person_80 : decode cX3_person 80 = .ok (.ireturn, 1) := dk_172 (dk_at dksX3_person_3 20 rfl rfl)
theorem dX3_person_81 : decode cX3_person 81 = .ok (.aload_n 0, 1) := dk_42 (dk_at dksX3_person_3 21 rfl rfl)
theorem dX3_person_82 : decode cX3_person 82 = .ok (.iload_n 1, 1) := dk_27 (dk_at dksX3_person_3 22 rfl rfl)
theorem dX3_person_83 : decode cX3_person 83 = .ok (.iconst 3, 1) := dk_6 (dk_at dksX3_person_3 23 rfl rfl)
theorem dX3_person_84 : decode cX3_person 84 = .ok (.invokevirtual 181, 3) := dk_182 0 181 (dk_at dksX3_person_4 0 rfl rfl)
theorem dX3_person_87 : decode cX3_person 87 = .ok (.aload_n 0, 1) := dk_42 (dk_at dksX3_person_4 3 rfl rfl)
theorem dX3_person_88 : decode cX3_person 88 = .ok (.iload_n 1, 1) := dk_27 (dk_at dksX3_person_4 4 rfl rfl)
theorem dX3_person_89 : decode cX3_person 89 = .ok (.iconst 2, 1) := dk_5 (dk_at dksX3_person_4 5 rfl rfl)
theorem dX3_person_90 : decode cX3_person 90 = .ok (.invokevirtual 181, 3) := dk_182 0 181 (dk_at dksX3_person_4 6 rfl rfl)
theorem dX3_person_93 : decode cX3_person 93 = .ok (.iadd, 1) := dk_96 (dk_at dksX3_person_4 9 rfl rfl)
theorem dX3_person_94 : decode cX3_person 94 = .ok (.aload_n 0, 1) := dk_42 (dk_at dksX3_person_4 10 rfl rfl)
theorem dX3_person_95 : decode cX3_person 95 = .ok (.iload_n 1, 1) := dk_27 (dk_at dksX3_person_4 11 rfl rfl)
theorem dX3_person_96 : decode cX3_person 96 = .ok (.iconst 4, 1) := dk_7 (dk_at dksX3_person_4 12 rfl rfl)
theorem dX3_person_97 : decode cX3_person 97 = .ok (.invokevirtual 181, 3) := dk_182 0 181 (dk_at dksX3_person_4 13 rfl rfl)
theorem dX3_person_100 : decode cX3_person 100 = .ok (.isub, 1) := dk_100 (dk_at dksX3_person_4 16 rfl rfl)
theorem dX3_person_101 : decode cX3_person 101 = .ok (.ireturn, 1) := dk_172 (dk_at dksX3_person_4 17 rfl rfl)
theorem dX3_person_102 : decode cX3_person 102 = .ok (.aload_n 0, 1) := dk_42 (dk_at dksX3_person_4 18 rfl rfl)
theorem dX3_person_103 : decode cX3_person 103 = .ok (.iload_n 1, 1) := dk_27 (dk_at dksX3_person_4 19 rfl rfl)
theorem dX3_person_104 : decode cX3_person 104 = .ok (.iload_n 2, 1) := dk_28 (dk_at dksX3_person_4 20 rfl rfl)
theorem dX3_person_105 : decode cX3_person 105 = .ok (.iconst 4, 1) := dk_7 (dk_at dksX3_person_4 21 rfl rfl)
theorem dX3_person_106 : decode cX3_person 106 = .ok (.isub, 1) := dk_100 (dk_at dksX3_person_4 22 rfl rfl)
theorem dX3_person_107 : decode cX3_person 107 = .ok (.invokevirtual 218, 3) := dk_182 0 218 (dk_at dksX3_person_5 0 rfl rfl)
theorem dX3_person_110 : decode cX3_person 110 = .ok (.ireturn, 1) := dk_172 (dk_at dksX3_person_5 3 rfl rfl)
abbrev cX3_gains : ByteArray := prog_16_method_49_code
def yX3_gains : MethodName := ⟨RX3, "gains", "(IIII)I"⟩
def dkwX3_gains_6 : List UInt8 := [167, 0, 5, 21, 7, 172]
abbrev dktX3_gains_6 : List UInt8 := dkwX3_gains_6 ++ []
def dkwX3_gains_5 : List UInt8 := [132, 8, 1, 167, 255, 203, 21, 4, 154, 0, 8, 21, 5, 167, 0, 16, 21, 4, 4, 160, 0, 8, 21, 6]
abbrev dktX3_gains_5 : List UInt8 := dkwX3_gains_5 ++ dktX3_gains_6
def dkwX3_gains_4 : List UInt8 := [132, 5, 1, 21, 6, 18, 84, 160, 0, 8, 21, 8, 167, 0, 5, 21, 6, 54, 6, 21, 8, 54, 7]
abbrev dktX3_gains_4 : List UInt8 := dkwX3_gains_4 ++ dktX3_gains_5
def dkwX3_gains_3 : List UInt8 := [163, 0, 52, 42, 180, 0, 31, 8, 29, 104, 28, 96, 47, 21, 8, 123, 10, 127, 10, 148, 154, 0, 26]
abbrev dktX3_gains_3 : List UInt8 := dkwX3_gains_3 ++ dktX3_gains_4
def dkwX3_gains_2 : List UInt8 := [172, 42, 27, 182, 0, 228, 3, 54, 5, 18, 84, 54, 6, 18, 84, 54, 7, 3, 54, 8, 21, 8, 16, 40]
abbrev dktX3_gains_2 : List UInt8 := dkwX3_gains_2 ++ dktX3_gains_3
def dkwX3_gains_1 : List UInt8 := [20, 0, 226, 184, 0, 58, 153, 0, 16, 21, 4, 133, 9, 20, 0, 66, 184, 0, 58, 154, 0, 6, 18, 68]
abbrev dktX3_gains_1 : List UInt8 := dkwX3_gains_1 ++ dktX3_gains_2
def dkwX3_gains_0 : List UInt8 := [42, 3, 181, 0, 48, 42, 27, 182, 0, 199, 153, 0, 36, 42, 28, 182, 0, 223, 153, 0, 28, 29, 133, 9]
abbrev dktX3_gains_0 : List UInt8 := dkwX3_gains_0 ++ dktX3_gains_1
theorem dksX3_gains_0 : cX3_gains.data.toList.drop 0 = dktX3_gains_0 := by decide +kernel
theorem dksX3_gains_1 : cX3_gains.data.toList.drop 24 = dktX3_gains_1 := dk_seg dksX3_gains_0 24 rfl rfl
theorem dksX3_gains_2 : cX3_gains.data.toList.drop 48 = dktX3_gains_2 := dk_seg dksX3_gains_1 24 rfl rfl
theorem dksX3_gains_3 : cX3_gains.data.toList.drop 72 = dktX3_gains_3 := dk_seg dksX3_gains_2 24 rfl rfl
theorem dksX3_gains_4 : cX3_gains.data.toList.drop 95 = dktX3_gains_4 := dk_seg dksX3_gains_3 23 rfl rfl
theorem dksX3_gains_5 : cX3_gains.data.toList.drop 118 = dktX3_gains_5 := dk_seg dksX3_gains_4 23 rfl rfl
theorem dksX3_gains_6 : cX3_gains.data.toList.drop 142 = dktX3_gains_6 := dk_seg dksX3_gains_5 24 rfl rfl
theorem dX3_gains_0 : decode cX3_gains 0 = .ok (.aload_n 0, 1) := dk_42 (dk_at dksX3_gains_0 0 rfl rfl)
theorem dX3_gains_1 : decode cX3_gains 1 = .ok (.iconst 0, 1) := dk_3 (dk_at dksX3_gains_0 1 rfl rfl)
theorem dX3_gains_2 : decode cX3_gains 2 = .ok (.putfield 48, 3) := dk_181 0 48 (dk_at dksX3_gains_0 2 rfl rfl)
theorem dX3_gains_5 : decode cX3_gains 5 = .ok (.aload_n 0, 1) := dk_42 (dk_at dksX3_gains_0 5 rfl rfl)
theorem dX3_gains_6 : decode cX3_gains 6 = .ok (.iload_n 1, 1) := dk_27 (dk_at dksX3_gains_0 6 rfl rfl)
theorem dX3_gains_7 : decode cX3_gains 7 = .ok (.invokevirtual 199, 3) := dk_182 0 199 (dk_at dksX3_gains_0 7 rfl rfl)
theorem dX3_gains_10 : decode cX3_gains 10 = .ok (.ifCond .eq 36, 3) := dk_153 0 36 (dk_at dksX3_gains_0 10 rfl rfl)
theorem dX3_gains_13 : decode cX3_gains 13 = .ok (.aload_n 0, 1) := dk_42 (dk_at dksX3_gains_0 13 rfl rfl)
theorem dX3_gains_14 : decode cX3_gains 14 = .ok (.iload_n 2, 1) := dk_28 (dk_at dksX3_gains_0 14 rfl rfl)
theorem dX3_gains_15 : decode cX3_gains 15 = .ok (.invokevirtual 223, 3) := dk_182 0 223 (dk_at dksX3_gains_0 15 rfl rfl)
theorem dX3_gains_18 : decode cX3_gains 18 = .ok (.ifCond .eq 28, 3) := dk_153 0 28 (dk_at dksX3_gains_0 18 rfl rfl)
theorem dX3_gains_21 : decode cX3_gains 21 = .ok (.iload_n 3, 1) := dk_29 (dk_at dksX3_gains_0 21 rfl rfl)
theorem dX3_gains_22 : decode cX3_gains 22 = .ok (.i2l, 1) := dk_133 (dk_at dksX3_gains_0 22 rfl rfl)
theorem dX3_gains_23 : decode cX3_gains 23 = .ok (.lconst 0, 1) := dk_9 (dk_at dksX3_gains_0 23 rfl rfl)
theorem dX3_gains_24 : decode cX3_gains 24 = .ok (.ldc2_w 226, 3) := dk_20 0 226 (dk_at dksX3_gains_1 0 rfl rfl)
theorem dX3_gains_27 : decode cX3_gains 27 = .ok (.invokestatic 58, 3) := dk_184 0 58 (dk_at dksX3_gains_1 3 rfl rfl)
theorem dX3_gains_30 : decode cX3_gains 30 = .ok (.ifCond .eq 16, 3) := dk_153 0 16 (dk_at dksX3_gains_1 6 rfl rfl)
theorem dX3_gains_33 : decode cX3_gains 33 = .ok (.iload 4, 2) := dk_21 4 (dk_at dksX3_gains_1 9 rfl rfl)
theorem dX3_gains_35 : decode cX3_gains 35 = .ok (.i2l, 1) := dk_133 (dk_at dksX3_gains_1 11 rfl rfl)
theorem dX3_gains_36 : decode cX3_gains 36 = .ok (.lconst 0, 1) := dk_9 (dk_at dksX3_gains_1 12 rfl rfl)
theorem dX3_gains_37 : decode cX3_gains 37 = .ok (.ldc2_w 66, 3) := dk_20 0 66 (dk_at dksX3_gains_1 13 rfl rfl)
theorem dX3_gains_40 : decode cX3_gains 40 = .ok (.invokestatic 58, 3) := dk_184 0 58 (dk_at dksX3_gains_1 16 rfl rfl)
theorem dX3_gains_43 : decode cX3_gains 43 = .ok (.ifCond .ne 6, 3) := dk_154 0 6 (dk_at dksX3_gains_1 19 rfl rfl)
theorem dX3_gains_46 : decode cX3_gains 46 = .ok (.ldc 68, 2) := dk_18 68 (dk_at dksX3_gains_1 22 rfl rfl)
theorem dX3_gains_48 : decode cX3_gains 48 = .ok (.ireturn, 1) := dk_172 (dk_at dksX3_gains_2 0 rfl rfl)
theorem dX3_gains_49 : decode cX3_gains 49 = .ok (.aload_n 0, 1) := dk_42 (dk_at dksX3_gains_2 1 rfl rfl)
theorem dX3_gains_50 : decode cX3_gains 50 = .ok (.iload_n 1, 1) := dk_27 (dk_at dksX3_gains_2 2 rfl rfl)
theorem dX3_gains_51 : decode cX3_gains 51 = .ok (.invokevirtual 228, 3) := dk_182 0 228 (dk_at dksX3_gains_2 3 rfl rfl)
theorem dX3_gains_54 : decode cX3_gains 54 = .ok (.iconst 0, 1) := dk_3 (dk_at dksX3_gains_2 6 rfl rfl)
theorem dX3_gains_55 : decode cX3_gains 55 = .ok (.istore 5, 2) := dk_54 5 (dk_at dksX3_gains_2 7 rfl rfl)
theorem dX3_gains_57 : decode cX3_gains 57 = .ok (.ldc 84, 2) := dk_18 84 (dk_at dksX3_gains_2 9 rfl rfl)
theorem dX3_gains_59 : decode cX3_gains 59 = .ok (.istore 6, 2) := dk_54 6 (dk_at dksX3_gains_2 11 rfl rfl)
theorem dX3_gains_61 : decode cX3_gains 61 = .ok (.ldc 84, 2) := dk_18 84 (dk_at dksX3_gains_2 13 rfl rfl)
theorem dX3_gains_63 : decode cX3_gains 63 = .ok (.istore 7, 2) := dk_54 7 (dk_at dksX3_gains_2 15 rfl rfl)
theorem dX3_gains_65 : decode cX3_gains 65 = .ok (.iconst 0, 1) := dk_3 (dk_at dksX3_gains_2 17 rfl rfl)
theorem dX3_gains_66 : decode cX3_gains 66 = .ok (.istore 8, 2) := dk_54 8 (dk_at dksX3_gains_2 18 rfl rfl)
theorem dX3_gains_68 : decode cX3_gains 68 = .ok (.iload 8, 2) := dk_21 8 (dk_at dksX3_gains_2 20 rfl rfl)
theorem dX3_gains_70 : decode cX3_gains 70 = .ok (.bipush 40, 2) := dk_16 40 (dk_at dksX3_gains_2 22 rfl rfl)
theorem dX3_gains_72 : decode cX3_gains 72 = .ok (.if_icmp .gt 52, 3) := dk_163 0 52 (dk_at dksX3_gains_3 0 rfl rfl)
theorem dX3_gains_75 : decode cX3_gains 75 = .ok (.aload_n 0, 1) := dk_42 (dk_at dksX3_gains_3 3 rfl rfl)
theorem dX3_gains_76 : decode cX3_gains 76 = .ok (.getfield 31, 3) := dk_180 0 31 (dk_at dksX3_gains_3 4 rfl rfl)
theorem dX3_gains_79 : decode cX3_gains 79 = .ok (.iconst 5, 1) := dk_8 (dk_at dksX3_gains_3 7 rfl rfl)
theorem dX3_gains_80 : decode cX3_gains 80 = .ok (.iload_n 3, 1) := dk_29 (dk_at dksX3_gains_3 8 rfl rfl)
theorem dX3_gains_81 : decode cX3_gains 81 = .ok (.imul, 1) := dk_104 (dk_at dksX3_gains_3 9 rfl rfl)
theorem dX3_gains_82 : decode cX3_gains 82 = .ok (.iload_n 2, 1) := dk_28 (dk_at dksX3_gains_3 10 rfl rfl)
theorem dX3_gains_83 : decode cX3_gains 83 = .ok (.iadd, 1) := dk_96 (dk_at dksX3_gains_3 11 rfl rfl)
theorem dX3_gains_84 : decode cX3_gains 84 = .ok (.laload, 1) := dk_47 (dk_at dksX3_gains_3 12 rfl rfl)
theorem dX3_gains_85 : decode cX3_gains 85 = .ok (.iload 8, 2) := dk_21 8 (dk_at dksX3_gains_3 13 rfl rfl)
theorem dX3_gains_87 : decode cX3_gains 87 = .ok (.lshr, 1) := dk_123 (dk_at dksX3_gains_3 15 rfl rfl)
theorem dX3_gains_88 : decode cX3_gains 88 = .ok (.lconst 1, 1) := dk_10 (dk_at dksX3_gains_3 16 rfl rfl)
theorem dX3_gains_89 : decode cX3_gains 89 = .ok (.land, 1) := dk_127 (dk_at dksX3_gains_3 17 rfl rfl)
theorem dX3_gains_90 : decode cX3_gains 90 = .ok (.lconst 1, 1) := dk_10 (dk_at dksX3_gains_3 18 rfl rfl)
theorem dX3_gains_91 : decode cX3_gains 91 = .ok (.lcmp, 1) := dk_148 (dk_at dksX3_gains_3 19 rfl rfl)
theorem dX3_gains_92 : decode cX3_gains 92 = .ok (.ifCond .ne 26, 3) := dk_154 0 26 (dk_at dksX3_gains_3 20 rfl rfl)
theorem dX3_gains_95 : decode cX3_gains 95 = .ok (.iinc 5 1, 3) := dk_132 5 1 (dk_at dksX3_gains_4 0 rfl rfl)
theorem dX3_gains_98 : decode cX3_gains 98 = .ok (.iload 6, 2) := dk_21 6 (dk_at dksX3_gains_4 3 rfl rfl)
theorem dX3_gains_100 : decode cX3_gains 100 = .ok (.ldc 84, 2) := dk_18 84 (dk_at dksX3_gains_4 5 rfl rfl)
theorem dX3_gains_102 : decode cX3_gains 102 = .ok (.if_icmp .ne 8, 3) := dk_160 0 8 (dk_at dksX3_gains_4 7 rfl rfl)
theorem dX3_gains_105 : decode cX3_gains 105 = .ok (.iload 8, 2) := dk_21 8 (dk_at dksX3_gains_4 10 rfl rfl)
theorem dX3_gains_107 : decode cX3_gains 107 = .ok (.goto 5, 3) := dk_167 0 5 (dk_at dksX3_gains_4 12 rfl rfl)
theorem dX3_gains_110 : decode cX3_gains 110 = .ok (.iload 6, 2) := dk_21 6 (dk_at dksX3_gains_4 15 rfl rfl)
theorem dX3_gains_112 : decode cX3_gains 112 = .ok (.istore 6, 2) := dk_54 6 (dk_at dksX3_gains_4 17 rfl rfl)
theorem dX3_gains_114 : decode cX3_gains 114 = .ok (.iload 8, 2) := dk_21 8 (dk_at dksX3_gains_4 19 rfl rfl)
theorem dX3_gains_116 : decode cX3_gains 116 = .ok (.istore 7, 2) := dk_54 7 (dk_at dksX3_gains_4 21 rfl rfl)
theorem dX3_gains_118 : decode cX3_gains 118 = .ok (.iinc 8 1, 3) := dk_132 8 1 (dk_at dksX3_gains_5 0 rfl rfl)
theorem dX3_gains_121 : decode cX3_gains 121 = .ok (.goto (-53), 3) := dk_167 255 203 (dk_at dksX3_gains_5 3 rfl rfl)
theorem dX3_gains_124 : decode cX3_gains 124 = .ok (.iload 4, 2) := dk_21 4 (dk_at dksX3_gains_5 6 rfl rfl)
theorem dX3_gains_126 : decode cX3_gains 126 = .ok (.ifCond .ne 8, 3) := dk_154 0 8 (dk_at dksX3_gains_5 8 rfl rfl)
theorem dX3_gains_129 : decode cX3_gains 129 = .ok (.iload 5, 2) := dk_21 5 (dk_at dksX3_gains_5 11 rfl rfl)
theorem dX3_gains_131 : decode cX3_gains 131 = .ok (.goto 16, 3) := dk_167 0 16 (dk_at dksX3_gains_5 13 rfl rfl)
theorem dX3_gains_134 : decode cX3_gains 134 = .ok (.iload 4, 2) := dk_21 4 (dk_at dksX3_gains_5 16 rfl rfl)
theorem dX3_gains_136 : decode cX3_gains 136 = .ok (.iconst 1, 1) := dk_4 (dk_at dksX3_gains_5 18 rfl rfl)
theorem dX3_gains_137 : decode cX3_gains 137 = .ok (.if_icmp .ne 8, 3) := dk_160 0 8 (dk_at dksX3_gains_5 19 rfl rfl)
theorem dX3_gains_140 : decode cX3_gains 140 = .ok (.iload 6, 2) := dk_21 6 (dk_at dksX3_gains_5 22 rfl rfl)
theorem dX3_gains_142 : decode cX3_gains 142 = .ok (.goto 5, 3) := dk_167 0 5 (dk_at dksX3_gains_6 0 rfl rfl)
theorem dX3_gains_145 : decode cX3_gains 145 = .ok (.iload 7, 2) := dk_21 7 (dk_at dksX3_gains_6 3 rfl rfl)
theorem dX3_gains_147 : decode cX3_gains 147 = .ok (.ireturn, 1) := dk_172 (dk_at dksX3_gains_6 5 rfl rfl)
abbrev cX3_isHarbour : ByteArray := prog_16_method_31_code
def yX3_isHarbour : MethodName := ⟨RX3, "isHarbour", "(I)Z"⟩
def dkwX3_isHarbour_0 : List UInt8 := [27, 133, 9, 42, 180, 0, 19, 3, 46, 4, 100, 133, 184, 0, 58, 172]
abbrev dktX3_isHarbour_0 : List UInt8 := dkwX3_isHarbour_0 ++ []
theorem dksX3_isHarbour_0 : cX3_isHarbour.data.toList.drop 0 = dktX3_isHarbour_0 := by decide +kernel
theorem dX3_isHarbour_0 : decode cX3_isHarbour 0 = .ok (.iload_n 1, 1) := dk_27 (dk_at dksX3_isHarbour_0 0 rfl rfl)
theorem dX3_isHarbour_1 : decode cX3_isHarbour 1 = .ok (.i2l, 1) := dk_133 (dk_at dksX3_isHarbour_0 1 rfl rfl)
theorem dX3_isHarbour_2 : decode cX3_isHarbour 2 = .ok (.lconst 0, 1) := dk_9 (dk_at dksX3_isHarbour_0 2 rfl rfl)
theorem dX3_isHarbour_3 : decode cX3_isHarbour 3 = .ok (.aload_n 0, 1) := dk_42 (dk_at dksX3_isHarbour_0 3 rfl rfl)
theorem dX3_isHarbour_4 : decode cX3_isHarbour 4 = .ok (.getfield 19, 3) := dk_180 0 19 (dk_at dksX3_isHarbour_0 4 rfl rfl)
theorem dX3_isHarbour_7 : decode cX3_isHarbour 7 = .ok (.iconst 0, 1) := dk_3 (dk_at dksX3_isHarbour_0 7 rfl rfl)
theorem dX3_isHarbour_8 : decode cX3_isHarbour 8 = .ok (.iaload, 1) := dk_46 (dk_at dksX3_isHarbour_0 8 rfl rfl)
theorem dX3_isHarbour_9 : decode cX3_isHarbour 9 = .ok (.iconst 1, 1) := dk_4 (dk_at dksX3_isHarbour_0 9 rfl rfl)
theorem dX3_isHarbour_10 : decode cX3_isHarbour 10 = .ok (.isub, 1) := dk_100 (dk_at dksX3_isHarbour_0 10 rfl rfl)
theorem dX3_isHarbour_11 : decode cX3_isHarbour 11 = .ok (.i2l, 1) := dk_133 (dk_at dksX3_isHarbour_0 11 rfl rfl)
theorem dX3_isHarbour_12 : decode cX3_isHarbour 12 = .ok (.invokestatic 58, 3) := dk_184 0 58 (dk_at dksX3_isHarbour_0 12 rfl rfl)
theorem dX3_isHarbour_15 : decode cX3_isHarbour 15 = .ok (.ireturn, 1) := dk_172 (dk_at dksX3_isHarbour_0 15 rfl rfl)
abbrev cX3_layGains : ByteArray := prog_16_method_48_code
def yX3_layGains : MethodName := ⟨RX3, "layGains", "(I)V"⟩
def dkwX3_layGains_7 : List UInt8 := [132, 6, 1, 167, 255, 174, 132, 3, 1, 167, 255, 126, 132, 2, 1, 167, 255, 112, 177]
abbrev dktX3_layGains_7 : List UInt8 := dkwX3_layGains_7 ++ []
def dkwX3_layGains_6 : List UInt8 := [96, 92, 47, 22, 4, 42, 21, 6, 5, 182, 0, 178, 42, 27, 21, 6, 182, 0, 192, 100, 121, 129, 80]
abbrev dktX3_layGains_6 : List UInt8 := dkwX3_layGains_6 ++ dktX3_layGains_7
def dkwX3_layGains_5 : List UInt8 := [21, 7, 18, 84, 159, 0, 43, 21, 8, 16, 40, 163, 0, 36, 42, 180, 0, 31, 8, 21, 8, 104, 21, 7]
abbrev dktX3_layGains_5 : List UInt8 := dkwX3_layGains_5 ++ dktX3_layGains_6
def dkwX3_layGains_4 : List UInt8 := [162, 0, 77, 42, 27, 21, 6, 29, 182, 0, 184, 54, 7, 28, 42, 21, 6, 5, 182, 0, 178, 96, 54, 8]
abbrev dktX3_layGains_4 : List UInt8 := dkwX3_layGains_4 ++ dktX3_layGains_5
def dkwX3_layGains_3 : List UInt8 := [8, 28, 104, 8, 96, 29, 96, 92, 47, 22, 4, 129, 80, 3, 54, 6, 21, 6, 42, 180, 0, 19, 5, 46]
abbrev dktX3_layGains_3 : List UInt8 := dkwX3_layGains_3 ++ dktX3_layGains_4
def dkwX3_layGains_2 : List UInt8 := [180, 0, 19, 3, 46, 162, 0, 126, 42, 180, 0, 31, 8, 28, 104, 29, 96, 47, 55, 4, 42, 180, 0, 31]
abbrev dktX3_layGains_2 : List UInt8 := dkwX3_layGains_2 ++ dktX3_layGains_3
def dkwX3_layGains_1 : List UInt8 := [180, 0, 31, 42, 27, 4, 182, 0, 181, 10, 80, 3, 61, 28, 16, 40, 162, 0, 144, 3, 62, 29, 42]
abbrev dktX3_layGains_1 : List UInt8 := dkwX3_layGains_1 ++ dktX3_layGains_2
def dkwX3_layGains_0 : List UInt8 := [3, 61, 28, 17, 0, 205, 162, 0, 16, 42, 180, 0, 31, 28, 9, 80, 132, 2, 1, 167, 255, 239, 42]
abbrev dktX3_layGains_0 : List UInt8 := dkwX3_layGains_0 ++ dktX3_layGains_1
theorem dksX3_layGains_0 : cX3_layGains.data.toList.drop 0 = dktX3_layGains_0 := by decide +kernel
theorem dksX3_layGains_1 : cX3_layGains.data.toList.drop 23 = dktX3_layGains_1 := dk_seg dksX3_layGains_0 23 rfl rfl
theorem dksX3_layGains_2 : cX3_layGains.data.toList.drop 46 = dktX3_layGains_2 := dk_seg dksX3_layGains_1 23 rfl rfl
theorem dksX3_layGains_3 : cX3_layGains.data.toList.drop 70 = dktX3_layGains_3 := dk_seg dksX3_layGains_2 24 rfl rfl
theorem dksX3_layGains_4 : cX3_layGains.data.toList.drop 94 = dktX3_layGains_4 := dk_seg dksX3_layGains_3 24 rfl rfl
theorem dksX3_layGains_5 : cX3_layGains.data.toList.drop 118 = dktX3_layGains_5 := dk_seg dksX3_layGains_4 24 rfl rfl
theorem dksX3_layGains_6 : cX3_layGains.data.toList.drop 142 = dktX3_layGains_6 := dk_seg dksX3_layGains_5 24 rfl rfl
theorem dksX3_layGains_7 : cX3_layGains.data.toList.drop 165 = dktX3_layGains_7 := dk_seg dksX3_layGains_6 23 rfl rfl
theorem dX3_layGains_0 : decode cX3_layGains 0 = .ok (.iconst 0, 1) := dk_3 (dk_at dksX3_layGains_0 0 rfl rfl)
theorem dX3_layGains_1 : decode cX3_layGains 1 = .ok (.istore_n 2, 1) := dk_61 (dk_at dksX3_layGains_0 1 rfl rfl)
theorem dX3_layGains_2 : decode cX3_layGains 2 = .ok (.iload_n 2, 1) := dk_28 (dk_at dksX3_layGains_0 2 rfl rfl)
theorem dX3_layGains_3 : decode cX3_layGains 3 = .ok (.sipush 205, 3) := dk_17 0 205 (dk_at dksX3_layGains_0 3 rfl rfl)
theorem dX3_layGains_6 : decode cX3_layGains 6 = .ok (.if_icmp .ge 16, 3) := dk_162 0 16 (dk_at dksX3_layGains_0 6 rfl rfl)
theorem dX3_layGains_9 : decode cX3_layGains 9 = .ok (.aload_n 0, 1) := dk_42 (dk_at dksX3_layGains_0 9 rfl rfl)
theorem dX3_layGains_10 : decode cX3_layGains 10 = .ok (.getfield 31, 3) := dk_180 0 31 (dk_at dksX3_layGains_0 10 rfl rfl)
theorem dX3_layGains_13 : decode cX3_layGains 13 = .ok (.iload_n 2, 1) := dk_28 (dk_at dksX3_layGains_0 13 rfl rfl)
theorem dX3_layGains_14 : decode cX3_layGains 14 = .ok (.lconst 0, 1) := dk_9 (dk_at dksX3_layGains_0 14 rfl rfl)
theorem dX3_layGains_15 : decode cX3_layGains 15 = .ok (.lastore, 1) := dk_80 (dk_at dksX3_layGains_0 15 rfl rfl)
theorem dX3_layGains_16 : decode cX3_layGains 16 = .ok (.iinc 2 1, 3) := dk_132 2 1 (dk_at dksX3_layGains_0 16 rfl rfl)
theorem dX3_layGains_19 : decode cX3_layGains 19 = .ok (.goto (-17), 3) := dk_167 255 239 (dk_at dksX3_layGains_0 19 rfl rfl)
theorem dX3_layGains_22 : decode cX3_layGains 22 = .ok (.aload_n 0, 1) := dk_42 (dk_at dksX3_layGains_0 22 rfl rfl)
theorem dX3_layGains_23 : decode cX3_layGains 23 = .ok (.getfield 31, 3) := dk_180 0 31 (dk_at dksX3_layGains_1 0 rfl rfl)
theorem dX3_layGains_26 : decode cX3_layGains 26 = .ok (.aload_n 0, 1) := dk_42 (dk_at dksX3_layGains_1 3 rfl rfl)
theorem dX3_layGains_27 : decode cX3_layGains 27 = .ok (.iload_n 1, 1) := dk_27 (dk_at dksX3_layGains_1 4 rfl rfl)
theorem dX3_layGains_28 : decode cX3_layGains 28 = .ok (.iconst 1, 1) := dk_4 (dk_at dksX3_layGains_1 5 rfl rfl)
theorem dX3_layGains_29 : decode cX3_layGains 29 = .ok (.invokevirtual 181, 3) := dk_182 0 181 (dk_at dksX3_layGains_1 6 rfl rfl)
theorem dX3_layGains_32 : decode cX3_layGains 32 = .ok (.lconst 1, 1) := dk_10 (dk_at dksX3_layGains_1 9 rfl rfl)
theorem dX3_layGains_33 : decode cX3_layGains 33 = .ok (.lastore, 1) := dk_80 (dk_at dksX3_layGains_1 10 rfl rfl)
theorem dX3_layGains_34 : decode cX3_layGains 34 = .ok (.iconst 0, 1) := dk_3 (dk_at dksX3_layGains_1 11 rfl rfl)
theorem dX3_layGains_35 : decode cX3_layGains 35 = .ok (.istore_n 2, 1) := dk_61 (dk_at dksX3_layGains_1 12 rfl rfl)
theorem dX3_layGains_36 : decode cX3_layGains 36 = .ok (.iload_n 2, 1) := dk_28 (dk_at dksX3_layGains_1 13 rfl rfl)
theorem dX3_layGains_37 : decode cX3_layGains 37 = .ok (.bipush 40, 2) := dk_16 40 (dk_at dksX3_layGains_1 14 rfl rfl)
theorem dX3_layGains_39 : decode cX3_layGains 39 = .ok (.if_icmp .ge 144, 3) := dk_162 0 144 (dk_at dksX3_layGains_1 16 rfl rfl)
theorem dX3_layGains_42 : decode cX3_layGains 42 = .ok (.iconst 0, 1) := dk_3 (dk_at dksX3_layGains_1 19 rfl rfl)
theorem dX3_layGains_43 : decode cX3_layGains 43 = .ok (.istore_n 3, 1) := dk_62 (dk_at dksX3_layGains_1 20 rfl rfl)
theorem dX3_layGains_44 : decode cX3_layGains 44 = .ok (.iload_n 3, 1) := dk_29 (dk_at dksX3_layGains_1 21 rfl rfl)
theorem dX3_layGains_45 : decode cX3_layGains 45 = .ok (.aload_n 0, 1) := dk_42 (dk_at dksX3_layGains_1 22 rfl rfl)
theorem dX3_layGains_46 : decode cX3_layGains 46 = .ok (.getfield 19, 3) := dk_180 0 19 (dk_at dksX3_layGains_2 0 rfl rfl)
theorem dX3_layGains_49 : decode cX3_layGains 49 = .ok (.iconst 0, 1) := dk_3 (dk_at dksX3_layGains_2 3 rfl rfl)
theorem dX3_layGains_50 : decode cX3_layGains 50 = .ok (.iaload, 1) := dk_46 (dk_at dksX3_layGains_2 4 rfl rfl)
theorem dX3_layGains_51 : decode cX3_layGains 51 = .ok (.if_icmp .ge 126, 3) := dk_162 0 126 (dk_at dksX3_layGains_2 5 rfl rfl)
theorem dX3_layGains_54 : decode cX3_layGains 54 = .ok (.aload_n 0, 1) := dk_42 (dk_at dksX3_layGains_2 8 rfl rfl)
theorem dX3_layGains_55 : decode cX3_layGains 55 = .ok (.getfield 31, 3) := dk_180 0 31 (dk_at dksX3_layGains_2 9 rfl rfl)
theorem dX3_layGains_58 : decode cX3_layGains 58 = .ok (.iconst 5, 1) := dk_8 (dk_at dksX3_layGains_2 12 rfl rfl)
theorem dX3_layGains_59 : decode cX3_layGains 59 = .ok (.iload_n 2, 1) := dk_28 (dk_at dksX3_layGains_2 13 rfl rfl)
theorem dX3_layGains_60 : decode cX3_layGains 60 = .ok (.imul, 1) := dk_104 (dk_at dksX3_layGains_2 14 rfl rfl)
theorem dX3_layGains_61 : decode cX3_layGains 61 = .ok (.iload_n 3, 1) := dk_29 (dk_at dksX3_layGains_2 15 rfl rfl)
theorem dX3_layGains_62 : decode cX3_layGains 62 = .ok (.iadd, 1) := dk_96 (dk_at dksX3_layGains_2 16 rfl rfl)
theorem dX3_layGains_63 : decode cX3_layGains 63 = .ok (.laload, 1) := dk_47 (dk_at dksX3_layGains_2 17 rfl rfl)
theorem dX3_layGains_64 : decode cX3_layGains 64 = .ok (.lstore 4, 2) := dk_55 4 (dk_at dksX3_layGains_2 18 rfl rfl)
theorem dX3_layGains_66 : decode cX3_layGains 66 = .ok (.aload_n 0, 1) := dk_42 (dk_at dksX3_layGains_2 20 rfl rfl)
theorem dX3_layGains_67 : decode cX3_layGains 67 = .ok (.getfield 31, 3) := dk_180 0 31 (dk_at dksX3_layGains_2 21 rfl rfl)
theorem dX3_layGains_70 : decode cX3_layGains 70 = .ok (.iconst 5, 1) := dk_8 (dk_at dksX3_layGains_3 0 rfl rfl)
theorem dX3_layGains_71 : decode cX3_layGains 71 = .ok (.iload_n 2, 1) := dk_28 (dk_at dksX3_layGains_3 1 rfl rfl)
theorem dX3_layGains_72 : decode cX3_layGains 72 = .ok (.imul, 1) := dk_104 (dk_at dksX3_layGains_3 2 rfl rfl)
theorem dX3_layGains_73 : decode cX3_layGains 73 = .ok (.iconst 5, 1) := dk_8 (dk_at dksX3_layGains_3 3 rfl rfl)
theorem dX3_layGains_74 : decode cX3_layGains 74 = .ok (.iadd, 1) := dk_96 (dk_at dksX3_layGains_3 4 rfl rfl)
theorem dX3_layGains_75 : decode cX3_layGains 75 = .ok (.iload_n 3, 1) := dk_29 (dk_at dksX3_layGains_3 5 rfl rfl)
theorem dX3_layGains_76 : decode cX3_layGains 76 = .ok (.iadd, 1) := dk_96 (dk_at dksX3_layGains_3 6 rfl rfl)
theorem dX3_layGains_77 : decode cX3_layGains 77 = .ok (.dup2, 1) := dk_92 (dk_at dksX3_layGains_3 7 rfl rfl)
theorem dX3_layGains_78 : decode cX3_layGains 78 = .ok (.laload, 1) := dk_47 (dk_at dksX3_layGains_3 8 rfl rfl)
theorem dX3_layGains_79 : decode cX3_layGains 79 = .ok (.lload 4, 2) := dk_22 4 (dk_at dksX3_layGains_3 9 rfl rfl)
theorem dX3_layGains_81 : decode cX3_layGains 81 = .ok (.lor, 1) := dk_129 (dk_at dksX3_layGains_3 11 rfl rfl)
theorem dX3_layGains_82 : decode cX3_layGains 82 = .ok (.lastore, 1) := dk_80 (dk_at dksX3_layGains_3 12 rfl rfl)
theorem dX3_layGains_83 : decode cX3_layGains 83 = .ok (.iconst 0, 1) := dk_3 (dk_at dksX3_layGains_3 13 rfl rfl)
theorem dX3_layGains_84 : decode cX3_layGains 84 = .ok (.istore 6, 2) := dk_54 6 (dk_at dksX3_layGains_3 14 rfl rfl)
theorem dX3_layGains_86 : decode cX3_layGains 86 = .ok (.iload 6, 2) := dk_21 6 (dk_at dksX3_layGains_3 16 rfl rfl)
theorem dX3_layGains_88 : decode cX3_layGains 88 = .ok (.aload_n 0, 1) := dk_42 (dk_at dksX3_layGains_3 18 rfl rfl)
theorem dX3_layGains_89 : decode cX3_layGains 89 = .ok (.getfield 19, 3) := dk_180 0 19 (dk_at dksX3_layGains_3 19 rfl rfl)
theorem dX3_layGains_92 : decode cX3_layGains 92 = .ok (.iconst 2, 1) := dk_5 (dk_at dksX3_layGains_3 22 rfl rfl)
theorem dX3_layGains_93 : decode cX3_layGains 93 = .ok (.iaload, 1) := dk_46 (dk_at dksX3_layGains_3 23 rfl rfl)
theorem dX3_layGains_94 : decode cX3_layGains 94 = .ok (.if_icmp .ge 77, 3) := dk_162 0 77 (dk_at dksX3_layGains_4 0 rfl rfl)
theorem dX3_layGains_97 : decode cX3_layGains 97 = .ok (.aload_n 0, 1) := dk_42 (dk_at dksX3_layGains_4 3 rfl rfl)
theorem dX3_layGains_98 : decode cX3_layGains 98 = .ok (.iload_n 1, 1) := dk_27 (dk_at dksX3_layGains_4 4 rfl rfl)
theorem dX3_layGains_99 : decode cX3_layGains 99 = .ok (.iload 6, 2) := dk_21 6 (dk_at dksX3_layGains_4 5 rfl rfl)
theorem dX3_layGains_101 : decode cX3_layGains 101 = .ok (.iload_n 3, 1) := dk_29 (dk_at dksX3_layGains_4 7 rfl rfl)
theorem dX3_layGains_102 : decode cX3_layGains 102 = .ok (.invokevirtual 184, 3) := dk_182 0 184 (dk_at dksX3_layGains_4 8 rfl rfl)
theorem dX3_layGains_105 : decode cX3_layGains 105 = .ok (.istore 7, 2) := dk_54 7 (dk_at dksX3_layGains_4 11 rfl rfl)
theorem dX3_layGains_107 : decode cX3_layGains 107 = .ok (.iload_n 2, 1) := dk_28 (dk_at dksX3_layGains_4 13 rfl rfl)
theorem dX3_layGains_108 : decode cX3_layGains 108 = .ok (.aload_n 0, 1) := dk_42 (dk_at dksX3_layGains_4 14 rfl rfl)
theorem dX3_layGains_109 : decode cX3_layGains 109 = .ok (.iload 6, 2) := dk_21 6 (dk_at dksX3_layGains_4 15 rfl rfl)
theorem dX3_layGains_111 : decode cX3_layGains 111 = .ok (.iconst 2, 1) := dk_5 (dk_at dksX3_layGains_4 17 rfl rfl)
theorem dX3_layGains_112 : decode cX3_layGains 112 = .ok (.invokevirtual 178, 3) := dk_182 0 178 (dk_at dksX3_layGains_4 18 rfl rfl)
theorem dX3_layGains_115 : decode cX3_layGains 115 = .ok (.iadd, 1) := dk_96 (dk_at dksX3_layGains_4 21 rfl rfl)
theorem dX3_layGains_116 : decode cX3_layGains 116 = .ok (.istore 8, 2) := dk_54 8 (dk_at dksX3_layGains_4 22 rfl rfl)
theorem dX3_layGains_118 : decode cX3_layGains 118 = .ok (.iload 7, 2) := dk_21 7 (dk_at dksX3_layGains_5 0 rfl rfl)
theorem dX3_layGains_120 : decode cX3_layGains 120 = .ok (.ldc 84, 2) := dk_18 84 (dk_at dksX3_layGains_5 2 rfl rfl)
theorem dX3_layGains_122 : decode cX3_layGains 122 = .ok (.if_icmp .eq 43, 3) := dk_159 0 43 (dk_at dksX3_layGains_5 4 rfl rfl)
theorem dX3_layGains_125 : decode cX3_layGains 125 = .ok (.iload 8, 2) := dk_21 8 (dk_at dksX3_layGains_5 7 rfl rfl)
theorem dX3_layGains_127 : decode cX3_layGains 127 = .ok (.bipush 40, 2) := dk_16 40 (dk_at dksX3_layGains_5 9 rfl rfl)
theorem dX3_layGains_129 : decode cX3_layGains 129 = .ok (.if_icmp .gt 36, 3) := dk_163 0 36 (dk_at dksX3_layGains_5 11 rfl rfl)
theorem dX3_layGains_132 : decode cX3_layGains 132 = .ok (.aload_n 0, 1) := dk_42 (dk_at dksX3_layGains_5 14 rfl rfl)
theorem dX3_layGains_133 : decode cX3_layGains 133 = .ok (.getfield 31, 3) := dk_180 0 31 (dk_at dksX3_layGains_5 15 rfl rfl)
theorem dX3_layGains_136 : decode cX3_layGains 136 = .ok (.iconst 5, 1) := dk_8 (dk_at dksX3_layGains_5 18 rfl rfl)
theorem dX3_layGains_137 : decode cX3_layGains 137 = .ok (.iload 8, 2) := dk_21 8 (dk_at dksX3_layGains_5 19 rfl rfl)
theorem dX3_layGains_139 : decode cX3_layGains 139 = .ok (.imul, 1) := dk_104 (dk_at dksX3_layGains_5 21 rfl rfl)
theorem dX3_layGains_140 : decode cX3_layGains 140 = .ok (.iload 7, 2) := dk_21 7 (dk_at dksX3_layGains_5 22 rfl rfl)
theorem dX3_layGains_142 : decode cX3_layGains 142 = .ok (.iadd, 1) := dk_96 (dk_at dksX3_layGains_6 0 rfl rfl)
theorem dX3_layGains_143 : decode cX3_layGains 143 = .ok (.dup2, 1) := dk_92 (dk_at dksX3_layGains_6 1 rfl rfl)
theorem dX3_layGains_144 : decode cX3_layGains 144 = .ok (.laload, 1) := dk_47 (dk_at dksX3_layGains_6 2 rfl rfl)
theorem dX3_layGains_145 : decode cX3_layGains 145 = .ok (.lload 4, 2) := dk_22 4 (dk_at dksX3_layGains_6 3 rfl rfl)
theorem dX3_layGains_147 : decode cX3_layGains 147 = .ok (.aload_n 0, 1) := dk_42 (dk_at dksX3_layGains_6 5 rfl rfl)
theorem dX3_layGains_148 : decode cX3_layGains 148 = .ok (.iload 6, 2) := dk_21 6 (dk_at dksX3_layGains_6 6 rfl rfl)
theorem dX3_layGains_150 : decode cX3_layGains 150 = .ok (.iconst 2, 1) := dk_5 (dk_at dksX3_layGains_6 8 rfl rfl)
theorem dX3_layGains_151 : decode cX3_layGains 151 = .ok (.invokevirtual 178, 3) := dk_182 0 178 (dk_at dksX3_layGains_6 9 rfl rfl)
theorem dX3_layGains_154 : decode cX3_layGains 154 = .ok (.aload_n 0, 1) := dk_42 (dk_at dksX3_layGains_6 12 rfl rfl)
theorem dX3_layGains_155 : decode cX3_layGains 155 = .ok (.iload_n 1, 1) := dk_27 (dk_at dksX3_layGains_6 13 rfl rfl)
theorem dX3_layGains_156 : decode cX3_layGains 156 = .ok (.iload 6, 2) := dk_21 6 (dk_at dksX3_layGains_6 14 rfl rfl)
theorem dX3_layGains_158 : decode cX3_layGains 158 = .ok (.invokevirtual 192, 3) := dk_182 0 192 (dk_at dksX3_layGains_6 16 rfl rfl)
theorem dX3_layGains_161 : decode cX3_layGains 161 = .ok (.isub, 1) := dk_100 (dk_at dksX3_layGains_6 19 rfl rfl)
theorem dX3_layGains_162 : decode cX3_layGains 162 = .ok (.lshl, 1) := dk_121 (dk_at dksX3_layGains_6 20 rfl rfl)
theorem dX3_layGains_163 : decode cX3_layGains 163 = .ok (.lor, 1) := dk_129 (dk_at dksX3_layGains_6 21 rfl rfl)
theorem dX3_layGains_164 : decode cX3_layGains 164 = .ok (.lastore, 1) := dk_80 (dk_at dksX3_layGains_6 22 rfl rfl)
theorem dX3_layGains_165 : decode cX3_layGains 165 = .ok (.iinc 6 1, 3) := dk_132 6 1 (dk_at dksX3_layGains_7 0 rfl rfl)
theorem dX3_layGains_168 : decode cX3_layGains 168 = .ok (.goto (-82), 3) := dk_167 255 174 (dk_at dksX3_layGains_7 3 rfl rfl)
theorem dX3_layGains_171 : decode cX3_layGains 171 = .ok (.iinc 3 1, 3) := dk_132 3 1 (dk_at dksX3_layGains_7 6 rfl rfl)
theorem dX3_layGains_174 : decode cX3_layGains 174 = .ok (.goto (-130), 3) := dk_167 255 126 (dk_at dksX3_layGains_7 9 rfl rfl)
theorem dX3_layGains_177 : decode cX3_layGains 177 = .ok (.iinc 2 1, 3) := dk_132 2 1 (dk_at dksX3_layGains_7 12 rfl rfl)
theorem dX3_layGains_180 : decode cX3_layGains 180 = .ok (.goto (-144), 3) := dk_167 255 112 (dk_at dksX3_layGains_7 15 rfl rfl)
theorem dX3_layGains_183 : decode cX3_layGains 183 = .ok (.return_, 1) := dk_177 (dk_at dksX3_layGains_7 18 rfl rfl)
abbrev cX3_soonest : ByteArray := prog_16_method_50_code
def yX3_soonest : MethodName := ⟨RX3, "soonest", "(III)I"⟩
def dkwX3_soonest_3 : List UInt8 := [21, 4, 172, 132, 4, 1, 167, 255, 223, 18, 84, 172]
abbrev dktX3_soonest_3 : List UInt8 := dkwX3_soonest_3 ++ []
def dkwX3_soonest_2 : List UInt8 := [163, 0, 32, 42, 180, 0, 31, 8, 21, 4, 104, 28, 96, 47, 29, 123, 10, 127, 10, 148, 154, 0, 6]
abbrev dktX3_soonest_2 : List UInt8 := dkwX3_soonest_2 ++ dktX3_soonest_3
def dkwX3_soonest_1 : List UInt8 := [20, 0, 226, 184, 0, 58, 154, 0, 6, 18, 68, 172, 42, 27, 182, 0, 228, 3, 54, 4, 21, 4, 16, 40]
abbrev dktX3_soonest_1 : List UInt8 := dkwX3_soonest_1 ++ dktX3_soonest_2
def dkwX3_soonest_0 : List UInt8 := [42, 3, 181, 0, 48, 42, 27, 182, 0, 199, 153, 0, 23, 42, 28, 182, 0, 223, 153, 0, 15, 29, 133, 9]
abbrev dktX3_soonest_0 : List UInt8 := dkwX3_soonest_0 ++ dktX3_soonest_1
theorem dksX3_soonest_0 : cX3_soonest.data.toList.drop 0 = dktX3_soonest_0 := by decide +kernel
theorem dksX3_soonest_1 : cX3_soonest.data.toList.drop 24 = dktX3_soonest_1 := dk_seg dksX3_soonest_0 24 rfl rfl
theorem dksX3_soonest_2 : cX3_soonest.data.toList.drop 48 = dktX3_soonest_2 := dk_seg dksX3_soonest_1 24 rfl rfl
theorem dksX3_soonest_3 : cX3_soonest.data.toList.drop 71 = dktX3_soonest_3 := dk_seg dksX3_soonest_2 23 rfl rfl
theorem dX3_soonest_0 : decode cX3_soonest 0 = .ok (.aload_n 0, 1) := dk_42 (dk_at dksX3_soonest_0 0 rfl rfl)
theorem dX3_soonest_1 : decode cX3_soonest 1 = .ok (.iconst 0, 1) := dk_3 (dk_at dksX3_soonest_0 1 rfl rfl)
theorem dX3_soonest_2 : decode cX3_soonest 2 = .ok (.putfield 48, 3) := dk_181 0 48 (dk_at dksX3_soonest_0 2 rfl rfl)
theorem dX3_soonest_5 : decode cX3_soonest 5 = .ok (.aload_n 0, 1) := dk_42 (dk_at dksX3_soonest_0 5 rfl rfl)
theorem dX3_soonest_6 : decode cX3_soonest 6 = .ok (.iload_n 1, 1) := dk_27 (dk_at dksX3_soonest_0 6 rfl rfl)
theorem dX3_soonest_7 : decode cX3_soonest 7 = .ok (.invokevirtual 199, 3) := dk_182 0 199 (dk_at dksX3_soonest_0 7 rfl rfl)
theorem dX3_soonest_10 : decode cX3_soonest 10 = .ok (.ifCond .eq 23, 3) := dk_153 0 23 (dk_at dksX3_soonest_0 10 rfl rfl)
theorem dX3_soonest_13 : decode cX3_soonest 13 = .ok (.aload_n 0, 1) := dk_42 (dk_at dksX3_soonest_0 13 rfl rfl)
theorem dX3_soonest_14 : decode cX3_soonest 14 = .ok (.iload_n 2, 1) := dk_28 (dk_at dksX3_soonest_0 14 rfl rfl)
theorem dX3_soonest_15 : decode cX3_soonest 15 = .ok (.invokevirtual 223, 3) := dk_182 0 223 (dk_at dksX3_soonest_0 15 rfl rfl)
theorem dX3_soonest_18 : decode cX3_soonest 18 = .ok (.ifCond .eq 15, 3) := dk_153 0 15 (dk_at dksX3_soonest_0 18 rfl rfl)
theorem dX3_soonest_21 : decode cX3_soonest 21 = .ok (.iload_n 3, 1) := dk_29 (dk_at dksX3_soonest_0 21 rfl rfl)
theorem dX3_soonest_22 : decode cX3_soonest 22 = .ok (.i2l, 1) := dk_133 (dk_at dksX3_soonest_0 22 rfl rfl)
theorem dX3_soonest_23 : decode cX3_soonest 23 = .ok (.lconst 0, 1) := dk_9 (dk_at dksX3_soonest_0 23 rfl rfl)
theorem dX3_soonest_24 : decode cX3_soonest 24 = .ok (.ldc2_w 226, 3) := dk_20 0 226 (dk_at dksX3_soonest_1 0 rfl rfl)
theorem dX3_soonest_27 : decode cX3_soonest 27 = .ok (.invokestatic 58, 3) := dk_184 0 58 (dk_at dksX3_soonest_1 3 rfl rfl)
theorem dX3_soonest_30 : decode cX3_soonest 30 = .ok (.ifCond .ne 6, 3) := dk_154 0 6 (dk_at dksX3_soonest_1 6 rfl rfl)
theorem dX3_soonest_33 : decode cX3_soonest 33 = .ok (.ldc 68, 2) := dk_18 68 (dk_at dksX3_soonest_1 9 rfl rfl)
theorem dX3_soonest_35 : decode cX3_soonest 35 = .ok (.ireturn, 1) := dk_172 (dk_at dksX3_soonest_1 11 rfl rfl)
theorem dX3_soonest_36 : decode cX3_soonest 36 = .ok (.aload_n 0, 1) := dk_42 (dk_at dksX3_soonest_1 12 rfl rfl)
theorem dX3_soonest_37 : decode cX3_soonest 37 = .ok (.iload_n 1, 1) := dk_27 (dk_at dksX3_soonest_1 13 rfl rfl)
theorem dX3_soonest_38 : decode cX3_soonest 38 = .ok (.invokevirtual 228, 3) := dk_182 0 228 (dk_at dksX3_soonest_1 14 rfl rfl)
theorem dX3_soonest_41 : decode cX3_soonest 41 = .ok (.iconst 0, 1) := dk_3 (dk_at dksX3_soonest_1 17 rfl rfl)
theorem dX3_soonest_42 : decode cX3_soonest 42 = .ok (.istore 4, 2) := dk_54 4 (dk_at dksX3_soonest_1 18 rfl rfl)
theorem dX3_soonest_44 : decode cX3_soonest 44 = .ok (.iload 4, 2) := dk_21 4 (dk_at dksX3_soonest_1 20 rfl rfl)
theorem dX3_soonest_46 : decode cX3_soonest 46 = .ok (.bipush 40, 2) := dk_16 40 (dk_at dksX3_soonest_1 22 rfl rfl)
theorem dX3_soonest_48 : decode cX3_soonest 48 = .ok (.if_icmp .gt 32, 3) := dk_163 0 32 (dk_at dksX3_soonest_2 0 rfl rfl)
theorem dX3_soonest_51 : decode cX3_soonest 51 = .ok (.aload_n 0, 1) := dk_42 (dk_at dksX3_soonest_2 3 rfl rfl)
theorem dX3_soonest_52 : decode cX3_soonest 52 = .ok (.getfield 31, 3) := dk_180 0 31 (dk_at dksX3_soonest_2 4 rfl rfl)
theorem dX3_soonest_55 : decode cX3_soonest 55 = .ok (.iconst 5, 1) := dk_8 (dk_at dksX3_soonest_2 7 rfl rfl)
theorem dX3_soonest_56 : decode cX3_soonest 56 = .ok (.iload 4, 2) := dk_21 4 (dk_at dksX3_soonest_2 8 rfl rfl)
theorem dX3_soonest_58 : decode cX3_soonest 58 = .ok (.imul, 1) := dk_104 (dk_at dksX3_soonest_2 10 rfl rfl)
theorem dX3_soonest_59 : decode cX3_soonest 59 = .ok (.iload_n 2, 1) := dk_28 (dk_at dksX3_soonest_2 11 rfl rfl)
theorem dX3_soonest_60 : decode cX3_soonest 60 = .ok (.iadd, 1) := dk_96 (dk_at dksX3_soonest_2 12 rfl rfl)
theorem dX3_soonest_61 : decode cX3_soonest 61 = .ok (.laload, 1) := dk_47 (dk_at dksX3_soonest_2 13 rfl rfl)
theorem dX3_soonest_62 : decode cX3_soonest 62 = .ok (.iload_n 3, 1) := dk_29 (dk_at dksX3_soonest_2 14 rfl rfl)
theorem dX3_soonest_63 : decode cX3_soonest 63 = .ok (.lshr, 1) := dk_123 (dk_at dksX3_soonest_2 15 rfl rfl)
theorem dX3_soonest_64 : decode cX3_soonest 64 = .ok (.lconst 1, 1) := dk_10 (dk_at dksX3_soonest_2 16 rfl rfl)
theorem dX3_soonest_65 : decode cX3_soonest 65 = .ok (.land, 1) := dk_127 (dk_at dksX3_soonest_2 17 rfl rfl)
theorem dX3_soonest_66 : decode cX3_soonest 66 = .ok (.lconst 1, 1) := dk_10 (dk_at dksX3_soonest_2 18 rfl rfl)
theorem dX3_soonest_67 : decode cX3_soonest 67 = .ok (.lcmp, 1) := dk_148 (dk_at dksX3_soonest_2 19 rfl rfl)
theorem dX3_soonest_68 : decode cX3_soonest 68 = .ok (.ifCond .ne 6, 3) := dk_154 0 6 (dk_at dksX3_soonest_2 20 rfl rfl)
theorem dX3_soonest_71 : decode cX3_soonest 71 = .ok (.iload 4, 2) := dk_21 4 (dk_at dksX3_soonest_3 0 rfl rfl)
theorem dX3_soonest_73 : decode cX3_soonest 73 = .ok (.ireturn, 1) := dk_172 (dk_at dksX3_soonest_3 2 rfl rfl)
theorem dX3_soonest_74 : decode cX3_soonest 74 = .ok (.iinc 4 1, 3) := dk_132 4 1 (dk_at dksX3_soonest_3 3 rfl rfl)
theorem dX3_soonest_77 : decode cX3_soonest 77 = .ok (.goto (-33), 3) := dk_167 255 223 (dk_at dksX3_soonest_3 6 rfl rfl)
theorem dX3_soonest_80 : decode cX3_soonest 80 = .ok (.ldc 84, 2) := dk_18 84 (dk_at dksX3_soonest_3 9 rfl rfl)
theorem dX3_soonest_82 : decode cX3_soonest 82 = .ok (.ireturn, 1) := dk_172 (dk_at dksX3_soonest_3 11 rfl rfl)
abbrev cX3_voyages : ByteArray := prog_16_method_51_code
def yX3_voyages : MethodName := ⟨RX3, "voyages", "(II)I"⟩
def dkwX3_voyages_6 : List UInt8 := [132, 4, 1, 167, 255, 148, 18, 84, 172]
abbrev dktX3_voyages_6 : List UInt8 := dkwX3_voyages_6 ++ []
def dkwX3_voyages_5 : List UInt8 := [167, 0, 4, 3, 128, 54, 5, 132, 7, 1, 167, 255, 201, 132, 6, 1, 167, 255, 181, 21, 5, 62]
abbrev dktX3_voyages_5 : List UInt8 := dkwX3_voyages_5 ++ dktX3_voyages_6
def dkwX3_voyages_4 : List UInt8 := [27, 21, 7, 21, 6, 182, 0, 184, 54, 8, 21, 5, 21, 8, 18, 84, 159, 0, 10, 4, 21, 8, 120]
abbrev dktX3_voyages_4 : List UInt8 := dkwX3_voyages_4 ++ dktX3_voyages_5
def dkwX3_voyages_3 : List UInt8 := [54, 7, 21, 7, 42, 180, 0, 19, 5, 46, 162, 0, 50, 29, 21, 6, 122, 4, 126, 4, 160, 0, 40, 42]
abbrev dktX3_voyages_3 : List UInt8 := dkwX3_voyages_3 ++ dktX3_voyages_4
def dkwX3_voyages_2 : List UInt8 := [160, 0, 6, 21, 4, 172, 29, 54, 5, 3, 54, 6, 21, 6, 42, 180, 0, 19, 3, 46, 162, 0, 70, 3]
abbrev dktX3_voyages_2 : List UInt8 := dkwX3_voyages_2 ++ dktX3_voyages_3
def dkwX3_voyages_1 : List UInt8 := [4, 42, 27, 4, 182, 0, 181, 120, 62, 3, 54, 4, 21, 4, 8, 162, 0, 108, 29, 28, 122, 4, 126, 4]
abbrev dktX3_voyages_1 : List UInt8 := dkwX3_voyages_1 ++ dktX3_voyages_2
def dkwX3_voyages_0 : List UInt8 := [42, 3, 181, 0, 48, 42, 27, 182, 0, 199, 153, 0, 11, 42, 28, 182, 0, 223, 154, 0, 6, 18, 68, 172]
abbrev dktX3_voyages_0 : List UInt8 := dkwX3_voyages_0 ++ dktX3_voyages_1
theorem dksX3_voyages_0 : cX3_voyages.data.toList.drop 0 = dktX3_voyages_0 := by decide +kernel
theorem dksX3_voyages_1 : cX3_voyages.data.toList.drop 24 = dktX3_voyages_1 := dk_seg dksX3_voyages_0 24 rfl rfl
theorem dksX3_voyages_2 : cX3_voyages.data.toList.drop 48 = dktX3_voyages_2 := dk_seg dksX3_voyages_1 24 rfl rfl
theorem dksX3_voyages_3 : cX3_voyages.data.toList.drop 72 = dktX3_voyages_3 := dk_seg dksX3_voyages_2 24 rfl rfl
theorem dksX3_voyages_4 : cX3_voyages.data.toList.drop 96 = dktX3_voyages_4 := dk_seg dksX3_voyages_3 24 rfl rfl
theorem dksX3_voyages_5 : cX3_voyages.data.toList.drop 119 = dktX3_voyages_5 := dk_seg dksX3_voyages_4 23 rfl rfl
theorem dksX3_voyages_6 : cX3_voyages.data.toList.drop 141 = dktX3_voyages_6 := dk_seg dksX3_voyages_5 22 rfl rfl
theorem dX3_voyages_0 : decode cX3_voyages 0 = .ok (.aload_n 0, 1) := dk_42 (dk_at dksX3_voyages_0 0 rfl rfl)
theorem dX3_voyages_1 : decode cX3_voyages 1 = .ok (.iconst 0, 1) := dk_3 (dk_at dksX3_voyages_0 1 rfl rfl)
theorem dX3_voyages_2 : decode cX3_voyages 2 = .ok (.putfield 48, 3) := dk_181 0 48 (dk_at dksX3_voyages_0 2 rfl rfl)
theorem dX3_voyages_5 : decode cX3_voyages 5 = .ok (.aload_n 0, 1) := dk_42 (dk_at dksX3_voyages_0 5 rfl rfl)
theorem dX3_voyages_6 : decode cX3_voyages 6 = .ok (.iload_n 1, 1) := dk_27 (dk_at dksX3_voyages_0 6 rfl rfl)
theorem dX3_voyages_7 : decode cX3_voyages 7 = .ok (.invokevirtual 199, 3) := dk_182 0 199 (dk_at dksX3_voyages_0 7 rfl rfl)
theorem dX3_voyages_10 : decode cX3_voyages 10 = .ok (.ifCond .eq 11, 3) := dk_153 0 11 (dk_at dksX3_voyages_0 10 rfl rfl)
theorem dX3_voyages_13 : decode cX3_voyages 13 = .ok (.aload_n 0, 1) := dk_42 (dk_at dksX3_voyages_0 13 rfl rfl)
theorem dX3_voyages_14 : decode cX3_voyages 14 = .ok (.iload_n 2, 1) := dk_28 (dk_at dksX3_voyages_0 14 rfl rfl)
theorem dX3_voyages_15 : decode cX3_voyages 15 = .ok (.invokevirtual 223, 3) := dk_182 0 223 (dk_at dksX3_voyages_0 15 rfl rfl)
theorem dX3_voyages_18 : decode cX3_voyages 18 = .ok (.ifCond .ne 6, 3) := dk_154 0 6 (dk_at dksX3_voyages_0 18 rfl rfl)
theorem dX3_voyages_21 : decode cX3_voyages 21 = .ok (.ldc 68, 2) := dk_18 68 (dk_at dksX3_voyages_0 21 rfl rfl)
theorem dX3_voyages_23 : decode cX3_voyages 23 = .ok (.ireturn, 1) := dk_172 (dk_at dksX3_voyages_0 23 rfl rfl)
theorem dX3_voyages_24 : decode cX3_voyages 24 = .ok (.iconst 1, 1) := dk_4 (dk_at dksX3_voyages_1 0 rfl rfl)
theorem dX3_voyages_25 : decode cX3_voyages 25 = .ok (.aload_n 0, 1) := dk_42 (dk_at dksX3_voyages_1 1 rfl rfl)
theorem dX3_voyages_26 : decode cX3_voyages 26 = .ok (.iload_n 1, 1) := dk_27 (dk_at dksX3_voyages_1 2 rfl rfl)
theorem dX3_voyages_27 : decode cX3_voyages 27 = .ok (.iconst 1, 1) := dk_4 (dk_at dksX3_voyages_1 3 rfl rfl)
theorem dX3_voyages_28 : decode cX3_voyages 28 = .ok (.invokevirtual 181, 3) := dk_182 0 181 (dk_at dksX3_voyages_1 4 rfl rfl)
theorem dX3_voyages_31 : decode cX3_voyages 31 = .ok (.ishl, 1) := dk_120 (dk_at dksX3_voyages_1 7 rfl rfl)
theorem dX3_voyages_32 : decode cX3_voyages 32 = .ok (.istore_n 3, 1) := dk_62 (dk_at dksX3_voyages_1 8 rfl rfl)
theorem dX3_voyages_33 : decode cX3_voyages 33 = .ok (.iconst 0, 1) := dk_3 (dk_at dksX3_voyages_1 9 rfl rfl)
theorem dX3_voyages_34 : decode cX3_voyages 34 = .ok (.istore 4, 2) := dk_54 4 (dk_at dksX3_voyages_1 10 rfl rfl)
theorem dX3_voyages_36 : decode cX3_voyages 36 = .ok (.iload 4, 2) := dk_21 4 (dk_at dksX3_voyages_1 12 rfl rfl)
theorem dX3_voyages_38 : decode cX3_voyages 38 = .ok (.iconst 5, 1) := dk_8 (dk_at dksX3_voyages_1 14 rfl rfl)
theorem dX3_voyages_39 : decode cX3_voyages 39 = .ok (.if_icmp .ge 108, 3) := dk_162 0 108 (dk_at dksX3_voyages_1 15 rfl rfl)
theorem dX3_voyages_42 : decode cX3_voyages 42 = .ok (.iload_n 3, 1) := dk_29 (dk_at dksX3_voyages_1 18 rfl rfl)
theorem dX3_voyages_43 : decode cX3_voyages 43 = .ok (.iload_n 2, 1) := dk_28 (dk_at dksX3_voyages_1 19 rfl rfl)
theorem dX3_voyages_44 : decode cX3_voyages 44 = .ok (.ishr, 1) := dk_122 (dk_at dksX3_voyages_1 20 rfl rfl)
theorem dX3_voyages_45 : decode cX3_voyages 45 = .ok (.iconst 1, 1) := dk_4 (dk_at dksX3_voyages_1 21 rfl rfl)
theorem dX3_voyages_46 : decode cX3_voyages 46 = .ok (.iand, 1) := dk_126 (dk_at dksX3_voyages_1 22 rfl rfl)
theorem dX3_voyages_47 : decode cX3_voyages 47 = .ok (.iconst 1, 1) := dk_4 (dk_at dksX3_voyages_1 23 rfl rfl)
theorem dX3_voyages_48 : decode cX3_voyages 48 = .ok (.if_icmp .ne 6, 3) := dk_160 0 6 (dk_at dksX3_voyages_2 0 rfl rfl)
theorem dX3_voyages_51 : decode cX3_voyages 51 = .ok (.iload 4, 2) := dk_21 4 (dk_at dksX3_voyages_2 3 rfl rfl)
theorem dX3_voyages_53 : decode cX3_voyages 53 = .ok (.ireturn, 1) := dk_172 (dk_at dksX3_voyages_2 5 rfl rfl)
theorem dX3_voyages_54 : decode cX3_voyages 54 = .ok (.iload_n 3, 1) := dk_29 (dk_at dksX3_voyages_2 6 rfl rfl)
theorem dX3_voyages_55 : decode cX3_voyages 55 = .ok (.istore 5, 2) := dk_54 5 (dk_at dksX3_voyages_2 7 rfl rfl)
theorem dX3_voyages_57 : decode cX3_voyages 57 = .ok (.iconst 0, 1) := dk_3 (dk_at dksX3_voyages_2 9 rfl rfl)
theorem dX3_voyages_58 : decode cX3_voyages 58 = .ok (.istore 6, 2) := dk_54 6 (dk_at dksX3_voyages_2 10 rfl rfl)
theorem dX3_voyages_60 : decode cX3_voyages 60 = .ok (.iload 6, 2) := dk_21 6 (dk_at dksX3_voyages_2 12 rfl rfl)
theorem dX3_voyages_62 : decode cX3_voyages 62 = .ok (.aload_n 0, 1) := dk_42 (dk_at dksX3_voyages_2 14 rfl rfl)
theorem dX3_voyages_63 : decode cX3_voyages 63 = .ok (.getfield 19, 3) := dk_180 0 19 (dk_at dksX3_voyages_2 15 rfl rfl)
theorem dX3_voyages_66 : decode cX3_voyages 66 = .ok (.iconst 0, 1) := dk_3 (dk_at dksX3_voyages_2 18 rfl rfl)
theorem dX3_voyages_67 : decode cX3_voyages 67 = .ok (.iaload, 1) := dk_46 (dk_at dksX3_voyages_2 19 rfl rfl)
theorem dX3_voyages_68 : decode cX3_voyages 68 = .ok (.if_icmp .ge 70, 3) := dk_162 0 70 (dk_at dksX3_voyages_2 20 rfl rfl)
theorem dX3_voyages_71 : decode cX3_voyages 71 = .ok (.iconst 0, 1) := dk_3 (dk_at dksX3_voyages_2 23 rfl rfl)
theorem dX3_voyages_72 : decode cX3_voyages 72 = .ok (.istore 7, 2) := dk_54 7 (dk_at dksX3_voyages_3 0 rfl rfl)
theorem dX3_voyages_74 : decode cX3_voyages 74 = .ok (.iload 7, 2) := dk_21 7 (dk_at dksX3_voyages_3 2 rfl rfl)
theorem dX3_voyages_76 : decode cX3_voyages 76 = .ok (.aload_n 0, 1) := dk_42 (dk_at dksX3_voyages_3 4 rfl rfl)
theorem dX3_voyages_77 : decode cX3_voyages 77 = .ok (.getfield 19, 3) := dk_180 0 19 (dk_at dksX3_voyages_3 5 rfl rfl)
theorem dX3_voyages_80 : decode cX3_voyages 80 = .ok (.iconst 2, 1) := dk_5 (dk_at dksX3_voyages_3 8 rfl rfl)
theorem dX3_voyages_81 : decode cX3_voyages 81 = .ok (.iaload, 1) := dk_46 (dk_at dksX3_voyages_3 9 rfl rfl)
theorem dX3_voyages_82 : decode cX3_voyages 82 = .ok (.if_icmp .ge 50, 3) := dk_162 0 50 (dk_at dksX3_voyages_3 10 rfl rfl)
theorem dX3_voyages_85 : decode cX3_voyages 85 = .ok (.iload_n 3, 1) := dk_29 (dk_at dksX3_voyages_3 13 rfl rfl)
theorem dX3_voyages_86 : decode cX3_voyages 86 = .ok (.iload 6, 2) := dk_21 6 (dk_at dksX3_voyages_3 14 rfl rfl)
theorem dX3_voyages_88 : decode cX3_voyages 88 = .ok (.ishr, 1) := dk_122 (dk_at dksX3_voyages_3 16 rfl rfl)
theorem dX3_voyages_89 : decode cX3_voyages 89 = .ok (.iconst 1, 1) := dk_4 (dk_at dksX3_voyages_3 17 rfl rfl)
theorem dX3_voyages_90 : decode cX3_voyages 90 = .ok (.iand, 1) := dk_126 (dk_at dksX3_voyages_3 18 rfl rfl)
theorem dX3_voyages_91 : decode cX3_voyages 91 = .ok (.iconst 1, 1) := dk_4 (dk_at dksX3_voyages_3 19 rfl rfl)
theorem dX3_voyages_92 : decode cX3_voyages 92 = .ok (.if_icmp .ne 40, 3) := dk_160 0 40 (dk_at dksX3_voyages_3 20 rfl rfl)
theorem dX3_voyages_95 : decode cX3_voyages 95 = .ok (.aload_n 0, 1) := dk_42 (dk_at dksX3_voyages_3 23 rfl rfl)
theorem dX3_voyages_96 : decode cX3_voyages 96 = .ok (.iload_n 1, 1) := dk_27 (dk_at dksX3_voyages_4 0 rfl rfl)
theorem dX3_voyages_97 : decode cX3_voyages 97 = .ok (.iload 7, 2) := dk_21 7 (dk_at dksX3_voyages_4 1 rfl rfl)
theorem dX3_voyages_99 : decode cX3_voyages 99 = .ok (.iload 6, 2) := dk_21 6 (dk_at dksX3_voyages_4 3 rfl rfl)
theorem dX3_voyages_101 : decode cX3_voyages 101 = .ok (.invokevirtual 184, 3) := dk_182 0 184 (dk_at dksX3_voyages_4 5 rfl rfl)
theorem dX3_voyages_104 : decode cX3_voyages 104 = .ok (.istore 8, 2) := dk_54 8 (dk_at dksX3_voyages_4 8 rfl rfl)
theorem dX3_voyages_106 : decode cX3_voyages 106 = .ok (.iload 5, 2) := dk_21 5 (dk_at dksX3_voyages_4 10 rfl rfl)
theorem dX3_voyages_108 : decode cX3_voyages 108 = .ok (.iload 8, 2) := dk_21 8 (dk_at dksX3_voyages_4 12 rfl rfl)
theorem dX3_voyages_110 : decode cX3_voyages 110 = .ok (.ldc 84, 2) := dk_18 84 (dk_at dksX3_voyages_4 14 rfl rfl)
theorem dX3_voyages_112 : decode cX3_voyages 112 = .ok (.if_icmp .eq 10, 3) := dk_159 0 10 (dk_at dksX3_voyages_4 16 rfl rfl)
theorem dX3_voyages_115 : decode cX3_voyages 115 = .ok (.iconst 1, 1) := dk_4 (dk_at dksX3_voyages_4 19 rfl rfl)
theorem dX3_voyages_116 : decode cX3_voyages 116 = .ok (.iload 8, 2) := dk_21 8 (dk_at dksX3_voyages_4 20 rfl rfl)
theorem dX3_voyages_118 : decode cX3_voyages 118 = .ok (.ishl, 1) := dk_120 (dk_at dksX3_voyages_4 22 rfl rfl)
theorem dX3_voyages_119 : decode cX3_voyages 119 = .ok (.goto 4, 3) := dk_167 0 4 (dk_at dksX3_voyages_5 0 rfl rfl)
theorem dX3_voyages_122 : decode cX3_voyages 122 = .ok (.iconst 0, 1) := dk_3 (dk_at dksX3_voyages_5 3 rfl rfl)
theorem dX3_voyages_123 : decode cX3_voyages 123 = .ok (.ior, 1) := dk_128 (dk_at dksX3_voyages_5 4 rfl rfl)
theorem dX3_voyages_124 : decode cX3_voyages 124 = .ok (.istore 5, 2) := dk_54 5 (dk_at dksX3_voyages_5 5 rfl rfl)
theorem dX3_voyages_126 : decode cX3_voyages 126 = .ok (.iinc 7 1, 3) := dk_132 7 1 (dk_at dksX3_voyages_5 7 rfl rfl)
theorem dX3_voyages_129 : decode cX3_voyages 129 = .ok (.goto (-55), 3) := dk_167 255 201 (dk_at dksX3_voyages_5 10 rfl rfl)
theorem dX3_voyages_132 : decode cX3_voyages 132 = .ok (.iinc 6 1, 3) := dk_132 6 1 (dk_at dksX3_voyages_5 13 rfl rfl)
theorem dX3_voyages_135 : decode cX3_voyages 135 = .ok (.goto (-75), 3) := dk_167 255 181 (dk_at dksX3_voyages_5 16 rfl rfl)
theorem dX3_voyages_138 : decode cX3_voyages 138 = .ok (.iload 5, 2) := dk_21 5 (dk_at dksX3_voyages_5 19 rfl rfl)
theorem dX3_voyages_140 : decode cX3_voyages 140 = .ok (.istore_n 3, 1) := dk_62 (dk_at dksX3_voyages_5 21 rfl rfl)
theorem dX3_voyages_141 : decode cX3_voyages 141 = .ok (.iinc 4 1, 3) := dk_132 4 1 (dk_at dksX3_voyages_6 0 rfl rfl)
theorem dX3_voyages_144 : decode cX3_voyages 144 = .ok (.goto (-108), 3) := dk_167 255 148 (dk_at dksX3_voyages_6 3 rfl rfl)
theorem dX3_voyages_147 : decode cX3_voyages 147 = .ok (.ldc 84, 2) := dk_18 84 (dk_at dksX3_voyages_6 6 rfl rfl)
theorem dX3_voyages_149 : decode cX3_voyages 149 = .ok (.ireturn, 1) := dk_172 (dk_at dksX3_voyages_6 8 rfl rfl)
abbrev cX3_even : ByteArray := prog_16_method_52_code
def yX3_even : MethodName := ⟨RX3, "even", "(III)I"⟩
def dkwX3_even_11 : List UInt8 := [132, 9, 1, 167, 255, 181, 132, 5, 1, 167, 255, 101, 18, 84, 172]
abbrev dktX3_even_11 : List UInt8 := dkwX3_even_11 ++ []
def dkwX3_even_10 : List UInt8 := [180, 0, 35, 8, 21, 7, 104, 29, 96, 47, 21, 10, 123, 10, 127, 10, 148, 154, 0, 6, 21, 5, 172]
abbrev dktX3_even_10 : List UInt8 := dkwX3_even_10 ++ dktX3_even_11
def dkwX3_even_9 : List UInt8 := [21, 9, 123, 10, 127, 10, 148, 154, 0, 40, 21, 10, 133, 9, 20, 0, 226, 184, 0, 58, 153, 0, 27, 42]
abbrev dktX3_even_9 : List UInt8 := dkwX3_even_9 ++ dktX3_even_10
def dkwX3_even_8 : List UInt8 := [16, 40, 163, 0, 74, 21, 9, 21, 8, 100, 54, 10, 42, 180, 0, 31, 8, 21, 6, 104, 29, 96, 47]
abbrev dktX3_even_8 : List UInt8 := dkwX3_even_8 ++ dktX3_even_9
def dkwX3_even_7 : List UInt8 := [7, 182, 0, 181, 21, 6, 96, 42, 28, 7, 182, 0, 181, 100, 21, 7, 100, 54, 8, 3, 54, 9, 21, 9]
abbrev dktX3_even_7 : List UInt8 := dkwX3_even_7 ++ dktX3_even_8
def dkwX3_even_6 : List UInt8 := [21, 5, 42, 27, 6, 182, 0, 181, 100, 54, 6, 21, 5, 42, 28, 6, 182, 0, 181, 100, 54, 7, 42, 27]
abbrev dktX3_even_6 : List UInt8 := dkwX3_even_6 ++ dktX3_even_7
def dkwX3_even_5 : List UInt8 := [6, 182, 0, 181, 100, 16, 40, 163, 0, 147, 21, 5, 42, 28, 6, 182, 0, 181, 100, 16, 40, 163, 0, 133]
abbrev dktX3_even_5 : List UInt8 := dkwX3_even_5 ++ dktX3_even_6
def dkwX3_even_4 : List UInt8 := [27, 6, 182, 0, 181, 167, 0, 9, 42, 28, 6, 182, 0, 181, 54, 4, 21, 4, 54, 5, 21, 5, 42, 27]
abbrev dktX3_even_4 : List UInt8 := dkwX3_even_4 ++ dktX3_even_5
def dkwX3_even_3 : List UInt8 := [167, 255, 231, 42, 27, 182, 0, 228, 42, 27, 6, 182, 0, 181, 42, 28, 6, 182, 0, 181, 164, 0, 12, 42]
abbrev dktX3_even_3 : List UInt8 := dkwX3_even_3 ++ dktX3_even_4
def dkwX3_even_2 : List UInt8 := [17, 0, 205, 162, 0, 23, 42, 180, 0, 35, 21, 4, 42, 180, 0, 31, 21, 4, 47, 80, 132, 4, 1]
abbrev dktX3_even_2 : List UInt8 := dkwX3_even_2 ++ dktX3_even_3
def dkwX3_even_1 : List UInt8 := [159, 0, 11, 42, 29, 182, 0, 223, 154, 0, 6, 18, 68, 172, 42, 28, 182, 0, 228, 3, 54, 4, 21, 4]
abbrev dktX3_even_1 : List UInt8 := dkwX3_even_1 ++ dktX3_even_2
def dkwX3_even_0 : List UInt8 := [42, 3, 181, 0, 48, 42, 27, 182, 0, 199, 153, 0, 24, 42, 28, 182, 0, 199, 153, 0, 16, 27, 28]
abbrev dktX3_even_0 : List UInt8 := dkwX3_even_0 ++ dktX3_even_1
theorem dksX3_even_0 : cX3_even.data.toList.drop 0 = dktX3_even_0 := by decide +kernel
theorem dksX3_even_1 : cX3_even.data.toList.drop 23 = dktX3_even_1 := dk_seg dksX3_even_0 23 rfl rfl
theorem dksX3_even_2 : cX3_even.data.toList.drop 47 = dktX3_even_2 := dk_seg dksX3_even_1 24 rfl rfl
theorem dksX3_even_3 : cX3_even.data.toList.drop 70 = dktX3_even_3 := dk_seg dksX3_even_2 23 rfl rfl
theorem dksX3_even_4 : cX3_even.data.toList.drop 94 = dktX3_even_4 := dk_seg dksX3_even_3 24 rfl rfl
theorem dksX3_even_5 : cX3_even.data.toList.drop 118 = dktX3_even_5 := dk_seg dksX3_even_4 24 rfl rfl
theorem dksX3_even_6 : cX3_even.data.toList.drop 142 = dktX3_even_6 := dk_seg dksX3_even_5 24 rfl rfl
theorem dksX3_even_7 : cX3_even.data.toList.drop 166 = dktX3_even_7 := dk_seg dksX3_even_6 24 rfl rfl
theorem dksX3_even_8 : cX3_even.data.toList.drop 190 = dktX3_even_8 := dk_seg dksX3_even_7 24 rfl rfl
theorem dksX3_even_9 : cX3_even.data.toList.drop 213 = dktX3_even_9 := dk_seg dksX3_even_8 23 rfl rfl
theorem dksX3_even_10 : cX3_even.data.toList.drop 237 = dktX3_even_10 := dk_seg dksX3_even_9 24 rfl rfl
theorem dksX3_even_11 : cX3_even.data.toList.drop 260 = dktX3_even_11 := dk_seg dksX3_even_10 23 rfl rfl
theorem dX3_even_0 : decode cX3_even 0 = .ok (.aload_n 0, 1) := dk_42 (dk_at dksX3_even_0 0 rfl rfl)
theorem dX3_even_1 : decode cX3_even 1 = .ok (.iconst 0, 1) := dk_3 (dk_at dksX3_even_0 1 rfl rfl)
theorem dX3_even_2 : decode cX3_even 2 = .ok (.putfield 48, 3) := dk_181 0 48 (dk_at dksX3_even_0 2 rfl rfl)
theorem dX3_even_5 : decode cX3_even 5 = .ok (.aload_n 0, 1) := dk_42 (dk_at dksX3_even_0 5 rfl rfl)
theorem dX3_even_6 : decode cX3_even 6 = .ok (.iload_n 1, 1) := dk_27 (dk_at dksX3_even_0 6 rfl rfl)
theorem dX3_even_7 : decode cX3_even 7 = .ok (.invokevirtual 199, 3) := dk_182 0 199 (dk_at dksX3_even_0 7 rfl rfl)
theorem dX3_even_10 : decode cX3_even 10 = .ok (.ifCond .eq 24, 3) := dk_153 0 24 (dk_at dksX3_even_0 10 rfl rfl)
theorem dX3_even_13 : decode cX3_even 13 = .ok (.aload_n 0, 1) := dk_42 (dk_at dksX3_even_0 13 rfl rfl)
theorem dX3_even_14 : decode cX3_even 14 = .ok (.iload_n 2, 1) := dk_28 (dk_at dksX3_even_0 14 rfl rfl)
theorem dX3_even_15 : decode cX3_even 15 = .ok (.invokevirtual 199, 3) := dk_182 0 199 (dk_at dksX3_even_0 15 rfl rfl)
theorem dX3_even_18 : decode cX3_even 18 = .ok (.ifCond .eq 16, 3) := dk_153 0 16 (dk_at dksX3_even_0 18 rfl rfl)
theorem dX3_even_21 : decode cX3_even 21 = .ok (.iload_n 1, 1) := dk_27 (dk_at dksX3_even_0 21 rfl rfl)
theorem dX3_even_22 : decode cX3_even 22 = .ok (.iload_n 2, 1) := dk_28 (dk_at dksX3_even_0 22 rfl rfl)
theorem dX3_even_23 : decode cX3_even 23 = .ok (.if_icmp .eq 11, 3) := dk_159 0 11 (dk_at dksX3_even_1 0 rfl rfl)
theorem dX3_even_26 : decode cX3_even 26 = .ok (.aload_n 0, 1) := dk_42 (dk_at dksX3_even_1 3 rfl rfl)
theorem dX3_even_27 : decode cX3_even 27 = .ok (.iload_n 3, 1) := dk_29 (dk_at dksX3_even_1 4 rfl rfl)
theorem dX3_even_28 : decode cX3_even 28 = .ok (.invokevirtual 223, 3) := dk_182 0 223 (dk_at dksX3_even_1 5 rfl rfl)
theorem dX3_even_31 : decode cX3_even 31 = .ok (.ifCond .ne 6, 3) := dk_154 0 6 (dk_at dksX3_even_1 8 rfl rfl)
theorem dX3_even_34 : decode cX3_even 34 = .ok (.ldc 68, 2) := dk_18 68 (dk_at dksX3_even_1 11 rfl rfl)
theorem dX3_even_36 : decode cX3_even 36 = .ok (.ireturn, 1) := dk_172 (dk_at dksX3_even_1 13 rfl rfl)
theorem dX3_even_37 : decode cX3_even 37 = .ok (.aload_n 0, 1) := dk_42 (dk_at dksX3_even_1 14 rfl rfl)
theorem dX3_even_38 : decode cX3_even 38 = .ok (.iload_n 2, 1) := dk_28 (dk_at dksX3_even_1 15 rfl rfl)
theorem dX3_even_39 : decode cX3_even 39 = .ok (.invokevirtual 228, 3) := dk_182 0 228 (dk_at dksX3_even_1 16 rfl rfl)
theorem dX3_even_42 : decode cX3_even 42 = .ok (.iconst 0, 1) := dk_3 (dk_at dksX3_even_1 19 rfl rfl)
theorem dX3_even_43 : decode cX3_even 43 = .ok (.istore 4, 2) := dk_54 4 (dk_at dksX3_even_1 20 rfl rfl)
theorem dX3_even_45 : decode cX3_even 45 = .ok (.iload 4, 2) := dk_21 4 (dk_at dksX3_even_1 22 rfl rfl)
theorem dX3_even_47 : decode cX3_even 47 = .ok (.sipush 205, 3) := dk_17 0 205 (dk_at dksX3_even_2 0 rfl rfl)
theorem dX3_even_50 : decode cX3_even 50 = .ok (.if_icmp .ge 23, 3) := dk_162 0 23 (dk_at dksX3_even_2 3 rfl rfl)
theorem dX3_even_53 : decode cX3_even 53 = .ok (.aload_n 0, 1) := dk_42 (dk_at dksX3_even_2 6 rfl rfl)
theorem dX3_even_54 : decode cX3_even 54 = .ok (.getfield 35, 3) := dk_180 0 35 (dk_at dksX3_even_2 7 rfl rfl)
theorem dX3_even_57 : decode cX3_even 57 = .ok (.iload 4, 2) := dk_21 4 (dk_at dksX3_even_2 10 rfl rfl)
theorem dX3_even_59 : decode cX3_even 59 = .ok (.aload_n 0, 1) := dk_42 (dk_at dksX3_even_2 12 rfl rfl)
theorem dX3_even_60 : decode cX3_even 60 = .ok (.getfield 31, 3) := dk_180 0 31 (dk_at dksX3_even_2 13 rfl rfl)
theorem dX3_even_63 : decode cX3_even 63 = .ok (.iload 4, 2) := dk_21 4 (dk_at dksX3_even_2 16 rfl rfl)
theorem dX3_even_65 : decode cX3_even 65 = .ok (.laload, 1) := dk_47 (dk_at dksX3_even_2 18 rfl rfl)
theorem dX3_even_66 : decode cX3_even 66 = .ok (.lastore, 1) := dk_80 (dk_at dksX3_even_2 19 rfl rfl)
theorem dX3_even_67 : decode cX3_even 67 = .ok (.iinc 4 1, 3) := dk_132 4 1 (dk_at dksX3_even_2 20 rfl rfl)
theorem dX3_even_70 : decode cX3_even 70 = .ok (.goto (-25), 3) := dk_167 255 231 (dk_at dksX3_even_3 0 rfl rfl)
theorem dX3_even_73 : decode cX3_even 73 = .ok (.aload_n 0, 1) := dk_42 (dk_at dksX3_even_3 3 rfl rfl)
theorem dX3_even_74 : decode cX3_even 74 = .ok (.iload_n 1, 1) := dk_27 (dk_at dksX3_even_3 4 rfl rfl)
theorem dX3_even_75 : decode cX3_even 75 = .ok (.invokevirtual 228, 3) := dk_182 0 228 (dk_at dksX3_even_3 5 rfl rfl)
theorem dX3_even_78 : decode cX3_even 78 = .ok (.aload_n 0, 1) := dk_42 (dk_at dksX3_even_3 8 rfl rfl)
theorem dX3_even_79 : decode cX3_even 79 = .ok (.iload_n 1, 1) := dk_27 (dk_at dksX3_even_3 9 rfl rfl)
theorem dX3_even_80 : decode cX3_even 80 = .ok (.iconst 3, 1) := dk_6 (dk_at dksX3_even_3 10 rfl rfl)
theorem dX3_even_81 : decode cX3_even 81 = .ok (.invokevirtual 181, 3) := dk_182 0 181 (dk_at dksX3_even_3 11 rfl rfl)
theorem dX3_even_84 : decode cX3_even 84 = .ok (.aload_n 0, 1) := dk_42 (dk_at dksX3_even_3 14 rfl rfl)
theorem dX3_even_85 : decode cX3_even 85 = .ok (.iload_n 2, 1) := dk_28 (dk_at dksX3_even_3 15 rfl rfl)
theorem dX3_even_86 : decode cX3_even 86 = .ok (.iconst 3, 1) := dk_6 (dk_at dksX3_even_3 16 rfl rfl)
theorem dX3_even_87 : decode cX3_even 87 = .ok (.invokevirtual 181, 3) := dk_182 0 181 (dk_at dksX3_even_3 17 rfl rfl)
theorem dX3_even_90 : decode cX3_even 90 = .ok (.if_icmp .le 12, 3) := dk_164 0 12 (dk_at dksX3_even_3 20 rfl rfl)
theorem dX3_even_93 : decode cX3_even 93 = .ok (.aload_n 0, 1) := dk_42 (dk_at dksX3_even_3 23 rfl rfl)
theorem dX3_even_94 : decode cX3_even 94 = .ok (.iload_n 1, 1) := dk_27 (dk_at dksX3_even_4 0 rfl rfl)
theorem dX3_even_95 : decode cX3_even 95 = .ok (.iconst 3, 1) := dk_6 (dk_at dksX3_even_4 1 rfl rfl)
theorem dX3_even_96 : decode cX3_even 96 = .ok (.invokevirtual 181, 3) := dk_182 0 181 (dk_at dksX3_even_4 2 rfl rfl)
theorem dX3_even_99 : decode cX3_even 99 = .ok (.goto 9, 3) := dk_167 0 9 (dk_at dksX3_even_4 5 rfl rfl)
theorem dX3_even_102 : decode cX3_even 102 = .ok (.aload_n 0, 1) := dk_42 (dk_at dksX3_even_4 8 rfl rfl)
theorem dX3_even_103 : decode cX3_even 103 = .ok (.iload_n 2, 1) := dk_28 (dk_at dksX3_even_4 9 rfl rfl)
theorem dX3_even_104 : decode cX3_even 104 = .ok (.iconst 3, 1) := dk_6 (dk_at dksX3_even_4 10 rfl rfl)
theorem dX3_even_105 : decode cX3_even 105 = .ok (.invokevirtual 181, 3) := dk_182 0 181 (dk_at dksX3_even_4 11 rfl rfl)
theorem dX3_even_108 : decode cX3_even 108 = .ok (.istore 4, 2) := dk_54 4 (dk_at dksX3_even_4 14 rfl rfl)
theorem dX3_even_110 : decode cX3_even 110 = .ok (.iload 4, 2) := dk_21 4 (dk_at dksX3_even_4 16 rfl rfl)
theorem dX3_even_112 : decode cX3_even 112 = .ok (.istore 5, 2) := dk_54 5 (dk_at dksX3_even_4 18 rfl rfl)
theorem dX3_even_114 : decode cX3_even 114 = .ok (.iload 5, 2) := dk_21 5 (dk_at dksX3_even_4 20 rfl rfl)
theorem dX3_even_116 : decode cX3_even 116 = .ok (.aload_n 0, 1) := dk_42 (dk_at dksX3_even_4 22 rfl rfl)
theorem dX3_even_117 : decode cX3_even 117 = .ok (.iload_n 1, 1) := dk_27 (dk_at dksX3_even_4 23 rfl rfl)
theorem dX3_even_118 : decode cX3_even 118 = .ok (.iconst 3, 1) := dk_6 (dk_at dksX3_even_5 0 rfl rfl)
theorem dX3_even_119 : decode cX3_even 119 = .ok (.invokevirtual 181, 3) := dk_182 0 181 (dk_at dksX3_even_5 1 rfl rfl)
theorem dX3_even_122 : decode cX3_even 122 = .ok (.isub, 1) := dk_100 (dk_at dksX3_even_5 4 rfl rfl)
theorem dX3_even_123 : decode cX3_even 123 = .ok (.bipush 40, 2) := dk_16 40 (dk_at dksX3_even_5 5 rfl rfl)
theorem dX3_even_125 : decode cX3_even 125 = .ok (.if_icmp .gt 147, 3) := dk_163 0 147 (dk_at dksX3_even_5 7 rfl rfl)
theorem dX3_even_128 : decode cX3_even 128 = .ok (.iload 5, 2) := dk_21 5 (dk_at dksX3_even_5 10 rfl rfl)
theorem dX3_even_130 : decode cX3_even 130 = .ok (.aload_n 0, 1) := dk_42 (dk_at dksX3_even_5 12 rfl rfl)
theorem dX3_even_131 : decode cX3_even 131 = .ok (.iload_n 2, 1) := dk_28 (dk_at dksX3_even_5 13 rfl rfl)
theorem dX3_even_132 : decode cX3_even 132 = .ok (.iconst 3, 1) := dk_6 (dk_at dksX3_even_5 14 rfl rfl)
theorem dX3_even_133 : decode cX3_even 133 = .ok (.invokevirtual 181, 3) := dk_182 0 181 (dk_at dksX3_even_5 15 rfl rfl)
theorem dX3_even_136 : decode cX3_even 136 = .ok (.isub, 1) := dk_100 (dk_at dksX3_even_5 18 rfl rfl)
theorem dX3_even_137 : decode cX3_even 137 = .ok (.bipush 40, 2) := dk_16 40 (dk_at dksX3_even_5 19 rfl rfl)
theorem dX3_even_139 : decode cX3_even 139 = .ok (.if_icmp .gt 133, 3) := dk_163 0 133 (dk_at dksX3_even_5 21 rfl rfl)
theorem dX3_even_142 : decode cX3_even 142 = .ok (.iload 5, 2) := dk_21 5 (dk_at dksX3_even_6 0 rfl rfl)
theorem dX3_even_144 : decode cX3_even 144 = .ok (.aload_n 0, 1) := dk_42 (dk_at dksX3_even_6 2 rfl rfl)
theorem dX3_even_145 : decode cX3_even 145 = .ok (.iload_n 1, 1) := dk_27 (dk_at dksX3_even_6 3 rfl rfl)
theorem dX3_even_146 : decode cX3_even 146 = .ok (.iconst 3, 1) := dk_6 (dk_at dksX3_even_6 4 rfl rfl)
theorem dX3_even_147 : decode cX3_even 147 = .ok (.invokevirtual 181, 3) := dk_182 0 181 (dk_at dksX3_even_6 5 rfl rfl)
theorem dX3_even_150 : decode cX3_even 150 = .ok (.isub, 1) := dk_100 (dk_at dksX3_even_6 8 rfl rfl)
theorem dX3_even_151 : decode cX3_even 151 = .ok (.istore 6, 2) := dk_54 6 (dk_at dksX3_even_6 9 rfl rfl)
theorem dX3_even_153 : decode cX3_even 153 = .ok (.iload 5, 2) := dk_21 5 (dk_at dksX3_even_6 11 rfl rfl)
theorem dX3_even_155 : decode cX3_even 155 = .ok (.aload_n 0, 1) := dk_42 (dk_at dksX3_even_6 13 rfl rfl)
theorem dX3_even_156 : decode cX3_even 156 = .ok (.iload_n 2, 1) := dk_28 (dk_at dksX3_even_6 14 rfl rfl)
theorem dX3_even_157 : decode cX3_even 157 = .ok (.iconst 3, 1) := dk_6 (dk_at dksX3_even_6 15 rfl rfl)
theorem dX3_even_158 : decode cX3_even 158 = .ok (.invokevirtual 181, 3) := dk_182 0 181 (dk_at dksX3_even_6 16 rfl rfl)
theorem dX3_even_161 : decode cX3_even 161 = .ok (.isub, 1) := dk_100 (dk_at dksX3_even_6 19 rfl rfl)
theorem dX3_even_162 : decode cX3_even 162 = .ok (.istore 7, 2) := dk_54 7 (dk_at dksX3_even_6 20 rfl rfl)
theorem dX3_even_164 : decode cX3_even 164 = .ok (.aload_n 0, 1) := dk_42 (dk_at dksX3_even_6 22 rfl rfl)
theorem dX3_even_165 : decode cX3_even 165 = .ok (.iload_n 1, 1) := dk_27 (dk_at dksX3_even_6 23 rfl rfl)
theorem dX3_even_166 : decode cX3_even 166 = .ok (.iconst 4, 1) := dk_7 (dk_at dksX3_even_7 0 rfl rfl)
theorem dX3_even_167 : decode cX3_even 167 = .ok (.invokevirtual 181, 3) := dk_182 0 181 (dk_at dksX3_even_7 1 rfl rfl)
theorem dX3_even_170 : decode cX3_even 170 = .ok (.iload 6, 2) := dk_21 6 (dk_at dksX3_even_7 4 rfl rfl)
theorem dX3_even_172 : decode cX3_even 172 = .ok (.iadd, 1) := dk_96 (dk_at dksX3_even_7 6 rfl rfl)
theorem dX3_even_173 : decode cX3_even 173 = .ok (.aload_n 0, 1) := dk_42 (dk_at dksX3_even_7 7 rfl rfl)
theorem dX3_even_174 : decode cX3_even 174 = .ok (.iload_n 2, 1) := dk_28 (dk_at dksX3_even_7 8 rfl rfl)
theorem dX3_even_175 : decode cX3_even 175 = .ok (.iconst 4, 1) := dk_7 (dk_at dksX3_even_7 9 rfl rfl)
theorem dX3_even_176 : decode cX3_even 176 = .ok (.invokevirtual 181, 3) := dk_182 0 181 (dk_at dksX3_even_7 10 rfl rfl)
theorem dX3_even_179 : decode cX3_even 179 = .ok (.isub, 1) := dk_100 (dk_at dksX3_even_7 13 rfl rfl)
theorem dX3_even_180 : decode cX3_even 180 = .ok (.iload 7, 2) := dk_21 7 (dk_at dksX3_even_7 14 rfl rfl)
theorem dX3_even_182 : decode cX3_even 182 = .ok (.isub, 1) := dk_100 (dk_at dksX3_even_7 16 rfl rfl)
theorem dX3_even_183 : decode cX3_even 183 = .ok (.istore 8, 2) := dk_54 8 (dk_at dksX3_even_7 17 rfl rfl)
theorem dX3_even_185 : decode cX3_even 185 = .ok (.iconst 0, 1) := dk_3 (dk_at dksX3_even_7 19 rfl rfl)
theorem dX3_even_186 : decode cX3_even 186 = .ok (.istore 9, 2) := dk_54 9 (dk_at dksX3_even_7 20 rfl rfl)
theorem dX3_even_188 : decode cX3_even 188 = .ok (.iload 9, 2) := dk_21 9 (dk_at dksX3_even_7 22 rfl rfl)
theorem dX3_even_190 : decode cX3_even 190 = .ok (.bipush 40, 2) := dk_16 40 (dk_at dksX3_even_8 0 rfl rfl)
theorem dX3_even_192 : decode cX3_even 192 = .ok (.if_icmp .gt 74, 3) := dk_163 0 74 (dk_at dksX3_even_8 2 rfl rfl)
theorem dX3_even_195 : decode cX3_even 195 = .ok (.iload 9, 2) := dk_21 9 (dk_at dksX3_even_8 5 rfl rfl)
theorem dX3_even_197 : decode cX3_even 197 = .ok (.iload 8, 2) := dk_21 8 (dk_at dksX3_even_8 7 rfl rfl)
theorem dX3_even_199 : decode cX3_even 199 = .ok (.isub, 1) := dk_100 (dk_at dksX3_even_8 9 rfl rfl)
theorem dX3_even_200 : decode cX3_even 200 = .ok (.istore 10, 2) := dk_54 10 (dk_at dksX3_even_8 10 rfl rfl)
theorem dX3_even_202 : decode cX3_even 202 = .ok (.aload_n 0, 1) := dk_42 (dk_at dksX3_even_8 12 rfl rfl)
theorem dX3_even_203 : decode cX3_even 203 = .ok (.getfield 31, 3) := dk_180 0 31 (dk_at dksX3_even_8 13 rfl rfl)
theorem dX3_even_206 : decode cX3_even 206 = .ok (.iconst 5, 1) := dk_8 (dk_at dksX3_even_8 16 rfl rfl)
theorem dX3_even_207 : decode cX3_even 207 = .ok (.iload 6, 2) := dk_21 6 (dk_at dksX3_even_8 17 rfl rfl)
theorem dX3_even_209 : decode cX3_even 209 = .ok (.imul, 1) := dk_104 (dk_at dksX3_even_8 19 rfl rfl)
theorem dX3_even_210 : decode cX3_even 210 = .ok (.iload_n 3, 1) := dk_29 (dk_at dksX3_even_8 20 rfl rfl)
theorem dX3_even_211 : decode cX3_even 211 = .ok (.iadd, 1) := dk_96 (dk_at dksX3_even_8 21 rfl rfl)
theorem dX3_even_212 : decode cX3_even 212 = .ok (.laload, 1) := dk_47 (dk_at dksX3_even_8 22 rfl rfl)
theorem dX3_even_213 : decode cX3_even 213 = .ok (.iload 9, 2) := dk_21 9 (dk_at dksX3_even_9 0 rfl rfl)
theorem dX3_even_215 : decode cX3_even 215 = .ok (.lshr, 1) := dk_123 (dk_at dksX3_even_9 2 rfl rfl)
theorem dX3_even_216 : decode cX3_even 216 = .ok (.lconst 1, 1) := dk_10 (dk_at dksX3_even_9 3 rfl rfl)
theorem dX3_even_217 : decode cX3_even 217 = .ok (.land, 1) := dk_127 (dk_at dksX3_even_9 4 rfl rfl)
theorem dX3_even_218 : decode cX3_even 218 = .ok (.lconst 1, 1) := dk_10 (dk_at dksX3_even_9 5 rfl rfl)
theorem dX3_even_219 : decode cX3_even 219 = .ok (.lcmp, 1) := dk_148 (dk_at dksX3_even_9 6 rfl rfl)
theorem dX3_even_220 : decode cX3_even 220 = .ok (.ifCond .ne 40, 3) := dk_154 0 40 (dk_at dksX3_even_9 7 rfl rfl)
theorem dX3_even_223 : decode cX3_even 223 = .ok (.iload 10, 2) := dk_21 10 (dk_at dksX3_even_9 10 rfl rfl)
theorem dX3_even_225 : decode cX3_even 225 = .ok (.i2l, 1) := dk_133 (dk_at dksX3_even_9 12 rfl rfl)
theorem dX3_even_226 : decode cX3_even 226 = .ok (.lconst 0, 1) := dk_9 (dk_at dksX3_even_9 13 rfl rfl)
theorem dX3_even_227 : decode cX3_even 227 = .ok (.ldc2_w 226, 3) := dk_20 0 226 (dk_at dksX3_even_9 14 rfl rfl)
theorem dX3_even_230 : decode cX3_even 230 = .ok (.invokestatic 58, 3) := dk_184 0 58 (dk_at dksX3_even_9 17 rfl rfl)
theorem dX3_even_233 : decode cX3_even 233 = .ok (.ifCond .eq 27, 3) := dk_153 0 27 (dk_at dksX3_even_9 20 rfl rfl)
theorem dX3_even_236 : decode cX3_even 236 = .ok (.aload_n 0, 1) := dk_42 (dk_at dksX3_even_9 23 rfl rfl)
theorem dX3_even_237 : decode cX3_even 237 = .ok (.getfield 35, 3) := dk_180 0 35 (dk_at dksX3_even_10 0 rfl rfl)
theorem dX3_even_240 : decode cX3_even 240 = .ok (.iconst 5, 1) := dk_8 (dk_at dksX3_even_10 3 rfl rfl)
theorem dX3_even_241 : decode cX3_even 241 = .ok (.iload 7, 2) := dk_21 7 (dk_at dksX3_even_10 4 rfl rfl)
theorem dX3_even_243 : decode cX3_even 243 = .ok (.imul, 1) := dk_104 (dk_at dksX3_even_10 6 rfl rfl)
theorem dX3_even_244 : decode cX3_even 244 = .ok (.iload_n 3, 1) := dk_29 (dk_at dksX3_even_10 7 rfl rfl)
theorem dX3_even_245 : decode cX3_even 245 = .ok (.iadd, 1) := dk_96 (dk_at dksX3_even_10 8 rfl rfl)
theorem dX3_even_246 : decode cX3_even 246 = .ok (.laload, 1) := dk_47 (dk_at dksX3_even_10 9 rfl rfl)
theorem dX3_even_247 : decode cX3_even 247 = .ok (.iload 10, 2) := dk_21 10 (dk_at dksX3_even_10 10 rfl rfl)
theorem dX3_even_249 : decode cX3_even 249 = .ok (.lshr, 1) := dk_123 (dk_at dksX3_even_10 12 rfl rfl)
theorem dX3_even_250 : decode cX3_even 250 = .ok (.lconst 1, 1) := dk_10 (dk_at dksX3_even_10 13 rfl rfl)
theorem dX3_even_251 : decode cX3_even 251 = .ok (.land, 1) := dk_127 (dk_at dksX3_even_10 14 rfl rfl)
theorem dX3_even_252 : decode cX3_even 252 = .ok (.lconst 1, 1) := dk_10 (dk_at dksX3_even_10 15 rfl rfl)
theorem dX3_even_253 : decode cX3_even 253 = .ok (.lcmp, 1) := dk_148 (dk_at dksX3_even_10 16 rfl rfl)
theorem dX3_even_254 : decode cX3_even 254 = .ok (.ifCond .ne 6, 3) := dk_154 0 6 (dk_at dksX3_even_10 17 rfl rfl)
theorem dX3_even_257 : decode cX3_even 257 = .ok (.iload 5, 2) := dk_21 5 (dk_at dksX3_even_10 20 rfl rfl)
theorem dX3_even_259 : decode cX3_even 259 = .ok (.ireturn, 1) := dk_172 (dk_at dksX3_even_10 22 rfl rfl)
theorem dX3_even_260 : decode cX3_even 260 = .ok (.iinc 9 1, 3) := dk_132 9 1 (dk_at dksX3_even_11 0 rfl rfl)
theorem dX3_even_263 : decode cX3_even 263 = .ok (.goto (-75), 3) := dk_167 255 181 (dk_at dksX3_even_11 3 rfl rfl)
theorem dX3_even_266 : decode cX3_even 266 = .ok (.iinc 5 1, 3) := dk_132 5 1 (dk_at dksX3_even_11 6 rfl rfl)
theorem dX3_even_269 : decode cX3_even 269 = .ok (.goto (-155), 3) := dk_167 255 101 (dk_at dksX3_even_11 9 rfl rfl)
theorem dX3_even_272 : decode cX3_even 272 = .ok (.ldc 84, 2) := dk_18 84 (dk_at dksX3_even_11 12 rfl rfl)
theorem dX3_even_274 : decode cX3_even 274 = .ok (.ireturn, 1) := dk_172 (dk_at dksX3_even_11 14 rfl rfl)
abbrev cX3_where : ByteArray := prog_16_method_53_code
def yX3_where : MethodName := ⟨RX3, "where", "(III)I"⟩
def dkwX3_where_6 : List UInt8 := [21, 7, 120, 167, 0, 4, 3, 128, 54, 6, 132, 7, 1, 167, 255, 207, 21, 6, 172]
abbrev dktX3_where_6 : List UInt8 := dkwX3_where_6 ++ []
def dkwX3_where_5 : List UInt8 := [42, 180, 0, 31, 8, 21, 4, 104, 21, 7, 96, 47, 21, 5, 123, 10, 127, 10, 148, 154, 0, 10, 4]
abbrev dktX3_where_5 : List UInt8 := dkwX3_where_5 ++ dktX3_where_6
def dkwX3_where_4 : List UInt8 := [42, 27, 182, 0, 228, 3, 54, 6, 3, 54, 7, 21, 7, 42, 180, 0, 19, 3, 46, 162, 0, 44, 21, 6]
abbrev dktX3_where_4 : List UInt8 := dkwX3_where_4 ++ dktX3_where_5
def dkwX3_where_3 : List UInt8 := [20, 0, 226, 184, 0, 58, 153, 0, 16, 21, 5, 133, 9, 20, 0, 226, 184, 0, 58, 154, 0, 5, 3, 172]
abbrev dktX3_where_3 : List UInt8 := dkwX3_where_3 ++ dktX3_where_4
def dkwX3_where_2 : List UInt8 := [182, 0, 181, 100, 54, 4, 42, 27, 7, 182, 0, 181, 21, 4, 96, 29, 100, 54, 5, 21, 4, 133, 9]
abbrev dktX3_where_2 : List UInt8 := dkwX3_where_2 ++ dktX3_where_3
def dkwX3_where_1 : List UInt8 := [153, 0, 15, 29, 133, 9, 20, 0, 233, 184, 0, 58, 154, 0, 6, 18, 68, 172, 28, 42, 27, 6]
abbrev dktX3_where_1 : List UInt8 := dkwX3_where_1 ++ dktX3_where_2
def dkwX3_where_0 : List UInt8 := [42, 3, 181, 0, 48, 42, 27, 182, 0, 199, 153, 0, 27, 28, 133, 9, 20, 0, 231, 184, 0, 58]
abbrev dktX3_where_0 : List UInt8 := dkwX3_where_0 ++ dktX3_where_1
theorem dksX3_where_0 : cX3_where.data.toList.drop 0 = dktX3_where_0 := by decide +kernel
theorem dksX3_where_1 : cX3_where.data.toList.drop 22 = dktX3_where_1 := dk_seg dksX3_where_0 22 rfl rfl
theorem dksX3_where_2 : cX3_where.data.toList.drop 44 = dktX3_where_2 := dk_seg dksX3_where_1 22 rfl rfl
theorem dksX3_where_3 : cX3_where.data.toList.drop 67 = dktX3_where_3 := dk_seg dksX3_where_2 23 rfl rfl
theorem dksX3_where_4 : cX3_where.data.toList.drop 91 = dktX3_where_4 := dk_seg dksX3_where_3 24 rfl rfl
theorem dksX3_where_5 : cX3_where.data.toList.drop 115 = dktX3_where_5 := dk_seg dksX3_where_4 24 rfl rfl
theorem dksX3_where_6 : cX3_where.data.toList.drop 138 = dktX3_where_6 := dk_seg dksX3_where_5 23 rfl rfl
theorem dX3_where_0 : decode cX3_where 0 = .ok (.aload_n 0, 1) := dk_42 (dk_at dksX3_where_0 0 rfl rfl)
theorem dX3_where_1 : decode cX3_where 1 = .ok (.iconst 0, 1) := dk_3 (dk_at dksX3_where_0 1 rfl rfl)
theorem dX3_where_2 : decode cX3_where 2 = .ok (.putfield 48, 3) := dk_181 0 48 (dk_at dksX3_where_0 2 rfl rfl)
theorem dX3_where_5 : decode cX3_where 5 = .ok (.aload_n 0, 1) := dk_42 (dk_at dksX3_where_0 5 rfl rfl)
theorem dX3_where_6 : decode cX3_where 6 = .ok (.iload_n 1, 1) := dk_27 (dk_at dksX3_where_0 6 rfl rfl)
theorem dX3_where_7 : decode cX3_where 7 = .ok (.invokevirtual 199, 3) := dk_182 0 199 (dk_at dksX3_where_0 7 rfl rfl)
theorem dX3_where_10 : decode cX3_where 10 = .ok (.ifCond .eq 27, 3) := dk_153 0 27 (dk_at dksX3_where_0 10 rfl rfl)
theorem dX3_where_13 : decode cX3_where 13 = .ok (.iload_n 2, 1) := dk_28 (dk_at dksX3_where_0 13 rfl rfl)
theorem dX3_where_14 : decode cX3_where 14 = .ok (.i2l, 1) := dk_133 (dk_at dksX3_where_0 14 rfl rfl)
theorem dX3_where_15 : decode cX3_where 15 = .ok (.lconst 0, 1) := dk_9 (dk_at dksX3_where_0 15 rfl rfl)
theorem dX3_where_16 : decode cX3_where 16 = .ok (.ldc2_w 231, 3) := dk_20 0 231 (dk_at dksX3_where_0 16 rfl rfl)
theorem dX3_where_19 : decode cX3_where 19 = .ok (.invokestatic 58, 3) := dk_184 0 58 (dk_at dksX3_where_0 19 rfl rfl)
theorem dX3_where_22 : decode cX3_where 22 = .ok (.ifCond .eq 15, 3) := dk_153 0 15 (dk_at dksX3_where_1 0 rfl rfl)
theorem dX3_where_25 : decode cX3_where 25 = .ok (.iload_n 3, 1) := dk_29 (dk_at dksX3_where_1 3 rfl rfl)
theorem dX3_where_26 : decode cX3_where 26 = .ok (.i2l, 1) := dk_133 (dk_at dksX3_where_1 4 rfl rfl)
theorem dX3_where_27 : decode cX3_where 27 = .ok (.lconst 0, 1) := dk_9 (dk_at dksX3_where_1 5 rfl rfl)
theorem dX3_where_28 : decode cX3_where 28 = .ok (.ldc2_w 233, 3) := dk_20 0 233 (dk_at dksX3_where_1 6 rfl rfl)
theorem dX3_where_31 : decode cX3_where 31 = .ok (.invokestatic 58, 3) := dk_184 0 58 (dk_at dksX3_where_1 9 rfl rfl)
theorem dX3_where_34 : decode cX3_where 34 = .ok (.ifCond .ne 6, 3) := dk_154 0 6 (dk_at dksX3_where_1 12 rfl rfl)
theorem dX3_where_37 : decode cX3_where 37 = .ok (.ldc 68, 2) := dk_18 68 (dk_at dksX3_where_1 15 rfl rfl)
theorem dX3_where_39 : decode cX3_where 39 = .ok (.ireturn, 1) := dk_172 (dk_at dksX3_where_1 17 rfl rfl)
theorem dX3_where_40 : decode cX3_where 40 = .ok (.iload_n 2, 1) := dk_28 (dk_at dksX3_where_1 18 rfl rfl)
theorem dX3_where_41 : decode cX3_where 41 = .ok (.aload_n 0, 1) := dk_42 (dk_at dksX3_where_1 19 rfl rfl)
theorem dX3_where_42 : decode cX3_where 42 = .ok (.iload_n 1, 1) := dk_27 (dk_at dksX3_where_1 20 rfl rfl)
theorem dX3_where_43 : decode cX3_where 43 = .ok (.iconst 3, 1) := dk_6 (dk_at dksX3_where_1 21 rfl rfl)
theorem dX3_where_44 : decode cX3_where 44 = .ok (.invokevirtual 181, 3) := dk_182 0 181 (dk_at dksX3_where_2 0 rfl rfl)
theorem dX3_where_47 : decode cX3_where 47 = .ok (.isub, 1) := dk_100 (dk_at dksX3_where_2 3 rfl rfl)
theorem dX3_where_48 : decode cX3_where 48 = .ok (.istore 4, 2) := dk_54 4 (dk_at dksX3_where_2 4 rfl rfl)
theorem dX3_where_50 : decode cX3_where 50 = .ok (.aload_n 0, 1) := dk_42 (dk_at dksX3_where_2 6 rfl rfl)
theorem dX3_where_51 : decode cX3_where 51 = .ok (.iload_n 1, 1) := dk_27 (dk_at dksX3_where_2 7 rfl rfl)
theorem dX3_where_52 : decode cX3_where 52 = .ok (.iconst 4, 1) := dk_7 (dk_at dksX3_where_2 8 rfl rfl)
theorem dX3_where_53 : decode cX3_where 53 = .ok (.invokevirtual 181, 3) := dk_182 0 181 (dk_at dksX3_where_2 9 rfl rfl)
theorem dX3_where_56 : decode cX3_where 56 = .ok (.iload 4, 2) := dk_21 4 (dk_at dksX3_where_2 12 rfl rfl)
theorem dX3_where_58 : decode cX3_where 58 = .ok (.iadd, 1) := dk_96 (dk_at dksX3_where_2 14 rfl rfl)
theorem dX3_where_59 : decode cX3_where 59 = .ok (.iload_n 3, 1) := dk_29 (dk_at dksX3_where_2 15 rfl rfl)
theorem dX3_where_60 : decode cX3_where 60 = .ok (.isub, 1) := dk_100 (dk_at dksX3_where_2 16 rfl rfl)
theorem dX3_where_61 : decode cX3_where 61 = .ok (.istore 5, 2) := dk_54 5 (dk_at dksX3_where_2 17 rfl rfl)
theorem dX3_where_63 : decode cX3_where 63 = .ok (.iload 4, 2) := dk_21 4 (dk_at dksX3_where_2 19 rfl rfl)
theorem dX3_where_65 : decode cX3_where 65 = .ok (.i2l, 1) := dk_133 (dk_at dksX3_where_2 21 rfl rfl)
theorem dX3_where_66 : decode cX3_where 66 = .ok (.lconst 0, 1) := dk_9 (dk_at dksX3_where_2 22 rfl rfl)
theorem dX3_where_67 : decode cX3_where 67 = .ok (.ldc2_w 226, 3) := dk_20 0 226 (dk_at dksX3_where_3 0 rfl rfl)
theorem dX3_where_70 : decode cX3_where 70 = .ok (.invokestatic 58, 3) := dk_184 0 58 (dk_at dksX3_where_3 3 rfl rfl)
theorem dX3_where_73 : decode cX3_where 73 = .ok (.ifCond .eq 16, 3) := dk_153 0 16 (dk_at dksX3_where_3 6 rfl rfl)
theorem dX3_where_76 : decode cX3_where 76 = .ok (.iload 5, 2) := dk_21 5 (dk_at dksX3_where_3 9 rfl rfl)
theorem dX3_where_78 : decode cX3_where 78 = .ok (.i2l, 1) := dk_133 (dk_at dksX3_where_3 11 rfl rfl)
theorem dX3_where_79 : decode cX3_where 79 = .ok (.lconst 0, 1) := dk_9 (dk_at dksX3_where_3 12 rfl rfl)
theorem dX3_where_80 : decode cX3_where 80 = .ok (.ldc2_w 226, 3) := dk_20 0 226 (dk_at dksX3_where_3 13 rfl rfl)
theorem dX3_where_83 : decode cX3_where 83 = .ok (.invokestatic 58, 3) := dk_184 0 58 (dk_at dksX3_where_3 16 rfl rfl)
theorem dX3_where_86 : decode cX3_where 86 = .ok (.ifCond .ne 5, 3) := dk_154 0 5 (dk_at dksX3_where_3 19 rfl rfl)
theorem dX3_where_89 : decode cX3_where 89 = .ok (.iconst 0, 1) := dk_3 (dk_at dksX3_where_3 22 rfl rfl)
theorem dX3_where_90 : decode cX3_where 90 = .ok (.ireturn, 1) := dk_172 (dk_at dksX3_where_3 23 rfl rfl)
theorem dX3_where_91 : decode cX3_where 91 = .ok (.aload_n 0, 1) := dk_42 (dk_at dksX3_where_4 0 rfl rfl)
theorem dX3_where_92 : decode cX3_where 92 = .ok (.iload_n 1, 1) := dk_27 (dk_at dksX3_where_4 1 rfl rfl)
theorem dX3_where_93 : decode cX3_where 93 = .ok (.invokevirtual 228, 3) := dk_182 0 228 (dk_at dksX3_where_4 2 rfl rfl)
theorem dX3_where_96 : decode cX3_where 96 = .ok (.iconst 0, 1) := dk_3 (dk_at dksX3_where_4 5 rfl rfl)
theorem dX3_where_97 : decode cX3_where 97 = .ok (.istore 6, 2) := dk_54 6 (dk_at dksX3_where_4 6 rfl rfl)
theorem dX3_where_99 : decode cX3_where 99 = .ok (.iconst 0, 1) := dk_3 (dk_at dksX3_where_4 8 rfl rfl)
theorem dX3_where_100 : decode cX3_where 100 = .ok (.istore 7, 2) := dk_54 7 (dk_at dksX3_where_4 9 rfl rfl)
theorem dX3_where_102 : decode cX3_where 102 = .ok (.iload 7, 2) := dk_21 7 (dk_at dksX3_where_4 11 rfl rfl)
theorem dX3_where_104 : decode cX3_where 104 = .ok (.aload_n 0, 1) := dk_42 (dk_at dksX3_where_4 13 rfl rfl)
theorem dX3_where_105 : decode cX3_where 105 = .ok (.getfield 19, 3) := dk_180 0 19 (dk_at dksX3_where_4 14 rfl rfl)
theorem dX3_where_108 : decode cX3_where 108 = .ok (.iconst 0, 1) := dk_3 (dk_at dksX3_where_4 17 rfl rfl)
theorem dX3_where_109 : decode cX3_where 109 = .ok (.iaload, 1) := dk_46 (dk_at dksX3_where_4 18 rfl rfl)
theorem dX3_where_110 : decode cX3_where 110 = .ok (.if_icmp .ge 44, 3) := dk_162 0 44 (dk_at dksX3_where_4 19 rfl rfl)
theorem dX3_where_113 : decode cX3_where 113 = .ok (.iload 6, 2) := dk_21 6 (dk_at dksX3_where_4 22 rfl rfl)
theorem dX3_where_115 : decode cX3_where 115 = .ok (.aload_n 0, 1) := dk_42 (dk_at dksX3_where_5 0 rfl rfl)
theorem dX3_where_116 : decode cX3_where 116 = .ok (.getfield 31, 3) := dk_180 0 31 (dk_at dksX3_where_5 1 rfl rfl)
theorem dX3_where_119 : decode cX3_where 119 = .ok (.iconst 5, 1) := dk_8 (dk_at dksX3_where_5 4 rfl rfl)
theorem dX3_where_120 : decode cX3_where 120 = .ok (.iload 4, 2) := dk_21 4 (dk_at dksX3_where_5 5 rfl rfl)
theorem dX3_where_122 : decode cX3_where 122 = .ok (.imul, 1) := dk_104 (dk_at dksX3_where_5 7 rfl rfl)
theorem dX3_where_123 : decode cX3_where 123 = .ok (.iload 7, 2) := dk_21 7 (dk_at dksX3_where_5 8 rfl rfl)
theorem dX3_where_125 : decode cX3_where 125 = .ok (.iadd, 1) := dk_96 (dk_at dksX3_where_5 10 rfl rfl)
theorem dX3_where_126 : decode cX3_where 126 = .ok (.laload, 1) := dk_47 (dk_at dksX3_where_5 11 rfl rfl)
theorem dX3_where_127 : decode cX3_where 127 = .ok (.iload 5, 2) := dk_21 5 (dk_at dksX3_where_5 12 rfl rfl)
theorem dX3_where_129 : decode cX3_where 129 = .ok (.lshr, 1) := dk_123 (dk_at dksX3_where_5 14 rfl rfl)
theorem dX3_where_130 : decode cX3_where 130 = .ok (.lconst 1, 1) := dk_10 (dk_at dksX3_where_5 15 rfl rfl)
theorem dX3_where_131 : decode cX3_where 131 = .ok (.land, 1) := dk_127 (dk_at dksX3_where_5 16 rfl rfl)
theorem dX3_where_132 : decode cX3_where 132 = .ok (.lconst 1, 1) := dk_10 (dk_at dksX3_where_5 17 rfl rfl)
theorem dX3_where_133 : decode cX3_where 133 = .ok (.lcmp, 1) := dk_148 (dk_at dksX3_where_5 18 rfl rfl)
theorem dX3_where_134 : decode cX3_where 134 = .ok (.ifCond .ne 10, 3) := dk_154 0 10 (dk_at dksX3_where_5 19 rfl rfl)
theorem dX3_where_137 : decode cX3_where 137 = .ok (.iconst 1, 1) := dk_4 (dk_at dksX3_where_5 22 rfl rfl)
theorem dX3_where_138 : decode cX3_where 138 = .ok (.iload 7, 2) := dk_21 7 (dk_at dksX3_where_6 0 rfl rfl)
theorem dX3_where_140 : decode cX3_where 140 = .ok (.ishl, 1) := dk_120 (dk_at dksX3_where_6 2 rfl rfl)
theorem dX3_where_141 : decode cX3_where 141 = .ok (.goto 4, 3) := dk_167 0 4 (dk_at dksX3_where_6 3 rfl rfl)
theorem dX3_where_144 : decode cX3_where 144 = .ok (.iconst 0, 1) := dk_3 (dk_at dksX3_where_6 6 rfl rfl)
theorem dX3_where_145 : decode cX3_where 145 = .ok (.ior, 1) := dk_128 (dk_at dksX3_where_6 7 rfl rfl)
theorem dX3_where_146 : decode cX3_where 146 = .ok (.istore 6, 2) := dk_54 6 (dk_at dksX3_where_6 8 rfl rfl)
theorem dX3_where_148 : decode cX3_where 148 = .ok (.iinc 7 1, 3) := dk_132 7 1 (dk_at dksX3_where_6 10 rfl rfl)
theorem dX3_where_151 : decode cX3_where 151 = .ok (.goto (-49), 3) := dk_167 255 207 (dk_at dksX3_where_6 13 rfl rfl)
theorem dX3_where_154 : decode cX3_where 154 = .ok (.iload 6, 2) := dk_21 6 (dk_at dksX3_where_6 16 rfl rfl)
theorem dX3_where_156 : decode cX3_where 156 = .ok (.ireturn, 1) := dk_172 (dk_at dksX3_where_6 18 rfl rfl)
abbrev cX3_gone : ByteArray := prog_16_method_54_code
def yX3_gone : MethodName := ⟨RX3, "gone", "(I)I"⟩
def dkwX3_gone_1 : List UInt8 := [182, 0, 218, 100, 167, 0, 5, 18, 68, 172]
abbrev dktX3_gone_1 : List UInt8 := dkwX3_gone_1 ++ []
def dkwX3_gone_0 : List UInt8 := [42, 3, 181, 0, 48, 42, 27, 182, 0, 199, 153, 0, 19, 42, 27, 3, 182, 0, 218, 42, 27, 4]
abbrev dktX3_gone_0 : List UInt8 := dkwX3_gone_0 ++ dktX3_gone_1
theorem dksX3_gone_0 : cX3_gone.data.toList.drop 0 = dktX3_gone_0 := by decide +kernel
theorem dksX3_gone_1 : cX3_gone.data.toList.drop 22 = dktX3_gone_1 := dk_seg dksX3_gone_0 22 rfl rfl
theorem dX3_gone_0 : decode cX3_gone 0 = .ok (.aload_n 0, 1) := dk_42 (dk_at dksX3_gone_0 0 rfl rfl)
theorem dX3_gone_1 : decode cX3_gone 1 = .ok (.iconst 0, 1) := dk_3 (dk_at dksX3_gone_0 1 rfl rfl)
theorem dX3_gone_2 : decode cX3_gone 2 = .ok (.putfield 48, 3) := dk_181 0 48 (dk_at dksX3_gone_0 2 rfl rfl)
theorem dX3_gone_5 : decode cX3_gone 5 = .ok (.aload_n 0, 1) := dk_42 (dk_at dksX3_gone_0 5 rfl rfl)
theorem dX3_gone_6 : decode cX3_gone 6 = .ok (.iload_n 1, 1) := dk_27 (dk_at dksX3_gone_0 6 rfl rfl)
theorem dX3_gone_7 : decode cX3_gone 7 = .ok (.invokevirtual 199, 3) := dk_182 0 199 (dk_at dksX3_gone_0 7 rfl rfl)
theorem dX3_gone_10 : decode cX3_gone 10 = .ok (.ifCond .eq 19, 3) := dk_153 0 19 (dk_at dksX3_gone_0 10 rfl rfl)
theorem dX3_gone_13 : decode cX3_gone 13 = .ok (.aload_n 0, 1) := dk_42 (dk_at dksX3_gone_0 13 rfl rfl)
theorem dX3_gone_14 : decode cX3_gone 14 = .ok (.iload_n 1, 1) := dk_27 (dk_at dksX3_gone_0 14 rfl rfl)
theorem dX3_gone_15 : decode cX3_gone 15 = .ok (.iconst 0, 1) := dk_3 (dk_at dksX3_gone_0 15 rfl rfl)
theorem dX3_gone_16 : decode cX3_gone 16 = .ok (.invokevirtual 218, 3) := dk_182 0 218 (dk_at dksX3_gone_0 16 rfl rfl)
theorem dX3_gone_19 : decode cX3_gone 19 = .ok (.aload_n 0, 1) := dk_42 (dk_at dksX3_gone_0 19 rfl rfl)
theorem dX3_gone_20 : decode cX3_gone 20 = .ok (.iload_n 1, 1) := dk_27 (dk_at dksX3_gone_0 20 rfl rfl)
theorem dX3_gone_21 : decode cX3_gone 21 = .ok (.iconst 1, 1) := dk_4 (dk_at dksX3_gone_0 21 rfl rfl)
theorem dX3_gone_22 : decode cX3_gone 22 = .ok (.invokevirtual 218, 3) := dk_182 0 218 (dk_at dksX3_gone_1 0 rfl rfl)
theorem dX3_gone_25 : decode cX3_gone 25 = .ok (.isub, 1) := dk_100 (dk_at dksX3_gone_1 3 rfl rfl)
theorem dX3_gone_26 : decode cX3_gone 26 = .ok (.goto 5, 3) := dk_167 0 5 (dk_at dksX3_gone_1 4 rfl rfl)
theorem dX3_gone_29 : decode cX3_gone 29 = .ok (.ldc 68, 2) := dk_18 68 (dk_at dksX3_gone_1 7 rfl rfl)
theorem dX3_gone_31 : decode cX3_gone 31 = .ok (.ireturn, 1) := dk_172 (dk_at dksX3_gone_1 9 rfl rfl)
abbrev cX3_eldest : ByteArray := prog_16_method_55_code
def yX3_eldest : MethodName := ⟨RX3, "eldest", "(I)I"⟩
def dkwX3_eldest_3 : List UInt8 := [28, 182, 0, 181, 164, 0, 8, 21, 4, 167, 0, 4, 29, 62, 132, 4, 1, 167, 255, 213, 29, 172]
abbrev dktX3_eldest_3 : List UInt8 := dkwX3_eldest_3 ++ []
def dkwX3_eldest_2 : List UInt8 := [42, 180, 0, 19, 6, 46, 162, 0, 38, 29, 18, 84, 159, 0, 19, 42, 21, 4, 28, 182, 0, 181, 42, 29]
abbrev dktX3_eldest_2 : List UInt8 := dkwX3_eldest_2 ++ dktX3_eldest_3
def dkwX3_eldest_1 : List UInt8 := [154, 0, 6, 18, 68, 172, 27, 154, 0, 7, 7, 167, 0, 4, 5, 61, 18, 84, 62, 3, 54, 4, 21, 4]
abbrev dktX3_eldest_1 : List UInt8 := dkwX3_eldest_1 ++ dktX3_eldest_2
def dkwX3_eldest_0 : List UInt8 := [42, 3, 181, 0, 48, 42, 182, 0, 235, 154, 0, 6, 18, 188, 172, 27, 133, 9, 10, 184, 0, 58]
abbrev dktX3_eldest_0 : List UInt8 := dkwX3_eldest_0 ++ dktX3_eldest_1
theorem dksX3_eldest_0 : cX3_eldest.data.toList.drop 0 = dktX3_eldest_0 := by decide +kernel
theorem dksX3_eldest_1 : cX3_eldest.data.toList.drop 22 = dktX3_eldest_1 := dk_seg dksX3_eldest_0 22 rfl rfl
theorem dksX3_eldest_2 : cX3_eldest.data.toList.drop 46 = dktX3_eldest_2 := dk_seg dksX3_eldest_1 24 rfl rfl
theorem dksX3_eldest_3 : cX3_eldest.data.toList.drop 70 = dktX3_eldest_3 := dk_seg dksX3_eldest_2 24 rfl rfl
theorem dX3_eldest_0 : decode cX3_eldest 0 = .ok (.aload_n 0, 1) := dk_42 (dk_at dksX3_eldest_0 0 rfl rfl)
theorem dX3_eldest_1 : decode cX3_eldest 1 = .ok (.iconst 0, 1) := dk_3 (dk_at dksX3_eldest_0 1 rfl rfl)
theorem dX3_eldest_2 : decode cX3_eldest 2 = .ok (.putfield 48, 3) := dk_181 0 48 (dk_at dksX3_eldest_0 2 rfl rfl)
theorem dX3_eldest_5 : decode cX3_eldest 5 = .ok (.aload_n 0, 1) := dk_42 (dk_at dksX3_eldest_0 5 rfl rfl)
theorem dX3_eldest_6 : decode cX3_eldest 6 = .ok (.invokevirtual 235, 3) := dk_182 0 235 (dk_at dksX3_eldest_0 6 rfl rfl)
theorem dX3_eldest_9 : decode cX3_eldest 9 = .ok (.ifCond .ne 6, 3) := dk_154 0 6 (dk_at dksX3_eldest_0 9 rfl rfl)
theorem dX3_eldest_12 : decode cX3_eldest 12 = .ok (.ldc 188, 2) := dk_18 188 (dk_at dksX3_eldest_0 12 rfl rfl)
theorem dX3_eldest_14 : decode cX3_eldest 14 = .ok (.ireturn, 1) := dk_172 (dk_at dksX3_eldest_0 14 rfl rfl)
theorem dX3_eldest_15 : decode cX3_eldest 15 = .ok (.iload_n 1, 1) := dk_27 (dk_at dksX3_eldest_0 15 rfl rfl)
theorem dX3_eldest_16 : decode cX3_eldest 16 = .ok (.i2l, 1) := dk_133 (dk_at dksX3_eldest_0 16 rfl rfl)
theorem dX3_eldest_17 : decode cX3_eldest 17 = .ok (.lconst 0, 1) := dk_9 (dk_at dksX3_eldest_0 17 rfl rfl)
theorem dX3_eldest_18 : decode cX3_eldest 18 = .ok (.lconst 1, 1) := dk_10 (dk_at dksX3_eldest_0 18 rfl rfl)
theorem dX3_eldest_19 : decode cX3_eldest 19 = .ok (.invokestatic 58, 3) := dk_184 0 58 (dk_at dksX3_eldest_0 19 rfl rfl)
theorem dX3_eldest_22 : decode cX3_eldest 22 = .ok (.ifCond .ne 6, 3) := dk_154 0 6 (dk_at dksX3_eldest_1 0 rfl rfl)
theorem dX3_eldest_25 : decode cX3_eldest 25 = .ok (.ldc 68, 2) := dk_18 68 (dk_at dksX3_eldest_1 3 rfl rfl)
theorem dX3_eldest_27 : decode cX3_eldest 27 = .ok (.ireturn, 1) := dk_172 (dk_at dksX3_eldest_1 5 rfl rfl)
theorem dX3_eldest_28 : decode cX3_eldest 28 = .ok (.iload_n 1, 1) := dk_27 (dk_at dksX3_eldest_1 6 rfl rfl)
theorem dX3_eldest_29 : decode cX3_eldest 29 = .ok (.ifCond .ne 7, 3) := dk_154 0 7 (dk_at dksX3_eldest_1 7 rfl rfl)
theorem dX3_eldest_32 : decode cX3_eldest 32 = .ok (.iconst 4, 1) := dk_7 (dk_at dksX3_eldest_1 10 rfl rfl)
theorem dX3_eldest_33 : decode cX3_eldest 33 = .ok (.goto 4, 3) := dk_167 0 4 (dk_at dksX3_eldest_1 11 rfl rfl)
theorem dX3_eldest_36 : decode cX3_eldest 36 = .ok (.iconst 2, 1) := dk_5 (dk_at dksX3_eldest_1 14 rfl rfl)
theorem dX3_eldest_37 : decode cX3_eldest 37 = .ok (.istore_n 2, 1) := dk_61 (dk_at dksX3_eldest_1 15 rfl rfl)
theorem dX3_eldest_38 : decode cX3_eldest 38 = .ok (.ldc 84, 2) := dk_18 84 (dk_at dksX3_eldest_1 16 rfl rfl)
theorem dX3_eldest_40 : decode cX3_eldest 40 = .ok (.istore_n 3, 1) := dk_62 (dk_at dksX3_eldest_1 18 rfl rfl)
theorem dX3_eldest_41 : decode cX3_eldest 41 = .ok (.iconst 0, 1) := dk_3 (dk_at dksX3_eldest_1 19 rfl rfl)
theorem dX3_eldest_42 : decode cX3_eldest 42 = .ok (.istore 4, 2) := dk_54 4 (dk_at dksX3_eldest_1 20 rfl rfl)
theorem dX3_eldest_44 : decode cX3_eldest 44 = .ok (.iload 4, 2) := dk_21 4 (dk_at dksX3_eldest_1 22 rfl rfl)
theorem dX3_eldest_46 : decode cX3_eldest 46 = .ok (.aload_n 0, 1) := dk_42 (dk_at dksX3_eldest_2 0 rfl rfl)
theorem dX3_eldest_47 : decode cX3_eldest 47 = .ok (.getfield 19, 3) := dk_180 0 19 (dk_at dksX3_eldest_2 1 rfl rfl)
theorem dX3_eldest_50 : decode cX3_eldest 50 = .ok (.iconst 3, 1) := dk_6 (dk_at dksX3_eldest_2 4 rfl rfl)
theorem dX3_eldest_51 : decode cX3_eldest 51 = .ok (.iaload, 1) := dk_46 (dk_at dksX3_eldest_2 5 rfl rfl)
theorem dX3_eldest_52 : decode cX3_eldest 52 = .ok (.if_icmp .ge 38, 3) := dk_162 0 38 (dk_at dksX3_eldest_2 6 rfl rfl)
theorem dX3_eldest_55 : decode cX3_eldest 55 = .ok (.iload_n 3, 1) := dk_29 (dk_at dksX3_eldest_2 9 rfl rfl)
theorem dX3_eldest_56 : decode cX3_eldest 56 = .ok (.ldc 84, 2) := dk_18 84 (dk_at dksX3_eldest_2 10 rfl rfl)
theorem dX3_eldest_58 : decode cX3_eldest 58 = .ok (.if_icmp .eq 19, 3) := dk_159 0 19 (dk_at dksX3_eldest_2 12 rfl rfl)
theorem dX3_eldest_61 : decode cX3_eldest 61 = .ok (.aload_n 0, 1) := dk_42 (dk_at dksX3_eldest_2 15 rfl rfl)
theorem dX3_eldest_62 : decode cX3_eldest 62 = .ok (.iload 4, 2) := dk_21 4 (dk_at dksX3_eldest_2 16 rfl rfl)
theorem dX3_eldest_64 : decode cX3_eldest 64 = .ok (.iload_n 2, 1) := dk_28 (dk_at dksX3_eldest_2 18 rfl rfl)
theorem dX3_eldest_65 : decode cX3_eldest 65 = .ok (.invokevirtual 181, 3) := dk_182 0 181 (dk_at dksX3_eldest_2 19 rfl rfl)
theorem dX3_eldest_68 : decode cX3_eldest 68 = .ok (.aload_n 0, 1) := dk_42 (dk_at dksX3_eldest_2 22 rfl rfl)
theorem dX3_eldest_69 : decode cX3_eldest 69 = .ok (.iload_n 3, 1) := dk_29 (dk_at dksX3_eldest_2 23 rfl rfl)
theorem dX3_eldest_70 : decode cX3_eldest 70 = .ok (.iload_n 2, 1) := dk_28 (dk_at dksX3_eldest_3 0 rfl rfl)
theorem dX3_eldest_71 : decode cX3_eldest 71 = .ok (.invokevirtual 181, 3) := dk_182 0 181 (dk_at dksX3_eldest_3 1 rfl rfl)
theorem dX3_eldest_74 : decode cX3_eldest 74 = .ok (.if_icmp .le 8, 3) := dk_164 0 8 (dk_at dksX3_eldest_3 4 rfl rfl)
theorem dX3_eldest_77 : decode cX3_eldest 77 = .ok (.iload 4, 2) := dk_21 4 (dk_at dksX3_eldest_3 7 rfl rfl)
theorem dX3_eldest_79 : decode cX3_eldest 79 = .ok (.goto 4, 3) := dk_167 0 4 (dk_at dksX3_eldest_3 9 rfl rfl)
theorem dX3_eldest_82 : decode cX3_eldest 82 = .ok (.iload_n 3, 1) := dk_29 (dk_at dksX3_eldest_3 12 rfl rfl)
theorem dX3_eldest_83 : decode cX3_eldest 83 = .ok (.istore_n 3, 1) := dk_62 (dk_at dksX3_eldest_3 13 rfl rfl)
theorem dX3_eldest_84 : decode cX3_eldest 84 = .ok (.iinc 4 1, 3) := dk_132 4 1 (dk_at dksX3_eldest_3 14 rfl rfl)
theorem dX3_eldest_87 : decode cX3_eldest 87 = .ok (.goto (-43), 3) := dk_167 255 213 (dk_at dksX3_eldest_3 17 rfl rfl)
theorem dX3_eldest_90 : decode cX3_eldest 90 = .ok (.iload_n 3, 1) := dk_29 (dk_at dksX3_eldest_3 20 rfl rfl)
theorem dX3_eldest_91 : decode cX3_eldest 91 = .ok (.ireturn, 1) := dk_172 (dk_at dksX3_eldest_3 21 rfl rfl)
abbrev cX3_isThere : ByteArray := prog_16_method_28_code
def yX3_isThere : MethodName := ⟨RX3, "isThere", "()Z"⟩
def dkwX3_isThere_0 : List UInt8 := [42, 180, 0, 19, 3, 46, 158, 0, 7, 4, 167, 0, 4, 3, 172]
abbrev dktX3_isThere_0 : List UInt8 := dkwX3_isThere_0 ++ []
theorem dksX3_isThere_0 : cX3_isThere.data.toList.drop 0 = dktX3_isThere_0 := by decide +kernel
theorem dX3_isThere_0 : decode cX3_isThere 0 = .ok (.aload_n 0, 1) := dk_42 (dk_at dksX3_isThere_0 0 rfl rfl)
theorem dX3_isThere_1 : decode cX3_isThere 1 = .ok (.getfield 19, 3) := dk_180 0 19 (dk_at dksX3_isThere_0 1 rfl rfl)
theorem dX3_isThere_4 : decode cX3_isThere 4 = .ok (.iconst 0, 1) := dk_3 (dk_at dksX3_isThere_0 4 rfl rfl)
theorem dX3_isThere_5 : decode cX3_isThere 5 = .ok (.iaload, 1) := dk_46 (dk_at dksX3_isThere_0 5 rfl rfl)
theorem dX3_isThere_6 : decode cX3_isThere 6 = .ok (.ifCond .le 7, 3) := dk_158 0 7 (dk_at dksX3_isThere_0 6 rfl rfl)
theorem dX3_isThere_9 : decode cX3_isThere 9 = .ok (.iconst 1, 1) := dk_4 (dk_at dksX3_isThere_0 9 rfl rfl)
theorem dX3_isThere_10 : decode cX3_isThere 10 = .ok (.goto 4, 3) := dk_167 0 4 (dk_at dksX3_isThere_0 10 rfl rfl)
theorem dX3_isThere_13 : decode cX3_isThere 13 = .ok (.iconst 0, 1) := dk_3 (dk_at dksX3_isThere_0 13 rfl rfl)
theorem dX3_isThere_14 : decode cX3_isThere 14 = .ok (.ireturn, 1) := dk_172 (dk_at dksX3_isThere_0 14 rfl rfl)
abbrev cX3_image : ByteArray := prog_16_method_56_code
def yX3_image : MethodName := ⟨RX3, "image", "(I)I"⟩
def dkwX3_image_2 : List UInt8 := [42, 180, 0, 19, 28, 46, 79, 132, 2, 1, 167, 255, 230, 42, 180, 0, 38, 27, 4, 84, 4, 172]
abbrev dktX3_image_2 : List UInt8 := dkwX3_image_2 ++ []
def dkwX3_image_1 : List UInt8 := [154, 0, 6, 18, 188, 172, 3, 61, 28, 16, 68, 162, 0, 26, 42, 180, 0, 42, 16, 68, 27, 104, 28, 96]
abbrev dktX3_image_1 : List UInt8 := dkwX3_image_1 ++ dktX3_image_2
def dkwX3_image_0 : List UInt8 := [42, 3, 181, 0, 48, 27, 133, 9, 10, 184, 0, 58, 154, 0, 6, 18, 68, 172, 42, 182, 0, 235]
abbrev dktX3_image_0 : List UInt8 := dkwX3_image_0 ++ dktX3_image_1
theorem dksX3_image_0 : cX3_image.data.toList.drop 0 = dktX3_image_0 := by decide +kernel
theorem dksX3_image_1 : cX3_image.data.toList.drop 22 = dktX3_image_1 := dk_seg dksX3_image_0 22 rfl rfl
theorem dksX3_image_2 : cX3_image.data.toList.drop 46 = dktX3_image_2 := dk_seg dksX3_image_1 24 rfl rfl
theorem dX3_image_0 : decode cX3_image 0 = .ok (.aload_n 0, 1) := dk_42 (dk_at dksX3_image_0 0 rfl rfl)
theorem dX3_image_1 : decode cX3_image 1 = .ok (.iconst 0, 1) := dk_3 (dk_at dksX3_image_0 1 rfl rfl)
theorem dX3_image_2 : decode cX3_image 2 = .ok (.putfield 48, 3) := dk_181 0 48 (dk_at dksX3_image_0 2 rfl rfl)
theorem dX3_image_5 : decode cX3_image 5 = .ok (.iload_n 1, 1) := dk_27 (dk_at dksX3_image_0 5 rfl rfl)
theorem dX3_image_6 : decode cX3_image 6 = .ok (.i2l, 1) := dk_133 (dk_at dksX3_image_0 6 rfl rfl)
theorem dX3_image_7 : decode cX3_image 7 = .ok (.lconst 0, 1) := dk_9 (dk_at dksX3_image_0 7 rfl rfl)
theorem dX3_image_8 : decode cX3_image 8 = .ok (.lconst 1, 1) := dk_10 (dk_at dksX3_image_0 8 rfl rfl)
theorem dX3_image_9 : decode cX3_image 9 = .ok (.invokestatic 58, 3) := dk_184 0 58 (dk_at dksX3_image_0 9 rfl rfl)
theorem dX3_image_12 : decode cX3_image 12 = .ok (.ifCond .ne 6, 3) := dk_154 0 6 (dk_at dksX3_image_0 12 rfl rfl)
theorem dX3_image_15 : decode cX3_image 15 = .ok (.ldc 68, 2) := dk_18 68 (dk_at dksX3_image_0 15 rfl rfl)
theorem dX3_image_17 : decode cX3_image 17 = .ok (.ireturn, 1) := dk_172 (dk_at dksX3_image_0 17 rfl rfl)
theorem dX3_image_18 : decode cX3_image 18 = .ok (.aload_n 0, 1) := dk_42 (dk_at dksX3_image_0 18 rfl rfl)
theorem dX3_image_19 : decode cX3_image 19 = .ok (.invokevirtual 235, 3) := dk_182 0 235 (dk_at dksX3_image_0 19 rfl rfl)
theorem dX3_image_22 : decode cX3_image 22 = .ok (.ifCond .ne 6, 3) := dk_154 0 6 (dk_at dksX3_image_1 0 rfl rfl)
theorem dX3_image_25 : decode cX3_image 25 = .ok (.ldc 188, 2) := dk_18 188 (dk_at dksX3_image_1 3 rfl rfl)
theorem dX3_image_27 : decode cX3_image 27 = .ok (.ireturn, 1) := dk_172 (dk_at dksX3_image_1 5 rfl rfl)
theorem dX3_image_28 : decode cX3_image 28 = .ok (.iconst 0, 1) := dk_3 (dk_at dksX3_image_1 6 rfl rfl)
theorem dX3_image_29 : decode cX3_image 29 = .ok (.istore_n 2, 1) := dk_61 (dk_at dksX3_image_1 7 rfl rfl)
theorem dX3_image_30 : decode cX3_image 30 = .ok (.iload_n 2, 1) := dk_28 (dk_at dksX3_image_1 8 rfl rfl)
theorem dX3_image_31 : decode cX3_image 31 = .ok (.bipush 68, 2) := dk_16 68 (dk_at dksX3_image_1 9 rfl rfl)
theorem dX3_image_33 : decode cX3_image 33 = .ok (.if_icmp .ge 26, 3) := dk_162 0 26 (dk_at dksX3_image_1 11 rfl rfl)
theorem dX3_image_36 : decode cX3_image 36 = .ok (.aload_n 0, 1) := dk_42 (dk_at dksX3_image_1 14 rfl rfl)
theorem dX3_image_37 : decode cX3_image 37 = .ok (.getfield 42, 3) := dk_180 0 42 (dk_at dksX3_image_1 15 rfl rfl)
theorem dX3_image_40 : decode cX3_image 40 = .ok (.bipush 68, 2) := dk_16 68 (dk_at dksX3_image_1 18 rfl rfl)
theorem dX3_image_42 : decode cX3_image 42 = .ok (.iload_n 1, 1) := dk_27 (dk_at dksX3_image_1 20 rfl rfl)
theorem dX3_image_43 : decode cX3_image 43 = .ok (.imul, 1) := dk_104 (dk_at dksX3_image_1 21 rfl rfl)
theorem dX3_image_44 : decode cX3_image 44 = .ok (.iload_n 2, 1) := dk_28 (dk_at dksX3_image_1 22 rfl rfl)
theorem dX3_image_45 : decode cX3_image 45 = .ok (.iadd, 1) := dk_96 (dk_at dksX3_image_1 23 rfl rfl)
theorem dX3_image_46 : decode cX3_image 46 = .ok (.aload_n 0, 1) := dk_42 (dk_at dksX3_image_2 0 rfl rfl)
theorem dX3_image_47 : decode cX3_image 47 = .ok (.getfield 19, 3) := dk_180 0 19 (dk_at dksX3_image_2 1 rfl rfl)
theorem dX3_image_50 : decode cX3_image 50 = .ok (.iload_n 2, 1) := dk_28 (dk_at dksX3_image_2 4 rfl rfl)
theorem dX3_image_51 : decode cX3_image 51 = .ok (.iaload, 1) := dk_46 (dk_at dksX3_image_2 5 rfl rfl)
theorem dX3_image_52 : decode cX3_image 52 = .ok (.iastore, 1) := dk_79 (dk_at dksX3_image_2 6 rfl rfl)
theorem dX3_image_53 : decode cX3_image 53 = .ok (.iinc 2 1, 3) := dk_132 2 1 (dk_at dksX3_image_2 7 rfl rfl)
theorem dX3_image_56 : decode cX3_image 56 = .ok (.goto (-26), 3) := dk_167 255 230 (dk_at dksX3_image_2 10 rfl rfl)
theorem dX3_image_59 : decode cX3_image 59 = .ok (.aload_n 0, 1) := dk_42 (dk_at dksX3_image_2 13 rfl rfl)
theorem dX3_image_60 : decode cX3_image 60 = .ok (.getfield 38, 3) := dk_180 0 38 (dk_at dksX3_image_2 14 rfl rfl)
theorem dX3_image_63 : decode cX3_image 63 = .ok (.iload_n 1, 1) := dk_27 (dk_at dksX3_image_2 17 rfl rfl)
theorem dX3_image_64 : decode cX3_image 64 = .ok (.iconst 1, 1) := dk_4 (dk_at dksX3_image_2 18 rfl rfl)
theorem dX3_image_65 : decode cX3_image 65 = .ok (.bastore, 1) := dk_84 (dk_at dksX3_image_2 19 rfl rfl)
theorem dX3_image_66 : decode cX3_image 66 = .ok (.iconst 1, 1) := dk_4 (dk_at dksX3_image_2 20 rfl rfl)
theorem dX3_image_67 : decode cX3_image 67 = .ok (.ireturn, 1) := dk_172 (dk_at dksX3_image_2 21 rfl rfl)
abbrev cX3_restore : ByteArray := prog_16_method_57_code
def yX3_restore : MethodName := ⟨RX3, "restore", "(I)I"⟩
def dkwX3_restore_2 : List UInt8 := [16, 68, 27, 104, 28, 96, 46, 79, 132, 2, 1, 167, 255, 230, 42, 3, 181, 0, 175, 4, 172]
abbrev dktX3_restore_2 : List UInt8 := dkwX3_restore_2 ++ []
def dkwX3_restore_1 : List UInt8 := [154, 0, 6, 18, 188, 172, 3, 61, 28, 16, 68, 162, 0, 26, 42, 180, 0, 19, 28, 42, 180, 0, 42]
abbrev dktX3_restore_1 : List UInt8 := dkwX3_restore_1 ++ dktX3_restore_2
def dkwX3_restore_0 : List UInt8 := [42, 3, 181, 0, 48, 27, 133, 9, 10, 184, 0, 58, 154, 0, 6, 18, 68, 172, 42, 180, 0, 38, 27, 51]
abbrev dktX3_restore_0 : List UInt8 := dkwX3_restore_0 ++ dktX3_restore_1
theorem dksX3_restore_0 : cX3_restore.data.toList.drop 0 = dktX3_restore_0 := by decide +kernel
theorem dksX3_restore_1 : cX3_restore.data.toList.drop 24 = dktX3_restore_1 := dk_seg dksX3_restore_0 24 rfl rfl
theorem dksX3_restore_2 : cX3_restore.data.toList.drop 47 = dktX3_restore_2 := dk_seg dksX3_restore_1 23 rfl rfl
theorem dX3_restore_0 : decode cX3_restore 0 = .ok (.aload_n 0, 1) := dk_42 (dk_at dksX3_restore_0 0 rfl rfl)
theorem dX3_restore_1 : decode cX3_restore 1 = .ok (.iconst 0, 1) := dk_3 (dk_at dksX3_restore_0 1 rfl rfl)
theorem dX3_restore_2 : decode cX3_restore 2 = .ok (.putfield 48, 3) := dk_181 0 48 (dk_at dksX3_restore_0 2 rfl rfl)
theorem dX3_restore_5 : decode cX3_restore 5 = .ok (.iload_n 1, 1) := dk_27 (dk_at dksX3_restore_0 5 rfl rfl)
theorem dX3_restore_6 : decode cX3_restore 6 = .ok (.i2l, 1) := dk_133 (dk_at dksX3_restore_0 6 rfl rfl)
theorem dX3_restore_7 : decode cX3_restore 7 = .ok (.lconst 0, 1) := dk_9 (dk_at dksX3_restore_0 7 rfl rfl)
theorem dX3_restore_8 : decode cX3_restore 8 = .ok (.lconst 1, 1) := dk_10 (dk_at dksX3_restore_0 8 rfl rfl)
theorem dX3_restore_9 : decode cX3_restore 9 = .ok (.invokestatic 58, 3) := dk_184 0 58 (dk_at dksX3_restore_0 9 rfl rfl)
theorem dX3_restore_12 : decode cX3_restore 12 = .ok (.ifCond .ne 6, 3) := dk_154 0 6 (dk_at dksX3_restore_0 12 rfl rfl)
theorem dX3_restore_15 : decode cX3_restore 15 = .ok (.ldc 68, 2) := dk_18 68 (dk_at dksX3_restore_0 15 rfl rfl)
theorem dX3_restore_17 : decode cX3_restore 17 = .ok (.ireturn, 1) := dk_172 (dk_at dksX3_restore_0 17 rfl rfl)
theorem dX3_restore_18 : decode cX3_restore 18 = .ok (.aload_n 0, 1) := dk_42 (dk_at dksX3_restore_0 18 rfl rfl)
theorem dX3_restore_19 : decode cX3_restore 19 = .ok (.getfield 38, 3) := dk_180 0 38 (dk_at dksX3_restore_0 19 rfl rfl)
theorem dX3_restore_22 : decode cX3_restore 22 = .ok (.iload_n 1, 1) := dk_27 (dk_at dksX3_restore_0 22 rfl rfl)
theorem dX3_restore_23 : decode cX3_restore 23 = .ok (.baload, 1) := dk_51 (dk_at dksX3_restore_0 23 rfl rfl)
theorem dX3_restore_24 : decode cX3_restore 24 = .ok (.ifCond .ne 6, 3) := dk_154 0 6 (dk_at dksX3_restore_1 0 rfl rfl)
theorem dX3_restore_27 : decode cX3_restore 27 = .ok (.ldc 188, 2) := dk_18 188 (dk_at dksX3_restore_1 3 rfl rfl)
theorem dX3_restore_29 : decode cX3_restore 29 = .ok (.ireturn, 1) := dk_172 (dk_at dksX3_restore_1 5 rfl rfl)
theorem dX3_restore_30 : decode cX3_restore 30 = .ok (.iconst 0, 1) := dk_3 (dk_at dksX3_restore_1 6 rfl rfl)
theorem dX3_restore_31 : decode cX3_restore 31 = .ok (.istore_n 2, 1) := dk_61 (dk_at dksX3_restore_1 7 rfl rfl)
theorem dX3_restore_32 : decode cX3_restore 32 = .ok (.iload_n 2, 1) := dk_28 (dk_at dksX3_restore_1 8 rfl rfl)
theorem dX3_restore_33 : decode cX3_restore 33 = .ok (.bipush 68, 2) := dk_16 68 (dk_at dksX3_restore_1 9 rfl rfl)
theorem dX3_restore_35 : decode cX3_restore 35 = .ok (.if_icmp .ge 26, 3) := dk_162 0 26 (dk_at dksX3_restore_1 11 rfl rfl)
theorem dX3_restore_38 : decode cX3_restore 38 = .ok (.aload_n 0, 1) := dk_42 (dk_at dksX3_restore_1 14 rfl rfl)
theorem dX3_restore_39 : decode cX3_restore 39 = .ok (.getfield 19, 3) := dk_180 0 19 (dk_at dksX3_restore_1 15 rfl rfl)
theorem dX3_restore_42 : decode cX3_restore 42 = .ok (.iload_n 2, 1) := dk_28 (dk_at dksX3_restore_1 18 rfl rfl)
theorem dX3_restore_43 : decode cX3_restore 43 = .ok (.aload_n 0, 1) := dk_42 (dk_at dksX3_restore_1 19 rfl rfl)
theorem dX3_restore_44 : decode cX3_restore 44 = .ok (.getfield 42, 3) := dk_180 0 42 (dk_at dksX3_restore_1 20 rfl rfl)
theorem dX3_restore_47 : decode cX3_restore 47 = .ok (.bipush 68, 2) := dk_16 68 (dk_at dksX3_restore_2 0 rfl rfl)
theorem dX3_restore_49 : decode cX3_restore 49 = .ok (.iload_n 1, 1) := dk_27 (dk_at dksX3_restore_2 2 rfl rfl)
theorem dX3_restore_50 : decode cX3_restore 50 = .ok (.imul, 1) := dk_104 (dk_at dksX3_restore_2 3 rfl rfl)
theorem dX3_restore_51 : decode cX3_restore 51 = .ok (.iload_n 2, 1) := dk_28 (dk_at dksX3_restore_2 4 rfl rfl)
theorem dX3_restore_52 : decode cX3_restore 52 = .ok (.iadd, 1) := dk_96 (dk_at dksX3_restore_2 5 rfl rfl)
theorem dX3_restore_53 : decode cX3_restore 53 = .ok (.iaload, 1) := dk_46 (dk_at dksX3_restore_2 6 rfl rfl)
theorem dX3_restore_54 : decode cX3_restore 54 = .ok (.iastore, 1) := dk_79 (dk_at dksX3_restore_2 7 rfl rfl)
theorem dX3_restore_55 : decode cX3_restore 55 = .ok (.iinc 2 1, 3) := dk_132 2 1 (dk_at dksX3_restore_2 8 rfl rfl)
theorem dX3_restore_58 : decode cX3_restore 58 = .ok (.goto (-26), 3) := dk_167 255 230 (dk_at dksX3_restore_2 11 rfl rfl)
theorem dX3_restore_61 : decode cX3_restore 61 = .ok (.aload_n 0, 1) := dk_42 (dk_at dksX3_restore_2 14 rfl rfl)
theorem dX3_restore_62 : decode cX3_restore 62 = .ok (.iconst 0, 1) := dk_3 (dk_at dksX3_restore_2 15 rfl rfl)
theorem dX3_restore_63 : decode cX3_restore 63 = .ok (.putfield 175, 3) := dk_181 0 175 (dk_at dksX3_restore_2 16 rfl rfl)
theorem dX3_restore_66 : decode cX3_restore 66 = .ok (.iconst 1, 1) := dk_4 (dk_at dksX3_restore_2 19 rfl rfl)
theorem dX3_restore_67 : decode cX3_restore 67 = .ok (.ireturn, 1) := dk_172 (dk_at dksX3_restore_2 20 rfl rfl)
abbrev cX3_kind : ByteArray := prog_16_method_59_code
def yX3_kind : MethodName := ⟨RX3, "kind", "(I)I"⟩
def dkwX3_kind_1 : List UInt8 := [172]
abbrev dktX3_kind_1 : List UInt8 := dkwX3_kind_1 ++ []
def dkwX3_kind_0 : List UInt8 := [42, 3, 181, 0, 48, 42, 27, 182, 0, 199, 153, 0, 12, 42, 27, 3, 182, 0, 181, 167, 0, 5, 18, 68]
abbrev dktX3_kind_0 : List UInt8 := dkwX3_kind_0 ++ dktX3_kind_1
theorem dksX3_kind_0 : cX3_kind.data.toList.drop 0 = dktX3_kind_0 := by decide +kernel
theorem dksX3_kind_1 : cX3_kind.data.toList.drop 24 = dktX3_kind_1 := dk_seg dksX3_kind_0 24 rfl rfl
theorem dX3_kind_0 : decode cX3_kind 0 = .ok (.aload_n 0, 1) := dk_42 (dk_at dksX3_kind_0 0 rfl rfl)
theorem dX3_kind_1 : decode cX3_kind 1 = .ok (.iconst 0, 1) := dk_3 (dk_at dksX3_kind_0 1 rfl rfl)
theorem dX3_kind_2 : decode cX3_kind 2 = .ok (.putfield 48, 3) := dk_181 0 48 (dk_at dksX3_kind_0 2 rfl rfl)
theorem dX3_kind_5 : decode cX3_kind 5 = .ok (.aload_n 0, 1) := dk_42 (dk_at dksX3_kind_0 5 rfl rfl)
theorem dX3_kind_6 : decode cX3_kind 6 = .ok (.iload_n 1, 1) := dk_27 (dk_at dksX3_kind_0 6 rfl rfl)
theorem dX3_kind_7 : decode cX3_kind 7 = .ok (.invokevirtual 199, 3) := dk_182 0 199 (dk_at dksX3_kind_0 7 rfl rfl)
theorem dX3_kind_10 : decode cX3_kind 10 = .ok (.ifCond .eq 12, 3) := dk_153 0 12 (dk_at dksX3_kind_0 10 rfl rfl)
theorem dX3_kind_13 : decode cX3_kind 13 = .ok (.aload_n 0, 1) := dk_42 (dk_at dksX3_kind_0 13 rfl rfl)
theorem dX3_kind_14 : decode cX3_kind 14 = .ok (.iload_n 1, 1) := dk_27 (dk_at dksX3_kind_0 14 rfl rfl)
theorem dX3_kind_15 : decode cX3_kind 15 = .ok (.iconst 0, 1) := dk_3 (dk_at dksX3_kind_0 15 rfl rfl)
theorem dX3_kind_16 : decode cX3_kind 16 = .ok (.invokevirtual 181, 3) := dk_182 0 181 (dk_at dksX3_kind_0 16 rfl rfl)
theorem dX3_kind_19 : decode cX3_kind 19 = .ok (.goto 5, 3) := dk_167 0 5 (dk_at dksX3_kind_0 19 rfl rfl)
theorem dX3_kind_22 : decode cX3_kind 22 = .ok (.ldc 68, 2) := dk_18 68 (dk_at dksX3_kind_0 22 rfl rfl)
theorem dX3_kind_24 : decode cX3_kind 24 = .ok (.ireturn, 1) := dk_172 (dk_at dksX3_kind_1 0 rfl rfl)
abbrev cX3_as : ByteArray := prog_16_method_60_code
def yX3_as : MethodName := ⟨RX3, "as", "(II)I"⟩
def dkwX3_as_2 : List UInt8 := [27, 167, 0, 8, 42, 6, 182, 0, 69, 172]
abbrev dktX3_as_2 : List UInt8 := dkwX3_as_2 ++ []
def dkwX3_as_1 : List UInt8 := [154, 0, 6, 18, 68, 172, 42, 3, 181, 0, 52, 42, 27, 3, 182, 0, 181, 28, 184, 0, 239, 153, 0, 7]
abbrev dktX3_as_1 : List UInt8 := dkwX3_as_1 ++ dktX3_as_2
def dkwX3_as_0 : List UInt8 := [42, 3, 181, 0, 48, 42, 27, 182, 0, 199, 153, 0, 15, 28, 133, 9, 20, 0, 221, 184, 0, 58]
abbrev dktX3_as_0 : List UInt8 := dkwX3_as_0 ++ dktX3_as_1
theorem dksX3_as_0 : cX3_as.data.toList.drop 0 = dktX3_as_0 := by decide +kernel
theorem dksX3_as_1 : cX3_as.data.toList.drop 22 = dktX3_as_1 := dk_seg dksX3_as_0 22 rfl rfl
theorem dksX3_as_2 : cX3_as.data.toList.drop 46 = dktX3_as_2 := dk_seg dksX3_as_1 24 rfl rfl
theorem dX3_as_0 : decode cX3_as 0 = .ok (.aload_n 0, 1) := dk_42 (dk_at dksX3_as_0 0 rfl rfl)
theorem dX3_as_1 : decode cX3_as 1 = .ok (.iconst 0, 1) := dk_3 (dk_at dksX3_as_0 1 rfl rfl)
theorem dX3_as_2 : decode cX3_as 2 = .ok (.putfield 48, 3) := dk_181 0 48 (dk_at dksX3_as_0 2 rfl rfl)
theorem dX3_as_5 : decode cX3_as 5 = .ok (.aload_n 0, 1) := dk_42 (dk_at dksX3_as_0 5 rfl rfl)
theorem dX3_as_6 : decode cX3_as 6 = .ok (.iload_n 1, 1) := dk_27 (dk_at dksX3_as_0 6 rfl rfl)
theorem dX3_as_7 : decode cX3_as 7 = .ok (.invokevirtual 199, 3) := dk_182 0 199 (dk_at dksX3_as_0 7 rfl rfl)
theorem dX3_as_10 : decode cX3_as 10 = .ok (.ifCond .eq 15, 3) := dk_153 0 15 (dk_at dksX3_as_0 10 rfl rfl)
theorem dX3_as_13 : decode cX3_as 13 = .ok (.iload_n 2, 1) := dk_28 (dk_at dksX3_as_0 13 rfl rfl)
theorem dX3_as_14 : decode cX3_as 14 = .ok (.i2l, 1) := dk_133 (dk_at dksX3_as_0 14 rfl rfl)
theorem dX3_as_15 : decode cX3_as 15 = .ok (.lconst 0, 1) := dk_9 (dk_at dksX3_as_0 15 rfl rfl)
theorem dX3_as_16 : decode cX3_as 16 = .ok (.ldc2_w 221, 3) := dk_20 0 221 (dk_at dksX3_as_0 16 rfl rfl)
theorem dX3_as_19 : decode cX3_as 19 = .ok (.invokestatic 58, 3) := dk_184 0 58 (dk_at dksX3_as_0 19 rfl rfl)
theorem dX3_as_22 : decode cX3_as 22 = .ok (.ifCond .ne 6, 3) := dk_154 0 6 (dk_at dksX3_as_1 0 rfl rfl)
theorem dX3_as_25 : decode cX3_as 25 = .ok (.ldc 68, 2) := dk_18 68 (dk_at dksX3_as_1 3 rfl rfl)
theorem dX3_as_27 : decode cX3_as 27 = .ok (.ireturn, 1) := dk_172 (dk_at dksX3_as_1 5 rfl rfl)
theorem dX3_as_28 : decode cX3_as 28 = .ok (.aload_n 0, 1) := dk_42 (dk_at dksX3_as_1 6 rfl rfl)
theorem dX3_as_29 : decode cX3_as 29 = .ok (.iconst 0, 1) := dk_3 (dk_at dksX3_as_1 7 rfl rfl)
theorem dX3_as_30 : decode cX3_as 30 = .ok (.putfield 52, 3) := dk_181 0 52 (dk_at dksX3_as_1 8 rfl rfl)
theorem dX3_as_33 : decode cX3_as 33 = .ok (.aload_n 0, 1) := dk_42 (dk_at dksX3_as_1 11 rfl rfl)
theorem dX3_as_34 : decode cX3_as 34 = .ok (.iload_n 1, 1) := dk_27 (dk_at dksX3_as_1 12 rfl rfl)
theorem dX3_as_35 : decode cX3_as 35 = .ok (.iconst 0, 1) := dk_3 (dk_at dksX3_as_1 13 rfl rfl)
theorem dX3_as_36 : decode cX3_as 36 = .ok (.invokevirtual 181, 3) := dk_182 0 181 (dk_at dksX3_as_1 14 rfl rfl)
theorem dX3_as_39 : decode cX3_as 39 = .ok (.iload_n 2, 1) := dk_28 (dk_at dksX3_as_1 17 rfl rfl)
theorem dX3_as_40 : decode cX3_as 40 = .ok (.invokestatic 239, 3) := dk_184 0 239 (dk_at dksX3_as_1 18 rfl rfl)
theorem dX3_as_43 : decode cX3_as 43 = .ok (.ifCond .eq 7, 3) := dk_153 0 7 (dk_at dksX3_as_1 21 rfl rfl)
theorem dX3_as_46 : decode cX3_as 46 = .ok (.iload_n 1, 1) := dk_27 (dk_at dksX3_as_2 0 rfl rfl)
theorem dX3_as_47 : decode cX3_as 47 = .ok (.goto 8, 3) := dk_167 0 8 (dk_at dksX3_as_2 1 rfl rfl)
theorem dX3_as_50 : decode cX3_as 50 = .ok (.aload_n 0, 1) := dk_42 (dk_at dksX3_as_2 4 rfl rfl)
theorem dX3_as_51 : decode cX3_as 51 = .ok (.iconst 3, 1) := dk_6 (dk_at dksX3_as_2 5 rfl rfl)
theorem dX3_as_52 : decode cX3_as 52 = .ok (.invokevirtual 69, 3) := dk_182 0 69 (dk_at dksX3_as_2 6 rfl rfl)
theorem dX3_as_55 : decode cX3_as 55 = .ok (.ireturn, 1) := dk_172 (dk_at dksX3_as_2 9 rfl rfl)
abbrev cX3_isOf : ByteArray := prog_16_method_58_code
def yX3_isOf : MethodName := ⟨RX3, "isOf", "(II)Z"⟩
def dkwX3_isOf_1 : List UInt8 := [26, 8, 160, 0, 7, 4, 167, 0, 4, 3, 172]
abbrev dktX3_isOf_1 : List UInt8 := dkwX3_isOf_1 ++ []
def dkwX3_isOf_0 : List UInt8 := [27, 153, 0, 28, 26, 27, 159, 0, 23, 27, 4, 160, 0, 8, 26, 7, 161, 0, 13, 27, 7, 160, 0, 12]
abbrev dktX3_isOf_0 : List UInt8 := dkwX3_isOf_0 ++ dktX3_isOf_1
theorem dksX3_isOf_0 : cX3_isOf.data.toList.drop 0 = dktX3_isOf_0 := by decide +kernel
theorem dksX3_isOf_1 : cX3_isOf.data.toList.drop 24 = dktX3_isOf_1 := dk_seg dksX3_isOf_0 24 rfl rfl
theorem dX3_isOf_0 : decode cX3_isOf 0 = .ok (.iload_n 1, 1) := dk_27 (dk_at dksX3_isOf_0 0 rfl rfl)
theorem dX3_isOf_1 : decode cX3_isOf 1 = .ok (.ifCond .eq 28, 3) := dk_153 0 28 (dk_at dksX3_isOf_0 1 rfl rfl)
theorem dX3_isOf_4 : decode cX3_isOf 4 = .ok (.iload_n 0, 1) := dk_26 (dk_at dksX3_isOf_0 4 rfl rfl)
theorem dX3_isOf_5 : decode cX3_isOf 5 = .ok (.iload_n 1, 1) := dk_27 (dk_at dksX3_isOf_0 5 rfl rfl)
theorem dX3_isOf_6 : decode cX3_isOf 6 = .ok (.if_icmp .eq 23, 3) := dk_159 0 23 (dk_at dksX3_isOf_0 6 rfl rfl)
theorem dX3_isOf_9 : decode cX3_isOf 9 = .ok (.iload_n 1, 1) := dk_27 (dk_at dksX3_isOf_0 9 rfl rfl)
theorem dX3_isOf_10 : decode cX3_isOf 10 = .ok (.iconst 1, 1) := dk_4 (dk_at dksX3_isOf_0 10 rfl rfl)
theorem dX3_isOf_11 : decode cX3_isOf 11 = .ok (.if_icmp .ne 8, 3) := dk_160 0 8 (dk_at dksX3_isOf_0 11 rfl rfl)
theorem dX3_isOf_14 : decode cX3_isOf 14 = .ok (.iload_n 0, 1) := dk_26 (dk_at dksX3_isOf_0 14 rfl rfl)
theorem dX3_isOf_15 : decode cX3_isOf 15 = .ok (.iconst 4, 1) := dk_7 (dk_at dksX3_isOf_0 15 rfl rfl)
theorem dX3_isOf_16 : decode cX3_isOf 16 = .ok (.if_icmp .lt 13, 3) := dk_161 0 13 (dk_at dksX3_isOf_0 16 rfl rfl)
theorem dX3_isOf_19 : decode cX3_isOf 19 = .ok (.iload_n 1, 1) := dk_27 (dk_at dksX3_isOf_0 19 rfl rfl)
theorem dX3_isOf_20 : decode cX3_isOf 20 = .ok (.iconst 4, 1) := dk_7 (dk_at dksX3_isOf_0 20 rfl rfl)
theorem dX3_isOf_21 : decode cX3_isOf 21 = .ok (.if_icmp .ne 12, 3) := dk_160 0 12 (dk_at dksX3_isOf_0 21 rfl rfl)
theorem dX3_isOf_24 : decode cX3_isOf 24 = .ok (.iload_n 0, 1) := dk_26 (dk_at dksX3_isOf_1 0 rfl rfl)
theorem dX3_isOf_25 : decode cX3_isOf 25 = .ok (.iconst 5, 1) := dk_8 (dk_at dksX3_isOf_1 1 rfl rfl)
theorem dX3_isOf_26 : decode cX3_isOf 26 = .ok (.if_icmp .ne 7, 3) := dk_160 0 7 (dk_at dksX3_isOf_1 2 rfl rfl)
theorem dX3_isOf_29 : decode cX3_isOf 29 = .ok (.iconst 1, 1) := dk_4 (dk_at dksX3_isOf_1 5 rfl rfl)
theorem dX3_isOf_30 : decode cX3_isOf 30 = .ok (.goto 4, 3) := dk_167 0 4 (dk_at dksX3_isOf_1 6 rfl rfl)
theorem dX3_isOf_33 : decode cX3_isOf 33 = .ok (.iconst 0, 1) := dk_3 (dk_at dksX3_isOf_1 9 rfl rfl)
theorem dX3_isOf_34 : decode cX3_isOf 34 = .ok (.ireturn, 1) := dk_172 (dk_at dksX3_isOf_1 10 rfl rfl)
abbrev cX3_ask : ByteArray := prog_16_method_66_code
def yX3_ask : MethodName := ⟨RX3, "ask", "(II)I"⟩
def dkwX3_ask_2 : List UInt8 := [182, 0, 255, 172]
abbrev dktX3_ask_2 : List UInt8 := dkwX3_ask_2 ++ []
def dkwX3_ask_1 : List UInt8 := [18, 68, 172, 42, 3, 181, 0, 243, 28, 154, 0, 11, 42, 27, 182, 1, 2, 167, 0, 8, 42, 27]
abbrev dktX3_ask_1 : List UInt8 := dkwX3_ask_1 ++ dktX3_ask_2
def dkwX3_ask_0 : List UInt8 := [42, 3, 181, 0, 48, 42, 27, 182, 0, 199, 153, 0, 13, 28, 133, 9, 10, 184, 0, 58, 154, 0, 6]
abbrev dktX3_ask_0 : List UInt8 := dkwX3_ask_0 ++ dktX3_ask_1
theorem dksX3_ask_0 : cX3_ask.data.toList.drop 0 = dktX3_ask_0 := by decide +kernel
theorem dksX3_ask_1 : cX3_ask.data.toList.drop 23 = dktX3_ask_1 := dk_seg dksX3_ask_0 23 rfl rfl
theorem dksX3_ask_2 : cX3_ask.data.toList.drop 45 = dktX3_ask_2 := dk_seg dksX3_ask_1 22 rfl rfl
theorem dX3_ask_0 : decode cX3_ask 0 = .ok (.aload_n 0, 1) := dk_42 (dk_at dksX3_ask_0 0 rfl rfl)
theorem dX3_ask_1 : decode cX3_ask 1 = .ok (.iconst 0, 1) := dk_3 (dk_at dksX3_ask_0 1 rfl rfl)
theorem dX3_ask_2 : decode cX3_ask 2 = .ok (.putfield 48, 3) := dk_181 0 48 (dk_at dksX3_ask_0 2 rfl rfl)
theorem dX3_ask_5 : decode cX3_ask 5 = .ok (.aload_n 0, 1) := dk_42 (dk_at dksX3_ask_0 5 rfl rfl)
theorem dX3_ask_6 : decode cX3_ask 6 = .ok (.iload_n 1, 1) := dk_27 (dk_at dksX3_ask_0 6 rfl rfl)
theorem dX3_ask_7 : decode cX3_ask 7 = .ok (.invokevirtual 199, 3) := dk_182 0 199 (dk_at dksX3_ask_0 7 rfl rfl)
theorem dX3_ask_10 : decode cX3_ask 10 = .ok (.ifCond .eq 13, 3) := dk_153 0 13 (dk_at dksX3_ask_0 10 rfl rfl)
theorem dX3_ask_13 : decode cX3_ask 13 = .ok (.iload_n 2, 1) := dk_28 (dk_at dksX3_ask_0 13 rfl rfl)
theorem dX3_ask_14 : decode cX3_ask 14 = .ok (.i2l, 1) := dk_133 (dk_at dksX3_ask_0 14 rfl rfl)
theorem dX3_ask_15 : decode cX3_ask 15 = .ok (.lconst 0, 1) := dk_9 (dk_at dksX3_ask_0 15 rfl rfl)
theorem dX3_ask_16 : decode cX3_ask 16 = .ok (.lconst 1, 1) := dk_10 (dk_at dksX3_ask_0 16 rfl rfl)
theorem dX3_ask_17 : decode cX3_ask 17 = .ok (.invokestatic 58, 3) := dk_184 0 58 (dk_at dksX3_ask_0 17 rfl rfl)
theorem dX3_ask_20 : decode cX3_ask 20 = .ok (.ifCond .ne 6, 3) := dk_154 0 6 (dk_at dksX3_ask_0 20 rfl rfl)
theorem dX3_ask_23 : decode cX3_ask 23 = .ok (.ldc 68, 2) := dk_18 68 (dk_at dksX3_ask_1 0 rfl rfl)
theorem dX3_ask_25 : decode cX3_ask 25 = .ok (.ireturn, 1) := dk_172 (dk_at dksX3_ask_1 2 rfl rfl)
theorem dX3_ask_26 : decode cX3_ask 26 = .ok (.aload_n 0, 1) := dk_42 (dk_at dksX3_ask_1 3 rfl rfl)
theorem dX3_ask_27 : decode cX3_ask 27 = .ok (.iconst 0, 1) := dk_3 (dk_at dksX3_ask_1 4 rfl rfl)
theorem dX3_ask_28 : decode cX3_ask 28 = .ok (.putfield 243, 3) := dk_181 0 243 (dk_at dksX3_ask_1 5 rfl rfl)
theorem dX3_ask_31 : decode cX3_ask 31 = .ok (.iload_n 2, 1) := dk_28 (dk_at dksX3_ask_1 8 rfl rfl)
theorem dX3_ask_32 : decode cX3_ask 32 = .ok (.ifCond .ne 11, 3) := dk_154 0 11 (dk_at dksX3_ask_1 9 rfl rfl)
theorem dX3_ask_35 : decode cX3_ask 35 = .ok (.aload_n 0, 1) := dk_42 (dk_at dksX3_ask_1 12 rfl rfl)
theorem dX3_ask_36 : decode cX3_ask 36 = .ok (.iload_n 1, 1) := dk_27 (dk_at dksX3_ask_1 13 rfl rfl)
theorem dX3_ask_37 : decode cX3_ask 37 = .ok (.invokevirtual 258, 3) := dk_182 1 2 (dk_at dksX3_ask_1 14 rfl rfl)
theorem dX3_ask_40 : decode cX3_ask 40 = .ok (.goto 8, 3) := dk_167 0 8 (dk_at dksX3_ask_1 17 rfl rfl)
theorem dX3_ask_43 : decode cX3_ask 43 = .ok (.aload_n 0, 1) := dk_42 (dk_at dksX3_ask_1 20 rfl rfl)
theorem dX3_ask_44 : decode cX3_ask 44 = .ok (.iload_n 1, 1) := dk_27 (dk_at dksX3_ask_1 21 rfl rfl)
theorem dX3_ask_45 : decode cX3_ask 45 = .ok (.invokevirtual 255, 3) := dk_182 0 255 (dk_at dksX3_ask_2 0 rfl rfl)
theorem dX3_ask_48 : decode cX3_ask 48 = .ok (.ireturn, 1) := dk_172 (dk_at dksX3_ask_2 3 rfl rfl)
abbrev cX3_sizeOf : ByteArray := prog_16_method_65_code
def yX3_sizeOf : MethodName := ⟨RX3, "sizeOf", "(I)I"⟩
def dkwX3_sizeOf_2 : List UInt8 := [62, 28, 5, 160, 0, 8, 29, 116, 167, 0, 4, 29, 172]
abbrev dktX3_sizeOf_2 : List UInt8 := dkwX3_sizeOf_2 ++ []
def dkwX3_sizeOf_1 : List UInt8 := [16, 12, 182, 0, 246, 42, 16, 11, 182, 0, 246, 42, 27, 182, 0, 249, 62, 29, 42, 27, 182, 0, 255, 96]
abbrev dktX3_sizeOf_1 : List UInt8 := dkwX3_sizeOf_1 ++ dktX3_sizeOf_2
def dkwX3_sizeOf_0 : List UInt8 := [42, 27, 3, 182, 0, 181, 61, 28, 7, 161, 0, 9, 42, 27, 182, 0, 252, 172, 28, 5, 160, 0, 9, 42]
abbrev dktX3_sizeOf_0 : List UInt8 := dkwX3_sizeOf_0 ++ dktX3_sizeOf_1
theorem dksX3_sizeOf_0 : cX3_sizeOf.data.toList.drop 0 = dktX3_sizeOf_0 := by decide +kernel
theorem dksX3_sizeOf_1 : cX3_sizeOf.data.toList.drop 24 = dktX3_sizeOf_1 := dk_seg dksX3_sizeOf_0 24 rfl rfl
theorem dksX3_sizeOf_2 : cX3_sizeOf.data.toList.drop 48 = dktX3_sizeOf_2 := dk_seg dksX3_sizeOf_1 24 rfl rfl
theorem dX3_sizeOf_0 : decode cX3_sizeOf 0 = .ok (.aload_n 0, 1) := dk_42 (dk_at dksX3_sizeOf_0 0 rfl rfl)
theorem dX3_sizeOf_1 : decode cX3_sizeOf 1 = .ok (.iload_n 1, 1) := dk_27 (dk_at dksX3_sizeOf_0 1 rfl rfl)
theorem dX3_sizeOf_2 : decode cX3_sizeOf 2 = .ok (.iconst 0, 1) := dk_3 (dk_at dksX3_sizeOf_0 2 rfl rfl)
theorem dX3_sizeOf_3 : decode cX3_sizeOf 3 = .ok (.invokevirtual 181, 3) := dk_182 0 181 (dk_at dksX3_sizeOf_0 3 rfl rfl)
theorem dX3_sizeOf_6 : decode cX3_sizeOf 6 = .ok (.istore_n 2, 1) := dk_61 (dk_at dksX3_sizeOf_0 6 rfl rfl)
theorem dX3_sizeOf_7 : decode cX3_sizeOf 7 = .ok (.iload_n 2, 1) := dk_28 (dk_at dksX3_sizeOf_0 7 rfl rfl)
theorem dX3_sizeOf_8 : decode cX3_sizeOf 8 = .ok (.iconst 4, 1) := dk_7 (dk_at dksX3_sizeOf_0 8 rfl rfl)
theorem dX3_sizeOf_9 : decode cX3_sizeOf 9 = .ok (.if_icmp .lt 9, 3) := dk_161 0 9 (dk_at dksX3_sizeOf_0 9 rfl rfl)
theorem dX3_sizeOf_12 : decode cX3_sizeOf 12 = .ok (.aload_n 0, 1) := dk_42 (dk_at dksX3_sizeOf_0 12 rfl rfl)
theorem dX3_sizeOf_13 : decode cX3_sizeOf 13 = .ok (.iload_n 1, 1) := dk_27 (dk_at dksX3_sizeOf_0 13 rfl rfl)
theorem dX3_sizeOf_14 : decode cX3_sizeOf 14 = .ok (.invokevirtual 252, 3) := dk_182 0 252 (dk_at dksX3_sizeOf_0 14 rfl rfl)
theorem dX3_sizeOf_17 : decode cX3_sizeOf 17 = .ok (.ireturn, 1) := dk_172 (dk_at dksX3_sizeOf_0 17 rfl rfl)
theorem dX3_sizeOf_18 : decode cX3_sizeOf 18 = .ok (.iload_n 2, 1) := dk_28 (dk_at dksX3_sizeOf_0 18 rfl rfl)
theorem dX3_sizeOf_19 : decode cX3_sizeOf 19 = .ok (.iconst 2, 1) := dk_5 (dk_at dksX3_sizeOf_0 19 rfl rfl)
theorem dX3_sizeOf_20 : decode cX3_sizeOf 20 = .ok (.if_icmp .ne 9, 3) := dk_160 0 9 (dk_at dksX3_sizeOf_0 20 rfl rfl)
theorem dX3_sizeOf_23 : decode cX3_sizeOf 23 = .ok (.aload_n 0, 1) := dk_42 (dk_at dksX3_sizeOf_0 23 rfl rfl)
theorem dX3_sizeOf_24 : decode cX3_sizeOf 24 = .ok (.bipush 12, 2) := dk_16 12 (dk_at dksX3_sizeOf_1 0 rfl rfl)
theorem dX3_sizeOf_26 : decode cX3_sizeOf 26 = .ok (.invokevirtual 246, 3) := dk_182 0 246 (dk_at dksX3_sizeOf_1 2 rfl rfl)
theorem dX3_sizeOf_29 : decode cX3_sizeOf 29 = .ok (.aload_n 0, 1) := dk_42 (dk_at dksX3_sizeOf_1 5 rfl rfl)
theorem dX3_sizeOf_30 : decode cX3_sizeOf 30 = .ok (.bipush 11, 2) := dk_16 11 (dk_at dksX3_sizeOf_1 6 rfl rfl)
theorem dX3_sizeOf_32 : decode cX3_sizeOf 32 = .ok (.invokevirtual 246, 3) := dk_182 0 246 (dk_at dksX3_sizeOf_1 8 rfl rfl)
theorem dX3_sizeOf_35 : decode cX3_sizeOf 35 = .ok (.aload_n 0, 1) := dk_42 (dk_at dksX3_sizeOf_1 11 rfl rfl)
theorem dX3_sizeOf_36 : decode cX3_sizeOf 36 = .ok (.iload_n 1, 1) := dk_27 (dk_at dksX3_sizeOf_1 12 rfl rfl)
theorem dX3_sizeOf_37 : decode cX3_sizeOf 37 = .ok (.invokevirtual 249, 3) := dk_182 0 249 (dk_at dksX3_sizeOf_1 13 rfl rfl)
theorem dX3_sizeOf_40 : decode cX3_sizeOf 40 = .ok (.istore_n 3, 1) := dk_62 (dk_at dksX3_sizeOf_1 16 rfl rfl)
theorem dX3_sizeOf_41 : decode cX3_sizeOf 41 = .ok (.iload_n 3, 1) := dk_29 (dk_at dksX3_sizeOf_1 17 rfl rfl)
theorem dX3_sizeOf_42 : decode cX3_sizeOf 42 = .ok (.aload_n 0, 1) := dk_42 (dk_at dksX3_sizeOf_1 18 rfl rfl)
theorem dX3_sizeOf_43 : decode cX3_sizeOf 43 = .ok (.iload_n 1, 1) := dk_27 (dk_at dksX3_sizeOf_1 19 rfl rfl)
theorem dX3_sizeOf_44 : decode cX3_sizeOf 44 = .ok (.invokevirtual 255, 3) := dk_182 0 255 (dk_at dksX3_sizeOf_1 20 rfl rfl)
theorem dX3_sizeOf_47 : decode cX3_sizeOf 47 = .ok (.iadd, 1) := dk_96 (dk_at dksX3_sizeOf_1 23 rfl rfl)
theorem dX3_sizeOf_48 : decode cX3_sizeOf 48 = .ok (.istore_n 3, 1) := dk_62 (dk_at dksX3_sizeOf_2 0 rfl rfl)
theorem dX3_sizeOf_49 : decode cX3_sizeOf 49 = .ok (.iload_n 2, 1) := dk_28 (dk_at dksX3_sizeOf_2 1 rfl rfl)
theorem dX3_sizeOf_50 : decode cX3_sizeOf 50 = .ok (.iconst 2, 1) := dk_5 (dk_at dksX3_sizeOf_2 2 rfl rfl)
theorem dX3_sizeOf_51 : decode cX3_sizeOf 51 = .ok (.if_icmp .ne 8, 3) := dk_160 0 8 (dk_at dksX3_sizeOf_2 3 rfl rfl)
theorem dX3_sizeOf_54 : decode cX3_sizeOf 54 = .ok (.iload_n 3, 1) := dk_29 (dk_at dksX3_sizeOf_2 6 rfl rfl)
theorem dX3_sizeOf_55 : decode cX3_sizeOf 55 = .ok (.ineg, 1) := dk_116 (dk_at dksX3_sizeOf_2 7 rfl rfl)
theorem dX3_sizeOf_56 : decode cX3_sizeOf 56 = .ok (.goto 4, 3) := dk_167 0 4 (dk_at dksX3_sizeOf_2 8 rfl rfl)
theorem dX3_sizeOf_59 : decode cX3_sizeOf 59 = .ok (.iload_n 3, 1) := dk_29 (dk_at dksX3_sizeOf_2 11 rfl rfl)
theorem dX3_sizeOf_60 : decode cX3_sizeOf 60 = .ok (.ireturn, 1) := dk_172 (dk_at dksX3_sizeOf_2 12 rfl rfl)
abbrev cX3_clerkSize : ByteArray := prog_16_method_63_code
def yX3_clerkSize : MethodName := ⟨RX3, "clerkSize", "(I)I"⟩
def dkwX3_clerkSize_2 : List UInt8 := [172]
abbrev dktX3_clerkSize_2 : List UInt8 := dkwX3_clerkSize_2 ++ []
def dkwX3_clerkSize_1 : List UInt8 := [182, 0, 249, 16, 100, 100, 61, 42, 27, 3, 182, 0, 181, 8, 160, 0, 9, 5, 28, 104, 167, 0, 4, 28]
abbrev dktX3_clerkSize_1 : List UInt8 := dkwX3_clerkSize_1 ++ dktX3_clerkSize_2
def dkwX3_clerkSize_0 : List UInt8 := [42, 27, 3, 182, 0, 181, 8, 160, 0, 9, 42, 16, 14, 182, 0, 246, 42, 16, 13, 182, 0, 246, 42, 27]
abbrev dktX3_clerkSize_0 : List UInt8 := dkwX3_clerkSize_0 ++ dktX3_clerkSize_1
theorem dksX3_clerkSize_0 : cX3_clerkSize.data.toList.drop 0 = dktX3_clerkSize_0 := by decide +kernel
theorem dksX3_clerkSize_1 : cX3_clerkSize.data.toList.drop 24 = dktX3_clerkSize_1 := dk_seg dksX3_clerkSize_0 24 rfl rfl
theorem dksX3_clerkSize_2 : cX3_clerkSize.data.toList.drop 48 = dktX3_clerkSize_2 := dk_seg dksX3_clerkSize_1 24 rfl rfl
theorem dX3_clerkSize_0 : decode cX3_clerkSize 0 = .ok (.aload_n 0, 1) := dk_42 (dk_at dksX3_clerkSize_0 0 rfl rfl)
theorem dX3_clerkSize_1 : decode cX3_clerkSize 1 = .ok (.iload_n 1, 1) := dk_27 (dk_at dksX3_clerkSize_0 1 rfl rfl)
theorem dX3_clerkSize_2 : decode cX3_clerkSize 2 = .ok (.iconst 0, 1) := dk_3 (dk_at dksX3_clerkSize_0 2 rfl rfl)
theorem dX3_clerkSize_3 : decode cX3_clerkSize 3 = .ok (.invokevirtual 181, 3) := dk_182 0 181 (dk_at dksX3_clerkSize_0 3 rfl rfl)
theorem dX3_clerkSize_6 : decode cX3_clerkSize 6 = .ok (.iconst 5, 1) := dk_8 (dk_at dksX3_clerkSize_0 6 rfl rfl)
theorem dX3_clerkSize_7 : decode cX3_clerkSize 7 = .ok (.if_icmp .ne 9, 3) := dk_160 0 9 (dk_at dksX3_clerkSize_0 7 rfl rfl)
theorem dX3_clerkSize_10 : decode cX3_clerkSize 10 = .ok (.aload_n 0, 1) := dk_42 (dk_at dksX3_clerkSize_0 10 rfl rfl)
theorem dX3_clerkSize_11 : decode cX3_clerkSize 11 = .ok (.bipush 14, 2) := dk_16 14 (dk_at dksX3_clerkSize_0 11 rfl rfl)
theorem dX3_clerkSize_13 : decode cX3_clerkSize 13 = .ok (.invokevirtual 246, 3) := dk_182 0 246 (dk_at dksX3_clerkSize_0 13 rfl rfl)
theorem dX3_clerkSize_16 : decode cX3_clerkSize 16 = .ok (.aload_n 0, 1) := dk_42 (dk_at dksX3_clerkSize_0 16 rfl rfl)
theorem dX3_clerkSize_17 : decode cX3_clerkSize 17 = .ok (.bipush 13, 2) := dk_16 13 (dk_at dksX3_clerkSize_0 17 rfl rfl)
theorem dX3_clerkSize_19 : decode cX3_clerkSize 19 = .ok (.invokevirtual 246, 3) := dk_182 0 246 (dk_at dksX3_clerkSize_0 19 rfl rfl)
theorem dX3_clerkSize_22 : decode cX3_clerkSize 22 = .ok (.aload_n 0, 1) := dk_42 (dk_at dksX3_clerkSize_0 22 rfl rfl)
theorem dX3_clerkSize_23 : decode cX3_clerkSize 23 = .ok (.iload_n 1, 1) := dk_27 (dk_at dksX3_clerkSize_0 23 rfl rfl)
theorem dX3_clerkSize_24 : decode cX3_clerkSize 24 = .ok (.invokevirtual 249, 3) := dk_182 0 249 (dk_at dksX3_clerkSize_1 0 rfl rfl)
theorem dX3_clerkSize_27 : decode cX3_clerkSize 27 = .ok (.bipush 100, 2) := dk_16 100 (dk_at dksX3_clerkSize_1 3 rfl rfl)
theorem dX3_clerkSize_29 : decode cX3_clerkSize 29 = .ok (.isub, 1) := dk_100 (dk_at dksX3_clerkSize_1 5 rfl rfl)
theorem dX3_clerkSize_30 : decode cX3_clerkSize 30 = .ok (.istore_n 2, 1) := dk_61 (dk_at dksX3_clerkSize_1 6 rfl rfl)
theorem dX3_clerkSize_31 : decode cX3_clerkSize 31 = .ok (.aload_n 0, 1) := dk_42 (dk_at dksX3_clerkSize_1 7 rfl rfl)
theorem dX3_clerkSize_32 : decode cX3_clerkSize 32 = .ok (.iload_n 1, 1) := dk_27 (dk_at dksX3_clerkSize_1 8 rfl rfl)
theorem dX3_clerkSize_33 : decode cX3_clerkSize 33 = .ok (.iconst 0, 1) := dk_3 (dk_at dksX3_clerkSize_1 9 rfl rfl)
theorem dX3_clerkSize_34 : decode cX3_clerkSize 34 = .ok (.invokevirtual 181, 3) := dk_182 0 181 (dk_at dksX3_clerkSize_1 10 rfl rfl)
theorem dX3_clerkSize_37 : decode cX3_clerkSize 37 = .ok (.iconst 5, 1) := dk_8 (dk_at dksX3_clerkSize_1 13 rfl rfl)
theorem dX3_clerkSize_38 : decode cX3_clerkSize 38 = .ok (.if_icmp .ne 9, 3) := dk_160 0 9 (dk_at dksX3_clerkSize_1 14 rfl rfl)
theorem dX3_clerkSize_41 : decode cX3_clerkSize 41 = .ok (.iconst 2, 1) := dk_5 (dk_at dksX3_clerkSize_1 17 rfl rfl)
theorem dX3_clerkSize_42 : decode cX3_clerkSize 42 = .ok (.iload_n 2, 1) := dk_28 (dk_at dksX3_clerkSize_1 18 rfl rfl)
theorem dX3_clerkSize_43 : decode cX3_clerkSize 43 = .ok (.imul, 1) := dk_104 (dk_at dksX3_clerkSize_1 19 rfl rfl)
theorem dX3_clerkSize_44 : decode cX3_clerkSize 44 = .ok (.goto 4, 3) := dk_167 0 4 (dk_at dksX3_clerkSize_1 20 rfl rfl)
theorem dX3_clerkSize_47 : decode cX3_clerkSize 47 = .ok (.iload_n 2, 1) := dk_28 (dk_at dksX3_clerkSize_1 23 rfl rfl)
theorem dX3_clerkSize_48 : decode cX3_clerkSize 48 = .ok (.ireturn, 1) := dk_172 (dk_at dksX3_clerkSize_2 0 rfl rfl)
abbrev cX3_began : ByteArray := prog_16_method_61_code
def yX3_began : MethodName := ⟨RX3, "began", "(I)V"⟩
def dkwX3_began_1 : List UInt8 := [4, 96, 181, 0, 243, 177]
abbrev dktX3_began_1 : List UInt8 := dkwX3_began_1 ++ []
def dkwX3_began_0 : List UInt8 := [42, 180, 0, 243, 16, 16, 162, 0, 23, 42, 180, 0, 45, 42, 180, 0, 243, 27, 79, 42, 89, 180, 0, 243]
abbrev dktX3_began_0 : List UInt8 := dkwX3_began_0 ++ dktX3_began_1
theorem dksX3_began_0 : cX3_began.data.toList.drop 0 = dktX3_began_0 := by decide +kernel
theorem dksX3_began_1 : cX3_began.data.toList.drop 24 = dktX3_began_1 := dk_seg dksX3_began_0 24 rfl rfl
theorem dX3_began_0 : decode cX3_began 0 = .ok (.aload_n 0, 1) := dk_42 (dk_at dksX3_began_0 0 rfl rfl)
theorem dX3_began_1 : decode cX3_began 1 = .ok (.getfield 243, 3) := dk_180 0 243 (dk_at dksX3_began_0 1 rfl rfl)
theorem dX3_began_4 : decode cX3_began 4 = .ok (.bipush 16, 2) := dk_16 16 (dk_at dksX3_began_0 4 rfl rfl)
theorem dX3_began_6 : decode cX3_began 6 = .ok (.if_icmp .ge 23, 3) := dk_162 0 23 (dk_at dksX3_began_0 6 rfl rfl)
theorem dX3_began_9 : decode cX3_began 9 = .ok (.aload_n 0, 1) := dk_42 (dk_at dksX3_began_0 9 rfl rfl)
theorem dX3_began_10 : decode cX3_began 10 = .ok (.getfield 45, 3) := dk_180 0 45 (dk_at dksX3_began_0 10 rfl rfl)
theorem dX3_began_13 : decode cX3_began 13 = .ok (.aload_n 0, 1) := dk_42 (dk_at dksX3_began_0 13 rfl rfl)
theorem dX3_began_14 : decode cX3_began 14 = .ok (.getfield 243, 3) := dk_180 0 243 (dk_at dksX3_began_0 14 rfl rfl)
theorem dX3_began_17 : decode cX3_began 17 = .ok (.iload_n 1, 1) := dk_27 (dk_at dksX3_began_0 17 rfl rfl)
theorem dX3_began_18 : decode cX3_began 18 = .ok (.iastore, 1) := dk_79 (dk_at dksX3_began_0 18 rfl rfl)
theorem dX3_began_19 : decode cX3_began 19 = .ok (.aload_n 0, 1) := dk_42 (dk_at dksX3_began_0 19 rfl rfl)
theorem dX3_began_20 : decode cX3_began 20 = .ok (.dup, 1) := dk_89 (dk_at dksX3_began_0 20 rfl rfl)
theorem dX3_began_21 : decode cX3_began 21 = .ok (.getfield 243, 3) := dk_180 0 243 (dk_at dksX3_began_0 21 rfl rfl)
theorem dX3_began_24 : decode cX3_began 24 = .ok (.iconst 1, 1) := dk_4 (dk_at dksX3_began_1 0 rfl rfl)
theorem dX3_began_25 : decode cX3_began 25 = .ok (.iadd, 1) := dk_96 (dk_at dksX3_began_1 1 rfl rfl)
theorem dX3_began_26 : decode cX3_began 26 = .ok (.putfield 243, 3) := dk_181 0 243 (dk_at dksX3_began_1 2 rfl rfl)
theorem dX3_began_29 : decode cX3_began 29 = .ok (.return_, 1) := dk_177 (dk_at dksX3_began_1 5 rfl rfl)
abbrev cX3_plainSize : ByteArray := prog_16_method_62_code
def yX3_plainSize : MethodName := ⟨RX3, "plainSize", "(I)I"⟩
def dkwX3_plainSize_0 : List UInt8 := [42, 16, 10, 182, 0, 246, 42, 27, 7, 182, 0, 181, 172]
abbrev dktX3_plainSize_0 : List UInt8 := dkwX3_plainSize_0 ++ []
theorem dksX3_plainSize_0 : cX3_plainSize.data.toList.drop 0 = dktX3_plainSize_0 := by decide +kernel
theorem dX3_plainSize_0 : decode cX3_plainSize 0 = .ok (.aload_n 0, 1) := dk_42 (dk_at dksX3_plainSize_0 0 rfl rfl)
theorem dX3_plainSize_1 : decode cX3_plainSize 1 = .ok (.bipush 10, 2) := dk_16 10 (dk_at dksX3_plainSize_0 1 rfl rfl)
theorem dX3_plainSize_3 : decode cX3_plainSize 3 = .ok (.invokevirtual 246, 3) := dk_182 0 246 (dk_at dksX3_plainSize_0 3 rfl rfl)
theorem dX3_plainSize_6 : decode cX3_plainSize 6 = .ok (.aload_n 0, 1) := dk_42 (dk_at dksX3_plainSize_0 6 rfl rfl)
theorem dX3_plainSize_7 : decode cX3_plainSize 7 = .ok (.iload_n 1, 1) := dk_27 (dk_at dksX3_plainSize_0 7 rfl rfl)
theorem dX3_plainSize_8 : decode cX3_plainSize 8 = .ok (.iconst 4, 1) := dk_7 (dk_at dksX3_plainSize_0 8 rfl rfl)
theorem dX3_plainSize_9 : decode cX3_plainSize 9 = .ok (.invokevirtual 181, 3) := dk_182 0 181 (dk_at dksX3_plainSize_0 9 rfl rfl)
theorem dX3_plainSize_12 : decode cX3_plainSize 12 = .ok (.ireturn, 1) := dk_172 (dk_at dksX3_plainSize_0 12 rfl rfl)
abbrev cX3_markOf : ByteArray := prog_16_method_64_code
def yX3_markOf : MethodName := ⟨RX3, "markOf", "(I)I"⟩
def dkwX3_markOf_4 : List UInt8 := [5, 29, 104, 172]
abbrev dktX3_markOf_4 : List UInt8 := dkwX3_markOf_4 ++ []
def dkwX3_markOf_3 : List UInt8 := [96, 62, 28, 4, 160, 0, 7, 29, 167, 0, 19, 28, 6, 160, 0, 11, 29, 17, 3, 232, 100, 167, 0, 6]
abbrev dktX3_markOf_3 : List UInt8 := dkwX3_markOf_3 ++ dktX3_markOf_4
def dkwX3_markOf_2 : List UInt8 := [16, 24, 182, 0, 246, 42, 16, 21, 182, 0, 246, 42, 16, 20, 182, 0, 246, 27, 42, 27, 4, 182, 0, 181]
abbrev dktX3_markOf_2 : List UInt8 := dkwX3_markOf_2 ++ dktX3_markOf_3
def dkwX3_markOf_1 : List UInt8 := [27, 42, 27, 182, 0, 252, 100, 172, 28, 4, 159, 0, 19, 42, 28, 6, 160, 0, 8, 16, 22, 167, 0, 5]
abbrev dktX3_markOf_1 : List UInt8 := dkwX3_markOf_1 ++ dktX3_markOf_2
def dkwX3_markOf_0 : List UInt8 := [42, 27, 3, 182, 0, 181, 61, 28, 7, 161, 0, 23, 42, 16, 23, 182, 0, 246, 42, 16, 20, 182, 0, 246]
abbrev dktX3_markOf_0 : List UInt8 := dkwX3_markOf_0 ++ dktX3_markOf_1
theorem dksX3_markOf_0 : cX3_markOf.data.toList.drop 0 = dktX3_markOf_0 := by decide +kernel
theorem dksX3_markOf_1 : cX3_markOf.data.toList.drop 24 = dktX3_markOf_1 := dk_seg dksX3_markOf_0 24 rfl rfl
theorem dksX3_markOf_2 : cX3_markOf.data.toList.drop 48 = dktX3_markOf_2 := dk_seg dksX3_markOf_1 24 rfl rfl
theorem dksX3_markOf_3 : cX3_markOf.data.toList.drop 72 = dktX3_markOf_3 := dk_seg dksX3_markOf_2 24 rfl rfl
theorem dksX3_markOf_4 : cX3_markOf.data.toList.drop 96 = dktX3_markOf_4 := dk_seg dksX3_markOf_3 24 rfl rfl
theorem dX3_markOf_0 : decode cX3_markOf 0 = .ok (.aload_n 0, 1) := dk_42 (dk_at dksX3_markOf_0 0 rfl rfl)
theorem dX3_markOf_1 : decode cX3_markOf 1 = .ok (.iload_n 1, 1) := dk_27 (dk_at dksX3_markOf_0 1 rfl rfl)
theorem dX3_markOf_2 : decode cX3_markOf 2 = .ok (.iconst 0, 1) := dk_3 (dk_at dksX3_markOf_0 2 rfl rfl)
theorem dX3_markOf_3 : decode cX3_markOf 3 = .ok (.invokevirtual 181, 3) := dk_182 0 181 (dk_at dksX3_markOf_0 3 rfl rfl)
theorem dX3_markOf_6 : decode cX3_markOf 6 = .ok (.istore_n 2, 1) := dk_61 (dk_at dksX3_markOf_0 6 rfl rfl)
theorem dX3_markOf_7 : decode cX3_markOf 7 = .ok (.iload_n 2, 1) := dk_28 (dk_at dksX3_markOf_0 7 rfl rfl)
theorem dX3_markOf_8 : decode cX3_markOf 8 = .ok (.iconst 4, 1) := dk_7 (dk_at dksX3_markOf_0 8 rfl rfl)
theorem dX3_markOf_9 : decode cX3_markOf 9 = .ok (.if_icmp .lt 23, 3) := dk_161 0 23 (dk_at dksX3_markOf_0 9 rfl rfl)
theorem dX3_markOf_12 : decode cX3_markOf 12 = .ok (.aload_n 0, 1) := dk_42 (dk_at dksX3_markOf_0 12 rfl rfl)
theorem dX3_markOf_13 : decode cX3_markOf 13 = .ok (.bipush 23, 2) := dk_16 23 (dk_at dksX3_markOf_0 13 rfl rfl)
theorem dX3_markOf_15 : decode cX3_markOf 15 = .ok (.invokevirtual 246, 3) := dk_182 0 246 (dk_at dksX3_markOf_0 15 rfl rfl)
theorem dX3_markOf_18 : decode cX3_markOf 18 = .ok (.aload_n 0, 1) := dk_42 (dk_at dksX3_markOf_0 18 rfl rfl)
theorem dX3_markOf_19 : decode cX3_markOf 19 = .ok (.bipush 20, 2) := dk_16 20 (dk_at dksX3_markOf_0 19 rfl rfl)
theorem dX3_markOf_21 : decode cX3_markOf 21 = .ok (.invokevirtual 246, 3) := dk_182 0 246 (dk_at dksX3_markOf_0 21 rfl rfl)
theorem dX3_markOf_24 : decode cX3_markOf 24 = .ok (.iload_n 1, 1) := dk_27 (dk_at dksX3_markOf_1 0 rfl rfl)
theorem dX3_markOf_25 : decode cX3_markOf 25 = .ok (.aload_n 0, 1) := dk_42 (dk_at dksX3_markOf_1 1 rfl rfl)
theorem dX3_markOf_26 : decode cX3_markOf 26 = .ok (.iload_n 1, 1) := dk_27 (dk_at dksX3_markOf_1 2 rfl rfl)
theorem dX3_markOf_27 : decode cX3_markOf 27 = .ok (.invokevirtual 252, 3) := dk_182 0 252 (dk_at dksX3_markOf_1 3 rfl rfl)
theorem dX3_markOf_30 : decode cX3_markOf 30 = .ok (.isub, 1) := dk_100 (dk_at dksX3_markOf_1 6 rfl rfl)
theorem dX3_markOf_31 : decode cX3_markOf 31 = .ok (.ireturn, 1) := dk_172 (dk_at dksX3_markOf_1 7 rfl rfl)
theorem dX3_markOf_32 : decode cX3_markOf 32 = .ok (.iload_n 2, 1) := dk_28 (dk_at dksX3_markOf_1 8 rfl rfl)
theorem dX3_markOf_33 : decode cX3_markOf 33 = .ok (.iconst 1, 1) := dk_4 (dk_at dksX3_markOf_1 9 rfl rfl)
theorem dX3_markOf_34 : decode cX3_markOf 34 = .ok (.if_icmp .eq 19, 3) := dk_159 0 19 (dk_at dksX3_markOf_1 10 rfl rfl)
theorem dX3_markOf_37 : decode cX3_markOf 37 = .ok (.aload_n 0, 1) := dk_42 (dk_at dksX3_markOf_1 13 rfl rfl)
theorem dX3_markOf_38 : decode cX3_markOf 38 = .ok (.iload_n 2, 1) := dk_28 (dk_at dksX3_markOf_1 14 rfl rfl)
theorem dX3_markOf_39 : decode cX3_markOf 39 = .ok (.iconst 3, 1) := dk_6 (dk_at dksX3_markOf_1 15 rfl rfl)
theorem dX3_markOf_40 : decode cX3_markOf 40 = .ok (.if_icmp .ne 8, 3) := dk_160 0 8 (dk_at dksX3_markOf_1 16 rfl rfl)
theorem dX3_markOf_43 : decode cX3_markOf 43 = .ok (.bipush 22, 2) := dk_16 22 (dk_at dksX3_markOf_1 19 rfl rfl)
theorem dX3_markOf_45 : decode cX3_markOf 45 = .ok (.goto 5, 3) := dk_167 0 5 (dk_at dksX3_markOf_1 21 rfl rfl)
theorem dX3_markOf_48 : decode cX3_markOf 48 = .ok (.bipush 24, 2) := dk_16 24 (dk_at dksX3_markOf_2 0 rfl rfl)
theorem dX3_markOf_50 : decode cX3_markOf 50 = .ok (.invokevirtual 246, 3) := dk_182 0 246 (dk_at dksX3_markOf_2 2 rfl rfl)
theorem dX3_markOf_53 : decode cX3_markOf 53 = .ok (.aload_n 0, 1) := dk_42 (dk_at dksX3_markOf_2 5 rfl rfl)
theorem dX3_markOf_54 : decode cX3_markOf 54 = .ok (.bipush 21, 2) := dk_16 21 (dk_at dksX3_markOf_2 6 rfl rfl)
theorem dX3_markOf_56 : decode cX3_markOf 56 = .ok (.invokevirtual 246, 3) := dk_182 0 246 (dk_at dksX3_markOf_2 8 rfl rfl)
theorem dX3_markOf_59 : decode cX3_markOf 59 = .ok (.aload_n 0, 1) := dk_42 (dk_at dksX3_markOf_2 11 rfl rfl)
theorem dX3_markOf_60 : decode cX3_markOf 60 = .ok (.bipush 20, 2) := dk_16 20 (dk_at dksX3_markOf_2 12 rfl rfl)
theorem dX3_markOf_62 : decode cX3_markOf 62 = .ok (.invokevirtual 246, 3) := dk_182 0 246 (dk_at dksX3_markOf_2 14 rfl rfl)
theorem dX3_markOf_65 : decode cX3_markOf 65 = .ok (.iload_n 1, 1) := dk_27 (dk_at dksX3_markOf_2 17 rfl rfl)
theorem dX3_markOf_66 : decode cX3_markOf 66 = .ok (.aload_n 0, 1) := dk_42 (dk_at dksX3_markOf_2 18 rfl rfl)
theorem dX3_markOf_67 : decode cX3_markOf 67 = .ok (.iload_n 1, 1) := dk_27 (dk_at dksX3_markOf_2 19 rfl rfl)
theorem dX3_markOf_68 : decode cX3_markOf 68 = .ok (.iconst 1, 1) := dk_4 (dk_at dksX3_markOf_2 20 rfl rfl)
theorem dX3_markOf_69 : decode cX3_markOf 69 = .ok (.invokevirtual 181, 3) := dk_182 0 181 (dk_at dksX3_markOf_2 21 rfl rfl)
theorem dX3_markOf_72 : decode cX3_markOf 72 = .ok (.iadd, 1) := dk_96 (dk_at dksX3_markOf_3 0 rfl rfl)
theorem dX3_markOf_73 : decode cX3_markOf 73 = .ok (.istore_n 3, 1) := dk_62 (dk_at dksX3_markOf_3 1 rfl rfl)
theorem dX3_markOf_74 : decode cX3_markOf 74 = .ok (.iload_n 2, 1) := dk_28 (dk_at dksX3_markOf_3 2 rfl rfl)
theorem dX3_markOf_75 : decode cX3_markOf 75 = .ok (.iconst 1, 1) := dk_4 (dk_at dksX3_markOf_3 3 rfl rfl)
theorem dX3_markOf_76 : decode cX3_markOf 76 = .ok (.if_icmp .ne 7, 3) := dk_160 0 7 (dk_at dksX3_markOf_3 4 rfl rfl)
theorem dX3_markOf_79 : decode cX3_markOf 79 = .ok (.iload_n 3, 1) := dk_29 (dk_at dksX3_markOf_3 7 rfl rfl)
theorem dX3_markOf_80 : decode cX3_markOf 80 = .ok (.goto 19, 3) := dk_167 0 19 (dk_at dksX3_markOf_3 8 rfl rfl)
theorem dX3_markOf_83 : decode cX3_markOf 83 = .ok (.iload_n 2, 1) := dk_28 (dk_at dksX3_markOf_3 11 rfl rfl)
theorem dX3_markOf_84 : decode cX3_markOf 84 = .ok (.iconst 3, 1) := dk_6 (dk_at dksX3_markOf_3 12 rfl rfl)
theorem dX3_markOf_85 : decode cX3_markOf 85 = .ok (.if_icmp .ne 11, 3) := dk_160 0 11 (dk_at dksX3_markOf_3 13 rfl rfl)
theorem dX3_markOf_88 : decode cX3_markOf 88 = .ok (.iload_n 3, 1) := dk_29 (dk_at dksX3_markOf_3 16 rfl rfl)
theorem dX3_markOf_89 : decode cX3_markOf 89 = .ok (.sipush 1000, 3) := dk_17 3 232 (dk_at dksX3_markOf_3 17 rfl rfl)
theorem dX3_markOf_92 : decode cX3_markOf 92 = .ok (.isub, 1) := dk_100 (dk_at dksX3_markOf_3 20 rfl rfl)
theorem dX3_markOf_93 : decode cX3_markOf 93 = .ok (.goto 6, 3) := dk_167 0 6 (dk_at dksX3_markOf_3 21 rfl rfl)
theorem dX3_markOf_96 : decode cX3_markOf 96 = .ok (.iconst 2, 1) := dk_5 (dk_at dksX3_markOf_4 0 rfl rfl)
theorem dX3_markOf_97 : decode cX3_markOf 97 = .ok (.iload_n 3, 1) := dk_29 (dk_at dksX3_markOf_4 1 rfl rfl)
theorem dX3_markOf_98 : decode cX3_markOf 98 = .ok (.imul, 1) := dk_104 (dk_at dksX3_markOf_4 2 rfl rfl)
theorem dX3_markOf_99 : decode cX3_markOf 99 = .ok (.ireturn, 1) := dk_172 (dk_at dksX3_markOf_4 3 rfl rfl)
abbrev cX3_trace : ByteArray := prog_16_method_67_code
def yX3_trace : MethodName := ⟨RX3, "trace", "(I)I"⟩
def dkwX3_trace_1 : List UInt8 := [180, 0, 45, 27, 46, 167, 0, 5, 18, 84, 172]
abbrev dktX3_trace_1 : List UInt8 := dkwX3_trace_1 ++ []
def dkwX3_trace_0 : List UInt8 := [42, 3, 181, 0, 48, 27, 133, 9, 42, 180, 0, 243, 4, 100, 133, 184, 0, 58, 153, 0, 12, 42]
abbrev dktX3_trace_0 : List UInt8 := dkwX3_trace_0 ++ dktX3_trace_1
theorem dksX3_trace_0 : cX3_trace.data.toList.drop 0 = dktX3_trace_0 := by decide +kernel
theorem dksX3_trace_1 : cX3_trace.data.toList.drop 22 = dktX3_trace_1 := dk_seg dksX3_trace_0 22 rfl rfl
theorem dX3_trace_0 : decode cX3_trace 0 = .ok (.aload_n 0, 1) := dk_42 (dk_at dksX3_trace_0 0 rfl rfl)
theorem dX3_trace_1 : decode cX3_trace 1 = .ok (.iconst 0, 1) := dk_3 (dk_at dksX3_trace_0 1 rfl rfl)
theorem dX3_trace_2 : decode cX3_trace 2 = .ok (.putfield 48, 3) := dk_181 0 48 (dk_at dksX3_trace_0 2 rfl rfl)
theorem dX3_trace_5 : decode cX3_trace 5 = .ok (.iload_n 1, 1) := dk_27 (dk_at dksX3_trace_0 5 rfl rfl)
theorem dX3_trace_6 : decode cX3_trace 6 = .ok (.i2l, 1) := dk_133 (dk_at dksX3_trace_0 6 rfl rfl)
theorem dX3_trace_7 : decode cX3_trace 7 = .ok (.lconst 0, 1) := dk_9 (dk_at dksX3_trace_0 7 rfl rfl)
theorem dX3_trace_8 : decode cX3_trace 8 = .ok (.aload_n 0, 1) := dk_42 (dk_at dksX3_trace_0 8 rfl rfl)
theorem dX3_trace_9 : decode cX3_trace 9 = .ok (.getfield 243, 3) := dk_180 0 243 (dk_at dksX3_trace_0 9 rfl rfl)
theorem dX3_trace_12 : decode cX3_trace 12 = .ok (.iconst 1, 1) := dk_4 (dk_at dksX3_trace_0 12 rfl rfl)
theorem dX3_trace_13 : decode cX3_trace 13 = .ok (.isub, 1) := dk_100 (dk_at dksX3_trace_0 13 rfl rfl)
theorem dX3_trace_14 : decode cX3_trace 14 = .ok (.i2l, 1) := dk_133 (dk_at dksX3_trace_0 14 rfl rfl)
theorem dX3_trace_15 : decode cX3_trace 15 = .ok (.invokestatic 58, 3) := dk_184 0 58 (dk_at dksX3_trace_0 15 rfl rfl)
theorem dX3_trace_18 : decode cX3_trace 18 = .ok (.ifCond .eq 12, 3) := dk_153 0 12 (dk_at dksX3_trace_0 18 rfl rfl)
theorem dX3_trace_21 : decode cX3_trace 21 = .ok (.aload_n 0, 1) := dk_42 (dk_at dksX3_trace_0 21 rfl rfl)
theorem dX3_trace_22 : decode cX3_trace 22 = .ok (.getfield 45, 3) := dk_180 0 45 (dk_at dksX3_trace_1 0 rfl rfl)
theorem dX3_trace_25 : decode cX3_trace 25 = .ok (.iload_n 1, 1) := dk_27 (dk_at dksX3_trace_1 3 rfl rfl)
theorem dX3_trace_26 : decode cX3_trace 26 = .ok (.iaload, 1) := dk_46 (dk_at dksX3_trace_1 4 rfl rfl)
theorem dX3_trace_27 : decode cX3_trace 27 = .ok (.goto 5, 3) := dk_167 0 5 (dk_at dksX3_trace_1 5 rfl rfl)
theorem dX3_trace_30 : decode cX3_trace 30 = .ok (.ldc 84, 2) := dk_18 84 (dk_at dksX3_trace_1 8 rfl rfl)
theorem dX3_trace_32 : decode cX3_trace 32 = .ok (.ireturn, 1) := dk_172 (dk_at dksX3_trace_1 10 rfl rfl)
abbrev cX3_count : ByteArray := prog_16_method_68_code
def yX3_count : MethodName := ⟨RX3, "count", "(I)I"⟩
def dkwX3_count_5 : List UInt8 := [18, 68, 172]
abbrev dktX3_count_5 : List UInt8 := dkwX3_count_5 ++ []
def dkwX3_count_4 : List UInt8 := [180, 0, 19, 3, 46, 172, 42, 180, 0, 175, 172, 42, 180, 0, 19, 4, 46, 172, 42, 180, 0, 75, 172]
abbrev dktX3_count_4 : List UInt8 := dkwX3_count_4 ++ dktX3_count_5
def dkwX3_count_3 : List UInt8 := [61, 132, 3, 1, 167, 255, 230, 28, 172, 42, 180, 0, 19, 6, 46, 172, 42, 180, 0, 19, 5, 46, 172, 42]
abbrev dktX3_count_3 : List UInt8 := dkwX3_count_3 ++ dktX3_count_4
def dkwX3_count_2 : List UInt8 := [3, 62, 29, 16, 8, 162, 0, 26, 28, 42, 180, 0, 7, 29, 46, 155, 0, 7, 4, 167, 0, 4, 3, 96]
abbrev dktX3_count_2 : List UInt8 := dkwX3_count_2 ++ dktX3_count_3
def dkwX3_count_1 : List UInt8 := [170, 0, 0, 0, 0, 0, 0, 115, 0, 0, 0, 0, 0, 0, 0, 6, 0, 0, 0, 44, 0, 0, 0, 77, 0, 0, 0, 84, 0, 0, 0, 91, 0, 0, 0, 98, 0, 0, 0, 103, 0, 0, 0, 110]
abbrev dktX3_count_1 : List UInt8 := dkwX3_count_1 ++ dktX3_count_2
def dkwX3_count_0 : List UInt8 := [42, 3, 181, 0, 48, 3, 61, 27]
abbrev dktX3_count_0 : List UInt8 := dkwX3_count_0 ++ dktX3_count_1
theorem dksX3_count_0 : cX3_count.data.toList.drop 0 = dktX3_count_0 := by decide +kernel
theorem dksX3_count_1 : cX3_count.data.toList.drop 8 = dktX3_count_1 := dk_seg dksX3_count_0 8 rfl rfl
theorem dksX3_count_2 : cX3_count.data.toList.drop 52 = dktX3_count_2 := dk_seg dksX3_count_1 44 rfl rfl
theorem dksX3_count_3 : cX3_count.data.toList.drop 76 = dktX3_count_3 := dk_seg dksX3_count_2 24 rfl rfl
theorem dksX3_count_4 : cX3_count.data.toList.drop 100 = dktX3_count_4 := dk_seg dksX3_count_3 24 rfl rfl
theorem dksX3_count_5 : cX3_count.data.toList.drop 123 = dktX3_count_5 := dk_seg dksX3_count_4 23 rfl rfl
theorem dX3_count_0 : decode cX3_count 0 = .ok (.aload_n 0, 1) := dk_42 (dk_at dksX3_count_0 0 rfl rfl)
theorem dX3_count_1 : decode cX3_count 1 = .ok (.iconst 0, 1) := dk_3 (dk_at dksX3_count_0 1 rfl rfl)
theorem dX3_count_2 : decode cX3_count 2 = .ok (.putfield 48, 3) := dk_181 0 48 (dk_at dksX3_count_0 2 rfl rfl)
theorem dX3_count_5 : decode cX3_count 5 = .ok (.iconst 0, 1) := dk_3 (dk_at dksX3_count_0 5 rfl rfl)
theorem dX3_count_6 : decode cX3_count 6 = .ok (.istore_n 2, 1) := dk_61 (dk_at dksX3_count_0 6 rfl rfl)
theorem dX3_count_7 : decode cX3_count 7 = .ok (.iload_n 1, 1) := dk_27 (dk_at dksX3_count_0 7 rfl rfl)
theorem dX3_count_8 : decode cX3_count 8 = .ok (.tableswitch 115 0 6 #[44, 77, 84, 91, 98, 103, 110], 44) := by decide +kernel
theorem dX3_count_52 : decode cX3_count 52 = .ok (.iconst 0, 1) := dk_3 (dk_at dksX3_count_2 0 rfl rfl)
theorem dX3_count_53 : decode cX3_count 53 = .ok (.istore_n 3, 1) := dk_62 (dk_at dksX3_count_2 1 rfl rfl)
theorem dX3_count_54 : decode cX3_count 54 = .ok (.iload_n 3, 1) := dk_29 (dk_at dksX3_count_2 2 rfl rfl)
theorem dX3_count_55 : decode cX3_count 55 = .ok (.bipush 8, 2) := dk_16 8 (dk_at dksX3_count_2 3 rfl rfl)
theorem dX3_count_57 : decode cX3_count 57 = .ok (.if_icmp .ge 26, 3) := dk_162 0 26 (dk_at dksX3_count_2 5 rfl rfl)
theorem dX3_count_60 : decode cX3_count 60 = .ok (.iload_n 2, 1) := dk_28 (dk_at dksX3_count_2 8 rfl rfl)
theorem dX3_count_61 : decode cX3_count 61 = .ok (.aload_n 0, 1) := dk_42 (dk_at dksX3_count_2 9 rfl rfl)
theorem dX3_count_62 : decode cX3_count 62 = .ok (.getfield 7, 3) := dk_180 0 7 (dk_at dksX3_count_2 10 rfl rfl)
theorem dX3_count_65 : decode cX3_count 65 = .ok (.iload_n 3, 1) := dk_29 (dk_at dksX3_count_2 13 rfl rfl)
theorem dX3_count_66 : decode cX3_count 66 = .ok (.iaload, 1) := dk_46 (dk_at dksX3_count_2 14 rfl rfl)
theorem dX3_count_67 : decode cX3_count 67 = .ok (.ifCond .lt 7, 3) := dk_155 0 7 (dk_at dksX3_count_2 15 rfl rfl)
theorem dX3_count_70 : decode cX3_count 70 = .ok (.iconst 1, 1) := dk_4 (dk_at dksX3_count_2 18 rfl rfl)
theorem dX3_count_71 : decode cX3_count 71 = .ok (.goto 4, 3) := dk_167 0 4 (dk_at dksX3_count_2 19 rfl rfl)
theorem dX3_count_74 : decode cX3_count 74 = .ok (.iconst 0, 1) := dk_3 (dk_at dksX3_count_2 22 rfl rfl)
theorem dX3_count_75 : decode cX3_count 75 = .ok (.iadd, 1) := dk_96 (dk_at dksX3_count_2 23 rfl rfl)
theorem dX3_count_76 : decode cX3_count 76 = .ok (.istore_n 2, 1) := dk_61 (dk_at dksX3_count_3 0 rfl rfl)
theorem dX3_count_77 : decode cX3_count 77 = .ok (.iinc 3 1, 3) := dk_132 3 1 (dk_at dksX3_count_3 1 rfl rfl)
theorem dX3_count_80 : decode cX3_count 80 = .ok (.goto (-26), 3) := dk_167 255 230 (dk_at dksX3_count_3 4 rfl rfl)
theorem dX3_count_83 : decode cX3_count 83 = .ok (.iload_n 2, 1) := dk_28 (dk_at dksX3_count_3 7 rfl rfl)
theorem dX3_count_84 : decode cX3_count 84 = .ok (.ireturn, 1) := dk_172 (dk_at dksX3_count_3 8 rfl rfl)
theorem dX3_count_85 : decode cX3_count 85 = .ok (.aload_n 0, 1) := dk_42 (dk_at dksX3_count_3 9 rfl rfl)
theorem dX3_count_86 : decode cX3_count 86 = .ok (.getfield 19, 3) := dk_180 0 19 (dk_at dksX3_count_3 10 rfl rfl)
theorem dX3_count_89 : decode cX3_count 89 = .ok (.iconst 3, 1) := dk_6 (dk_at dksX3_count_3 13 rfl rfl)
theorem dX3_count_90 : decode cX3_count 90 = .ok (.iaload, 1) := dk_46 (dk_at dksX3_count_3 14 rfl rfl)
theorem dX3_count_91 : decode cX3_count 91 = .ok (.ireturn, 1) := dk_172 (dk_at dksX3_count_3 15 rfl rfl)
theorem dX3_count_92 : decode cX3_count 92 = .ok (.aload_n 0, 1) := dk_42 (dk_at dksX3_count_3 16 rfl rfl)
theorem dX3_count_93 : decode cX3_count 93 = .ok (.getfield 19, 3) := dk_180 0 19 (dk_at dksX3_count_3 17 rfl rfl)
theorem dX3_count_96 : decode cX3_count 96 = .ok (.iconst 2, 1) := dk_5 (dk_at dksX3_count_3 20 rfl rfl)
theorem dX3_count_97 : decode cX3_count 97 = .ok (.iaload, 1) := dk_46 (dk_at dksX3_count_3 21 rfl rfl)
theorem dX3_count_98 : decode cX3_count 98 = .ok (.ireturn, 1) := dk_172 (dk_at dksX3_count_3 22 rfl rfl)
theorem dX3_count_99 : decode cX3_count 99 = .ok (.aload_n 0, 1) := dk_42 (dk_at dksX3_count_3 23 rfl rfl)
theorem dX3_count_100 : decode cX3_count 100 = .ok (.getfield 19, 3) := dk_180 0 19 (dk_at dksX3_count_4 0 rfl rfl)
theorem dX3_count_103 : decode cX3_count 103 = .ok (.iconst 0, 1) := dk_3 (dk_at dksX3_count_4 3 rfl rfl)
theorem dX3_count_104 : decode cX3_count 104 = .ok (.iaload, 1) := dk_46 (dk_at dksX3_count_4 4 rfl rfl)
theorem dX3_count_105 : decode cX3_count 105 = .ok (.ireturn, 1) := dk_172 (dk_at dksX3_count_4 5 rfl rfl)
theorem dX3_count_106 : decode cX3_count 106 = .ok (.aload_n 0, 1) := dk_42 (dk_at dksX3_count_4 6 rfl rfl)
theorem dX3_count_107 : decode cX3_count 107 = .ok (.getfield 175, 3) := dk_180 0 175 (dk_at dksX3_count_4 7 rfl rfl)
theorem dX3_count_110 : decode cX3_count 110 = .ok (.ireturn, 1) := dk_172 (dk_at dksX3_count_4 10 rfl rfl)
theorem dX3_count_111 : decode cX3_count 111 = .ok (.aload_n 0, 1) := dk_42 (dk_at dksX3_count_4 11 rfl rfl)
theorem dX3_count_112 : decode cX3_count 112 = .ok (.getfield 19, 3) := dk_180 0 19 (dk_at dksX3_count_4 12 rfl rfl)
theorem dX3_count_115 : decode cX3_count 115 = .ok (.iconst 1, 1) := dk_4 (dk_at dksX3_count_4 15 rfl rfl)
theorem dX3_count_116 : decode cX3_count 116 = .ok (.iaload, 1) := dk_46 (dk_at dksX3_count_4 16 rfl rfl)
theorem dX3_count_117 : decode cX3_count 117 = .ok (.ireturn, 1) := dk_172 (dk_at dksX3_count_4 17 rfl rfl)
theorem dX3_count_118 : decode cX3_count 118 = .ok (.aload_n 0, 1) := dk_42 (dk_at dksX3_count_4 18 rfl rfl)
theorem dX3_count_119 : decode cX3_count 119 = .ok (.getfield 75, 3) := dk_180 0 75 (dk_at dksX3_count_4 19 rfl rfl)
theorem dX3_count_122 : decode cX3_count 122 = .ok (.ireturn, 1) := dk_172 (dk_at dksX3_count_4 22 rfl rfl)
theorem dX3_count_123 : decode cX3_count 123 = .ok (.ldc 68, 2) := dk_18 68 (dk_at dksX3_count_5 0 rfl rfl)
theorem dX3_count_125 : decode cX3_count 125 = .ok (.ireturn, 1) := dk_172 (dk_at dksX3_count_5 2 rfl rfl)
abbrev cX3_status : ByteArray := prog_16_method_69_code
def yX3_status : MethodName := ⟨RX3, "status", "()I"⟩
def dkwX3_status_0 : List UInt8 := [42, 3, 181, 0, 48, 42, 180, 0, 52, 172]
abbrev dktX3_status_0 : List UInt8 := dkwX3_status_0 ++ []
theorem dksX3_status_0 : cX3_status.data.toList.drop 0 = dktX3_status_0 := by decide +kernel
theorem dX3_status_0 : decode cX3_status 0 = .ok (.aload_n 0, 1) := dk_42 (dk_at dksX3_status_0 0 rfl rfl)
theorem dX3_status_1 : decode cX3_status 1 = .ok (.iconst 0, 1) := dk_3 (dk_at dksX3_status_0 1 rfl rfl)
theorem dX3_status_2 : decode cX3_status 2 = .ok (.putfield 48, 3) := dk_181 0 48 (dk_at dksX3_status_0 2 rfl rfl)
theorem dX3_status_5 : decode cX3_status 5 = .ok (.aload_n 0, 1) := dk_42 (dk_at dksX3_status_0 5 rfl rfl)
theorem dX3_status_6 : decode cX3_status 6 = .ok (.getfield 52, 3) := dk_180 0 52 (dk_at dksX3_status_0 6 rfl rfl)
theorem dX3_status_9 : decode cX3_status 9 = .ok (.ireturn, 1) := dk_172 (dk_at dksX3_status_0 9 rfl rfl)
theorem q66 : (Jvm.Cond.initialized "YoungerBackModel") ∈ lw_all := lw_g (lw_at lw_m1 7 rfl) rfl
theorem q843 : (Jvm.Cond.selects "YoungerBackModel" ({ cls := "java/lang/Object", name := "getClass", desc := "()Ljava/lang/Class;" } : Jvm.MethodName) ({ cls := "java/lang/Object", name := "getClass", desc := "()Ljava/lang/Class;" } : Jvm.MethodName)) ∈ lw_all := lw_g (lw_at lw_m4 64 rfl) rfl
theorem q1253 : (Jvm.Cond.instantiable "YoungerBackModel" (25 : Nat)) ∈ lw_all := lw_g (lw_at lw_m5 234 rfl) rfl
theorem q1255 : (Jvm.Cond.instanceMethod ({ cls := "YoungerBackModel", name := "<init>", desc := "()V" } : Jvm.MethodName)) ∈ lw_all := lw_g (lw_at lw_m5 236 rfl) rfl
theorem q1256 : (Jvm.Cond.code ({ cls := "YoungerBackModel", name := "<init>", desc := "()V" } : Jvm.MethodName) prog_16_method_1_code (1 : Nat) (Option.none : Option Jvm.ClassFile.FieldType)) ∈ lw_all := lw_g (lw_at lw_m5 237 rfl) rfl
theorem q1257 : (Jvm.Cond.methodLink "YoungerBackModel" (1 : Nat) ({ cls := "java/lang/Object", name := "<init>", desc := "()V" } : Jvm.MethodName)) ∈ lw_all := lw_g (lw_at lw_m5 238 rfl) rfl
theorem q1258 : (Jvm.Cond.fieldLink "YoungerBackModel" (48 : Nat) "YoungerBackModel" "thrown" "I") ∈ lw_all := lw_g (lw_at lw_m5 239 rfl) rfl
theorem q1259 : (Jvm.Cond.fieldLink "YoungerBackModel" (52 : Nat) "YoungerBackModel" "status" "I") ∈ lw_all := lw_g (lw_at lw_m6 0 rfl) rfl
theorem q1260 : (Jvm.Cond.fieldLink "YoungerBackModel" (7 : Nat) "YoungerBackModel" "lane" "[I") ∈ lw_all := lw_g (lw_at lw_m6 1 rfl) rfl
theorem q1261 : (Jvm.Cond.fieldLink "YoungerBackModel" (13 : Nat) "YoungerBackModel" "many" "[I") ∈ lw_all := lw_g (lw_at lw_m6 2 rfl) rfl
theorem q1262 : (Jvm.Cond.fieldLink "YoungerBackModel" (16 : Nat) "YoungerBackModel" "item" "[I") ∈ lw_all := lw_g (lw_at lw_m6 3 rfl) rfl
theorem q1263 : (Jvm.Cond.fieldLink "YoungerBackModel" (19 : Nat) "YoungerBackModel" "league" "[I") ∈ lw_all := lw_g (lw_at lw_m6 4 rfl) rfl
theorem q1264 : (Jvm.Cond.fieldLink "YoungerBackModel" (22 : Nat) "YoungerBackModel" "fresh" "[I") ∈ lw_all := lw_g (lw_at lw_m6 5 rfl) rfl
theorem q1265 : (Jvm.Cond.fieldLink "YoungerBackModel" (25 : Nat) "YoungerBackModel" "was" "[I") ∈ lw_all := lw_g (lw_at lw_m6 6 rfl) rfl
theorem q1266 : (Jvm.Cond.fieldLink "YoungerBackModel" (175 : Nat) "YoungerBackModel" "acts" "I") ∈ lw_all := lw_g (lw_at lw_m6 7 rfl) rfl
theorem q1267 : (Jvm.Cond.fieldLink "YoungerBackModel" (28 : Nat) "YoungerBackModel" "tape" "[I") ∈ lw_all := lw_g (lw_at lw_m6 8 rfl) rfl
theorem q1268 : (Jvm.Cond.fieldLink "YoungerBackModel" (75 : Nat) "YoungerBackModel" "taped" "I") ∈ lw_all := lw_g (lw_at lw_m6 9 rfl) rfl
theorem q1269 : (Jvm.Cond.fieldLink "YoungerBackModel" (171 : Nat) "YoungerBackModel" "latest" "I") ∈ lw_all := lw_g (lw_at lw_m6 10 rfl) rfl
theorem q1270 : (Jvm.Cond.fieldLink "YoungerBackModel" (81 : Nat) "YoungerBackModel" "length" "I") ∈ lw_all := lw_g (lw_at lw_m6 11 rfl) rfl
theorem q1271 : (Jvm.Cond.fieldLink "YoungerBackModel" (85 : Nat) "YoungerBackModel" "cursor" "I") ∈ lw_all := lw_g (lw_at lw_m6 12 rfl) rfl
theorem q1272 : (Jvm.Cond.fieldLink "YoungerBackModel" (94 : Nat) "YoungerBackModel" "token" "I") ∈ lw_all := lw_g (lw_at lw_m6 13 rfl) rfl
theorem q1273 : (Jvm.Cond.fieldLink "YoungerBackModel" (91 : Nat) "YoungerBackModel" "start" "I") ∈ lw_all := lw_g (lw_at lw_m6 14 rfl) rfl
theorem q1274 : (Jvm.Cond.fieldLink "YoungerBackModel" (103 : Nat) "YoungerBackModel" "till" "I") ∈ lw_all := lw_g (lw_at lw_m6 15 rfl) rfl
theorem q1275 : (Jvm.Cond.fieldLink "YoungerBackModel" (106 : Nat) "YoungerBackModel" "fault" "I") ∈ lw_all := lw_g (lw_at lw_m6 16 rfl) rfl
theorem q1276 : (Jvm.Cond.fieldLink "YoungerBackModel" (112 : Nat) "YoungerBackModel" "faultAt" "I") ∈ lw_all := lw_g (lw_at lw_m6 17 rfl) rfl
theorem q1277 : (Jvm.Cond.fieldLink "YoungerBackModel" (31 : Nat) "YoungerBackModel" "gained" "[J") ∈ lw_all := lw_g (lw_at lw_m6 18 rfl) rfl
theorem q1278 : (Jvm.Cond.fieldLink "YoungerBackModel" (35 : Nat) "YoungerBackModel" "others" "[J") ∈ lw_all := lw_g (lw_at lw_m6 19 rfl) rfl
theorem q1279 : (Jvm.Cond.fieldLink "YoungerBackModel" (38 : Nat) "YoungerBackModel" "isKept" "[Z") ∈ lw_all := lw_g (lw_at lw_m6 20 rfl) rfl
theorem q1280 : (Jvm.Cond.fieldLink "YoungerBackModel" (42 : Nat) "YoungerBackModel" "kept" "[I") ∈ lw_all := lw_g (lw_at lw_m6 21 rfl) rfl
theorem q1281 : (Jvm.Cond.fieldLink "YoungerBackModel" (45 : Nat) "YoungerBackModel" "trace" "[I") ∈ lw_all := lw_g (lw_at lw_m6 22 rfl) rfl
theorem q1282 : (Jvm.Cond.fieldLink "YoungerBackModel" (243 : Nat) "YoungerBackModel" "traced" "I") ∈ lw_all := lw_g (lw_at lw_m6 23 rfl) rfl
theorem q1283 : (Jvm.Cond.lays "YoungerBackModel" "YoungerBackModel" "thrown" "I") ∈ lw_all := lw_g (lw_at lw_m6 24 rfl) rfl
theorem q1284 : (Jvm.Cond.soleField "YoungerBackModel" "thrown") ∈ lw_all := lw_g (lw_at lw_m6 25 rfl) rfl
theorem q1285 : (Jvm.Cond.lays "YoungerBackModel" "YoungerBackModel" "status" "I") ∈ lw_all := lw_g (lw_at lw_m6 26 rfl) rfl
theorem q1286 : (Jvm.Cond.soleField "YoungerBackModel" "status") ∈ lw_all := lw_g (lw_at lw_m6 27 rfl) rfl
theorem q1287 : (Jvm.Cond.laysFinal "YoungerBackModel" "YoungerBackModel" "lane" "[I") ∈ lw_all := lw_g (lw_at lw_m6 28 rfl) rfl
theorem q1288 : (Jvm.Cond.soleField "YoungerBackModel" "lane") ∈ lw_all := lw_g (lw_at lw_m6 29 rfl) rfl
theorem q1289 : (Jvm.Cond.laysFinal "YoungerBackModel" "YoungerBackModel" "many" "[I") ∈ lw_all := lw_g (lw_at lw_m6 30 rfl) rfl
theorem q1290 : (Jvm.Cond.soleField "YoungerBackModel" "many") ∈ lw_all := lw_g (lw_at lw_m6 31 rfl) rfl
theorem q1291 : (Jvm.Cond.laysFinal "YoungerBackModel" "YoungerBackModel" "item" "[I") ∈ lw_all := lw_g (lw_at lw_m6 32 rfl) rfl
theorem q1292 : (Jvm.Cond.soleField "YoungerBackModel" "item") ∈ lw_all := lw_g (lw_at lw_m6 33 rfl) rfl
theorem q1293 : (Jvm.Cond.laysFinal "YoungerBackModel" "YoungerBackModel" "league" "[I") ∈ lw_all := lw_g (lw_at lw_m6 34 rfl) rfl
theorem q1294 : (Jvm.Cond.soleField "YoungerBackModel" "league") ∈ lw_all := lw_g (lw_at lw_m6 35 rfl) rfl
theorem q1295 : (Jvm.Cond.laysFinal "YoungerBackModel" "YoungerBackModel" "fresh" "[I") ∈ lw_all := lw_g (lw_at lw_m6 36 rfl) rfl
theorem q1296 : (Jvm.Cond.soleField "YoungerBackModel" "fresh") ∈ lw_all := lw_g (lw_at lw_m6 37 rfl) rfl
theorem q1297 : (Jvm.Cond.laysFinal "YoungerBackModel" "YoungerBackModel" "was" "[I") ∈ lw_all := lw_g (lw_at lw_m6 38 rfl) rfl
theorem q1298 : (Jvm.Cond.soleField "YoungerBackModel" "was") ∈ lw_all := lw_g (lw_at lw_m6 39 rfl) rfl
theorem q1299 : (Jvm.Cond.lays "YoungerBackModel" "YoungerBackModel" "acts" "I") ∈ lw_all := lw_g (lw_at lw_m6 40 rfl) rfl
theorem q1300 : (Jvm.Cond.soleField "YoungerBackModel" "acts") ∈ lw_all := lw_g (lw_at lw_m6 41 rfl) rfl
theorem q1301 : (Jvm.Cond.laysFinal "YoungerBackModel" "YoungerBackModel" "tape" "[I") ∈ lw_all := lw_g (lw_at lw_m6 42 rfl) rfl
theorem q1302 : (Jvm.Cond.soleField "YoungerBackModel" "tape") ∈ lw_all := lw_g (lw_at lw_m6 43 rfl) rfl
theorem q1303 : (Jvm.Cond.lays "YoungerBackModel" "YoungerBackModel" "taped" "I") ∈ lw_all := lw_g (lw_at lw_m6 44 rfl) rfl
theorem q1304 : (Jvm.Cond.soleField "YoungerBackModel" "taped") ∈ lw_all := lw_g (lw_at lw_m6 45 rfl) rfl
theorem q1305 : (Jvm.Cond.lays "YoungerBackModel" "YoungerBackModel" "latest" "I") ∈ lw_all := lw_g (lw_at lw_m6 46 rfl) rfl
theorem q1306 : (Jvm.Cond.soleField "YoungerBackModel" "latest") ∈ lw_all := lw_g (lw_at lw_m6 47 rfl) rfl
theorem q1307 : (Jvm.Cond.lays "YoungerBackModel" "YoungerBackModel" "length" "I") ∈ lw_all := lw_g (lw_at lw_m6 48 rfl) rfl
theorem q1308 : (Jvm.Cond.soleField "YoungerBackModel" "length") ∈ lw_all := lw_g (lw_at lw_m6 49 rfl) rfl
theorem q1309 : (Jvm.Cond.lays "YoungerBackModel" "YoungerBackModel" "cursor" "I") ∈ lw_all := lw_g (lw_at lw_m6 50 rfl) rfl
theorem q1310 : (Jvm.Cond.soleField "YoungerBackModel" "cursor") ∈ lw_all := lw_g (lw_at lw_m6 51 rfl) rfl
theorem q1311 : (Jvm.Cond.lays "YoungerBackModel" "YoungerBackModel" "token" "I") ∈ lw_all := lw_g (lw_at lw_m6 52 rfl) rfl
theorem q1312 : (Jvm.Cond.soleField "YoungerBackModel" "token") ∈ lw_all := lw_g (lw_at lw_m6 53 rfl) rfl
theorem q1313 : (Jvm.Cond.lays "YoungerBackModel" "YoungerBackModel" "start" "I") ∈ lw_all := lw_g (lw_at lw_m6 54 rfl) rfl
theorem q1314 : (Jvm.Cond.soleField "YoungerBackModel" "start") ∈ lw_all := lw_g (lw_at lw_m6 55 rfl) rfl
theorem q1315 : (Jvm.Cond.lays "YoungerBackModel" "YoungerBackModel" "till" "I") ∈ lw_all := lw_g (lw_at lw_m6 56 rfl) rfl
theorem q1316 : (Jvm.Cond.soleField "YoungerBackModel" "till") ∈ lw_all := lw_g (lw_at lw_m6 57 rfl) rfl
theorem q1317 : (Jvm.Cond.lays "YoungerBackModel" "YoungerBackModel" "fault" "I") ∈ lw_all := lw_g (lw_at lw_m6 58 rfl) rfl
theorem q1318 : (Jvm.Cond.soleField "YoungerBackModel" "fault") ∈ lw_all := lw_g (lw_at lw_m6 59 rfl) rfl
theorem q1319 : (Jvm.Cond.lays "YoungerBackModel" "YoungerBackModel" "faultAt" "I") ∈ lw_all := lw_g (lw_at lw_m6 60 rfl) rfl
theorem q1320 : (Jvm.Cond.soleField "YoungerBackModel" "faultAt") ∈ lw_all := lw_g (lw_at lw_m6 61 rfl) rfl
theorem q1321 : (Jvm.Cond.laysFinal "YoungerBackModel" "YoungerBackModel" "gained" "[J") ∈ lw_all := lw_g (lw_at lw_m6 62 rfl) rfl
theorem q1322 : (Jvm.Cond.soleField "YoungerBackModel" "gained") ∈ lw_all := lw_g (lw_at lw_m6 63 rfl) rfl
theorem q1323 : (Jvm.Cond.laysFinal "YoungerBackModel" "YoungerBackModel" "others" "[J") ∈ lw_all := lw_g (lw_at lw_m6 64 rfl) rfl
theorem q1324 : (Jvm.Cond.soleField "YoungerBackModel" "others") ∈ lw_all := lw_g (lw_at lw_m6 65 rfl) rfl
theorem q1325 : (Jvm.Cond.laysFinal "YoungerBackModel" "YoungerBackModel" "isKept" "[Z") ∈ lw_all := lw_g (lw_at lw_m6 66 rfl) rfl
theorem q1326 : (Jvm.Cond.soleField "YoungerBackModel" "isKept") ∈ lw_all := lw_g (lw_at lw_m6 67 rfl) rfl
theorem q1327 : (Jvm.Cond.laysFinal "YoungerBackModel" "YoungerBackModel" "kept" "[I") ∈ lw_all := lw_g (lw_at lw_m6 68 rfl) rfl
theorem q1328 : (Jvm.Cond.soleField "YoungerBackModel" "kept") ∈ lw_all := lw_g (lw_at lw_m6 69 rfl) rfl
theorem q1329 : (Jvm.Cond.laysFinal "YoungerBackModel" "YoungerBackModel" "trace" "[I") ∈ lw_all := lw_g (lw_at lw_m6 70 rfl) rfl
theorem q1330 : (Jvm.Cond.soleField "YoungerBackModel" "trace") ∈ lw_all := lw_g (lw_at lw_m6 71 rfl) rfl
theorem q1331 : (Jvm.Cond.lays "YoungerBackModel" "YoungerBackModel" "traced" "I") ∈ lw_all := lw_g (lw_at lw_m6 72 rfl) rfl
theorem q1332 : (Jvm.Cond.soleField "YoungerBackModel" "traced") ∈ lw_all := lw_g (lw_at lw_m6 73 rfl) rfl
theorem q1333 : (Jvm.Cond.superclass "YoungerBackModel" "java/lang/Object") ∈ lw_all := lw_g (lw_at lw_m6 74 rfl) rfl
theorem q1336 : (Jvm.Cond.instanceMethod ({ cls := "YoungerBackModel", name := "row", desc := "(III)I" } : Jvm.MethodName)) ∈ lw_all := lw_g (lw_at lw_m6 77 rfl) rfl
theorem q1337 : (Jvm.Cond.selects "YoungerBackModel" ({ cls := "YoungerBackModel", name := "row", desc := "(III)I" } : Jvm.MethodName) ({ cls := "YoungerBackModel", name := "row", desc := "(III)I" } : Jvm.MethodName)) ∈ lw_all := lw_g (lw_at lw_m6 78 rfl) rfl
theorem q1338 : (Jvm.Cond.code ({ cls := "YoungerBackModel", name := "row", desc := "(III)I" } : Jvm.MethodName) prog_16_method_6_code (5 : Nat) (Option.some Jvm.ClassFile.FieldType.int)) ∈ lw_all := lw_g (lw_at lw_m6 79 rfl) rfl
theorem q1339 : (Jvm.Cond.methodLink "YoungerBackModel" (62 : Nat) ({ cls := "YoungerBackModel", name := "isRow", desc := "(I)Z" } : Jvm.MethodName)) ∈ lw_all := lw_g (lw_at lw_m6 80 rfl) rfl
theorem q1340 : (Jvm.Cond.static ({ cls := "YoungerBackModel", name := "isRow", desc := "(I)Z" } : Jvm.MethodName)) ∈ lw_all := lw_g (lw_at lw_m6 81 rfl) rfl
theorem q1341 : (Jvm.Cond.code ({ cls := "YoungerBackModel", name := "isRow", desc := "(I)Z" } : Jvm.MethodName) prog_16_method_5_code (1 : Nat) (Option.some Jvm.ClassFile.FieldType.boolean)) ∈ lw_all := lw_g (lw_at lw_m6 82 rfl) rfl
theorem q1342 : (Jvm.Cond.constantLong "YoungerBackModel" (56 : Nat) (7 : Int64)) ∈ lw_all := lw_g (lw_at lw_m6 83 rfl) rfl
theorem q1343 : (Jvm.Cond.methodLink "YoungerBackModel" (58 : Nat) ({ cls := "YoungerBackModel", name := "in", desc := "(JJJ)Z" } : Jvm.MethodName)) ∈ lw_all := lw_g (lw_at lw_m6 84 rfl) rfl
theorem q1344 : (Jvm.Cond.static ({ cls := "YoungerBackModel", name := "in", desc := "(JJJ)Z" } : Jvm.MethodName)) ∈ lw_all := lw_g (lw_at lw_m6 85 rfl) rfl
theorem q1345 : (Jvm.Cond.code ({ cls := "YoungerBackModel", name := "in", desc := "(JJJ)Z" } : Jvm.MethodName) prog_16_method_3_code (6 : Nat) (Option.some Jvm.ClassFile.FieldType.boolean)) ∈ lw_all := lw_g (lw_at lw_m6 86 rfl) rfl
theorem q1346 : (Jvm.Cond.constantLong "YoungerBackModel" (66 : Nat) (2 : Int64)) ∈ lw_all := lw_g (lw_at lw_m6 87 rfl) rfl
theorem q1347 : (Jvm.Cond.constant "YoungerBackModel" (68 : Nat) (-1000001 : Int32)) ∈ lw_all := lw_g (lw_at lw_m6 88 rfl) rfl
theorem q1348 : (Jvm.Cond.methodLink "YoungerBackModel" (69 : Nat) ({ cls := "YoungerBackModel", name := "finding", desc := "(I)I" } : Jvm.MethodName)) ∈ lw_all := lw_g (lw_at lw_m6 89 rfl) rfl
theorem q1349 : (Jvm.Cond.privateMethod ({ cls := "YoungerBackModel", name := "finding", desc := "(I)I" } : Jvm.MethodName)) ∈ lw_tbl := lw_at lw_m6 90 rfl
theorem q1350 : (Jvm.Cond.instanceMethod ({ cls := "YoungerBackModel", name := "finding", desc := "(I)I" } : Jvm.MethodName)) ∈ lw_all := lw_g (lw_at lw_m6 91 rfl) rfl
theorem q1351 : (Jvm.Cond.code ({ cls := "YoungerBackModel", name := "finding", desc := "(I)I" } : Jvm.MethodName) prog_16_method_4_code (2 : Nat) (Option.some Jvm.ClassFile.FieldType.int)) ∈ lw_all := lw_g (lw_at lw_m6 92 rfl) rfl
theorem q1352 : (Jvm.Cond.constant "YoungerBackModel" (55 : Nat) (-1000010 : Int32)) ∈ lw_all := lw_g (lw_at lw_m6 93 rfl) rfl
theorem q1354 : (Jvm.Cond.instanceMethod ({ cls := "YoungerBackModel", name := "set", desc := "(III)I" } : Jvm.MethodName)) ∈ lw_all := lw_g (lw_at lw_m6 95 rfl) rfl
theorem q1355 : (Jvm.Cond.selects "YoungerBackModel" ({ cls := "YoungerBackModel", name := "set", desc := "(III)I" } : Jvm.MethodName) ({ cls := "YoungerBackModel", name := "set", desc := "(III)I" } : Jvm.MethodName)) ∈ lw_all := lw_g (lw_at lw_m6 96 rfl) rfl
theorem q1356 : (Jvm.Cond.code ({ cls := "YoungerBackModel", name := "set", desc := "(III)I" } : Jvm.MethodName) prog_16_method_7_code (4 : Nat) (Option.some Jvm.ClassFile.FieldType.int)) ∈ lw_all := lw_g (lw_at lw_m6 97 rfl) rfl
theorem q1358 : (Jvm.Cond.instanceMethod ({ cls := "YoungerBackModel", name := "copy", desc := "(IIIII)I" } : Jvm.MethodName)) ∈ lw_all := lw_g (lw_at lw_m6 99 rfl) rfl
theorem q1359 : (Jvm.Cond.selects "YoungerBackModel" ({ cls := "YoungerBackModel", name := "copy", desc := "(IIIII)I" } : Jvm.MethodName) ({ cls := "YoungerBackModel", name := "copy", desc := "(IIIII)I" } : Jvm.MethodName)) ∈ lw_all := lw_g (lw_at lw_m6 100 rfl) rfl
theorem q1360 : (Jvm.Cond.code ({ cls := "YoungerBackModel", name := "copy", desc := "(IIIII)I" } : Jvm.MethodName) prog_16_method_8_code (9 : Nat) (Option.some Jvm.ClassFile.FieldType.int)) ∈ lw_all := lw_g (lw_at lw_m6 101 rfl) rfl
theorem q1362 : (Jvm.Cond.instanceMethod ({ cls := "YoungerBackModel", name := "drop", desc := "(I)I" } : Jvm.MethodName)) ∈ lw_all := lw_g (lw_at lw_m6 103 rfl) rfl
theorem q1363 : (Jvm.Cond.selects "YoungerBackModel" ({ cls := "YoungerBackModel", name := "drop", desc := "(I)I" } : Jvm.MethodName) ({ cls := "YoungerBackModel", name := "drop", desc := "(I)I" } : Jvm.MethodName)) ∈ lw_all := lw_g (lw_at lw_m6 104 rfl) rfl
theorem q1364 : (Jvm.Cond.code ({ cls := "YoungerBackModel", name := "drop", desc := "(I)I" } : Jvm.MethodName) prog_16_method_9_code (2 : Nat) (Option.some Jvm.ClassFile.FieldType.int)) ∈ lw_all := lw_g (lw_at lw_m6 105 rfl) rfl
theorem q1366 : (Jvm.Cond.instanceMethod ({ cls := "YoungerBackModel", name := "feed", desc := "(JI)I" } : Jvm.MethodName)) ∈ lw_all := lw_g (lw_at lw_m6 107 rfl) rfl
theorem q1367 : (Jvm.Cond.selects "YoungerBackModel" ({ cls := "YoungerBackModel", name := "feed", desc := "(JI)I" } : Jvm.MethodName) ({ cls := "YoungerBackModel", name := "feed", desc := "(JI)I" } : Jvm.MethodName)) ∈ lw_all := lw_g (lw_at lw_m6 108 rfl) rfl
theorem q1368 : (Jvm.Cond.code ({ cls := "YoungerBackModel", name := "feed", desc := "(JI)I" } : Jvm.MethodName) prog_16_method_10_code (5 : Nat) (Option.some Jvm.ClassFile.FieldType.int)) ∈ lw_all := lw_g (lw_at lw_m6 109 rfl) rfl
theorem q1369 : (Jvm.Cond.constantLong "YoungerBackModel" (73 : Nat) (8 : Int64)) ∈ lw_all := lw_g (lw_at lw_m6 110 rfl) rfl
theorem q1370 : (Jvm.Cond.constant "YoungerBackModel" (78 : Nat) (-1000003 : Int32)) ∈ lw_all := lw_g (lw_at lw_m6 111 rfl) rfl
theorem q1371 : (Jvm.Cond.constantLong "YoungerBackModel" (79 : Nat) (255 : Int64)) ∈ lw_all := lw_g (lw_at lw_m6 112 rfl) rfl
theorem q1373 : (Jvm.Cond.instanceMethod ({ cls := "YoungerBackModel", name := "league", desc := "()I" } : Jvm.MethodName)) ∈ lw_all := lw_g (lw_at lw_m6 114 rfl) rfl
theorem q1374 : (Jvm.Cond.selects "YoungerBackModel" ({ cls := "YoungerBackModel", name := "league", desc := "()I" } : Jvm.MethodName) ({ cls := "YoungerBackModel", name := "league", desc := "()I" } : Jvm.MethodName)) ∈ lw_all := lw_g (lw_at lw_m6 115 rfl) rfl
theorem q1375 : (Jvm.Cond.code ({ cls := "YoungerBackModel", name := "league", desc := "()I" } : Jvm.MethodName) prog_16_method_26_code (2 : Nat) (Option.some Jvm.ClassFile.FieldType.int)) ∈ lw_all := lw_g (lw_at lw_m6 116 rfl) rfl
theorem q1376 : (Jvm.Cond.methodLink "YoungerBackModel" (156 : Nat) ({ cls := "YoungerBackModel", name := "begin", desc := "()V" } : Jvm.MethodName)) ∈ lw_all := lw_g (lw_at lw_m6 117 rfl) rfl
theorem q1377 : (Jvm.Cond.privateMethod ({ cls := "YoungerBackModel", name := "begin", desc := "()V" } : Jvm.MethodName)) ∈ lw_tbl := lw_at lw_m6 118 rfl
theorem q1378 : (Jvm.Cond.instanceMethod ({ cls := "YoungerBackModel", name := "begin", desc := "()V" } : Jvm.MethodName)) ∈ lw_all := lw_g (lw_at lw_m6 119 rfl) rfl
theorem q1379 : (Jvm.Cond.code ({ cls := "YoungerBackModel", name := "begin", desc := "()V" } : Jvm.MethodName) prog_16_method_15_code (1 : Nat) (Option.none : Option Jvm.ClassFile.FieldType)) ∈ lw_all := lw_g (lw_at lw_m6 120 rfl) rfl
theorem q1380 : (Jvm.Cond.methodLink "YoungerBackModel" (109 : Nat) ({ cls := "YoungerBackModel", name := "next", desc := "()V" } : Jvm.MethodName)) ∈ lw_all := lw_g (lw_at lw_m6 121 rfl) rfl
theorem q1381 : (Jvm.Cond.privateMethod ({ cls := "YoungerBackModel", name := "next", desc := "()V" } : Jvm.MethodName)) ∈ lw_tbl := lw_at lw_m6 122 rfl
theorem q1382 : (Jvm.Cond.instanceMethod ({ cls := "YoungerBackModel", name := "next", desc := "()V" } : Jvm.MethodName)) ∈ lw_all := lw_g (lw_at lw_m6 123 rfl) rfl
theorem q1383 : (Jvm.Cond.code ({ cls := "YoungerBackModel", name := "next", desc := "()V" } : Jvm.MethodName) prog_16_method_14_code (2 : Nat) (Option.none : Option Jvm.ClassFile.FieldType)) ∈ lw_all := lw_g (lw_at lw_m6 124 rfl) rfl
theorem q1384 : (Jvm.Cond.methodLink "YoungerBackModel" (88 : Nat) ({ cls := "YoungerBackModel", name := "byteAt", desc := "(I)I" } : Jvm.MethodName)) ∈ lw_all := lw_g (lw_at lw_m6 125 rfl) rfl
theorem q1385 : (Jvm.Cond.privateMethod ({ cls := "YoungerBackModel", name := "byteAt", desc := "(I)I" } : Jvm.MethodName)) ∈ lw_tbl := lw_at lw_m6 126 rfl
theorem q1386 : (Jvm.Cond.instanceMethod ({ cls := "YoungerBackModel", name := "byteAt", desc := "(I)I" } : Jvm.MethodName)) ∈ lw_all := lw_g (lw_at lw_m6 127 rfl) rfl
theorem q1387 : (Jvm.Cond.code ({ cls := "YoungerBackModel", name := "byteAt", desc := "(I)I" } : Jvm.MethodName) prog_16_method_11_code (2 : Nat) (Option.some Jvm.ClassFile.FieldType.int)) ∈ lw_all := lw_g (lw_at lw_m6 128 rfl) rfl
theorem q1388 : (Jvm.Cond.constant "YoungerBackModel" (84 : Nat) (-1000000 : Int32)) ∈ lw_all := lw_g (lw_at lw_m6 129 rfl) rfl
theorem q1389 : (Jvm.Cond.methodLink "YoungerBackModel" (97 : Nat) ({ cls := "YoungerBackModel", name := "isLetter", desc := "(I)Z" } : Jvm.MethodName)) ∈ lw_all := lw_g (lw_at lw_m6 130 rfl) rfl
theorem q1390 : (Jvm.Cond.static ({ cls := "YoungerBackModel", name := "isLetter", desc := "(I)Z" } : Jvm.MethodName)) ∈ lw_all := lw_g (lw_at lw_m6 131 rfl) rfl
theorem q1391 : (Jvm.Cond.code ({ cls := "YoungerBackModel", name := "isLetter", desc := "(I)Z" } : Jvm.MethodName) prog_16_method_12_code (1 : Nat) (Option.some Jvm.ClassFile.FieldType.boolean)) ∈ lw_all := lw_g (lw_at lw_m6 132 rfl) rfl
theorem q1392 : (Jvm.Cond.methodLink "YoungerBackModel" (100 : Nat) ({ cls := "YoungerBackModel", name := "isFigure", desc := "(I)Z" } : Jvm.MethodName)) ∈ lw_all := lw_g (lw_at lw_m6 133 rfl) rfl
theorem q1393 : (Jvm.Cond.static ({ cls := "YoungerBackModel", name := "isFigure", desc := "(I)Z" } : Jvm.MethodName)) ∈ lw_all := lw_g (lw_at lw_m6 134 rfl) rfl
theorem q1394 : (Jvm.Cond.code ({ cls := "YoungerBackModel", name := "isFigure", desc := "(I)Z" } : Jvm.MethodName) prog_16_method_13_code (1 : Nat) (Option.some Jvm.ClassFile.FieldType.boolean)) ∈ lw_all := lw_g (lw_at lw_m6 135 rfl) rfl
theorem q1395 : (Jvm.Cond.methodLink "YoungerBackModel" (148 : Nat) ({ cls := "YoungerBackModel", name := "name", desc := "()J" } : Jvm.MethodName)) ∈ lw_all := lw_g (lw_at lw_m6 136 rfl) rfl
theorem q1396 : (Jvm.Cond.privateMethod ({ cls := "YoungerBackModel", name := "name", desc := "()J" } : Jvm.MethodName)) ∈ lw_tbl := lw_at lw_m6 137 rfl
theorem q1397 : (Jvm.Cond.instanceMethod ({ cls := "YoungerBackModel", name := "name", desc := "()J" } : Jvm.MethodName)) ∈ lw_all := lw_g (lw_at lw_m6 138 rfl) rfl
theorem q1398 : (Jvm.Cond.code ({ cls := "YoungerBackModel", name := "name", desc := "()J" } : Jvm.MethodName) prog_16_method_18_code (4 : Nat) (Option.some Jvm.ClassFile.FieldType.long)) ∈ lw_all := lw_g (lw_at lw_m6 139 rfl) rfl
theorem q1399 : (Jvm.Cond.constantLong "YoungerBackModel" (159 : Nat) (7102839 : Int64)) ∈ lw_all := lw_g (lw_at lw_m6 140 rfl) rfl
theorem q1400 : (Jvm.Cond.methodLink "YoungerBackModel" (123 : Nat) ({ cls := "YoungerBackModel", name := "must", desc := "(Z)V" } : Jvm.MethodName)) ∈ lw_all := lw_g (lw_at lw_m6 141 rfl) rfl
theorem q1401 : (Jvm.Cond.privateMethod ({ cls := "YoungerBackModel", name := "must", desc := "(Z)V" } : Jvm.MethodName)) ∈ lw_tbl := lw_at lw_m6 142 rfl
theorem q1402 : (Jvm.Cond.instanceMethod ({ cls := "YoungerBackModel", name := "must", desc := "(Z)V" } : Jvm.MethodName)) ∈ lw_all := lw_g (lw_at lw_m6 143 rfl) rfl
theorem q1403 : (Jvm.Cond.code ({ cls := "YoungerBackModel", name := "must", desc := "(Z)V" } : Jvm.MethodName) prog_16_method_17_code (2 : Nat) (Option.none : Option Jvm.ClassFile.FieldType)) ∈ lw_all := lw_g (lw_at lw_m6 144 rfl) rfl
theorem q1404 : (Jvm.Cond.methodLink "YoungerBackModel" (115 : Nat) ({ cls := "YoungerBackModel", name := "bad", desc := "(I)V" } : Jvm.MethodName)) ∈ lw_all := lw_g (lw_at lw_m6 145 rfl) rfl
theorem q1405 : (Jvm.Cond.privateMethod ({ cls := "YoungerBackModel", name := "bad", desc := "(I)V" } : Jvm.MethodName)) ∈ lw_tbl := lw_at lw_m6 146 rfl
theorem q1406 : (Jvm.Cond.instanceMethod ({ cls := "YoungerBackModel", name := "bad", desc := "(I)V" } : Jvm.MethodName)) ∈ lw_all := lw_g (lw_at lw_m6 147 rfl) rfl
theorem q1407 : (Jvm.Cond.code ({ cls := "YoungerBackModel", name := "bad", desc := "(I)V" } : Jvm.MethodName) prog_16_method_16_code (2 : Nat) (Option.none : Option Jvm.ClassFile.FieldType)) ∈ lw_all := lw_g (lw_at lw_m6 148 rfl) rfl
theorem q1408 : (Jvm.Cond.methodLink "YoungerBackModel" (141 : Nat) ({ cls := "YoungerBackModel", name := "number", desc := "(II)I" } : Jvm.MethodName)) ∈ lw_all := lw_g (lw_at lw_m6 149 rfl) rfl
theorem q1409 : (Jvm.Cond.privateMethod ({ cls := "YoungerBackModel", name := "number", desc := "(II)I" } : Jvm.MethodName)) ∈ lw_tbl := lw_at lw_m6 150 rfl
theorem q1410 : (Jvm.Cond.instanceMethod ({ cls := "YoungerBackModel", name := "number", desc := "(II)I" } : Jvm.MethodName)) ∈ lw_all := lw_g (lw_at lw_m6 151 rfl) rfl
theorem q1411 : (Jvm.Cond.code ({ cls := "YoungerBackModel", name := "number", desc := "(II)I" } : Jvm.MethodName) prog_16_method_20_code (4 : Nat) (Option.some Jvm.ClassFile.FieldType.int)) ∈ lw_all := lw_g (lw_at lw_m6 152 rfl) rfl
theorem q1412 : (Jvm.Cond.methodLink "YoungerBackModel" (119 : Nat) ({ cls := "YoungerBackModel", name := "figures", desc := "()I" } : Jvm.MethodName)) ∈ lw_all := lw_g (lw_at lw_m6 153 rfl) rfl
theorem q1413 : (Jvm.Cond.privateMethod ({ cls := "YoungerBackModel", name := "figures", desc := "()I" } : Jvm.MethodName)) ∈ lw_tbl := lw_at lw_m6 154 rfl
theorem q1414 : (Jvm.Cond.instanceMethod ({ cls := "YoungerBackModel", name := "figures", desc := "()I" } : Jvm.MethodName)) ∈ lw_all := lw_g (lw_at lw_m6 155 rfl) rfl
theorem q1415 : (Jvm.Cond.code ({ cls := "YoungerBackModel", name := "figures", desc := "()I" } : Jvm.MethodName) prog_16_method_19_code (3 : Nat) (Option.some Jvm.ClassFile.FieldType.int)) ∈ lw_all := lw_g (lw_at lw_m6 156 rfl) rfl
theorem q1416 : (Jvm.Cond.methodLink "YoungerBackModel" (145 : Nat) ({ cls := "YoungerBackModel", name := "mustEnd", desc := "()V" } : Jvm.MethodName)) ∈ lw_all := lw_g (lw_at lw_m6 157 rfl) rfl
theorem q1417 : (Jvm.Cond.privateMethod ({ cls := "YoungerBackModel", name := "mustEnd", desc := "()V" } : Jvm.MethodName)) ∈ lw_tbl := lw_at lw_m6 158 rfl
theorem q1418 : (Jvm.Cond.instanceMethod ({ cls := "YoungerBackModel", name := "mustEnd", desc := "()V" } : Jvm.MethodName)) ∈ lw_all := lw_g (lw_at lw_m6 159 rfl) rfl
theorem q1419 : (Jvm.Cond.code ({ cls := "YoungerBackModel", name := "mustEnd", desc := "()V" } : Jvm.MethodName) prog_16_method_22_code (1 : Nat) (Option.none : Option Jvm.ClassFile.FieldType)) ∈ lw_all := lw_g (lw_at lw_m6 160 rfl) rfl
theorem q1420 : (Jvm.Cond.constantLong "YoungerBackModel" (161 : Nat) (7823737 : Int64)) ∈ lw_all := lw_g (lw_at lw_m6 161 rfl) rfl
theorem q1421 : (Jvm.Cond.methodLink "YoungerBackModel" (163 : Nat) ({ cls := "YoungerBackModel", name := "readWay", desc := "()V" } : Jvm.MethodName)) ∈ lw_all := lw_g (lw_at lw_m6 162 rfl) rfl
theorem q1422 : (Jvm.Cond.privateMethod ({ cls := "YoungerBackModel", name := "readWay", desc := "()V" } : Jvm.MethodName)) ∈ lw_tbl := lw_at lw_m6 163 rfl
theorem q1423 : (Jvm.Cond.instanceMethod ({ cls := "YoungerBackModel", name := "readWay", desc := "()V" } : Jvm.MethodName)) ∈ lw_all := lw_g (lw_at lw_m6 164 rfl) rfl
theorem q1424 : (Jvm.Cond.code ({ cls := "YoungerBackModel", name := "readWay", desc := "()V" } : Jvm.MethodName) prog_16_method_24_code (6 : Nat) (Option.none : Option Jvm.ClassFile.FieldType)) ∈ lw_all := lw_g (lw_at lw_m6 165 rfl) rfl
theorem q1425 : (Jvm.Cond.methodLink "YoungerBackModel" (137 : Nat) ({ cls := "YoungerBackModel", name := "begins", desc := "(II)V" } : Jvm.MethodName)) ∈ lw_all := lw_g (lw_at lw_m6 166 rfl) rfl
theorem q1426 : (Jvm.Cond.privateMethod ({ cls := "YoungerBackModel", name := "begins", desc := "(II)V" } : Jvm.MethodName)) ∈ lw_tbl := lw_at lw_m6 167 rfl
theorem q1427 : (Jvm.Cond.instanceMethod ({ cls := "YoungerBackModel", name := "begins", desc := "(II)V" } : Jvm.MethodName)) ∈ lw_all := lw_g (lw_at lw_m6 168 rfl) rfl
theorem q1428 : (Jvm.Cond.code ({ cls := "YoungerBackModel", name := "begins", desc := "(II)V" } : Jvm.MethodName) prog_16_method_23_code (3 : Nat) (Option.none : Option Jvm.ClassFile.FieldType)) ∈ lw_all := lw_g (lw_at lw_m6 169 rfl) rfl
theorem q1429 : (Jvm.Cond.constantLong "YoungerBackModel" (166 : Nat) (123581014175598 : Int64)) ∈ lw_all := lw_g (lw_at lw_m6 170 rfl) rfl
theorem q1430 : (Jvm.Cond.methodLink "YoungerBackModel" (168 : Nat) ({ cls := "YoungerBackModel", name := "readPerson", desc := "()V" } : Jvm.MethodName)) ∈ lw_all := lw_g (lw_at lw_m6 171 rfl) rfl
theorem q1431 : (Jvm.Cond.privateMethod ({ cls := "YoungerBackModel", name := "readPerson", desc := "()V" } : Jvm.MethodName)) ∈ lw_tbl := lw_at lw_m6 172 rfl
theorem q1432 : (Jvm.Cond.instanceMethod ({ cls := "YoungerBackModel", name := "readPerson", desc := "()V" } : Jvm.MethodName)) ∈ lw_all := lw_g (lw_at lw_m6 173 rfl) rfl
theorem q1433 : (Jvm.Cond.code ({ cls := "YoungerBackModel", name := "readPerson", desc := "()V" } : Jvm.MethodName) prog_16_method_25_code (5 : Nat) (Option.none : Option Jvm.ClassFile.FieldType)) ∈ lw_all := lw_g (lw_at lw_m6 174 rfl) rfl
theorem q1434 : (Jvm.Cond.methodLink "YoungerBackModel" (152 : Nat) ({ cls := "YoungerBackModel", name := "kindBy", desc := "(J)I" } : Jvm.MethodName)) ∈ lw_all := lw_g (lw_at lw_m6 175 rfl) rfl
theorem q1435 : (Jvm.Cond.static ({ cls := "YoungerBackModel", name := "kindBy", desc := "(J)I" } : Jvm.MethodName)) ∈ lw_all := lw_g (lw_at lw_m6 176 rfl) rfl
theorem q1436 : (Jvm.Cond.code ({ cls := "YoungerBackModel", name := "kindBy", desc := "(J)I" } : Jvm.MethodName) prog_16_method_21_code (2 : Nat) (Option.some Jvm.ClassFile.FieldType.int)) ∈ lw_all := lw_g (lw_at lw_m6 177 rfl) rfl
theorem q1437 : (Jvm.Cond.constantLong "YoungerBackModel" (127 : Nat) (27973158311127406 : Int64)) ∈ lw_all := lw_g (lw_at lw_m6 178 rfl) rfl
theorem q1438 : (Jvm.Cond.constantLong "YoungerBackModel" (129 : Nat) (482805051252 : Int64)) ∈ lw_all := lw_g (lw_at lw_m6 179 rfl) rfl
theorem q1439 : (Jvm.Cond.constantLong "YoungerBackModel" (131 : Nat) (1836019307 : Int64)) ∈ lw_all := lw_g (lw_at lw_m6 180 rfl) rfl
theorem q1440 : (Jvm.Cond.constantLong "YoungerBackModel" (133 : Nat) (427020350059 : Int64)) ∈ lw_all := lw_g (lw_at lw_m6 181 rfl) rfl
theorem q1441 : (Jvm.Cond.constantLong "YoungerBackModel" (135 : Nat) (6451065 : Int64)) ∈ lw_all := lw_g (lw_at lw_m6 182 rfl) rfl
theorem q1442 : (Jvm.Cond.constant "YoungerBackModel" (174 : Nat) (-1000100 : Int32)) ∈ lw_all := lw_g (lw_at lw_m6 183 rfl) rfl
theorem q1444 : (Jvm.Cond.instanceMethod ({ cls := "YoungerBackModel", name := "fault", desc := "()I" } : Jvm.MethodName)) ∈ lw_all := lw_g (lw_at lw_m6 185 rfl) rfl
theorem q1445 : (Jvm.Cond.selects "YoungerBackModel" ({ cls := "YoungerBackModel", name := "fault", desc := "()I" } : Jvm.MethodName) ({ cls := "YoungerBackModel", name := "fault", desc := "()I" } : Jvm.MethodName)) ∈ lw_all := lw_g (lw_at lw_m6 186 rfl) rfl
theorem q1446 : (Jvm.Cond.code ({ cls := "YoungerBackModel", name := "fault", desc := "()I" } : Jvm.MethodName) prog_16_method_27_code (1 : Nat) (Option.some Jvm.ClassFile.FieldType.int)) ∈ lw_all := lw_g (lw_at lw_m6 187 rfl) rfl
theorem q1448 : (Jvm.Cond.instanceMethod ({ cls := "YoungerBackModel", name := "sail", desc := "(II)I" } : Jvm.MethodName)) ∈ lw_all := lw_g (lw_at lw_m6 189 rfl) rfl
theorem q1449 : (Jvm.Cond.selects "YoungerBackModel" ({ cls := "YoungerBackModel", name := "sail", desc := "(II)I" } : Jvm.MethodName) ({ cls := "YoungerBackModel", name := "sail", desc := "(II)I" } : Jvm.MethodName)) ∈ lw_all := lw_g (lw_at lw_m6 190 rfl) rfl
theorem q1450 : (Jvm.Cond.code ({ cls := "YoungerBackModel", name := "sail", desc := "(II)I" } : Jvm.MethodName) prog_16_method_39_code (3 : Nat) (Option.some Jvm.ClassFile.FieldType.int)) ∈ lw_all := lw_g (lw_at lw_m6 191 rfl) rfl
theorem q1451 : (Jvm.Cond.methodLink "YoungerBackModel" (199 : Nat) ({ cls := "YoungerBackModel", name := "isPerson", desc := "(I)Z" } : Jvm.MethodName)) ∈ lw_all := lw_g (lw_at lw_m6 192 rfl) rfl
theorem q1452 : (Jvm.Cond.privateMethod ({ cls := "YoungerBackModel", name := "isPerson", desc := "(I)Z" } : Jvm.MethodName)) ∈ lw_tbl := lw_at lw_m6 193 rfl
theorem q1453 : (Jvm.Cond.instanceMethod ({ cls := "YoungerBackModel", name := "isPerson", desc := "(I)Z" } : Jvm.MethodName)) ∈ lw_all := lw_g (lw_at lw_m6 194 rfl) rfl
theorem q1454 : (Jvm.Cond.code ({ cls := "YoungerBackModel", name := "isPerson", desc := "(I)Z" } : Jvm.MethodName) prog_16_method_29_code (2 : Nat) (Option.some Jvm.ClassFile.FieldType.boolean)) ∈ lw_all := lw_g (lw_at lw_m6 195 rfl) rfl
theorem q1455 : (Jvm.Cond.methodLink "YoungerBackModel" (202 : Nat) ({ cls := "YoungerBackModel", name := "isWay", desc := "(I)Z" } : Jvm.MethodName)) ∈ lw_all := lw_g (lw_at lw_m6 196 rfl) rfl
theorem q1456 : (Jvm.Cond.privateMethod ({ cls := "YoungerBackModel", name := "isWay", desc := "(I)Z" } : Jvm.MethodName)) ∈ lw_tbl := lw_at lw_m6 197 rfl
theorem q1457 : (Jvm.Cond.instanceMethod ({ cls := "YoungerBackModel", name := "isWay", desc := "(I)Z" } : Jvm.MethodName)) ∈ lw_all := lw_g (lw_at lw_m6 198 rfl) rfl
theorem q1458 : (Jvm.Cond.code ({ cls := "YoungerBackModel", name := "isWay", desc := "(I)Z" } : Jvm.MethodName) prog_16_method_30_code (2 : Nat) (Option.some Jvm.ClassFile.FieldType.boolean)) ∈ lw_all := lw_g (lw_at lw_m6 199 rfl) rfl
theorem q1459 : (Jvm.Cond.methodLink "YoungerBackModel" (205 : Nat) ({ cls := "YoungerBackModel", name := "goes", desc := "(II)I" } : Jvm.MethodName)) ∈ lw_all := lw_g (lw_at lw_m6 200 rfl) rfl
theorem q1460 : (Jvm.Cond.privateMethod ({ cls := "YoungerBackModel", name := "goes", desc := "(II)I" } : Jvm.MethodName)) ∈ lw_tbl := lw_at lw_m6 201 rfl
theorem q1461 : (Jvm.Cond.instanceMethod ({ cls := "YoungerBackModel", name := "goes", desc := "(II)I" } : Jvm.MethodName)) ∈ lw_all := lw_g (lw_at lw_m6 202 rfl) rfl
theorem q1462 : (Jvm.Cond.code ({ cls := "YoungerBackModel", name := "goes", desc := "(II)I" } : Jvm.MethodName) prog_16_method_38_code (4 : Nat) (Option.some Jvm.ClassFile.FieldType.int)) ∈ lw_all := lw_g (lw_at lw_m6 203 rfl) rfl
theorem q1463 : (Jvm.Cond.methodLink "YoungerBackModel" (181 : Nat) ({ cls := "YoungerBackModel", name := "of", desc := "(II)I" } : Jvm.MethodName)) ∈ lw_all := lw_g (lw_at lw_m6 204 rfl) rfl
theorem q1464 : (Jvm.Cond.privateMethod ({ cls := "YoungerBackModel", name := "of", desc := "(II)I" } : Jvm.MethodName)) ∈ lw_tbl := lw_at lw_m6 205 rfl
theorem q1465 : (Jvm.Cond.instanceMethod ({ cls := "YoungerBackModel", name := "of", desc := "(II)I" } : Jvm.MethodName)) ∈ lw_all := lw_g (lw_at lw_m6 206 rfl) rfl
theorem q1466 : (Jvm.Cond.code ({ cls := "YoungerBackModel", name := "of", desc := "(II)I" } : Jvm.MethodName) prog_16_method_32_code (3 : Nat) (Option.some Jvm.ClassFile.FieldType.int)) ∈ lw_all := lw_g (lw_at lw_m6 207 rfl) rfl
theorem q1467 : (Jvm.Cond.methodLink "YoungerBackModel" (184 : Nat) ({ cls := "YoungerBackModel", name := "endOf", desc := "(III)I" } : Jvm.MethodName)) ∈ lw_all := lw_g (lw_at lw_m6 208 rfl) rfl
theorem q1468 : (Jvm.Cond.privateMethod ({ cls := "YoungerBackModel", name := "endOf", desc := "(III)I" } : Jvm.MethodName)) ∈ lw_tbl := lw_at lw_m6 209 rfl
theorem q1469 : (Jvm.Cond.instanceMethod ({ cls := "YoungerBackModel", name := "endOf", desc := "(III)I" } : Jvm.MethodName)) ∈ lw_all := lw_g (lw_at lw_m6 210 rfl) rfl
theorem q1470 : (Jvm.Cond.code ({ cls := "YoungerBackModel", name := "endOf", desc := "(III)I" } : Jvm.MethodName) prog_16_method_34_code (5 : Nat) (Option.some Jvm.ClassFile.FieldType.int)) ∈ lw_all := lw_g (lw_at lw_m6 211 rfl) rfl
theorem q1471 : (Jvm.Cond.methodLink "YoungerBackModel" (178 : Nat) ({ cls := "YoungerBackModel", name := "wayOf", desc := "(II)I" } : Jvm.MethodName)) ∈ lw_all := lw_g (lw_at lw_m6 212 rfl) rfl
theorem q1472 : (Jvm.Cond.privateMethod ({ cls := "YoungerBackModel", name := "wayOf", desc := "(II)I" } : Jvm.MethodName)) ∈ lw_tbl := lw_at lw_m6 213 rfl
theorem q1473 : (Jvm.Cond.instanceMethod ({ cls := "YoungerBackModel", name := "wayOf", desc := "(II)I" } : Jvm.MethodName)) ∈ lw_all := lw_g (lw_at lw_m6 214 rfl) rfl
theorem q1474 : (Jvm.Cond.code ({ cls := "YoungerBackModel", name := "wayOf", desc := "(II)I" } : Jvm.MethodName) prog_16_method_33_code (3 : Nat) (Option.some Jvm.ClassFile.FieldType.int)) ∈ lw_all := lw_g (lw_at lw_m6 215 rfl) rfl
theorem q1475 : (Jvm.Cond.constant "YoungerBackModel" (188 : Nat) (-1000002 : Int32)) ∈ lw_all := lw_g (lw_at lw_m6 216 rfl) rfl
theorem q1476 : (Jvm.Cond.methodLink "YoungerBackModel" (189 : Nat) ({ cls := "YoungerBackModel", name := "keep", desc := "()V" } : Jvm.MethodName)) ∈ lw_all := lw_g (lw_at lw_m6 217 rfl) rfl
theorem q1477 : (Jvm.Cond.privateMethod ({ cls := "YoungerBackModel", name := "keep", desc := "()V" } : Jvm.MethodName)) ∈ lw_tbl := lw_at lw_m6 218 rfl
theorem q1478 : (Jvm.Cond.instanceMethod ({ cls := "YoungerBackModel", name := "keep", desc := "()V" } : Jvm.MethodName)) ∈ lw_all := lw_g (lw_at lw_m6 219 rfl) rfl
theorem q1479 : (Jvm.Cond.code ({ cls := "YoungerBackModel", name := "keep", desc := "()V" } : Jvm.MethodName) prog_16_method_36_code (2 : Nat) (Option.none : Option Jvm.ClassFile.FieldType)) ∈ lw_all := lw_g (lw_at lw_m6 220 rfl) rfl
theorem q1480 : (Jvm.Cond.methodLink "YoungerBackModel" (192 : Nat) ({ cls := "YoungerBackModel", name := "agesBy", desc := "(II)I" } : Jvm.MethodName)) ∈ lw_all := lw_g (lw_at lw_m6 221 rfl) rfl
theorem q1481 : (Jvm.Cond.privateMethod ({ cls := "YoungerBackModel", name := "agesBy", desc := "(II)I" } : Jvm.MethodName)) ∈ lw_tbl := lw_at lw_m6 222 rfl
theorem q1482 : (Jvm.Cond.instanceMethod ({ cls := "YoungerBackModel", name := "agesBy", desc := "(II)I" } : Jvm.MethodName)) ∈ lw_all := lw_g (lw_at lw_m6 223 rfl) rfl
theorem q1483 : (Jvm.Cond.code ({ cls := "YoungerBackModel", name := "agesBy", desc := "(II)I" } : Jvm.MethodName) prog_16_method_35_code (4 : Nat) (Option.some Jvm.ClassFile.FieldType.int)) ∈ lw_all := lw_g (lw_at lw_m6 224 rfl) rfl
theorem q1484 : (Jvm.Cond.methodLink "YoungerBackModel" (195 : Nat) ({ cls := "YoungerBackModel", name := "ages", desc := "(III)V" } : Jvm.MethodName)) ∈ lw_all := lw_g (lw_at lw_m6 225 rfl) rfl
theorem q1485 : (Jvm.Cond.privateMethod ({ cls := "YoungerBackModel", name := "ages", desc := "(III)V" } : Jvm.MethodName)) ∈ lw_tbl := lw_at lw_m6 226 rfl
theorem q1486 : (Jvm.Cond.instanceMethod ({ cls := "YoungerBackModel", name := "ages", desc := "(III)V" } : Jvm.MethodName)) ∈ lw_all := lw_g (lw_at lw_m6 227 rfl) rfl
theorem q1487 : (Jvm.Cond.code ({ cls := "YoungerBackModel", name := "ages", desc := "(III)V" } : Jvm.MethodName) prog_16_method_37_code (4 : Nat) (Option.none : Option Jvm.ClassFile.FieldType)) ∈ lw_all := lw_g (lw_at lw_m6 228 rfl) rfl
theorem q1489 : (Jvm.Cond.instanceMethod ({ cls := "YoungerBackModel", name := "sails", desc := "(IIII)I" } : Jvm.MethodName)) ∈ lw_all := lw_g (lw_at lw_m6 230 rfl) rfl
theorem q1490 : (Jvm.Cond.selects "YoungerBackModel" ({ cls := "YoungerBackModel", name := "sails", desc := "(IIII)I" } : Jvm.MethodName) ({ cls := "YoungerBackModel", name := "sails", desc := "(IIII)I" } : Jvm.MethodName)) ∈ lw_all := lw_g (lw_at lw_m6 231 rfl) rfl
theorem q1491 : (Jvm.Cond.code ({ cls := "YoungerBackModel", name := "sails", desc := "(IIII)I" } : Jvm.MethodName) prog_16_method_40_code (6 : Nat) (Option.some Jvm.ClassFile.FieldType.int)) ∈ lw_all := lw_g (lw_at lw_m6 232 rfl) rfl
theorem q1492 : (Jvm.Cond.constantLong "YoungerBackModel" (208 : Nat) (24 : Int64)) ∈ lw_all := lw_g (lw_at lw_m6 233 rfl) rfl
theorem q1494 : (Jvm.Cond.instanceMethod ({ cls := "YoungerBackModel", name := "stay", desc := "(II)I" } : Jvm.MethodName)) ∈ lw_all := lw_g (lw_at lw_m6 235 rfl) rfl
theorem q1495 : (Jvm.Cond.selects "YoungerBackModel" ({ cls := "YoungerBackModel", name := "stay", desc := "(II)I" } : Jvm.MethodName) ({ cls := "YoungerBackModel", name := "stay", desc := "(II)I" } : Jvm.MethodName)) ∈ lw_all := lw_g (lw_at lw_m6 236 rfl) rfl
theorem q1496 : (Jvm.Cond.code ({ cls := "YoungerBackModel", name := "stay", desc := "(II)I" } : Jvm.MethodName) prog_16_method_41_code (3 : Nat) (Option.some Jvm.ClassFile.FieldType.int)) ∈ lw_all := lw_g (lw_at lw_m6 237 rfl) rfl
theorem q1497 : (Jvm.Cond.constantLong "YoungerBackModel" (210 : Nat) (99 : Int64)) ∈ lw_all := lw_g (lw_at lw_m6 238 rfl) rfl
theorem q1499 : (Jvm.Cond.instanceMethod ({ cls := "YoungerBackModel", name := "meet", desc := "(II)I" } : Jvm.MethodName)) ∈ lw_all := lw_g (lw_at lw_m7 0 rfl) rfl
theorem q1500 : (Jvm.Cond.selects "YoungerBackModel" ({ cls := "YoungerBackModel", name := "meet", desc := "(II)I" } : Jvm.MethodName) ({ cls := "YoungerBackModel", name := "meet", desc := "(II)I" } : Jvm.MethodName)) ∈ lw_all := lw_g (lw_at lw_m7 1 rfl) rfl
theorem q1501 : (Jvm.Cond.code ({ cls := "YoungerBackModel", name := "meet", desc := "(II)I" } : Jvm.MethodName) prog_16_method_42_code (4 : Nat) (Option.some Jvm.ClassFile.FieldType.int)) ∈ lw_all := lw_g (lw_at lw_m7 2 rfl) rfl
theorem q1503 : (Jvm.Cond.instanceMethod ({ cls := "YoungerBackModel", name := "borrow", desc := "(II)I" } : Jvm.MethodName)) ∈ lw_all := lw_g (lw_at lw_m7 4 rfl) rfl
theorem q1504 : (Jvm.Cond.selects "YoungerBackModel" ({ cls := "YoungerBackModel", name := "borrow", desc := "(II)I" } : Jvm.MethodName) ({ cls := "YoungerBackModel", name := "borrow", desc := "(II)I" } : Jvm.MethodName)) ∈ lw_all := lw_g (lw_at lw_m7 5 rfl) rfl
theorem q1505 : (Jvm.Cond.code ({ cls := "YoungerBackModel", name := "borrow", desc := "(II)I" } : Jvm.MethodName) prog_16_method_45_code (4 : Nat) (Option.some Jvm.ClassFile.FieldType.int)) ∈ lw_all := lw_g (lw_at lw_m7 6 rfl) rfl
theorem q1506 : (Jvm.Cond.constantLong "YoungerBackModel" (216 : Nat) (9999 : Int64)) ∈ lw_all := lw_g (lw_at lw_m7 7 rfl) rfl
theorem q1507 : (Jvm.Cond.methodLink "YoungerBackModel" (218 : Nat) ({ cls := "YoungerBackModel", name := "owedBy", desc := "(II)I" } : Jvm.MethodName)) ∈ lw_all := lw_g (lw_at lw_m7 8 rfl) rfl
theorem q1508 : (Jvm.Cond.privateMethod ({ cls := "YoungerBackModel", name := "owedBy", desc := "(II)I" } : Jvm.MethodName)) ∈ lw_tbl := lw_at lw_m7 9 rfl
theorem q1509 : (Jvm.Cond.instanceMethod ({ cls := "YoungerBackModel", name := "owedBy", desc := "(II)I" } : Jvm.MethodName)) ∈ lw_all := lw_g (lw_at lw_m7 10 rfl) rfl
theorem q1510 : (Jvm.Cond.code ({ cls := "YoungerBackModel", name := "owedBy", desc := "(II)I" } : Jvm.MethodName) prog_16_method_44_code (3 : Nat) (Option.some Jvm.ClassFile.FieldType.int)) ∈ lw_all := lw_g (lw_at lw_m7 11 rfl) rfl
theorem q1511 : (Jvm.Cond.methodLink "YoungerBackModel" (213 : Nat) ({ cls := "YoungerBackModel", name := "grown", desc := "(II)I" } : Jvm.MethodName)) ∈ lw_all := lw_g (lw_at lw_m7 12 rfl) rfl
theorem q1512 : (Jvm.Cond.privateMethod ({ cls := "YoungerBackModel", name := "grown", desc := "(II)I" } : Jvm.MethodName)) ∈ lw_tbl := lw_at lw_m7 13 rfl
theorem q1513 : (Jvm.Cond.instanceMethod ({ cls := "YoungerBackModel", name := "grown", desc := "(II)I" } : Jvm.MethodName)) ∈ lw_all := lw_g (lw_at lw_m7 14 rfl) rfl
theorem q1514 : (Jvm.Cond.code ({ cls := "YoungerBackModel", name := "grown", desc := "(II)I" } : Jvm.MethodName) prog_16_method_43_code (6 : Nat) (Option.some Jvm.ClassFile.FieldType.int)) ∈ lw_all := lw_g (lw_at lw_m7 15 rfl) rfl
theorem q1515 : (Jvm.Cond.constant "YoungerBackModel" (212 : Nat) (99999999 : Int32)) ∈ lw_all := lw_g (lw_at lw_m7 16 rfl) rfl
theorem q1517 : (Jvm.Cond.instanceMethod ({ cls := "YoungerBackModel", name := "undo", desc := "()I" } : Jvm.MethodName)) ∈ lw_all := lw_g (lw_at lw_m7 18 rfl) rfl
theorem q1518 : (Jvm.Cond.selects "YoungerBackModel" ({ cls := "YoungerBackModel", name := "undo", desc := "()I" } : Jvm.MethodName) ({ cls := "YoungerBackModel", name := "undo", desc := "()I" } : Jvm.MethodName)) ∈ lw_all := lw_g (lw_at lw_m7 19 rfl) rfl
theorem q1519 : (Jvm.Cond.code ({ cls := "YoungerBackModel", name := "undo", desc := "()I" } : Jvm.MethodName) prog_16_method_46_code (2 : Nat) (Option.some Jvm.ClassFile.FieldType.int)) ∈ lw_all := lw_g (lw_at lw_m7 20 rfl) rfl
theorem q1521 : (Jvm.Cond.instanceMethod ({ cls := "YoungerBackModel", name := "person", desc := "(II)I" } : Jvm.MethodName)) ∈ lw_all := lw_g (lw_at lw_m7 22 rfl) rfl
theorem q1522 : (Jvm.Cond.selects "YoungerBackModel" ({ cls := "YoungerBackModel", name := "person", desc := "(II)I" } : Jvm.MethodName) ({ cls := "YoungerBackModel", name := "person", desc := "(II)I" } : Jvm.MethodName)) ∈ lw_all := lw_g (lw_at lw_m7 23 rfl) rfl
theorem q1523 : (Jvm.Cond.code ({ cls := "YoungerBackModel", name := "person", desc := "(II)I" } : Jvm.MethodName) prog_16_method_47_code (3 : Nat) (Option.some Jvm.ClassFile.FieldType.int)) ∈ lw_all := lw_g (lw_at lw_m7 24 rfl) rfl
theorem q1524 : (Jvm.Cond.constantLong "YoungerBackModel" (221 : Nat) (5 : Int64)) ∈ lw_all := lw_g (lw_at lw_m7 25 rfl) rfl
theorem q1526 : (Jvm.Cond.instanceMethod ({ cls := "YoungerBackModel", name := "gains", desc := "(IIII)I" } : Jvm.MethodName)) ∈ lw_all := lw_g (lw_at lw_m7 27 rfl) rfl
theorem q1527 : (Jvm.Cond.selects "YoungerBackModel" ({ cls := "YoungerBackModel", name := "gains", desc := "(IIII)I" } : Jvm.MethodName) ({ cls := "YoungerBackModel", name := "gains", desc := "(IIII)I" } : Jvm.MethodName)) ∈ lw_all := lw_g (lw_at lw_m7 28 rfl) rfl
theorem q1528 : (Jvm.Cond.code ({ cls := "YoungerBackModel", name := "gains", desc := "(IIII)I" } : Jvm.MethodName) prog_16_method_49_code (9 : Nat) (Option.some Jvm.ClassFile.FieldType.int)) ∈ lw_all := lw_g (lw_at lw_m7 29 rfl) rfl
theorem q1529 : (Jvm.Cond.methodLink "YoungerBackModel" (223 : Nat) ({ cls := "YoungerBackModel", name := "isHarbour", desc := "(I)Z" } : Jvm.MethodName)) ∈ lw_all := lw_g (lw_at lw_m7 30 rfl) rfl
theorem q1530 : (Jvm.Cond.privateMethod ({ cls := "YoungerBackModel", name := "isHarbour", desc := "(I)Z" } : Jvm.MethodName)) ∈ lw_tbl := lw_at lw_m7 31 rfl
theorem q1531 : (Jvm.Cond.instanceMethod ({ cls := "YoungerBackModel", name := "isHarbour", desc := "(I)Z" } : Jvm.MethodName)) ∈ lw_all := lw_g (lw_at lw_m7 32 rfl) rfl
theorem q1532 : (Jvm.Cond.code ({ cls := "YoungerBackModel", name := "isHarbour", desc := "(I)Z" } : Jvm.MethodName) prog_16_method_31_code (2 : Nat) (Option.some Jvm.ClassFile.FieldType.boolean)) ∈ lw_all := lw_g (lw_at lw_m7 33 rfl) rfl
theorem q1533 : (Jvm.Cond.constantLong "YoungerBackModel" (226 : Nat) (40 : Int64)) ∈ lw_all := lw_g (lw_at lw_m7 34 rfl) rfl
theorem q1534 : (Jvm.Cond.methodLink "YoungerBackModel" (228 : Nat) ({ cls := "YoungerBackModel", name := "layGains", desc := "(I)V" } : Jvm.MethodName)) ∈ lw_all := lw_g (lw_at lw_m7 35 rfl) rfl
theorem q1535 : (Jvm.Cond.privateMethod ({ cls := "YoungerBackModel", name := "layGains", desc := "(I)V" } : Jvm.MethodName)) ∈ lw_tbl := lw_at lw_m7 36 rfl
theorem q1536 : (Jvm.Cond.instanceMethod ({ cls := "YoungerBackModel", name := "layGains", desc := "(I)V" } : Jvm.MethodName)) ∈ lw_all := lw_g (lw_at lw_m7 37 rfl) rfl
theorem q1537 : (Jvm.Cond.code ({ cls := "YoungerBackModel", name := "layGains", desc := "(I)V" } : Jvm.MethodName) prog_16_method_48_code (9 : Nat) (Option.none : Option Jvm.ClassFile.FieldType)) ∈ lw_all := lw_g (lw_at lw_m7 38 rfl) rfl
theorem q1539 : (Jvm.Cond.instanceMethod ({ cls := "YoungerBackModel", name := "soonest", desc := "(III)I" } : Jvm.MethodName)) ∈ lw_all := lw_g (lw_at lw_m7 40 rfl) rfl
theorem q1540 : (Jvm.Cond.selects "YoungerBackModel" ({ cls := "YoungerBackModel", name := "soonest", desc := "(III)I" } : Jvm.MethodName) ({ cls := "YoungerBackModel", name := "soonest", desc := "(III)I" } : Jvm.MethodName)) ∈ lw_all := lw_g (lw_at lw_m7 41 rfl) rfl
theorem q1541 : (Jvm.Cond.code ({ cls := "YoungerBackModel", name := "soonest", desc := "(III)I" } : Jvm.MethodName) prog_16_method_50_code (5 : Nat) (Option.some Jvm.ClassFile.FieldType.int)) ∈ lw_all := lw_g (lw_at lw_m7 42 rfl) rfl
theorem q1543 : (Jvm.Cond.instanceMethod ({ cls := "YoungerBackModel", name := "voyages", desc := "(II)I" } : Jvm.MethodName)) ∈ lw_all := lw_g (lw_at lw_m7 44 rfl) rfl
theorem q1544 : (Jvm.Cond.selects "YoungerBackModel" ({ cls := "YoungerBackModel", name := "voyages", desc := "(II)I" } : Jvm.MethodName) ({ cls := "YoungerBackModel", name := "voyages", desc := "(II)I" } : Jvm.MethodName)) ∈ lw_all := lw_g (lw_at lw_m7 45 rfl) rfl
theorem q1545 : (Jvm.Cond.code ({ cls := "YoungerBackModel", name := "voyages", desc := "(II)I" } : Jvm.MethodName) prog_16_method_51_code (9 : Nat) (Option.some Jvm.ClassFile.FieldType.int)) ∈ lw_all := lw_g (lw_at lw_m7 46 rfl) rfl
theorem q1547 : (Jvm.Cond.instanceMethod ({ cls := "YoungerBackModel", name := "even", desc := "(III)I" } : Jvm.MethodName)) ∈ lw_all := lw_g (lw_at lw_m7 48 rfl) rfl
theorem q1548 : (Jvm.Cond.selects "YoungerBackModel" ({ cls := "YoungerBackModel", name := "even", desc := "(III)I" } : Jvm.MethodName) ({ cls := "YoungerBackModel", name := "even", desc := "(III)I" } : Jvm.MethodName)) ∈ lw_all := lw_g (lw_at lw_m7 49 rfl) rfl
theorem q1549 : (Jvm.Cond.code ({ cls := "YoungerBackModel", name := "even", desc := "(III)I" } : Jvm.MethodName) prog_16_method_52_code (11 : Nat) (Option.some Jvm.ClassFile.FieldType.int)) ∈ lw_all := lw_g (lw_at lw_m7 50 rfl) rfl
theorem q1551 : (Jvm.Cond.instanceMethod ({ cls := "YoungerBackModel", name := "where", desc := "(III)I" } : Jvm.MethodName)) ∈ lw_all := lw_g (lw_at lw_m7 52 rfl) rfl
theorem q1552 : (Jvm.Cond.selects "YoungerBackModel" ({ cls := "YoungerBackModel", name := "where", desc := "(III)I" } : Jvm.MethodName) ({ cls := "YoungerBackModel", name := "where", desc := "(III)I" } : Jvm.MethodName)) ∈ lw_all := lw_g (lw_at lw_m7 53 rfl) rfl
theorem q1553 : (Jvm.Cond.code ({ cls := "YoungerBackModel", name := "where", desc := "(III)I" } : Jvm.MethodName) prog_16_method_53_code (8 : Nat) (Option.some Jvm.ClassFile.FieldType.int)) ∈ lw_all := lw_g (lw_at lw_m7 54 rfl) rfl
theorem q1554 : (Jvm.Cond.constantLong "YoungerBackModel" (231 : Nat) (200 : Int64)) ∈ lw_all := lw_g (lw_at lw_m7 55 rfl) rfl
theorem q1555 : (Jvm.Cond.constantLong "YoungerBackModel" (233 : Nat) (399 : Int64)) ∈ lw_all := lw_g (lw_at lw_m7 56 rfl) rfl
theorem q1557 : (Jvm.Cond.instanceMethod ({ cls := "YoungerBackModel", name := "gone", desc := "(I)I" } : Jvm.MethodName)) ∈ lw_all := lw_g (lw_at lw_m7 58 rfl) rfl
theorem q1558 : (Jvm.Cond.selects "YoungerBackModel" ({ cls := "YoungerBackModel", name := "gone", desc := "(I)I" } : Jvm.MethodName) ({ cls := "YoungerBackModel", name := "gone", desc := "(I)I" } : Jvm.MethodName)) ∈ lw_all := lw_g (lw_at lw_m7 59 rfl) rfl
theorem q1559 : (Jvm.Cond.code ({ cls := "YoungerBackModel", name := "gone", desc := "(I)I" } : Jvm.MethodName) prog_16_method_54_code (2 : Nat) (Option.some Jvm.ClassFile.FieldType.int)) ∈ lw_all := lw_g (lw_at lw_m7 60 rfl) rfl
theorem q1561 : (Jvm.Cond.instanceMethod ({ cls := "YoungerBackModel", name := "eldest", desc := "(I)I" } : Jvm.MethodName)) ∈ lw_all := lw_g (lw_at lw_m7 62 rfl) rfl
theorem q1562 : (Jvm.Cond.selects "YoungerBackModel" ({ cls := "YoungerBackModel", name := "eldest", desc := "(I)I" } : Jvm.MethodName) ({ cls := "YoungerBackModel", name := "eldest", desc := "(I)I" } : Jvm.MethodName)) ∈ lw_all := lw_g (lw_at lw_m7 63 rfl) rfl
theorem q1563 : (Jvm.Cond.code ({ cls := "YoungerBackModel", name := "eldest", desc := "(I)I" } : Jvm.MethodName) prog_16_method_55_code (5 : Nat) (Option.some Jvm.ClassFile.FieldType.int)) ∈ lw_all := lw_g (lw_at lw_m7 64 rfl) rfl
theorem q1564 : (Jvm.Cond.methodLink "YoungerBackModel" (235 : Nat) ({ cls := "YoungerBackModel", name := "isThere", desc := "()Z" } : Jvm.MethodName)) ∈ lw_all := lw_g (lw_at lw_m7 65 rfl) rfl
theorem q1565 : (Jvm.Cond.privateMethod ({ cls := "YoungerBackModel", name := "isThere", desc := "()Z" } : Jvm.MethodName)) ∈ lw_tbl := lw_at lw_m7 66 rfl
theorem q1566 : (Jvm.Cond.instanceMethod ({ cls := "YoungerBackModel", name := "isThere", desc := "()Z" } : Jvm.MethodName)) ∈ lw_all := lw_g (lw_at lw_m7 67 rfl) rfl
theorem q1567 : (Jvm.Cond.code ({ cls := "YoungerBackModel", name := "isThere", desc := "()Z" } : Jvm.MethodName) prog_16_method_28_code (1 : Nat) (Option.some Jvm.ClassFile.FieldType.boolean)) ∈ lw_all := lw_g (lw_at lw_m7 68 rfl) rfl
theorem q1569 : (Jvm.Cond.instanceMethod ({ cls := "YoungerBackModel", name := "image", desc := "(I)I" } : Jvm.MethodName)) ∈ lw_all := lw_g (lw_at lw_m7 70 rfl) rfl
theorem q1570 : (Jvm.Cond.selects "YoungerBackModel" ({ cls := "YoungerBackModel", name := "image", desc := "(I)I" } : Jvm.MethodName) ({ cls := "YoungerBackModel", name := "image", desc := "(I)I" } : Jvm.MethodName)) ∈ lw_all := lw_g (lw_at lw_m7 71 rfl) rfl
theorem q1571 : (Jvm.Cond.code ({ cls := "YoungerBackModel", name := "image", desc := "(I)I" } : Jvm.MethodName) prog_16_method_56_code (3 : Nat) (Option.some Jvm.ClassFile.FieldType.int)) ∈ lw_all := lw_g (lw_at lw_m7 72 rfl) rfl
theorem q1573 : (Jvm.Cond.instanceMethod ({ cls := "YoungerBackModel", name := "restore", desc := "(I)I" } : Jvm.MethodName)) ∈ lw_all := lw_g (lw_at lw_m7 74 rfl) rfl
theorem q1574 : (Jvm.Cond.selects "YoungerBackModel" ({ cls := "YoungerBackModel", name := "restore", desc := "(I)I" } : Jvm.MethodName) ({ cls := "YoungerBackModel", name := "restore", desc := "(I)I" } : Jvm.MethodName)) ∈ lw_all := lw_g (lw_at lw_m7 75 rfl) rfl
theorem q1575 : (Jvm.Cond.code ({ cls := "YoungerBackModel", name := "restore", desc := "(I)I" } : Jvm.MethodName) prog_16_method_57_code (3 : Nat) (Option.some Jvm.ClassFile.FieldType.int)) ∈ lw_all := lw_g (lw_at lw_m7 76 rfl) rfl
theorem q1577 : (Jvm.Cond.instanceMethod ({ cls := "YoungerBackModel", name := "kind", desc := "(I)I" } : Jvm.MethodName)) ∈ lw_all := lw_g (lw_at lw_m7 78 rfl) rfl
theorem q1578 : (Jvm.Cond.selects "YoungerBackModel" ({ cls := "YoungerBackModel", name := "kind", desc := "(I)I" } : Jvm.MethodName) ({ cls := "YoungerBackModel", name := "kind", desc := "(I)I" } : Jvm.MethodName)) ∈ lw_all := lw_g (lw_at lw_m7 79 rfl) rfl
theorem q1579 : (Jvm.Cond.code ({ cls := "YoungerBackModel", name := "kind", desc := "(I)I" } : Jvm.MethodName) prog_16_method_59_code (2 : Nat) (Option.some Jvm.ClassFile.FieldType.int)) ∈ lw_all := lw_g (lw_at lw_m7 80 rfl) rfl
theorem q1581 : (Jvm.Cond.instanceMethod ({ cls := "YoungerBackModel", name := "as", desc := "(II)I" } : Jvm.MethodName)) ∈ lw_all := lw_g (lw_at lw_m7 82 rfl) rfl
theorem q1582 : (Jvm.Cond.selects "YoungerBackModel" ({ cls := "YoungerBackModel", name := "as", desc := "(II)I" } : Jvm.MethodName) ({ cls := "YoungerBackModel", name := "as", desc := "(II)I" } : Jvm.MethodName)) ∈ lw_all := lw_g (lw_at lw_m7 83 rfl) rfl
theorem q1583 : (Jvm.Cond.code ({ cls := "YoungerBackModel", name := "as", desc := "(II)I" } : Jvm.MethodName) prog_16_method_60_code (3 : Nat) (Option.some Jvm.ClassFile.FieldType.int)) ∈ lw_all := lw_g (lw_at lw_m7 84 rfl) rfl
theorem q1584 : (Jvm.Cond.methodLink "YoungerBackModel" (239 : Nat) ({ cls := "YoungerBackModel", name := "isOf", desc := "(II)Z" } : Jvm.MethodName)) ∈ lw_all := lw_g (lw_at lw_m7 85 rfl) rfl
theorem q1585 : (Jvm.Cond.static ({ cls := "YoungerBackModel", name := "isOf", desc := "(II)Z" } : Jvm.MethodName)) ∈ lw_all := lw_g (lw_at lw_m7 86 rfl) rfl
theorem q1586 : (Jvm.Cond.code ({ cls := "YoungerBackModel", name := "isOf", desc := "(II)Z" } : Jvm.MethodName) prog_16_method_58_code (2 : Nat) (Option.some Jvm.ClassFile.FieldType.boolean)) ∈ lw_all := lw_g (lw_at lw_m7 87 rfl) rfl
theorem q1588 : (Jvm.Cond.instanceMethod ({ cls := "YoungerBackModel", name := "ask", desc := "(II)I" } : Jvm.MethodName)) ∈ lw_all := lw_g (lw_at lw_m7 89 rfl) rfl
theorem q1589 : (Jvm.Cond.selects "YoungerBackModel" ({ cls := "YoungerBackModel", name := "ask", desc := "(II)I" } : Jvm.MethodName) ({ cls := "YoungerBackModel", name := "ask", desc := "(II)I" } : Jvm.MethodName)) ∈ lw_all := lw_g (lw_at lw_m7 90 rfl) rfl
theorem q1590 : (Jvm.Cond.code ({ cls := "YoungerBackModel", name := "ask", desc := "(II)I" } : Jvm.MethodName) prog_16_method_66_code (3 : Nat) (Option.some Jvm.ClassFile.FieldType.int)) ∈ lw_all := lw_g (lw_at lw_m7 91 rfl) rfl
theorem q1591 : (Jvm.Cond.methodLink "YoungerBackModel" (258 : Nat) ({ cls := "YoungerBackModel", name := "sizeOf", desc := "(I)I" } : Jvm.MethodName)) ∈ lw_all := lw_g (lw_at lw_m7 92 rfl) rfl
theorem q1592 : (Jvm.Cond.privateMethod ({ cls := "YoungerBackModel", name := "sizeOf", desc := "(I)I" } : Jvm.MethodName)) ∈ lw_tbl := lw_at lw_m7 93 rfl
theorem q1593 : (Jvm.Cond.instanceMethod ({ cls := "YoungerBackModel", name := "sizeOf", desc := "(I)I" } : Jvm.MethodName)) ∈ lw_all := lw_g (lw_at lw_m7 94 rfl) rfl
theorem q1594 : (Jvm.Cond.code ({ cls := "YoungerBackModel", name := "sizeOf", desc := "(I)I" } : Jvm.MethodName) prog_16_method_65_code (4 : Nat) (Option.some Jvm.ClassFile.FieldType.int)) ∈ lw_all := lw_g (lw_at lw_m7 95 rfl) rfl
theorem q1595 : (Jvm.Cond.methodLink "YoungerBackModel" (252 : Nat) ({ cls := "YoungerBackModel", name := "clerkSize", desc := "(I)I" } : Jvm.MethodName)) ∈ lw_all := lw_g (lw_at lw_m7 96 rfl) rfl
theorem q1596 : (Jvm.Cond.privateMethod ({ cls := "YoungerBackModel", name := "clerkSize", desc := "(I)I" } : Jvm.MethodName)) ∈ lw_tbl := lw_at lw_m7 97 rfl
theorem q1597 : (Jvm.Cond.instanceMethod ({ cls := "YoungerBackModel", name := "clerkSize", desc := "(I)I" } : Jvm.MethodName)) ∈ lw_all := lw_g (lw_at lw_m7 98 rfl) rfl
theorem q1598 : (Jvm.Cond.code ({ cls := "YoungerBackModel", name := "clerkSize", desc := "(I)I" } : Jvm.MethodName) prog_16_method_63_code (3 : Nat) (Option.some Jvm.ClassFile.FieldType.int)) ∈ lw_all := lw_g (lw_at lw_m7 99 rfl) rfl
theorem q1599 : (Jvm.Cond.methodLink "YoungerBackModel" (246 : Nat) ({ cls := "YoungerBackModel", name := "began", desc := "(I)V" } : Jvm.MethodName)) ∈ lw_all := lw_g (lw_at lw_m7 100 rfl) rfl
theorem q1600 : (Jvm.Cond.privateMethod ({ cls := "YoungerBackModel", name := "began", desc := "(I)V" } : Jvm.MethodName)) ∈ lw_tbl := lw_at lw_m7 101 rfl
theorem q1601 : (Jvm.Cond.instanceMethod ({ cls := "YoungerBackModel", name := "began", desc := "(I)V" } : Jvm.MethodName)) ∈ lw_all := lw_g (lw_at lw_m7 102 rfl) rfl
theorem q1602 : (Jvm.Cond.code ({ cls := "YoungerBackModel", name := "began", desc := "(I)V" } : Jvm.MethodName) prog_16_method_61_code (2 : Nat) (Option.none : Option Jvm.ClassFile.FieldType)) ∈ lw_all := lw_g (lw_at lw_m7 103 rfl) rfl
theorem q1603 : (Jvm.Cond.methodLink "YoungerBackModel" (249 : Nat) ({ cls := "YoungerBackModel", name := "plainSize", desc := "(I)I" } : Jvm.MethodName)) ∈ lw_all := lw_g (lw_at lw_m7 104 rfl) rfl
theorem q1604 : (Jvm.Cond.privateMethod ({ cls := "YoungerBackModel", name := "plainSize", desc := "(I)I" } : Jvm.MethodName)) ∈ lw_tbl := lw_at lw_m7 105 rfl
theorem q1605 : (Jvm.Cond.instanceMethod ({ cls := "YoungerBackModel", name := "plainSize", desc := "(I)I" } : Jvm.MethodName)) ∈ lw_all := lw_g (lw_at lw_m7 106 rfl) rfl
theorem q1606 : (Jvm.Cond.code ({ cls := "YoungerBackModel", name := "plainSize", desc := "(I)I" } : Jvm.MethodName) prog_16_method_62_code (2 : Nat) (Option.some Jvm.ClassFile.FieldType.int)) ∈ lw_all := lw_g (lw_at lw_m7 107 rfl) rfl
theorem q1607 : (Jvm.Cond.methodLink "YoungerBackModel" (255 : Nat) ({ cls := "YoungerBackModel", name := "markOf", desc := "(I)I" } : Jvm.MethodName)) ∈ lw_all := lw_g (lw_at lw_m7 108 rfl) rfl
theorem q1608 : (Jvm.Cond.privateMethod ({ cls := "YoungerBackModel", name := "markOf", desc := "(I)I" } : Jvm.MethodName)) ∈ lw_tbl := lw_at lw_m7 109 rfl
theorem q1609 : (Jvm.Cond.instanceMethod ({ cls := "YoungerBackModel", name := "markOf", desc := "(I)I" } : Jvm.MethodName)) ∈ lw_all := lw_g (lw_at lw_m7 110 rfl) rfl
theorem q1610 : (Jvm.Cond.code ({ cls := "YoungerBackModel", name := "markOf", desc := "(I)I" } : Jvm.MethodName) prog_16_method_64_code (4 : Nat) (Option.some Jvm.ClassFile.FieldType.int)) ∈ lw_all := lw_g (lw_at lw_m7 111 rfl) rfl
theorem q1612 : (Jvm.Cond.instanceMethod ({ cls := "YoungerBackModel", name := "trace", desc := "(I)I" } : Jvm.MethodName)) ∈ lw_all := lw_g (lw_at lw_m7 113 rfl) rfl
theorem q1613 : (Jvm.Cond.selects "YoungerBackModel" ({ cls := "YoungerBackModel", name := "trace", desc := "(I)I" } : Jvm.MethodName) ({ cls := "YoungerBackModel", name := "trace", desc := "(I)I" } : Jvm.MethodName)) ∈ lw_all := lw_g (lw_at lw_m7 114 rfl) rfl
theorem q1614 : (Jvm.Cond.code ({ cls := "YoungerBackModel", name := "trace", desc := "(I)I" } : Jvm.MethodName) prog_16_method_67_code (2 : Nat) (Option.some Jvm.ClassFile.FieldType.int)) ∈ lw_all := lw_g (lw_at lw_m7 115 rfl) rfl
theorem q1616 : (Jvm.Cond.instanceMethod ({ cls := "YoungerBackModel", name := "count", desc := "(I)I" } : Jvm.MethodName)) ∈ lw_all := lw_g (lw_at lw_m7 117 rfl) rfl
theorem q1617 : (Jvm.Cond.selects "YoungerBackModel" ({ cls := "YoungerBackModel", name := "count", desc := "(I)I" } : Jvm.MethodName) ({ cls := "YoungerBackModel", name := "count", desc := "(I)I" } : Jvm.MethodName)) ∈ lw_all := lw_g (lw_at lw_m7 118 rfl) rfl
theorem q1618 : (Jvm.Cond.code ({ cls := "YoungerBackModel", name := "count", desc := "(I)I" } : Jvm.MethodName) prog_16_method_68_code (4 : Nat) (Option.some Jvm.ClassFile.FieldType.int)) ∈ lw_all := lw_g (lw_at lw_m7 119 rfl) rfl
theorem q1620 : (Jvm.Cond.instanceMethod ({ cls := "YoungerBackModel", name := "status", desc := "()I" } : Jvm.MethodName)) ∈ lw_all := lw_g (lw_at lw_m7 121 rfl) rfl
theorem q1621 : (Jvm.Cond.selects "YoungerBackModel" ({ cls := "YoungerBackModel", name := "status", desc := "()I" } : Jvm.MethodName) ({ cls := "YoungerBackModel", name := "status", desc := "()I" } : Jvm.MethodName)) ∈ lw_all := lw_g (lw_at lw_m7 122 rfl) rfl
theorem q1622 : (Jvm.Cond.code ({ cls := "YoungerBackModel", name := "status", desc := "()I" } : Jvm.MethodName) prog_16_method_69_code (1 : Nat) (Option.some Jvm.ClassFile.FieldType.int)) ∈ lw_all := lw_g (lw_at lw_m7 123 rfl) rfl
theorem q1649 : (Jvm.Cond.castable "YoungerBackModel" "java/lang/Object") ∈ lw_tbl := lw_at lw_m7 150 rfl
theorem in_X3 : ∀ w ∈ wsX30, w ∈ lw_all := lw_in wsX30 [1283, 1285, 1287, 1289, 1291, 1293, 1295, 1297, 1299, 1301, 1303, 1305, 1307, 1309, 1311, 1313, 1315, 1317, 1319, 1321, 1323, 1325, 1327, 1329, 1331] (by decide +kernel) (by decide +kernel)
