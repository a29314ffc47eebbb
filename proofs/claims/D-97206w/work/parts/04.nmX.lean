/-! YoungerBack$League -/
set_option maxRecDepth 100000
def RX1 : String := "YoungerBack$League"
def TX1 : u_T := fun k => match k with
  | 0 => ("YoungerBack$League", "harbours", "I", false)
  | 1 => ("YoungerBack$League", "rate", "I", false)
  | 2 => ("YoungerBack$League", "ways", "I", false)
  | 3 => ("YoungerBack$League", "a", "[I", true)
  | 4 => ("YoungerBack$League", "b", "[I", true)
  | 5 => ("YoungerBack$League", "shore", "[I", true)
  | 6 => ("YoungerBack$League", "own", "[I", true)
  | 7 => ("YoungerBack$League", "people", "Ljava/util/List;", false)
  | 8 => ("YoungerBack$League", "at", "[I", true)
  | 9 => ("YoungerBack$League", "hour", "[I", true)
  | 10 => ("YoungerBack$League", "age", "[I", true)
  | 11 => ("YoungerBack$League", "sum", "[I", true)
  | 12 => ("YoungerBack$League", "since", "[I", true)
  | _ => ("YoungerBack$League", "aged", "[I", true)
def tyX1 : Nat → FieldType := fun k => match k with
  | 0 => .int
  | 1 => .int
  | 2 => .int
  | 3 => .array .int
  | 4 => .array .int
  | 5 => .array .int
  | 6 => .array .int
  | 7 => .object "java/util/List"
  | 8 => .array .int
  | 9 => .array .int
  | 10 => .array .int
  | 11 => .array .int
  | 12 => .array .int
  | _ => .array .int
abbrev wsX10 : List Cond := u_ws RX1 TX1 14
set_option maxRecDepth 100000 in
theorem nmX1 : ∀ a, a < 14 → ∀ b, b < 14 → a ≠ b → (TX1 a).2.1 ≠ (TX1 b).2.1 := by decide +kernel
set_option maxRecDepth 100000 in
theorem tyX1_ok : ∀ k, k < 14 → parseFieldDescriptor (TX1 k).2.2.1 = some (tyX1 k) := by decide +kernel
abbrev cX1_init : ByteArray := prog_7_method_1_code
def yX1_init : MethodName := ⟨RX1, "<init>", "()V"⟩
def dkwX1_init_3 : List UInt8 := [188, 10, 181, 0, 40, 42, 7, 188, 10, 181, 0, 43, 42, 7, 188, 10, 181, 0, 46, 177]
abbrev dktX1_init_3 : List UInt8 := dkwX1_init_3 ++ []
def dkwX1_init_2 : List UInt8 := [42, 7, 188, 10, 181, 0, 31, 42, 7, 188, 10, 181, 0, 34, 42, 7, 188, 10, 181, 0, 37, 42, 7]
abbrev dktX1_init_2 : List UInt8 := dkwX1_init_2 ++ dktX1_init_3
def dkwX1_init_1 : List UInt8 := [188, 10, 181, 0, 18, 42, 16, 8, 188, 10, 181, 0, 21, 42, 187, 0, 24, 89, 183, 0, 26, 181, 0, 27]
abbrev dktX1_init_1 : List UInt8 := dkwX1_init_1 ++ dktX1_init_2
def dkwX1_init_0 : List UInt8 := [42, 183, 0, 3, 42, 16, 8, 188, 10, 181, 0, 9, 42, 16, 8, 188, 10, 181, 0, 15, 42, 16, 8]
abbrev dktX1_init_0 : List UInt8 := dkwX1_init_0 ++ dktX1_init_1
theorem dksX1_init_0 : cX1_init.data.toList.drop 0 = dktX1_init_0 := by decide +kernel
theorem dksX1_init_1 : cX1_init.data.toList.drop 23 = dktX1_init_1 := dk_seg dksX1_init_0 23 rfl rfl
theorem dksX1_init_2 : cX1_init.data.toList.drop 47 = dktX1_init_2 := dk_seg dksX1_init_1 24 rfl rfl
theorem dksX1_init_3 : cX1_init.data.toList.drop 70 = dktX1_init_3 := dk_seg dksX1_init_2 23 rfl rfl
theorem dX1_init_0 : decode cX1_init 0 = .ok (.aload_n 0, 1) := dk_42 (dk_at dksX1_init_0 0 rfl rfl)
theorem dX1_init_1 : decode cX1_init 1 = .ok (.invokespecial 3, 3) := dk_183 0 3 (dk_at dksX1_init_0 1 rfl rfl)
theorem dX1_init_4 : decode cX1_init 4 = .ok (.aload_n 0, 1) := dk_42 (dk_at dksX1_init_0 4 rfl rfl)
theorem dX1_init_5 : decode cX1_init 5 = .ok (.bipush 8, 2) := dk_16 8 (dk_at dksX1_init_0 5 rfl rfl)
theorem dX1_init_7 : decode cX1_init 7 = .ok (.newarray .int, 2) := dk_188_10 (dk_at dksX1_init_0 7 rfl rfl)
theorem dX1_init_9 : decode cX1_init 9 = .ok (.putfield 9, 3) := dk_181 0 9 (dk_at dksX1_init_0 9 rfl rfl)
theorem dX1_init_12 : decode cX1_init 12 = .ok (.aload_n 0, 1) := dk_42 (dk_at dksX1_init_0 12 rfl rfl)
theorem dX1_init_13 : decode cX1_init 13 = .ok (.bipush 8, 2) := dk_16 8 (dk_at dksX1_init_0 13 rfl rfl)
theorem dX1_init_15 : decode cX1_init 15 = .ok (.newarray .int, 2) := dk_188_10 (dk_at dksX1_init_0 15 rfl rfl)
theorem dX1_init_17 : decode cX1_init 17 = .ok (.putfield 15, 3) := dk_181 0 15 (dk_at dksX1_init_0 17 rfl rfl)
theorem dX1_init_20 : decode cX1_init 20 = .ok (.aload_n 0, 1) := dk_42 (dk_at dksX1_init_0 20 rfl rfl)
theorem dX1_init_21 : decode cX1_init 21 = .ok (.bipush 8, 2) := dk_16 8 (dk_at dksX1_init_0 21 rfl rfl)
theorem dX1_init_23 : decode cX1_init 23 = .ok (.newarray .int, 2) := dk_188_10 (dk_at dksX1_init_1 0 rfl rfl)
theorem dX1_init_25 : decode cX1_init 25 = .ok (.putfield 18, 3) := dk_181 0 18 (dk_at dksX1_init_1 2 rfl rfl)
theorem dX1_init_28 : decode cX1_init 28 = .ok (.aload_n 0, 1) := dk_42 (dk_at dksX1_init_1 5 rfl rfl)
theorem dX1_init_29 : decode cX1_init 29 = .ok (.bipush 8, 2) := dk_16 8 (dk_at dksX1_init_1 6 rfl rfl)
theorem dX1_init_31 : decode cX1_init 31 = .ok (.newarray .int, 2) := dk_188_10 (dk_at dksX1_init_1 8 rfl rfl)
theorem dX1_init_33 : decode cX1_init 33 = .ok (.putfield 21, 3) := dk_181 0 21 (dk_at dksX1_init_1 10 rfl rfl)
theorem dX1_init_36 : decode cX1_init 36 = .ok (.aload_n 0, 1) := dk_42 (dk_at dksX1_init_1 13 rfl rfl)
theorem dX1_init_37 : decode cX1_init 37 = .ok (.new 24, 3) := dk_187 0 24 (dk_at dksX1_init_1 14 rfl rfl)
theorem dX1_init_40 : decode cX1_init 40 = .ok (.dup, 1) := dk_89 (dk_at dksX1_init_1 17 rfl rfl)
theorem dX1_init_41 : decode cX1_init 41 = .ok (.invokespecial 26, 3) := dk_183 0 26 (dk_at dksX1_init_1 18 rfl rfl)
theorem dX1_init_44 : decode cX1_init 44 = .ok (.putfield 27, 3) := dk_181 0 27 (dk_at dksX1_init_1 21 rfl rfl)
theorem dX1_init_47 : decode cX1_init 47 = .ok (.aload_n 0, 1) := dk_42 (dk_at dksX1_init_2 0 rfl rfl)
theorem dX1_init_48 : decode cX1_init 48 = .ok (.iconst 4, 1) := dk_7 (dk_at dksX1_init_2 1 rfl rfl)
theorem dX1_init_49 : decode cX1_init 49 = .ok (.newarray .int, 2) := dk_188_10 (dk_at dksX1_init_2 2 rfl rfl)
theorem dX1_init_51 : decode cX1_init 51 = .ok (.putfield 31, 3) := dk_181 0 31 (dk_at dksX1_init_2 4 rfl rfl)
theorem dX1_init_54 : decode cX1_init 54 = .ok (.aload_n 0, 1) := dk_42 (dk_at dksX1_init_2 7 rfl rfl)
theorem dX1_init_55 : decode cX1_init 55 = .ok (.iconst 4, 1) := dk_7 (dk_at dksX1_init_2 8 rfl rfl)
theorem dX1_init_56 : decode cX1_init 56 = .ok (.newarray .int, 2) := dk_188_10 (dk_at dksX1_init_2 9 rfl rfl)
theorem dX1_init_58 : decode cX1_init 58 = .ok (.putfield 34, 3) := dk_181 0 34 (dk_at dksX1_init_2 11 rfl rfl)
theorem dX1_init_61 : decode cX1_init 61 = .ok (.aload_n 0, 1) := dk_42 (dk_at dksX1_init_2 14 rfl rfl)
theorem dX1_init_62 : decode cX1_init 62 = .ok (.iconst 4, 1) := dk_7 (dk_at dksX1_init_2 15 rfl rfl)
theorem dX1_init_63 : decode cX1_init 63 = .ok (.newarray .int, 2) := dk_188_10 (dk_at dksX1_init_2 16 rfl rfl)
theorem dX1_init_65 : decode cX1_init 65 = .ok (.putfield 37, 3) := dk_181 0 37 (dk_at dksX1_init_2 18 rfl rfl)
theorem dX1_init_68 : decode cX1_init 68 = .ok (.aload_n 0, 1) := dk_42 (dk_at dksX1_init_2 21 rfl rfl)
theorem dX1_init_69 : decode cX1_init 69 = .ok (.iconst 4, 1) := dk_7 (dk_at dksX1_init_2 22 rfl rfl)
theorem dX1_init_70 : decode cX1_init 70 = .ok (.newarray .int, 2) := dk_188_10 (dk_at dksX1_init_3 0 rfl rfl)
theorem dX1_init_72 : decode cX1_init 72 = .ok (.putfield 40, 3) := dk_181 0 40 (dk_at dksX1_init_3 2 rfl rfl)
theorem dX1_init_75 : decode cX1_init 75 = .ok (.aload_n 0, 1) := dk_42 (dk_at dksX1_init_3 5 rfl rfl)
theorem dX1_init_76 : decode cX1_init 76 = .ok (.iconst 4, 1) := dk_7 (dk_at dksX1_init_3 6 rfl rfl)
theorem dX1_init_77 : decode cX1_init 77 = .ok (.newarray .int, 2) := dk_188_10 (dk_at dksX1_init_3 7 rfl rfl)
theorem dX1_init_79 : decode cX1_init 79 = .ok (.putfield 43, 3) := dk_181 0 43 (dk_at dksX1_init_3 9 rfl rfl)
theorem dX1_init_82 : decode cX1_init 82 = .ok (.aload_n 0, 1) := dk_42 (dk_at dksX1_init_3 12 rfl rfl)
theorem dX1_init_83 : decode cX1_init 83 = .ok (.iconst 4, 1) := dk_7 (dk_at dksX1_init_3 13 rfl rfl)
theorem dX1_init_84 : decode cX1_init 84 = .ok (.newarray .int, 2) := dk_188_10 (dk_at dksX1_init_3 14 rfl rfl)
theorem dX1_init_86 : decode cX1_init 86 = .ok (.putfield 46, 3) := dk_181 0 46 (dk_at dksX1_init_3 16 rfl rfl)
theorem dX1_init_89 : decode cX1_init 89 = .ok (.return_, 1) := dk_177 (dk_at dksX1_init_3 19 rfl rfl)
abbrev cX1_many : ByteArray := prog_7_method_3_code
def yX1_many : MethodName := ⟨RX1, "many", "()I"⟩
def dkwX1_many_0 : List UInt8 := [42, 180, 0, 27, 185, 0, 65, 1, 0, 172]
abbrev dktX1_many_0 : List UInt8 := dkwX1_many_0 ++ []
theorem dksX1_many_0 : cX1_many.data.toList.drop 0 = dktX1_many_0 := by decide +kernel
theorem dX1_many_0 : decode cX1_many 0 = .ok (.aload_n 0, 1) := dk_42 (dk_at dksX1_many_0 0 rfl rfl)
theorem dX1_many_1 : decode cX1_many 1 = .ok (.getfield 27, 3) := dk_180 0 27 (dk_at dksX1_many_0 1 rfl rfl)
theorem dX1_many_4 : decode cX1_many 4 = .ok (.invokeinterface 65 1, 5) := by decide +kernel
theorem dX1_many_9 : decode cX1_many 9 = .ok (.ireturn, 1) := dk_172 (dk_at dksX1_many_0 9 rfl rfl)
abbrev cX1_become : ByteArray := prog_7_method_2_code
def yX1_become : MethodName := ⟨RX1, "become", "(LYoungerBack$League;)LYoungerBack$League;"⟩
def dkwX1_become_7 : List UInt8 := [180, 0, 46, 3, 7, 184, 0, 59, 42, 176]
abbrev dktX1_become_7 : List UInt8 := dkwX1_become_7 ++ []
def dkwX1_become_6 : List UInt8 := [7, 184, 0, 59, 43, 180, 0, 43, 3, 42, 180, 0, 43, 3, 7, 184, 0, 59, 43, 180, 0, 46, 3, 42]
abbrev dktX1_become_6 : List UInt8 := dkwX1_become_6 ++ dktX1_become_7
def dkwX1_become_5 : List UInt8 := [43, 180, 0, 37, 3, 42, 180, 0, 37, 3, 7, 184, 0, 59, 43, 180, 0, 40, 3, 42, 180, 0, 40, 3]
abbrev dktX1_become_5 : List UInt8 := dkwX1_become_5 ++ dktX1_become_6
def dkwX1_become_4 : List UInt8 := [3, 42, 180, 0, 31, 3, 7, 184, 0, 59, 43, 180, 0, 34, 3, 42, 180, 0, 34, 3, 7, 184, 0, 59]
abbrev dktX1_become_4 : List UInt8 := dkwX1_become_4 ++ dktX1_become_5
def dkwX1_become_3 : List UInt8 := [16, 8, 184, 0, 59, 43, 180, 0, 21, 3, 42, 180, 0, 21, 3, 16, 8, 184, 0, 59, 43, 180, 0, 31]
abbrev dktX1_become_3 : List UInt8 := dkwX1_become_3 ++ dktX1_become_4
def dkwX1_become_2 : List UInt8 := [180, 0, 15, 3, 42, 180, 0, 15, 3, 16, 8, 184, 0, 59, 43, 180, 0, 18, 3, 42, 180, 0, 18, 3]
abbrev dktX1_become_2 : List UInt8 := dkwX1_become_2 ++ dktX1_become_3
def dkwX1_become_1 : List UInt8 := [42, 43, 180, 0, 27, 181, 0, 27, 43, 180, 0, 9, 3, 42, 180, 0, 9, 3, 16, 8, 184, 0, 59, 43]
abbrev dktX1_become_1 : List UInt8 := dkwX1_become_1 ++ dktX1_become_2
def dkwX1_become_0 : List UInt8 := [42, 43, 180, 0, 49, 181, 0, 49, 42, 43, 180, 0, 53, 181, 0, 53, 42, 43, 180, 0, 56, 181, 0, 56]
abbrev dktX1_become_0 : List UInt8 := dkwX1_become_0 ++ dktX1_become_1
theorem dksX1_become_0 : cX1_become.data.toList.drop 0 = dktX1_become_0 := by decide +kernel
theorem dksX1_become_1 : cX1_become.data.toList.drop 24 = dktX1_become_1 := dk_seg dksX1_become_0 24 rfl rfl
theorem dksX1_become_2 : cX1_become.data.toList.drop 48 = dktX1_become_2 := dk_seg dksX1_become_1 24 rfl rfl
theorem dksX1_become_3 : cX1_become.data.toList.drop 72 = dktX1_become_3 := dk_seg dksX1_become_2 24 rfl rfl
theorem dksX1_become_4 : cX1_become.data.toList.drop 96 = dktX1_become_4 := dk_seg dksX1_become_3 24 rfl rfl
theorem dksX1_become_5 : cX1_become.data.toList.drop 120 = dktX1_become_5 := dk_seg dksX1_become_4 24 rfl rfl
theorem dksX1_become_6 : cX1_become.data.toList.drop 144 = dktX1_become_6 := dk_seg dksX1_become_5 24 rfl rfl
theorem dksX1_become_7 : cX1_become.data.toList.drop 168 = dktX1_become_7 := dk_seg dksX1_become_6 24 rfl rfl
theorem dX1_become_0 : decode cX1_become 0 = .ok (.aload_n 0, 1) := dk_42 (dk_at dksX1_become_0 0 rfl rfl)
theorem dX1_become_1 : decode cX1_become 1 = .ok (.aload_n 1, 1) := dk_43 (dk_at dksX1_become_0 1 rfl rfl)
theorem dX1_become_2 : decode cX1_become 2 = .ok (.getfield 49, 3) := dk_180 0 49 (dk_at dksX1_become_0 2 rfl rfl)
theorem dX1_become_5 : decode cX1_become 5 = .ok (.putfield 49, 3) := dk_181 0 49 (dk_at dksX1_become_0 5 rfl rfl)
theorem dX1_become_8 : decode cX1_become 8 = .ok (.aload_n 0, 1) := dk_42 (dk_at dksX1_become_0 8 rfl rfl)
theorem dX1_become_9 : decode cX1_become 9 = .ok (.aload_n 1, 1) := dk_43 (dk_at dksX1_become_0 9 rfl rfl)
theorem dX1_become_10 : decode cX1_become 10 = .ok (.getfield 53, 3) := dk_180 0 53 (dk_at dksX1_become_0 10 rfl rfl)
theorem dX1_become_13 : decode cX1_become 13 = .ok (.putfield 53, 3) := dk_181 0 53 (dk_at dksX1_become_0 13 rfl rfl)
theorem dX1_become_16 : decode cX1_become 16 = .ok (.aload_n 0, 1) := dk_42 (dk_at dksX1_become_0 16 rfl rfl)
theorem dX1_become_17 : decode cX1_become 17 = .ok (.aload_n 1, 1) := dk_43 (dk_at dksX1_become_0 17 rfl rfl)
theorem dX1_become_18 : decode cX1_become 18 = .ok (.getfield 56, 3) := dk_180 0 56 (dk_at dksX1_become_0 18 rfl rfl)
theorem dX1_become_21 : decode cX1_become 21 = .ok (.putfield 56, 3) := dk_181 0 56 (dk_at dksX1_become_0 21 rfl rfl)
theorem dX1_become_24 : decode cX1_become 24 = .ok (.aload_n 0, 1) := dk_42 (dk_at dksX1_become_1 0 rfl rfl)
theorem dX1_become_25 : decode cX1_become 25 = .ok (.aload_n 1, 1) := dk_43 (dk_at dksX1_become_1 1 rfl rfl)
theorem dX1_become_26 : decode cX1_become 26 = .ok (.getfield 27, 3) := dk_180 0 27 (dk_at dksX1_become_1 2 rfl rfl)
theorem dX1_become_29 : decode cX1_become 29 = .ok (.putfield 27, 3) := dk_181 0 27 (dk_at dksX1_become_1 5 rfl rfl)
theorem dX1_become_32 : decode cX1_become 32 = .ok (.aload_n 1, 1) := dk_43 (dk_at dksX1_become_1 8 rfl rfl)
theorem dX1_become_33 : decode cX1_become 33 = .ok (.getfield 9, 3) := dk_180 0 9 (dk_at dksX1_become_1 9 rfl rfl)
theorem dX1_become_36 : decode cX1_become 36 = .ok (.iconst 0, 1) := dk_3 (dk_at dksX1_become_1 12 rfl rfl)
theorem dX1_become_37 : decode cX1_become 37 = .ok (.aload_n 0, 1) := dk_42 (dk_at dksX1_become_1 13 rfl rfl)
theorem dX1_become_38 : decode cX1_become 38 = .ok (.getfield 9, 3) := dk_180 0 9 (dk_at dksX1_become_1 14 rfl rfl)
theorem dX1_become_41 : decode cX1_become 41 = .ok (.iconst 0, 1) := dk_3 (dk_at dksX1_become_1 17 rfl rfl)
theorem dX1_become_42 : decode cX1_become 42 = .ok (.bipush 8, 2) := dk_16 8 (dk_at dksX1_become_1 18 rfl rfl)
theorem dX1_become_44 : decode cX1_become 44 = .ok (.invokestatic 59, 3) := dk_184 0 59 (dk_at dksX1_become_1 20 rfl rfl)
theorem dX1_become_47 : decode cX1_become 47 = .ok (.aload_n 1, 1) := dk_43 (dk_at dksX1_become_1 23 rfl rfl)
theorem dX1_become_48 : decode cX1_become 48 = .ok (.getfield 15, 3) := dk_180 0 15 (dk_at dksX1_become_2 0 rfl rfl)
theorem dX1_become_51 : decode cX1_become 51 = .ok (.iconst 0, 1) := dk_3 (dk_at dksX1_become_2 3 rfl rfl)
theorem dX1_become_52 : decode cX1_become 52 = .ok (.aload_n 0, 1) := dk_42 (dk_at dksX1_become_2 4 rfl rfl)
theorem dX1_become_53 : decode cX1_become 53 = .ok (.getfield 15, 3) := dk_180 0 15 (dk_at dksX1_become_2 5 rfl rfl)
theorem dX1_become_56 : decode cX1_become 56 = .ok (.iconst 0, 1) := dk_3 (dk_at dksX1_become_2 8 rfl rfl)
theorem dX1_become_57 : decode cX1_become 57 = .ok (.bipush 8, 2) := dk_16 8 (dk_at dksX1_become_2 9 rfl rfl)
theorem dX1_become_59 : decode cX1_become 59 = .ok (.invokestatic 59, 3) := dk_184 0 59 (dk_at dksX1_become_2 11 rfl rfl)
theorem dX1_become_62 : decode cX1_become 62 = .ok (.aload_n 1, 1) := dk_43 (dk_at dksX1_become_2 14 rfl rfl)
theorem dX1_become_63 : decode cX1_become 63 = .ok (.getfield 18, 3) := dk_180 0 18 (dk_at dksX1_become_2 15 rfl rfl)
theorem dX1_become_66 : decode cX1_become 66 = .ok (.iconst 0, 1) := dk_3 (dk_at dksX1_become_2 18 rfl rfl)
theorem dX1_become_67 : decode cX1_become 67 = .ok (.aload_n 0, 1) := dk_42 (dk_at dksX1_become_2 19 rfl rfl)
theorem dX1_become_68 : decode cX1_become 68 = .ok (.getfield 18, 3) := dk_180 0 18 (dk_at dksX1_become_2 20 rfl rfl)
theorem dX1_become_71 : decode cX1_become 71 = .ok (.iconst 0, 1) := dk_3 (dk_at dksX1_become_2 23 rfl rfl)
theorem dX1_become_72 : decode cX1_become 72 = .ok (.bipush 8, 2) := dk_16 8 (dk_at dksX1_become_3 0 rfl rfl)
theorem dX1_become_74 : decode cX1_become 74 = .ok (.invokestatic 59, 3) := dk_184 0 59 (dk_at dksX1_become_3 2 rfl rfl)
theorem dX1_become_77 : decode cX1_become 77 = .ok (.aload_n 1, 1) := dk_43 (dk_at dksX1_become_3 5 rfl rfl)
theorem dX1_become_78 : decode cX1_become 78 = .ok (.getfield 21, 3) := dk_180 0 21 (dk_at dksX1_become_3 6 rfl rfl)
theorem dX1_become_81 : decode cX1_become 81 = .ok (.iconst 0, 1) := dk_3 (dk_at dksX1_become_3 9 rfl rfl)
theorem dX1_become_82 : decode cX1_become 82 = .ok (.aload_n 0, 1) := dk_42 (dk_at dksX1_become_3 10 rfl rfl)
theorem dX1_become_83 : decode cX1_become 83 = .ok (.getfield 21, 3) := dk_180 0 21 (dk_at dksX1_become_3 11 rfl rfl)
theorem dX1_become_86 : decode cX1_become 86 = .ok (.iconst 0, 1) := dk_3 (dk_at dksX1_become_3 14 rfl rfl)
theorem dX1_become_87 : decode cX1_become 87 = .ok (.bipush 8, 2) := dk_16 8 (dk_at dksX1_become_3 15 rfl rfl)
theorem dX1_become_89 : decode cX1_become 89 = .ok (.invokestatic 59, 3) := dk_184 0 59 (dk_at dksX1_become_3 17 rfl rfl)
theorem dX1_become_92 : decode cX1_become 92 = .ok (.aload_n 1, 1) := dk_43 (dk_at dksX1_become_3 20 rfl rfl)
theorem dX1_become_93 : decode cX1_become 93 = .ok (.getfield 31, 3) := dk_180 0 31 (dk_at dksX1_become_3 21 rfl rfl)
theorem dX1_become_96 : decode cX1_become 96 = .ok (.iconst 0, 1) := dk_3 (dk_at dksX1_become_4 0 rfl rfl)
theorem dX1_become_97 : decode cX1_become 97 = .ok (.aload_n 0, 1) := dk_42 (dk_at dksX1_become_4 1 rfl rfl)
theorem dX1_become_98 : decode cX1_become 98 = .ok (.getfield 31, 3) := dk_180 0 31 (dk_at dksX1_become_4 2 rfl rfl)
theorem dX1_become_101 : decode cX1_become 101 = .ok (.iconst 0, 1) := dk_3 (dk_at dksX1_become_4 5 rfl rfl)
theorem dX1_become_102 : decode cX1_become 102 = .ok (.iconst 4, 1) := dk_7 (dk_at dksX1_become_4 6 rfl rfl)
theorem dX1_become_103 : decode cX1_become 103 = .ok (.invokestatic 59, 3) := dk_184 0 59 (dk_at dksX1_become_4 7 rfl rfl)
theorem dX1_become_106 : decode cX1_become 106 = .ok (.aload_n 1, 1) := dk_43 (dk_at dksX1_become_4 10 rfl rfl)
theorem dX1_become_107 : decode cX1_become 107 = .ok (.getfield 34, 3) := dk_180 0 34 (dk_at dksX1_become_4 11 rfl rfl)
theorem dX1_become_110 : decode cX1_become 110 = .ok (.iconst 0, 1) := dk_3 (dk_at dksX1_become_4 14 rfl rfl)
theorem dX1_become_111 : decode cX1_become 111 = .ok (.aload_n 0, 1) := dk_42 (dk_at dksX1_become_4 15 rfl rfl)
theorem dX1_become_112 : decode cX1_become 112 = .ok (.getfield 34, 3) := dk_180 0 34 (dk_at dksX1_become_4 16 rfl rfl)
theorem dX1_become_115 : decode cX1_become 115 = .ok (.iconst 0, 1) := dk_3 (dk_at dksX1_become_4 19 rfl rfl)
theorem dX1_become_116 : decode cX1_become 116 = .ok (.iconst 4, 1) := dk_7 (dk_at dksX1_become_4 20 rfl rfl)
theorem dX1_become_117 : decode cX1_become 117 = .ok (.invokestatic 59, 3) := dk_184 0 59 (dk_at dksX1_become_4 21 rfl rfl)
theorem dX1_become_120 : decode cX1_become 120 = .ok (.aload_n 1, 1) := dk_43 (dk_at dksX1_become_5 0 rfl rfl)
theorem dX1_become_121 : decode cX1_become 121 = .ok (.getfield 37, 3) := dk_180 0 37 (dk_at dksX1_become_5 1 rfl rfl)
theorem dX1_become_124 : decode cX1_become 124 = .ok (.iconst 0, 1) := dk_3 (dk_at dksX1_become_5 4 rfl rfl)
theorem dX1_become_125 : decode cX1_become 125 = .ok (.aload_n 0, 1) := dk_42 (dk_at dksX1_become_5 5 rfl rfl)
theorem dX1_become_126 : decode cX1_become 126 = .ok (.getfield 37, 3) := dk_180 0 37 (dk_at dksX1_become_5 6 rfl rfl)
theorem dX1_become_129 : decode cX1_become 129 = .ok (.iconst 0, 1) := dk_3 (dk_at dksX1_become_5 9 rfl rfl)
theorem dX1_become_130 : decode cX1_become 130 = .ok (.iconst 4, 1) := dk_7 (dk_at dksX1_become_5 10 rfl rfl)
theorem dX1_become_131 : decode cX1_become 131 = .ok (.invokestatic 59, 3) := dk_184 0 59 (dk_at dksX1_become_5 11 rfl rfl)
theorem dX1_become_134 : decode cX1_become 134 = .ok (.aload_n 1, 1) := dk_43 (dk_at dksX1_become_5 14 rfl rfl)
theorem dX1_become_135 : decode cX1_become 135 = .ok (.getfield 40, 3) := dk_180 0 40 (dk_at dksX1_become_5 15 rfl rfl)
theorem dX1_become_138 : decode cX1_become 138 = .ok (.iconst 0, 1) := dk_3 (dk_at dksX1_become_5 18 rfl rfl)
theorem dX1_become_139 : decode cX1_become 139 = .ok (.aload_n 0, 1) := dk_42 (dk_at dksX1_become_5 19 rfl rfl)
theorem dX1_become_140 : decode cX1_become 140 = .ok (.getfield 40, 3) := dk_180 0 40 (dk_at dksX1_become_5 20 rfl rfl)
theorem dX1_become_143 : decode cX1_become 143 = .ok (.iconst 0, 1) := dk_3 (dk_at dksX1_become_5 23 rfl rfl)
theorem dX1_become_144 : decode cX1_become 144 = .ok (.iconst 4, 1) := dk_7 (dk_at dksX1_become_6 0 rfl rfl)
theorem dX1_become_145 : decode cX1_become 145 = .ok (.invokestatic 59, 3) := dk_184 0 59 (dk_at dksX1_become_6 1 rfl rfl)
theorem dX1_become_148 : decode cX1_become 148 = .ok (.aload_n 1, 1) := dk_43 (dk_at dksX1_become_6 4 rfl rfl)
theorem dX1_become_149 : decode cX1_become 149 = .ok (.getfield 43, 3) := dk_180 0 43 (dk_at dksX1_become_6 5 rfl rfl)
theorem dX1_become_152 : decode cX1_become 152 = .ok (.iconst 0, 1) := dk_3 (dk_at dksX1_become_6 8 rfl rfl)
theorem dX1_become_153 : decode cX1_become 153 = .ok (.aload_n 0, 1) := dk_42 (dk_at dksX1_become_6 9 rfl rfl)
theorem dX1_become_154 : decode cX1_become 154 = .ok (.getfield 43, 3) := dk_180 0 43 (dk_at dksX1_become_6 10 rfl rfl)
theorem dX1_become_157 : decode cX1_become 157 = .ok (.iconst 0, 1) := dk_3 (dk_at dksX1_become_6 13 rfl rfl)
theorem dX1_become_158 : decode cX1_become 158 = .ok (.iconst 4, 1) := dk_7 (dk_at dksX1_become_6 14 rfl rfl)
theorem dX1_become_159 : decode cX1_become 159 = .ok (.invokestatic 59, 3) := dk_184 0 59 (dk_at dksX1_become_6 15 rfl rfl)
theorem dX1_become_162 : decode cX1_become 162 = .ok (.aload_n 1, 1) := dk_43 (dk_at dksX1_become_6 18 rfl rfl)
theorem dX1_become_163 : decode cX1_become 163 = .ok (.getfield 46, 3) := dk_180 0 46 (dk_at dksX1_become_6 19 rfl rfl)
theorem dX1_become_166 : decode cX1_become 166 = .ok (.iconst 0, 1) := dk_3 (dk_at dksX1_become_6 22 rfl rfl)
theorem dX1_become_167 : decode cX1_become 167 = .ok (.aload_n 0, 1) := dk_42 (dk_at dksX1_become_6 23 rfl rfl)
theorem dX1_become_168 : decode cX1_become 168 = .ok (.getfield 46, 3) := dk_180 0 46 (dk_at dksX1_become_7 0 rfl rfl)
theorem dX1_become_171 : decode cX1_become 171 = .ok (.iconst 0, 1) := dk_3 (dk_at dksX1_become_7 3 rfl rfl)
theorem dX1_become_172 : decode cX1_become 172 = .ok (.iconst 4, 1) := dk_7 (dk_at dksX1_become_7 4 rfl rfl)
theorem dX1_become_173 : decode cX1_become 173 = .ok (.invokestatic 59, 3) := dk_184 0 59 (dk_at dksX1_become_7 5 rfl rfl)
theorem dX1_become_176 : decode cX1_become 176 = .ok (.aload_n 0, 1) := dk_42 (dk_at dksX1_become_7 8 rfl rfl)
theorem dX1_become_177 : decode cX1_become 177 = .ok (.areturn, 1) := dk_176 (dk_at dksX1_become_7 9 rfl rfl)
abbrev cX1_end : ByteArray := prog_7_method_4_code
def yX1_end : MethodName := ⟨RX1, "end", "(III)I"⟩
def dkwX1_end_3 : List UInt8 := [172]
abbrev dktX1_end_3 : List UInt8 := dkwX1_end_3 ++ []
def dkwX1_end_2 : List UInt8 := [167, 0, 24, 29, 42, 180, 0, 15, 28, 46, 160, 0, 12, 42, 180, 0, 9, 28, 46, 167, 0, 5, 18, 81]
abbrev dktX1_end_2 : List UInt8 := dkwX1_end_2 ++ dktX1_end_3
def dkwX1_end_1 : List UInt8 := [154, 0, 6, 18, 81, 172, 29, 42, 180, 0, 9, 28, 46, 160, 0, 12, 42, 180, 0, 15, 28, 46]
abbrev dktX1_end_1 : List UInt8 := dkwX1_end_1 ++ dktX1_end_2
def dkwX1_end_0 : List UInt8 := [42, 180, 0, 27, 27, 185, 0, 71, 2, 0, 192, 0, 75, 42, 180, 0, 18, 28, 46, 182, 0, 77]
abbrev dktX1_end_0 : List UInt8 := dkwX1_end_0 ++ dktX1_end_1
theorem dksX1_end_0 : cX1_end.data.toList.drop 0 = dktX1_end_0 := by decide +kernel
theorem dksX1_end_1 : cX1_end.data.toList.drop 22 = dktX1_end_1 := dk_seg dksX1_end_0 22 rfl rfl
theorem dksX1_end_2 : cX1_end.data.toList.drop 44 = dktX1_end_2 := dk_seg dksX1_end_1 22 rfl rfl
theorem dksX1_end_3 : cX1_end.data.toList.drop 68 = dktX1_end_3 := dk_seg dksX1_end_2 24 rfl rfl
theorem dX1_end_0 : decode cX1_end 0 = .ok (.aload_n 0, 1) := dk_42 (dk_at dksX1_end_0 0 rfl rfl)
theorem dX1_end_1 : decode cX1_end 1 = .ok (.getfield 27, 3) := dk_180 0 27 (dk_at dksX1_end_0 1 rfl rfl)
theorem dX1_end_4 : decode cX1_end 4 = .ok (.iload_n 1, 1) := dk_27 (dk_at dksX1_end_0 4 rfl rfl)
theorem dX1_end_5 : decode cX1_end 5 = .ok (.invokeinterface 71 2, 5) := by decide +kernel
theorem dX1_end_10 : decode cX1_end 10 = .ok (.checkcast 75, 3) := dk_192 0 75 (dk_at dksX1_end_0 10 rfl rfl)
theorem dX1_end_13 : decode cX1_end 13 = .ok (.aload_n 0, 1) := dk_42 (dk_at dksX1_end_0 13 rfl rfl)
theorem dX1_end_14 : decode cX1_end 14 = .ok (.getfield 18, 3) := dk_180 0 18 (dk_at dksX1_end_0 14 rfl rfl)
theorem dX1_end_17 : decode cX1_end 17 = .ok (.iload_n 2, 1) := dk_28 (dk_at dksX1_end_0 17 rfl rfl)
theorem dX1_end_18 : decode cX1_end 18 = .ok (.iaload, 1) := dk_46 (dk_at dksX1_end_0 18 rfl rfl)
theorem dX1_end_19 : decode cX1_end 19 = .ok (.invokevirtual 77, 3) := dk_182 0 77 (dk_at dksX1_end_0 19 rfl rfl)
theorem dX1_end_22 : decode cX1_end 22 = .ok (.ifCond .ne 6, 3) := dk_154 0 6 (dk_at dksX1_end_1 0 rfl rfl)
theorem dX1_end_25 : decode cX1_end 25 = .ok (.ldc 81, 2) := dk_18 81 (dk_at dksX1_end_1 3 rfl rfl)
theorem dX1_end_27 : decode cX1_end 27 = .ok (.ireturn, 1) := dk_172 (dk_at dksX1_end_1 5 rfl rfl)
theorem dX1_end_28 : decode cX1_end 28 = .ok (.iload_n 3, 1) := dk_29 (dk_at dksX1_end_1 6 rfl rfl)
theorem dX1_end_29 : decode cX1_end 29 = .ok (.aload_n 0, 1) := dk_42 (dk_at dksX1_end_1 7 rfl rfl)
theorem dX1_end_30 : decode cX1_end 30 = .ok (.getfield 9, 3) := dk_180 0 9 (dk_at dksX1_end_1 8 rfl rfl)
theorem dX1_end_33 : decode cX1_end 33 = .ok (.iload_n 2, 1) := dk_28 (dk_at dksX1_end_1 11 rfl rfl)
theorem dX1_end_34 : decode cX1_end 34 = .ok (.iaload, 1) := dk_46 (dk_at dksX1_end_1 12 rfl rfl)
theorem dX1_end_35 : decode cX1_end 35 = .ok (.if_icmp .ne 12, 3) := dk_160 0 12 (dk_at dksX1_end_1 13 rfl rfl)
theorem dX1_end_38 : decode cX1_end 38 = .ok (.aload_n 0, 1) := dk_42 (dk_at dksX1_end_1 16 rfl rfl)
theorem dX1_end_39 : decode cX1_end 39 = .ok (.getfield 15, 3) := dk_180 0 15 (dk_at dksX1_end_1 17 rfl rfl)
theorem dX1_end_42 : decode cX1_end 42 = .ok (.iload_n 2, 1) := dk_28 (dk_at dksX1_end_1 20 rfl rfl)
theorem dX1_end_43 : decode cX1_end 43 = .ok (.iaload, 1) := dk_46 (dk_at dksX1_end_1 21 rfl rfl)
theorem dX1_end_44 : decode cX1_end 44 = .ok (.goto 24, 3) := dk_167 0 24 (dk_at dksX1_end_2 0 rfl rfl)
theorem dX1_end_47 : decode cX1_end 47 = .ok (.iload_n 3, 1) := dk_29 (dk_at dksX1_end_2 3 rfl rfl)
theorem dX1_end_48 : decode cX1_end 48 = .ok (.aload_n 0, 1) := dk_42 (dk_at dksX1_end_2 4 rfl rfl)
theorem dX1_end_49 : decode cX1_end 49 = .ok (.getfield 15, 3) := dk_180 0 15 (dk_at dksX1_end_2 5 rfl rfl)
theorem dX1_end_52 : decode cX1_end 52 = .ok (.iload_n 2, 1) := dk_28 (dk_at dksX1_end_2 8 rfl rfl)
theorem dX1_end_53 : decode cX1_end 53 = .ok (.iaload, 1) := dk_46 (dk_at dksX1_end_2 9 rfl rfl)
theorem dX1_end_54 : decode cX1_end 54 = .ok (.if_icmp .ne 12, 3) := dk_160 0 12 (dk_at dksX1_end_2 10 rfl rfl)
theorem dX1_end_57 : decode cX1_end 57 = .ok (.aload_n 0, 1) := dk_42 (dk_at dksX1_end_2 13 rfl rfl)
theorem dX1_end_58 : decode cX1_end 58 = .ok (.getfield 9, 3) := dk_180 0 9 (dk_at dksX1_end_2 14 rfl rfl)
theorem dX1_end_61 : decode cX1_end 61 = .ok (.iload_n 2, 1) := dk_28 (dk_at dksX1_end_2 17 rfl rfl)
theorem dX1_end_62 : decode cX1_end 62 = .ok (.iaload, 1) := dk_46 (dk_at dksX1_end_2 18 rfl rfl)
theorem dX1_end_63 : decode cX1_end 63 = .ok (.goto 5, 3) := dk_167 0 5 (dk_at dksX1_end_2 19 rfl rfl)
theorem dX1_end_66 : decode cX1_end 66 = .ok (.ldc 81, 2) := dk_18 81 (dk_at dksX1_end_2 22 rfl rfl)
theorem dX1_end_68 : decode cX1_end 68 = .ok (.ireturn, 1) := dk_172 (dk_at dksX1_end_3 0 rfl rfl)
abbrev cX1_sail : ByteArray := prog_7_method_6_code
def yX1_sail : MethodName := ⟨RX1, "sail", "(II)V"⟩
def dkwX1_sail_2 : List UInt8 := [177]
abbrev dktX1_sail_2 : List UInt8 := dkwX1_sail_2 ++ []
def dkwX1_sail_1 : List UInt8 := [46, 42, 180, 0, 18, 28, 46, 96, 79, 42, 180, 0, 37, 27, 92, 46, 42, 27, 28, 182, 0, 90, 96, 79]
abbrev dktX1_sail_1 : List UInt8 := dkwX1_sail_1 ++ dktX1_sail_2
def dkwX1_sail_0 : List UInt8 := [42, 180, 0, 31, 27, 42, 27, 28, 42, 180, 0, 31, 27, 46, 182, 0, 86, 79, 42, 180, 0, 34, 27, 92]
abbrev dktX1_sail_0 : List UInt8 := dkwX1_sail_0 ++ dktX1_sail_1
theorem dksX1_sail_0 : cX1_sail.data.toList.drop 0 = dktX1_sail_0 := by decide +kernel
theorem dksX1_sail_1 : cX1_sail.data.toList.drop 24 = dktX1_sail_1 := dk_seg dksX1_sail_0 24 rfl rfl
theorem dksX1_sail_2 : cX1_sail.data.toList.drop 48 = dktX1_sail_2 := dk_seg dksX1_sail_1 24 rfl rfl
theorem dX1_sail_0 : decode cX1_sail 0 = .ok (.aload_n 0, 1) := dk_42 (dk_at dksX1_sail_0 0 rfl rfl)
theorem dX1_sail_1 : decode cX1_sail 1 = .ok (.getfield 31, 3) := dk_180 0 31 (dk_at dksX1_sail_0 1 rfl rfl)
theorem dX1_sail_4 : decode cX1_sail 4 = .ok (.iload_n 1, 1) := dk_27 (dk_at dksX1_sail_0 4 rfl rfl)
theorem dX1_sail_5 : decode cX1_sail 5 = .ok (.aload_n 0, 1) := dk_42 (dk_at dksX1_sail_0 5 rfl rfl)
theorem dX1_sail_6 : decode cX1_sail 6 = .ok (.iload_n 1, 1) := dk_27 (dk_at dksX1_sail_0 6 rfl rfl)
theorem dX1_sail_7 : decode cX1_sail 7 = .ok (.iload_n 2, 1) := dk_28 (dk_at dksX1_sail_0 7 rfl rfl)
theorem dX1_sail_8 : decode cX1_sail 8 = .ok (.aload_n 0, 1) := dk_42 (dk_at dksX1_sail_0 8 rfl rfl)
theorem dX1_sail_9 : decode cX1_sail 9 = .ok (.getfield 31, 3) := dk_180 0 31 (dk_at dksX1_sail_0 9 rfl rfl)
theorem dX1_sail_12 : decode cX1_sail 12 = .ok (.iload_n 1, 1) := dk_27 (dk_at dksX1_sail_0 12 rfl rfl)
theorem dX1_sail_13 : decode cX1_sail 13 = .ok (.iaload, 1) := dk_46 (dk_at dksX1_sail_0 13 rfl rfl)
theorem dX1_sail_14 : decode cX1_sail 14 = .ok (.invokevirtual 86, 3) := dk_182 0 86 (dk_at dksX1_sail_0 14 rfl rfl)
theorem dX1_sail_17 : decode cX1_sail 17 = .ok (.iastore, 1) := dk_79 (dk_at dksX1_sail_0 17 rfl rfl)
theorem dX1_sail_18 : decode cX1_sail 18 = .ok (.aload_n 0, 1) := dk_42 (dk_at dksX1_sail_0 18 rfl rfl)
theorem dX1_sail_19 : decode cX1_sail 19 = .ok (.getfield 34, 3) := dk_180 0 34 (dk_at dksX1_sail_0 19 rfl rfl)
theorem dX1_sail_22 : decode cX1_sail 22 = .ok (.iload_n 1, 1) := dk_27 (dk_at dksX1_sail_0 22 rfl rfl)
theorem dX1_sail_23 : decode cX1_sail 23 = .ok (.dup2, 1) := dk_92 (dk_at dksX1_sail_0 23 rfl rfl)
theorem dX1_sail_24 : decode cX1_sail 24 = .ok (.iaload, 1) := dk_46 (dk_at dksX1_sail_1 0 rfl rfl)
theorem dX1_sail_25 : decode cX1_sail 25 = .ok (.aload_n 0, 1) := dk_42 (dk_at dksX1_sail_1 1 rfl rfl)
theorem dX1_sail_26 : decode cX1_sail 26 = .ok (.getfield 18, 3) := dk_180 0 18 (dk_at dksX1_sail_1 2 rfl rfl)
theorem dX1_sail_29 : decode cX1_sail 29 = .ok (.iload_n 2, 1) := dk_28 (dk_at dksX1_sail_1 5 rfl rfl)
theorem dX1_sail_30 : decode cX1_sail 30 = .ok (.iaload, 1) := dk_46 (dk_at dksX1_sail_1 6 rfl rfl)
theorem dX1_sail_31 : decode cX1_sail 31 = .ok (.iadd, 1) := dk_96 (dk_at dksX1_sail_1 7 rfl rfl)
theorem dX1_sail_32 : decode cX1_sail 32 = .ok (.iastore, 1) := dk_79 (dk_at dksX1_sail_1 8 rfl rfl)
theorem dX1_sail_33 : decode cX1_sail 33 = .ok (.aload_n 0, 1) := dk_42 (dk_at dksX1_sail_1 9 rfl rfl)
theorem dX1_sail_34 : decode cX1_sail 34 = .ok (.getfield 37, 3) := dk_180 0 37 (dk_at dksX1_sail_1 10 rfl rfl)
theorem dX1_sail_37 : decode cX1_sail 37 = .ok (.iload_n 1, 1) := dk_27 (dk_at dksX1_sail_1 13 rfl rfl)
theorem dX1_sail_38 : decode cX1_sail 38 = .ok (.dup2, 1) := dk_92 (dk_at dksX1_sail_1 14 rfl rfl)
theorem dX1_sail_39 : decode cX1_sail 39 = .ok (.iaload, 1) := dk_46 (dk_at dksX1_sail_1 15 rfl rfl)
theorem dX1_sail_40 : decode cX1_sail 40 = .ok (.aload_n 0, 1) := dk_42 (dk_at dksX1_sail_1 16 rfl rfl)
theorem dX1_sail_41 : decode cX1_sail 41 = .ok (.iload_n 1, 1) := dk_27 (dk_at dksX1_sail_1 17 rfl rfl)
theorem dX1_sail_42 : decode cX1_sail 42 = .ok (.iload_n 2, 1) := dk_28 (dk_at dksX1_sail_1 18 rfl rfl)
theorem dX1_sail_43 : decode cX1_sail 43 = .ok (.invokevirtual 90, 3) := dk_182 0 90 (dk_at dksX1_sail_1 19 rfl rfl)
theorem dX1_sail_46 : decode cX1_sail 46 = .ok (.iadd, 1) := dk_96 (dk_at dksX1_sail_1 22 rfl rfl)
theorem dX1_sail_47 : decode cX1_sail 47 = .ok (.iastore, 1) := dk_79 (dk_at dksX1_sail_1 23 rfl rfl)
theorem dX1_sail_48 : decode cX1_sail 48 = .ok (.return_, 1) := dk_177 (dk_at dksX1_sail_2 0 rfl rfl)
abbrev cX1_ages : ByteArray := prog_7_method_5_code
def yX1_ages : MethodName := ⟨RX1, "ages", "(II)I"⟩
def dkwX1_ages_1 : List UInt8 := [46, 182, 0, 82, 172]
abbrev dktX1_ages_1 : List UInt8 := dkwX1_ages_1 ++ []
def dkwX1_ages_0 : List UInt8 := [42, 180, 0, 27, 27, 185, 0, 71, 2, 0, 192, 0, 75, 42, 180, 0, 18, 28, 46, 42, 180, 0, 21, 28]
abbrev dktX1_ages_0 : List UInt8 := dkwX1_ages_0 ++ dktX1_ages_1
theorem dksX1_ages_0 : cX1_ages.data.toList.drop 0 = dktX1_ages_0 := by decide +kernel
theorem dksX1_ages_1 : cX1_ages.data.toList.drop 24 = dktX1_ages_1 := dk_seg dksX1_ages_0 24 rfl rfl
theorem dX1_ages_0 : decode cX1_ages 0 = .ok (.aload_n 0, 1) := dk_42 (dk_at dksX1_ages_0 0 rfl rfl)
theorem dX1_ages_1 : decode cX1_ages 1 = .ok (.getfield 27, 3) := dk_180 0 27 (dk_at dksX1_ages_0 1 rfl rfl)
theorem dX1_ages_4 : decode cX1_ages 4 = .ok (.iload_n 1, 1) := dk_27 (dk_at dksX1_ages_0 4 rfl rfl)
theorem dX1_ages_5 : decode cX1_ages 5 = .ok (.invokeinterface 71 2, 5) := by decide +kernel
theorem dX1_ages_10 : decode cX1_ages 10 = .ok (.checkcast 75, 3) := dk_192 0 75 (dk_at dksX1_ages_0 10 rfl rfl)
theorem dX1_ages_13 : decode cX1_ages 13 = .ok (.aload_n 0, 1) := dk_42 (dk_at dksX1_ages_0 13 rfl rfl)
theorem dX1_ages_14 : decode cX1_ages 14 = .ok (.getfield 18, 3) := dk_180 0 18 (dk_at dksX1_ages_0 14 rfl rfl)
theorem dX1_ages_17 : decode cX1_ages 17 = .ok (.iload_n 2, 1) := dk_28 (dk_at dksX1_ages_0 17 rfl rfl)
theorem dX1_ages_18 : decode cX1_ages 18 = .ok (.iaload, 1) := dk_46 (dk_at dksX1_ages_0 18 rfl rfl)
theorem dX1_ages_19 : decode cX1_ages 19 = .ok (.aload_n 0, 1) := dk_42 (dk_at dksX1_ages_0 19 rfl rfl)
theorem dX1_ages_20 : decode cX1_ages 20 = .ok (.getfield 21, 3) := dk_180 0 21 (dk_at dksX1_ages_0 20 rfl rfl)
theorem dX1_ages_23 : decode cX1_ages 23 = .ok (.iload_n 2, 1) := dk_28 (dk_at dksX1_ages_0 23 rfl rfl)
theorem dX1_ages_24 : decode cX1_ages 24 = .ok (.iaload, 1) := dk_46 (dk_at dksX1_ages_1 0 rfl rfl)
theorem dX1_ages_25 : decode cX1_ages 25 = .ok (.invokevirtual 82, 3) := dk_182 0 82 (dk_at dksX1_ages_1 1 rfl rfl)
theorem dX1_ages_28 : decode cX1_ages 28 = .ok (.ireturn, 1) := dk_172 (dk_at dksX1_ages_1 4 rfl rfl)
abbrev cX1_stay : ByteArray := prog_7_method_7_code
def yX1_stay : MethodName := ⟨RX1, "stay", "(II)V"⟩
def dkwX1_stay_0 : List UInt8 := [42, 180, 0, 34, 27, 92, 46, 28, 96, 79, 42, 180, 0, 37, 27, 92, 46, 28, 96, 79, 177]
abbrev dktX1_stay_0 : List UInt8 := dkwX1_stay_0 ++ []
theorem dksX1_stay_0 : cX1_stay.data.toList.drop 0 = dktX1_stay_0 := by decide +kernel
theorem dX1_stay_0 : decode cX1_stay 0 = .ok (.aload_n 0, 1) := dk_42 (dk_at dksX1_stay_0 0 rfl rfl)
theorem dX1_stay_1 : decode cX1_stay 1 = .ok (.getfield 34, 3) := dk_180 0 34 (dk_at dksX1_stay_0 1 rfl rfl)
theorem dX1_stay_4 : decode cX1_stay 4 = .ok (.iload_n 1, 1) := dk_27 (dk_at dksX1_stay_0 4 rfl rfl)
theorem dX1_stay_5 : decode cX1_stay 5 = .ok (.dup2, 1) := dk_92 (dk_at dksX1_stay_0 5 rfl rfl)
theorem dX1_stay_6 : decode cX1_stay 6 = .ok (.iaload, 1) := dk_46 (dk_at dksX1_stay_0 6 rfl rfl)
theorem dX1_stay_7 : decode cX1_stay 7 = .ok (.iload_n 2, 1) := dk_28 (dk_at dksX1_stay_0 7 rfl rfl)
theorem dX1_stay_8 : decode cX1_stay 8 = .ok (.iadd, 1) := dk_96 (dk_at dksX1_stay_0 8 rfl rfl)
theorem dX1_stay_9 : decode cX1_stay 9 = .ok (.iastore, 1) := dk_79 (dk_at dksX1_stay_0 9 rfl rfl)
theorem dX1_stay_10 : decode cX1_stay 10 = .ok (.aload_n 0, 1) := dk_42 (dk_at dksX1_stay_0 10 rfl rfl)
theorem dX1_stay_11 : decode cX1_stay 11 = .ok (.getfield 37, 3) := dk_180 0 37 (dk_at dksX1_stay_0 11 rfl rfl)
theorem dX1_stay_14 : decode cX1_stay 14 = .ok (.iload_n 1, 1) := dk_27 (dk_at dksX1_stay_0 14 rfl rfl)
theorem dX1_stay_15 : decode cX1_stay 15 = .ok (.dup2, 1) := dk_92 (dk_at dksX1_stay_0 15 rfl rfl)
theorem dX1_stay_16 : decode cX1_stay 16 = .ok (.iaload, 1) := dk_46 (dk_at dksX1_stay_0 16 rfl rfl)
theorem dX1_stay_17 : decode cX1_stay 17 = .ok (.iload_n 2, 1) := dk_28 (dk_at dksX1_stay_0 17 rfl rfl)
theorem dX1_stay_18 : decode cX1_stay 18 = .ok (.iadd, 1) := dk_96 (dk_at dksX1_stay_0 18 rfl rfl)
theorem dX1_stay_19 : decode cX1_stay 19 = .ok (.iastore, 1) := dk_79 (dk_at dksX1_stay_0 19 rfl rfl)
theorem dX1_stay_20 : decode cX1_stay 20 = .ok (.return_, 1) := dk_177 (dk_at dksX1_stay_0 20 rfl rfl)
abbrev cX1_owedByShore : ByteArray := prog_7_method_9_code
def yX1_owedByShore : MethodName := ⟨RX1, "owedByShore", "(I)I"⟩
def dkwX1_owedByShore_0 : List UInt8 := [42, 27, 42, 180, 0, 34, 27, 46, 42, 180, 0, 43, 27, 46, 100, 182, 0, 101, 172]
abbrev dktX1_owedByShore_0 : List UInt8 := dkwX1_owedByShore_0 ++ []
theorem dksX1_owedByShore_0 : cX1_owedByShore.data.toList.drop 0 = dktX1_owedByShore_0 := by decide +kernel
theorem dX1_owedByShore_0 : decode cX1_owedByShore 0 = .ok (.aload_n 0, 1) := dk_42 (dk_at dksX1_owedByShore_0 0 rfl rfl)
theorem dX1_owedByShore_1 : decode cX1_owedByShore 1 = .ok (.iload_n 1, 1) := dk_27 (dk_at dksX1_owedByShore_0 1 rfl rfl)
theorem dX1_owedByShore_2 : decode cX1_owedByShore 2 = .ok (.aload_n 0, 1) := dk_42 (dk_at dksX1_owedByShore_0 2 rfl rfl)
theorem dX1_owedByShore_3 : decode cX1_owedByShore 3 = .ok (.getfield 34, 3) := dk_180 0 34 (dk_at dksX1_owedByShore_0 3 rfl rfl)
theorem dX1_owedByShore_6 : decode cX1_owedByShore 6 = .ok (.iload_n 1, 1) := dk_27 (dk_at dksX1_owedByShore_0 6 rfl rfl)
theorem dX1_owedByShore_7 : decode cX1_owedByShore 7 = .ok (.iaload, 1) := dk_46 (dk_at dksX1_owedByShore_0 7 rfl rfl)
theorem dX1_owedByShore_8 : decode cX1_owedByShore 8 = .ok (.aload_n 0, 1) := dk_42 (dk_at dksX1_owedByShore_0 8 rfl rfl)
theorem dX1_owedByShore_9 : decode cX1_owedByShore 9 = .ok (.getfield 43, 3) := dk_180 0 43 (dk_at dksX1_owedByShore_0 9 rfl rfl)
theorem dX1_owedByShore_12 : decode cX1_owedByShore 12 = .ok (.iload_n 1, 1) := dk_27 (dk_at dksX1_owedByShore_0 12 rfl rfl)
theorem dX1_owedByShore_13 : decode cX1_owedByShore 13 = .ok (.iaload, 1) := dk_46 (dk_at dksX1_owedByShore_0 13 rfl rfl)
theorem dX1_owedByShore_14 : decode cX1_owedByShore 14 = .ok (.isub, 1) := dk_100 (dk_at dksX1_owedByShore_0 14 rfl rfl)
theorem dX1_owedByShore_15 : decode cX1_owedByShore 15 = .ok (.invokevirtual 101, 3) := dk_182 0 101 (dk_at dksX1_owedByShore_0 15 rfl rfl)
theorem dX1_owedByShore_18 : decode cX1_owedByShore 18 = .ok (.ireturn, 1) := dk_172 (dk_at dksX1_owedByShore_0 18 rfl rfl)
abbrev cX1_owed : ByteArray := prog_7_method_8_code
def yX1_owed : MethodName := ⟨RX1, "owed", "(II)I"⟩
def dkwX1_owed_1 : List UInt8 := [180, 0, 53, 133, 105, 20, 0, 93, 109, 97, 184, 0, 95, 136, 62, 132, 4, 1, 167, 255, 224, 29, 172]
abbrev dktX1_owed_1 : List UInt8 := dkwX1_owed_1 ++ []
def dkwX1_owed_0 : List UInt8 := [42, 180, 0, 40, 27, 46, 62, 3, 54, 4, 21, 4, 28, 162, 0, 32, 20, 0, 91, 29, 133, 29, 133, 42]
abbrev dktX1_owed_0 : List UInt8 := dkwX1_owed_0 ++ dktX1_owed_1
theorem dksX1_owed_0 : cX1_owed.data.toList.drop 0 = dktX1_owed_0 := by decide +kernel
theorem dksX1_owed_1 : cX1_owed.data.toList.drop 24 = dktX1_owed_1 := dk_seg dksX1_owed_0 24 rfl rfl
theorem dX1_owed_0 : decode cX1_owed 0 = .ok (.aload_n 0, 1) := dk_42 (dk_at dksX1_owed_0 0 rfl rfl)
theorem dX1_owed_1 : decode cX1_owed 1 = .ok (.getfield 40, 3) := dk_180 0 40 (dk_at dksX1_owed_0 1 rfl rfl)
theorem dX1_owed_4 : decode cX1_owed 4 = .ok (.iload_n 1, 1) := dk_27 (dk_at dksX1_owed_0 4 rfl rfl)
theorem dX1_owed_5 : decode cX1_owed 5 = .ok (.iaload, 1) := dk_46 (dk_at dksX1_owed_0 5 rfl rfl)
theorem dX1_owed_6 : decode cX1_owed 6 = .ok (.istore_n 3, 1) := dk_62 (dk_at dksX1_owed_0 6 rfl rfl)
theorem dX1_owed_7 : decode cX1_owed 7 = .ok (.iconst 0, 1) := dk_3 (dk_at dksX1_owed_0 7 rfl rfl)
theorem dX1_owed_8 : decode cX1_owed 8 = .ok (.istore 4, 2) := dk_54 4 (dk_at dksX1_owed_0 8 rfl rfl)
theorem dX1_owed_10 : decode cX1_owed 10 = .ok (.iload 4, 2) := dk_21 4 (dk_at dksX1_owed_0 10 rfl rfl)
theorem dX1_owed_12 : decode cX1_owed 12 = .ok (.iload_n 2, 1) := dk_28 (dk_at dksX1_owed_0 12 rfl rfl)
theorem dX1_owed_13 : decode cX1_owed 13 = .ok (.if_icmp .ge 32, 3) := dk_162 0 32 (dk_at dksX1_owed_0 13 rfl rfl)
theorem dX1_owed_16 : decode cX1_owed 16 = .ok (.ldc2_w 91, 3) := dk_20 0 91 (dk_at dksX1_owed_0 16 rfl rfl)
theorem dX1_owed_19 : decode cX1_owed 19 = .ok (.iload_n 3, 1) := dk_29 (dk_at dksX1_owed_0 19 rfl rfl)
theorem dX1_owed_20 : decode cX1_owed 20 = .ok (.i2l, 1) := dk_133 (dk_at dksX1_owed_0 20 rfl rfl)
theorem dX1_owed_21 : decode cX1_owed 21 = .ok (.iload_n 3, 1) := dk_29 (dk_at dksX1_owed_0 21 rfl rfl)
theorem dX1_owed_22 : decode cX1_owed 22 = .ok (.i2l, 1) := dk_133 (dk_at dksX1_owed_0 22 rfl rfl)
theorem dX1_owed_23 : decode cX1_owed 23 = .ok (.aload_n 0, 1) := dk_42 (dk_at dksX1_owed_0 23 rfl rfl)
theorem dX1_owed_24 : decode cX1_owed 24 = .ok (.getfield 53, 3) := dk_180 0 53 (dk_at dksX1_owed_1 0 rfl rfl)
theorem dX1_owed_27 : decode cX1_owed 27 = .ok (.i2l, 1) := dk_133 (dk_at dksX1_owed_1 3 rfl rfl)
theorem dX1_owed_28 : decode cX1_owed 28 = .ok (.lmul, 1) := dk_105 (dk_at dksX1_owed_1 4 rfl rfl)
theorem dX1_owed_29 : decode cX1_owed 29 = .ok (.ldc2_w 93, 3) := dk_20 0 93 (dk_at dksX1_owed_1 5 rfl rfl)
theorem dX1_owed_32 : decode cX1_owed 32 = .ok (.ldiv, 1) := dk_109 (dk_at dksX1_owed_1 8 rfl rfl)
theorem dX1_owed_33 : decode cX1_owed 33 = .ok (.ladd, 1) := dk_97 (dk_at dksX1_owed_1 9 rfl rfl)
theorem dX1_owed_34 : decode cX1_owed 34 = .ok (.invokestatic 95, 3) := dk_184 0 95 (dk_at dksX1_owed_1 10 rfl rfl)
theorem dX1_owed_37 : decode cX1_owed 37 = .ok (.l2i, 1) := dk_136 (dk_at dksX1_owed_1 13 rfl rfl)
theorem dX1_owed_38 : decode cX1_owed 38 = .ok (.istore_n 3, 1) := dk_62 (dk_at dksX1_owed_1 14 rfl rfl)
theorem dX1_owed_39 : decode cX1_owed 39 = .ok (.iinc 4 1, 3) := dk_132 4 1 (dk_at dksX1_owed_1 15 rfl rfl)
theorem dX1_owed_42 : decode cX1_owed 42 = .ok (.goto (-32), 3) := dk_167 255 224 (dk_at dksX1_owed_1 18 rfl rfl)
theorem dX1_owed_45 : decode cX1_owed 45 = .ok (.iload_n 3, 1) := dk_29 (dk_at dksX1_owed_1 21 rfl rfl)
theorem dX1_owed_46 : decode cX1_owed 46 = .ok (.ireturn, 1) := dk_172 (dk_at dksX1_owed_1 22 rfl rfl)
abbrev cX1_owedByOwn : ByteArray := prog_7_method_10_code
def yX1_owedByOwn : MethodName := ⟨RX1, "owedByOwn", "(I)I"⟩
def dkwX1_owedByOwn_0 : List UInt8 := [42, 27, 42, 180, 0, 37, 27, 46, 42, 180, 0, 46, 27, 46, 100, 182, 0, 101, 172]
abbrev dktX1_owedByOwn_0 : List UInt8 := dkwX1_owedByOwn_0 ++ []
theorem dksX1_owedByOwn_0 : cX1_owedByOwn.data.toList.drop 0 = dktX1_owedByOwn_0 := by decide +kernel
theorem dX1_owedByOwn_0 : decode cX1_owedByOwn 0 = .ok (.aload_n 0, 1) := dk_42 (dk_at dksX1_owedByOwn_0 0 rfl rfl)
theorem dX1_owedByOwn_1 : decode cX1_owedByOwn 1 = .ok (.iload_n 1, 1) := dk_27 (dk_at dksX1_owedByOwn_0 1 rfl rfl)
theorem dX1_owedByOwn_2 : decode cX1_owedByOwn 2 = .ok (.aload_n 0, 1) := dk_42 (dk_at dksX1_owedByOwn_0 2 rfl rfl)
theorem dX1_owedByOwn_3 : decode cX1_owedByOwn 3 = .ok (.getfield 37, 3) := dk_180 0 37 (dk_at dksX1_owedByOwn_0 3 rfl rfl)
theorem dX1_owedByOwn_6 : decode cX1_owedByOwn 6 = .ok (.iload_n 1, 1) := dk_27 (dk_at dksX1_owedByOwn_0 6 rfl rfl)
theorem dX1_owedByOwn_7 : decode cX1_owedByOwn 7 = .ok (.iaload, 1) := dk_46 (dk_at dksX1_owedByOwn_0 7 rfl rfl)
theorem dX1_owedByOwn_8 : decode cX1_owedByOwn 8 = .ok (.aload_n 0, 1) := dk_42 (dk_at dksX1_owedByOwn_0 8 rfl rfl)
theorem dX1_owedByOwn_9 : decode cX1_owedByOwn 9 = .ok (.getfield 46, 3) := dk_180 0 46 (dk_at dksX1_owedByOwn_0 9 rfl rfl)
theorem dX1_owedByOwn_12 : decode cX1_owedByOwn 12 = .ok (.iload_n 1, 1) := dk_27 (dk_at dksX1_owedByOwn_0 12 rfl rfl)
theorem dX1_owedByOwn_13 : decode cX1_owedByOwn 13 = .ok (.iaload, 1) := dk_46 (dk_at dksX1_owedByOwn_0 13 rfl rfl)
theorem dX1_owedByOwn_14 : decode cX1_owedByOwn 14 = .ok (.isub, 1) := dk_100 (dk_at dksX1_owedByOwn_0 14 rfl rfl)
theorem dX1_owedByOwn_15 : decode cX1_owedByOwn 15 = .ok (.invokevirtual 101, 3) := dk_182 0 101 (dk_at dksX1_owedByOwn_0 15 rfl rfl)
theorem dX1_owedByOwn_18 : decode cX1_owedByOwn 18 = .ok (.ireturn, 1) := dk_172 (dk_at dksX1_owedByOwn_0 18 rfl rfl)
theorem q61 : (Jvm.Cond.initialized "YoungerBack$League") ∈ lw_all := lw_g (lw_at lw_m1 2 rfl) rfl
theorem q108 : (Jvm.Cond.instantiable "YoungerBack$League" (14 : Nat)) ∈ lw_all := lw_g (lw_at lw_m1 49 rfl) rfl
theorem q110 : (Jvm.Cond.instanceMethod ({ cls := "YoungerBack$League", name := "<init>", desc := "()V" } : Jvm.MethodName)) ∈ lw_all := lw_g (lw_at lw_m1 51 rfl) rfl
theorem q111 : (Jvm.Cond.code ({ cls := "YoungerBack$League", name := "<init>", desc := "()V" } : Jvm.MethodName) prog_7_method_1_code (1 : Nat) (Option.none : Option Jvm.ClassFile.FieldType)) ∈ lw_all := lw_g (lw_at lw_m1 52 rfl) rfl
theorem q112 : (Jvm.Cond.methodLink "YoungerBack$League" (3 : Nat) ({ cls := "java/lang/Object", name := "<init>", desc := "()V" } : Jvm.MethodName)) ∈ lw_all := lw_g (lw_at lw_m1 53 rfl) rfl
theorem q113 : (Jvm.Cond.classLink "YoungerBack$League" (24 : Nat) "java/util/ArrayList") ∈ lw_all := lw_g (lw_at lw_m1 54 rfl) rfl
theorem q115 : (Jvm.Cond.methodLink "YoungerBack$League" (26 : Nat) ({ cls := "java/util/ArrayList", name := "<init>", desc := "()V" } : Jvm.MethodName)) ∈ lw_all := lw_g (lw_at lw_m1 56 rfl) rfl
theorem q141 : (Jvm.Cond.fieldLink "YoungerBack$League" (49 : Nat) "YoungerBack$League" "harbours" "I") ∈ lw_all := lw_g (lw_at lw_m1 82 rfl) rfl
theorem q144 : (Jvm.Cond.fieldLink "YoungerBack$League" (53 : Nat) "YoungerBack$League" "rate" "I") ∈ lw_all := lw_g (lw_at lw_m1 85 rfl) rfl
theorem q147 : (Jvm.Cond.fieldLink "YoungerBack$League" (56 : Nat) "YoungerBack$League" "ways" "I") ∈ lw_all := lw_g (lw_at lw_m1 88 rfl) rfl
theorem q150 : (Jvm.Cond.fieldLink "YoungerBack$League" (9 : Nat) "YoungerBack$League" "a" "[I") ∈ lw_all := lw_g (lw_at lw_m1 91 rfl) rfl
theorem q153 : (Jvm.Cond.fieldLink "YoungerBack$League" (15 : Nat) "YoungerBack$League" "b" "[I") ∈ lw_all := lw_g (lw_at lw_m1 94 rfl) rfl
theorem q156 : (Jvm.Cond.fieldLink "YoungerBack$League" (18 : Nat) "YoungerBack$League" "shore" "[I") ∈ lw_all := lw_g (lw_at lw_m1 97 rfl) rfl
theorem q159 : (Jvm.Cond.fieldLink "YoungerBack$League" (21 : Nat) "YoungerBack$League" "own" "[I") ∈ lw_all := lw_g (lw_at lw_m1 100 rfl) rfl
theorem q161 : (Jvm.Cond.fieldLink "YoungerBack$League" (27 : Nat) "YoungerBack$League" "people" "Ljava/util/List;") ∈ lw_all := lw_g (lw_at lw_m1 102 rfl) rfl
theorem q164 : (Jvm.Cond.fieldLink "YoungerBack$League" (31 : Nat) "YoungerBack$League" "at" "[I") ∈ lw_all := lw_g (lw_at lw_m1 105 rfl) rfl
theorem q168 : (Jvm.Cond.fieldLink "YoungerBack$League" (34 : Nat) "YoungerBack$League" "hour" "[I") ∈ lw_all := lw_g (lw_at lw_m1 109 rfl) rfl
theorem q170 : (Jvm.Cond.fieldLink "YoungerBack$League" (37 : Nat) "YoungerBack$League" "age" "[I") ∈ lw_all := lw_g (lw_at lw_m1 111 rfl) rfl
theorem q174 : (Jvm.Cond.fieldLink "YoungerBack$League" (40 : Nat) "YoungerBack$League" "sum" "[I") ∈ lw_all := lw_g (lw_at lw_m1 115 rfl) rfl
theorem q176 : (Jvm.Cond.fieldLink "YoungerBack$League" (43 : Nat) "YoungerBack$League" "since" "[I") ∈ lw_all := lw_g (lw_at lw_m1 117 rfl) rfl
theorem q178 : (Jvm.Cond.fieldLink "YoungerBack$League" (46 : Nat) "YoungerBack$League" "aged" "[I") ∈ lw_all := lw_g (lw_at lw_m1 119 rfl) rfl
theorem q180 : (Jvm.Cond.lays "YoungerBack$League" "YoungerBack$League" "harbours" "I") ∈ lw_all := lw_g (lw_at lw_m1 121 rfl) rfl
theorem q181 : (Jvm.Cond.soleField "YoungerBack$League" "harbours") ∈ lw_all := lw_g (lw_at lw_m1 122 rfl) rfl
theorem q182 : (Jvm.Cond.lays "YoungerBack$League" "YoungerBack$League" "rate" "I") ∈ lw_all := lw_g (lw_at lw_m1 123 rfl) rfl
theorem q183 : (Jvm.Cond.soleField "YoungerBack$League" "rate") ∈ lw_all := lw_g (lw_at lw_m1 124 rfl) rfl
theorem q184 : (Jvm.Cond.lays "YoungerBack$League" "YoungerBack$League" "ways" "I") ∈ lw_all := lw_g (lw_at lw_m1 125 rfl) rfl
theorem q185 : (Jvm.Cond.soleField "YoungerBack$League" "ways") ∈ lw_all := lw_g (lw_at lw_m1 126 rfl) rfl
theorem q186 : (Jvm.Cond.laysFinal "YoungerBack$League" "YoungerBack$League" "a" "[I") ∈ lw_all := lw_g (lw_at lw_m1 127 rfl) rfl
theorem q187 : (Jvm.Cond.soleField "YoungerBack$League" "a") ∈ lw_all := lw_g (lw_at lw_m1 128 rfl) rfl
theorem q188 : (Jvm.Cond.laysFinal "YoungerBack$League" "YoungerBack$League" "b" "[I") ∈ lw_all := lw_g (lw_at lw_m1 129 rfl) rfl
theorem q189 : (Jvm.Cond.soleField "YoungerBack$League" "b") ∈ lw_all := lw_g (lw_at lw_m1 130 rfl) rfl
theorem q190 : (Jvm.Cond.laysFinal "YoungerBack$League" "YoungerBack$League" "shore" "[I") ∈ lw_all := lw_g (lw_at lw_m1 131 rfl) rfl
theorem q191 : (Jvm.Cond.soleField "YoungerBack$League" "shore") ∈ lw_all := lw_g (lw_at lw_m1 132 rfl) rfl
theorem q192 : (Jvm.Cond.laysFinal "YoungerBack$League" "YoungerBack$League" "own" "[I") ∈ lw_all := lw_g (lw_at lw_m1 133 rfl) rfl
theorem q193 : (Jvm.Cond.soleField "YoungerBack$League" "own") ∈ lw_all := lw_g (lw_at lw_m1 134 rfl) rfl
theorem q194 : (Jvm.Cond.lays "YoungerBack$League" "YoungerBack$League" "people" "Ljava/util/List;") ∈ lw_all := lw_g (lw_at lw_m1 135 rfl) rfl
theorem q195 : (Jvm.Cond.soleField "YoungerBack$League" "people") ∈ lw_all := lw_g (lw_at lw_m1 136 rfl) rfl
theorem q196 : (Jvm.Cond.laysFinal "YoungerBack$League" "YoungerBack$League" "at" "[I") ∈ lw_all := lw_g (lw_at lw_m1 137 rfl) rfl
theorem q197 : (Jvm.Cond.soleField "YoungerBack$League" "at") ∈ lw_all := lw_g (lw_at lw_m1 138 rfl) rfl
theorem q198 : (Jvm.Cond.laysFinal "YoungerBack$League" "YoungerBack$League" "hour" "[I") ∈ lw_all := lw_g (lw_at lw_m1 139 rfl) rfl
theorem q199 : (Jvm.Cond.soleField "YoungerBack$League" "hour") ∈ lw_all := lw_g (lw_at lw_m1 140 rfl) rfl
theorem q200 : (Jvm.Cond.laysFinal "YoungerBack$League" "YoungerBack$League" "age" "[I") ∈ lw_all := lw_g (lw_at lw_m1 141 rfl) rfl
theorem q201 : (Jvm.Cond.soleField "YoungerBack$League" "age") ∈ lw_all := lw_g (lw_at lw_m1 142 rfl) rfl
theorem q202 : (Jvm.Cond.laysFinal "YoungerBack$League" "YoungerBack$League" "sum" "[I") ∈ lw_all := lw_g (lw_at lw_m1 143 rfl) rfl
theorem q203 : (Jvm.Cond.soleField "YoungerBack$League" "sum") ∈ lw_all := lw_g (lw_at lw_m1 144 rfl) rfl
theorem q204 : (Jvm.Cond.laysFinal "YoungerBack$League" "YoungerBack$League" "since" "[I") ∈ lw_all := lw_g (lw_at lw_m1 145 rfl) rfl
theorem q205 : (Jvm.Cond.soleField "YoungerBack$League" "since") ∈ lw_all := lw_g (lw_at lw_m1 146 rfl) rfl
theorem q206 : (Jvm.Cond.laysFinal "YoungerBack$League" "YoungerBack$League" "aged" "[I") ∈ lw_all := lw_g (lw_at lw_m1 147 rfl) rfl
theorem q207 : (Jvm.Cond.soleField "YoungerBack$League" "aged") ∈ lw_all := lw_g (lw_at lw_m1 148 rfl) rfl
theorem q208 : (Jvm.Cond.superclass "YoungerBack$League" "java/lang/Object") ∈ lw_all := lw_g (lw_at lw_m1 149 rfl) rfl
theorem q732 : (Jvm.Cond.instanceMethod ({ cls := "YoungerBack$League", name := "many", desc := "()I" } : Jvm.MethodName)) ∈ lw_all := lw_g (lw_at lw_m3 193 rfl) rfl
theorem q733 : (Jvm.Cond.selects "YoungerBack$League" ({ cls := "YoungerBack$League", name := "many", desc := "()I" } : Jvm.MethodName) ({ cls := "YoungerBack$League", name := "many", desc := "()I" } : Jvm.MethodName)) ∈ lw_all := lw_g (lw_at lw_m3 194 rfl) rfl
theorem q734 : (Jvm.Cond.code ({ cls := "YoungerBack$League", name := "many", desc := "()I" } : Jvm.MethodName) prog_7_method_3_code (1 : Nat) (Option.some Jvm.ClassFile.FieldType.int)) ∈ lw_all := lw_g (lw_at lw_m3 195 rfl) rfl
theorem q735 : (Jvm.Cond.interfaceEntry "YoungerBack$League" (65 : Nat)) ∈ lw_tbl := lw_at lw_m3 196 rfl
theorem q736 : (Jvm.Cond.methodLink "YoungerBack$League" (65 : Nat) ({ cls := "java/util/List", name := "size", desc := "()I" } : Jvm.MethodName)) ∈ lw_all := lw_g (lw_at lw_m3 197 rfl) rfl
theorem q837 : (Jvm.Cond.selects "YoungerBack$League" ({ cls := "java/lang/Object", name := "getClass", desc := "()Ljava/lang/Class;" } : Jvm.MethodName) ({ cls := "java/lang/Object", name := "getClass", desc := "()Ljava/lang/Class;" } : Jvm.MethodName)) ∈ lw_all := lw_g (lw_at lw_m4 58 rfl) rfl
theorem q860 : (Jvm.Cond.instanceMethod ({ cls := "YoungerBack$League", name := "become", desc := "(LYoungerBack$League;)LYoungerBack$League;" } : Jvm.MethodName)) ∈ lw_all := lw_g (lw_at lw_m4 81 rfl) rfl
theorem q861 : (Jvm.Cond.selects "YoungerBack$League" ({ cls := "YoungerBack$League", name := "become", desc := "(LYoungerBack$League;)LYoungerBack$League;" } : Jvm.MethodName) ({ cls := "YoungerBack$League", name := "become", desc := "(LYoungerBack$League;)LYoungerBack$League;" } : Jvm.MethodName)) ∈ lw_all := lw_g (lw_at lw_m4 82 rfl) rfl
theorem q862 : (Jvm.Cond.code ({ cls := "YoungerBack$League", name := "become", desc := "(LYoungerBack$League;)LYoungerBack$League;" } : Jvm.MethodName) prog_7_method_2_code (2 : Nat) (Option.some (Jvm.ClassFile.FieldType.object "YoungerBack$League"))) ∈ lw_all := lw_g (lw_at lw_m4 83 rfl) rfl
theorem q863 : (Jvm.Cond.methodLink "YoungerBack$League" (59 : Nat) ({ cls := "java/lang/System", name := "arraycopy", desc := "(Ljava/lang/Object;ILjava/lang/Object;II)V" } : Jvm.MethodName)) ∈ lw_all := lw_g (lw_at lw_m4 84 rfl) rfl
theorem q886 : (Jvm.Cond.instanceMethod ({ cls := "YoungerBack$League", name := "end", desc := "(III)I" } : Jvm.MethodName)) ∈ lw_all := lw_g (lw_at lw_m4 107 rfl) rfl
theorem q887 : (Jvm.Cond.selects "YoungerBack$League" ({ cls := "YoungerBack$League", name := "end", desc := "(III)I" } : Jvm.MethodName) ({ cls := "YoungerBack$League", name := "end", desc := "(III)I" } : Jvm.MethodName)) ∈ lw_all := lw_g (lw_at lw_m4 108 rfl) rfl
theorem q888 : (Jvm.Cond.code ({ cls := "YoungerBack$League", name := "end", desc := "(III)I" } : Jvm.MethodName) prog_7_method_4_code (4 : Nat) (Option.some Jvm.ClassFile.FieldType.int)) ∈ lw_all := lw_g (lw_at lw_m4 109 rfl) rfl
theorem q889 : (Jvm.Cond.interfaceEntry "YoungerBack$League" (71 : Nat)) ∈ lw_tbl := lw_at lw_m4 110 rfl
theorem q890 : (Jvm.Cond.methodLink "YoungerBack$League" (71 : Nat) ({ cls := "java/util/List", name := "get", desc := "(I)Ljava/lang/Object;" } : Jvm.MethodName)) ∈ lw_all := lw_g (lw_at lw_m4 111 rfl) rfl
theorem q906 : (Jvm.Cond.classLink "YoungerBack$League" (75 : Nat) "YoungerBack$Person") ∈ lw_all := lw_g (lw_at lw_m4 127 rfl) rfl
theorem q907 : (Jvm.Cond.methodLink "YoungerBack$League" (77 : Nat) ({ cls := "YoungerBack$Person", name := "may", desc := "(I)Z" } : Jvm.MethodName)) ∈ lw_all := lw_g (lw_at lw_m4 128 rfl) rfl
theorem q918 : (Jvm.Cond.constant "YoungerBack$League" (81 : Nat) (-1000000 : Int32)) ∈ lw_all := lw_g (lw_at lw_m4 139 rfl) rfl
theorem q930 : (Jvm.Cond.instanceMethod ({ cls := "YoungerBack$League", name := "sail", desc := "(II)V" } : Jvm.MethodName)) ∈ lw_all := lw_g (lw_at lw_m4 151 rfl) rfl
theorem q931 : (Jvm.Cond.selects "YoungerBack$League" ({ cls := "YoungerBack$League", name := "sail", desc := "(II)V" } : Jvm.MethodName) ({ cls := "YoungerBack$League", name := "sail", desc := "(II)V" } : Jvm.MethodName)) ∈ lw_all := lw_g (lw_at lw_m4 152 rfl) rfl
theorem q932 : (Jvm.Cond.code ({ cls := "YoungerBack$League", name := "sail", desc := "(II)V" } : Jvm.MethodName) prog_7_method_6_code (3 : Nat) (Option.none : Option Jvm.ClassFile.FieldType)) ∈ lw_all := lw_g (lw_at lw_m4 153 rfl) rfl
theorem q933 : (Jvm.Cond.methodLink "YoungerBack$League" (86 : Nat) ({ cls := "YoungerBack$League", name := "end", desc := "(III)I" } : Jvm.MethodName)) ∈ lw_all := lw_g (lw_at lw_m4 154 rfl) rfl
theorem q934 : (Jvm.Cond.methodLink "YoungerBack$League" (90 : Nat) ({ cls := "YoungerBack$League", name := "ages", desc := "(II)I" } : Jvm.MethodName)) ∈ lw_all := lw_g (lw_at lw_m4 155 rfl) rfl
theorem q935 : (Jvm.Cond.instanceMethod ({ cls := "YoungerBack$League", name := "ages", desc := "(II)I" } : Jvm.MethodName)) ∈ lw_all := lw_g (lw_at lw_m4 156 rfl) rfl
theorem q936 : (Jvm.Cond.selects "YoungerBack$League" ({ cls := "YoungerBack$League", name := "ages", desc := "(II)I" } : Jvm.MethodName) ({ cls := "YoungerBack$League", name := "ages", desc := "(II)I" } : Jvm.MethodName)) ∈ lw_all := lw_g (lw_at lw_m4 157 rfl) rfl
theorem q937 : (Jvm.Cond.code ({ cls := "YoungerBack$League", name := "ages", desc := "(II)I" } : Jvm.MethodName) prog_7_method_5_code (3 : Nat) (Option.some Jvm.ClassFile.FieldType.int)) ∈ lw_all := lw_g (lw_at lw_m4 158 rfl) rfl
theorem q938 : (Jvm.Cond.methodLink "YoungerBack$League" (82 : Nat) ({ cls := "YoungerBack$Person", name := "ages", desc := "(II)I" } : Jvm.MethodName)) ∈ lw_all := lw_g (lw_at lw_m4 159 rfl) rfl
theorem q975 : (Jvm.Cond.instanceMethod ({ cls := "YoungerBack$League", name := "stay", desc := "(II)V" } : Jvm.MethodName)) ∈ lw_all := lw_g (lw_at lw_m4 196 rfl) rfl
theorem q976 : (Jvm.Cond.selects "YoungerBack$League" ({ cls := "YoungerBack$League", name := "stay", desc := "(II)V" } : Jvm.MethodName) ({ cls := "YoungerBack$League", name := "stay", desc := "(II)V" } : Jvm.MethodName)) ∈ lw_all := lw_g (lw_at lw_m4 197 rfl) rfl
theorem q977 : (Jvm.Cond.code ({ cls := "YoungerBack$League", name := "stay", desc := "(II)V" } : Jvm.MethodName) prog_7_method_7_code (3 : Nat) (Option.none : Option Jvm.ClassFile.FieldType)) ∈ lw_all := lw_g (lw_at lw_m4 198 rfl) rfl
theorem q992 : (Jvm.Cond.instanceMethod ({ cls := "YoungerBack$League", name := "owedByShore", desc := "(I)I" } : Jvm.MethodName)) ∈ lw_all := lw_g (lw_at lw_m4 213 rfl) rfl
theorem q993 : (Jvm.Cond.selects "YoungerBack$League" ({ cls := "YoungerBack$League", name := "owedByShore", desc := "(I)I" } : Jvm.MethodName) ({ cls := "YoungerBack$League", name := "owedByShore", desc := "(I)I" } : Jvm.MethodName)) ∈ lw_all := lw_g (lw_at lw_m4 214 rfl) rfl
theorem q994 : (Jvm.Cond.code ({ cls := "YoungerBack$League", name := "owedByShore", desc := "(I)I" } : Jvm.MethodName) prog_7_method_9_code (2 : Nat) (Option.some Jvm.ClassFile.FieldType.int)) ∈ lw_all := lw_g (lw_at lw_m4 215 rfl) rfl
theorem q995 : (Jvm.Cond.methodLink "YoungerBack$League" (101 : Nat) ({ cls := "YoungerBack$League", name := "owed", desc := "(II)I" } : Jvm.MethodName)) ∈ lw_all := lw_g (lw_at lw_m4 216 rfl) rfl
theorem q996 : (Jvm.Cond.instanceMethod ({ cls := "YoungerBack$League", name := "owed", desc := "(II)I" } : Jvm.MethodName)) ∈ lw_all := lw_g (lw_at lw_m4 217 rfl) rfl
theorem q997 : (Jvm.Cond.selects "YoungerBack$League" ({ cls := "YoungerBack$League", name := "owed", desc := "(II)I" } : Jvm.MethodName) ({ cls := "YoungerBack$League", name := "owed", desc := "(II)I" } : Jvm.MethodName)) ∈ lw_all := lw_g (lw_at lw_m4 218 rfl) rfl
theorem q998 : (Jvm.Cond.code ({ cls := "YoungerBack$League", name := "owed", desc := "(II)I" } : Jvm.MethodName) prog_7_method_8_code (5 : Nat) (Option.some Jvm.ClassFile.FieldType.int)) ∈ lw_all := lw_g (lw_at lw_m4 219 rfl) rfl
theorem q999 : (Jvm.Cond.constantLong "YoungerBack$League" (91 : Nat) (99999999 : Int64)) ∈ lw_all := lw_g (lw_at lw_m4 220 rfl) rfl
theorem q1000 : (Jvm.Cond.constantLong "YoungerBack$League" (93 : Nat) (100 : Int64)) ∈ lw_all := lw_g (lw_at lw_m4 221 rfl) rfl
theorem q1001 : (Jvm.Cond.methodLink "YoungerBack$League" (95 : Nat) ({ cls := "java/lang/Math", name := "min", desc := "(JJ)J" } : Jvm.MethodName)) ∈ lw_all := lw_g (lw_at lw_m4 222 rfl) rfl
theorem q1016 : (Jvm.Cond.instanceMethod ({ cls := "YoungerBack$League", name := "owedByOwn", desc := "(I)I" } : Jvm.MethodName)) ∈ lw_all := lw_g (lw_at lw_m4 237 rfl) rfl
theorem q1017 : (Jvm.Cond.selects "YoungerBack$League" ({ cls := "YoungerBack$League", name := "owedByOwn", desc := "(I)I" } : Jvm.MethodName) ({ cls := "YoungerBack$League", name := "owedByOwn", desc := "(I)I" } : Jvm.MethodName)) ∈ lw_all := lw_g (lw_at lw_m4 238 rfl) rfl
theorem q1018 : (Jvm.Cond.code ({ cls := "YoungerBack$League", name := "owedByOwn", desc := "(I)I" } : Jvm.MethodName) prog_7_method_10_code (2 : Nat) (Option.some Jvm.ClassFile.FieldType.int)) ∈ lw_all := lw_g (lw_at lw_m4 239 rfl) rfl
theorem q1644 : (Jvm.Cond.castable "YoungerBack$League" "java/lang/Object") ∈ lw_tbl := lw_at lw_m7 145 rfl
theorem in_X1 : ∀ w ∈ wsX10, w ∈ lw_all := lw_in wsX10 [180, 182, 184, 186, 188, 190, 192, 194, 196, 198, 200, 202, 204, 206] (by decide +kernel) (by decide +kernel)

/-! YoungerBack$Pilot -/
set_option maxRecDepth 100000
def RX10 : String := "YoungerBack$Pilot"
def TX10 : u_T := fun k => match k with
  | 0 => ("YoungerBack$Person", "number", "I", true)
  | _ => ("YoungerBack$Person", "age", "I", true)
def tyX10 : Nat → FieldType := fun k => match k with
  | 0 => .int
  | _ => .int
abbrev wsX100 : List Cond := u_ws RX10 TX10 2
theorem nmX10 : ∀ a, a < 2 → ∀ b, b < 2 → a ≠ b → (TX10 a).2.1 ≠ (TX10 b).2.1 := by decide +kernel
theorem tyX10_ok : ∀ k, k < 2 → parseFieldDescriptor (TX10 k).2.2.1 = some (tyX10 k) := by decide +kernel
abbrev cX10_init : ByteArray := prog_11_method_1_code
def yX10_init : MethodName := ⟨RX10, "<init>", "(II)V"⟩
def dkwX10_init_0 : List UInt8 := [42, 27, 28, 183, 0, 3, 177]
abbrev dktX10_init_0 : List UInt8 := dkwX10_init_0 ++ []
theorem dksX10_init_0 : cX10_init.data.toList.drop 0 = dktX10_init_0 := by decide +kernel
theorem dX10_init_0 : decode cX10_init 0 = .ok (.aload_n 0, 1) := dk_42 (dk_at dksX10_init_0 0 rfl rfl)
theorem dX10_init_1 : decode cX10_init 1 = .ok (.iload_n 1, 1) := dk_27 (dk_at dksX10_init_0 1 rfl rfl)
theorem dX10_init_2 : decode cX10_init 2 = .ok (.iload_n 2, 1) := dk_28 (dk_at dksX10_init_0 2 rfl rfl)
theorem dX10_init_3 : decode cX10_init 3 = .ok (.invokespecial 3, 3) := dk_183 0 3 (dk_at dksX10_init_0 3 rfl rfl)
theorem dX10_init_6 : decode cX10_init 6 = .ok (.return_, 1) := dk_177 (dk_at dksX10_init_0 6 rfl rfl)
abbrev cX10_ages : ByteArray := prog_11_method_3_code
def yX10_ages : MethodName := ⟨RX10, "ages", "(II)I"⟩
def dkwX10_ages_0 : List UInt8 := [3, 42, 27, 28, 183, 0, 9, 4, 100, 184, 0, 13, 172]
abbrev dktX10_ages_0 : List UInt8 := dkwX10_ages_0 ++ []
theorem dksX10_ages_0 : cX10_ages.data.toList.drop 0 = dktX10_ages_0 := by decide +kernel
theorem dX10_ages_0 : decode cX10_ages 0 = .ok (.iconst 0, 1) := dk_3 (dk_at dksX10_ages_0 0 rfl rfl)
theorem dX10_ages_1 : decode cX10_ages 1 = .ok (.aload_n 0, 1) := dk_42 (dk_at dksX10_ages_0 1 rfl rfl)
theorem dX10_ages_2 : decode cX10_ages 2 = .ok (.iload_n 1, 1) := dk_27 (dk_at dksX10_ages_0 2 rfl rfl)
theorem dX10_ages_3 : decode cX10_ages 3 = .ok (.iload_n 2, 1) := dk_28 (dk_at dksX10_ages_0 3 rfl rfl)
theorem dX10_ages_4 : decode cX10_ages 4 = .ok (.invokespecial 9, 3) := dk_183 0 9 (dk_at dksX10_ages_0 4 rfl rfl)
theorem dX10_ages_7 : decode cX10_ages 7 = .ok (.iconst 1, 1) := dk_4 (dk_at dksX10_ages_0 7 rfl rfl)
theorem dX10_ages_8 : decode cX10_ages 8 = .ok (.isub, 1) := dk_100 (dk_at dksX10_ages_0 8 rfl rfl)
theorem dX10_ages_9 : decode cX10_ages 9 = .ok (.invokestatic 13, 3) := dk_184 0 13 (dk_at dksX10_ages_0 9 rfl rfl)
theorem dX10_ages_12 : decode cX10_ages 12 = .ok (.ireturn, 1) := dk_172 (dk_at dksX10_ages_0 12 rfl rfl)
abbrev cX10_kind : ByteArray := prog_11_method_2_code
def yX10_kind : MethodName := ⟨RX10, "kind", "()I"⟩
theorem dX10_kind_0 : decode cX10_kind 0 = .ok (.iconst 2, 1) := by decide +kernel
theorem dX10_kind_1 : decode cX10_kind 1 = .ok (.ireturn, 1) := by decide +kernel
abbrev cX10_mark : ByteArray := prog_11_method_5_code
def yX10_mark : MethodName := ⟨RX10, "mark", "(LYoungerBack$Trail;LYoungerBack$League;)I"⟩
def dkwX10_mark_0 : List UInt8 := [43, 16, 24, 182, 0, 18, 5, 42, 43, 44, 183, 0, 28, 104, 172]
abbrev dktX10_mark_0 : List UInt8 := dkwX10_mark_0 ++ []
theorem dksX10_mark_0 : cX10_mark.data.toList.drop 0 = dktX10_mark_0 := by decide +kernel
theorem dX10_mark_0 : decode cX10_mark 0 = .ok (.aload_n 1, 1) := dk_43 (dk_at dksX10_mark_0 0 rfl rfl)
theorem dX10_mark_1 : decode cX10_mark 1 = .ok (.bipush 24, 2) := dk_16 24 (dk_at dksX10_mark_0 1 rfl rfl)
theorem dX10_mark_3 : decode cX10_mark 3 = .ok (.invokevirtual 18, 3) := dk_182 0 18 (dk_at dksX10_mark_0 3 rfl rfl)
theorem dX10_mark_6 : decode cX10_mark 6 = .ok (.iconst 2, 1) := dk_5 (dk_at dksX10_mark_0 6 rfl rfl)
theorem dX10_mark_7 : decode cX10_mark 7 = .ok (.aload_n 0, 1) := dk_42 (dk_at dksX10_mark_0 7 rfl rfl)
theorem dX10_mark_8 : decode cX10_mark 8 = .ok (.aload_n 1, 1) := dk_43 (dk_at dksX10_mark_0 8 rfl rfl)
theorem dX10_mark_9 : decode cX10_mark 9 = .ok (.aload_n 2, 1) := dk_44 (dk_at dksX10_mark_0 9 rfl rfl)
theorem dX10_mark_10 : decode cX10_mark 10 = .ok (.invokespecial 28, 3) := dk_183 0 28 (dk_at dksX10_mark_0 10 rfl rfl)
theorem dX10_mark_13 : decode cX10_mark 13 = .ok (.imul, 1) := dk_104 (dk_at dksX10_mark_0 13 rfl rfl)
theorem dX10_mark_14 : decode cX10_mark 14 = .ok (.ireturn, 1) := dk_172 (dk_at dksX10_mark_0 14 rfl rfl)
abbrev cX10_size : ByteArray := prog_11_method_4_code
def yX10_size : MethodName := ⟨RX10, "size", "(LYoungerBack$Trail;LYoungerBack$League;)I"⟩
def dkwX10_size_0 : List UInt8 := [43, 16, 12, 182, 0, 18, 42, 43, 44, 183, 0, 24, 116, 172]
abbrev dktX10_size_0 : List UInt8 := dkwX10_size_0 ++ []
theorem dksX10_size_0 : cX10_size.data.toList.drop 0 = dktX10_size_0 := by decide +kernel
theorem dX10_size_0 : decode cX10_size 0 = .ok (.aload_n 1, 1) := dk_43 (dk_at dksX10_size_0 0 rfl rfl)
theorem dX10_size_1 : decode cX10_size 1 = .ok (.bipush 12, 2) := dk_16 12 (dk_at dksX10_size_0 1 rfl rfl)
theorem dX10_size_3 : decode cX10_size 3 = .ok (.invokevirtual 18, 3) := dk_182 0 18 (dk_at dksX10_size_0 3 rfl rfl)
theorem dX10_size_6 : decode cX10_size 6 = .ok (.aload_n 0, 1) := dk_42 (dk_at dksX10_size_0 6 rfl rfl)
theorem dX10_size_7 : decode cX10_size 7 = .ok (.aload_n 1, 1) := dk_43 (dk_at dksX10_size_0 7 rfl rfl)
theorem dX10_size_8 : decode cX10_size 8 = .ok (.aload_n 2, 1) := dk_44 (dk_at dksX10_size_0 8 rfl rfl)
theorem dX10_size_9 : decode cX10_size 9 = .ok (.invokespecial 24, 3) := dk_183 0 24 (dk_at dksX10_size_0 9 rfl rfl)
theorem dX10_size_12 : decode cX10_size 12 = .ok (.ineg, 1) := dk_116 (dk_at dksX10_size_0 12 rfl rfl)
theorem dX10_size_13 : decode cX10_size 13 = .ok (.ireturn, 1) := dk_172 (dk_at dksX10_size_0 13 rfl rfl)
theorem q88 : (Jvm.Cond.initialized "YoungerBack$Pilot") ∈ lw_all := lw_g (lw_at lw_m1 29 rfl) rfl
theorem q768 : (Jvm.Cond.instantiable "YoungerBack$Pilot" (2 : Nat)) ∈ lw_all := lw_g (lw_at lw_m3 229 rfl) rfl
theorem q770 : (Jvm.Cond.instanceMethod ({ cls := "YoungerBack$Pilot", name := "<init>", desc := "(II)V" } : Jvm.MethodName)) ∈ lw_all := lw_g (lw_at lw_m3 231 rfl) rfl
theorem q771 : (Jvm.Cond.code ({ cls := "YoungerBack$Pilot", name := "<init>", desc := "(II)V" } : Jvm.MethodName) prog_11_method_1_code (3 : Nat) (Option.none : Option Jvm.ClassFile.FieldType)) ∈ lw_all := lw_g (lw_at lw_m3 232 rfl) rfl
theorem q772 : (Jvm.Cond.methodLink "YoungerBack$Pilot" (3 : Nat) ({ cls := "YoungerBack$Captain", name := "<init>", desc := "(II)V" } : Jvm.MethodName)) ∈ lw_all := lw_g (lw_at lw_m3 233 rfl) rfl
theorem q773 : (Jvm.Cond.laysFinal "YoungerBack$Pilot" "YoungerBack$Person" "number" "I") ∈ lw_all := lw_g (lw_at lw_m3 234 rfl) rfl
theorem q774 : (Jvm.Cond.laysFinal "YoungerBack$Pilot" "YoungerBack$Person" "age" "I") ∈ lw_all := lw_g (lw_at lw_m3 235 rfl) rfl
theorem q775 : (Jvm.Cond.superclass "YoungerBack$Pilot" "YoungerBack$Captain") ∈ lw_all := lw_g (lw_at lw_m3 236 rfl) rfl
theorem q839 : (Jvm.Cond.selects "YoungerBack$Pilot" ({ cls := "java/lang/Object", name := "getClass", desc := "()Ljava/lang/Class;" } : Jvm.MethodName) ({ cls := "java/lang/Object", name := "getClass", desc := "()Ljava/lang/Class;" } : Jvm.MethodName)) ∈ lw_all := lw_g (lw_at lw_m4 60 rfl) rfl
theorem q916 : (Jvm.Cond.selects "YoungerBack$Pilot" ({ cls := "YoungerBack$Person", name := "may", desc := "(I)Z" } : Jvm.MethodName) ({ cls := "YoungerBack$Person", name := "may", desc := "(I)Z" } : Jvm.MethodName)) ∈ lw_all := lw_g (lw_at lw_m4 137 rfl) rfl
theorem q953 : (Jvm.Cond.selects "YoungerBack$Pilot" ({ cls := "YoungerBack$Person", name := "ages", desc := "(II)I" } : Jvm.MethodName) ({ cls := "YoungerBack$Pilot", name := "ages", desc := "(II)I" } : Jvm.MethodName)) ∈ lw_all := lw_g (lw_at lw_m4 174 rfl) rfl
theorem q954 : (Jvm.Cond.instanceMethod ({ cls := "YoungerBack$Pilot", name := "ages", desc := "(II)I" } : Jvm.MethodName)) ∈ lw_all := lw_g (lw_at lw_m4 175 rfl) rfl
theorem q955 : (Jvm.Cond.code ({ cls := "YoungerBack$Pilot", name := "ages", desc := "(II)I" } : Jvm.MethodName) prog_11_method_3_code (3 : Nat) (Option.some Jvm.ClassFile.FieldType.int)) ∈ lw_all := lw_g (lw_at lw_m4 176 rfl) rfl
theorem q956 : (Jvm.Cond.methodLink "YoungerBack$Pilot" (9 : Nat) ({ cls := "YoungerBack$Captain", name := "ages", desc := "(II)I" } : Jvm.MethodName)) ∈ lw_all := lw_g (lw_at lw_m4 177 rfl) rfl
theorem q957 : (Jvm.Cond.methodLink "YoungerBack$Pilot" (13 : Nat) ({ cls := "java/lang/Math", name := "max", desc := "(II)I" } : Jvm.MethodName)) ∈ lw_all := lw_g (lw_at lw_m4 178 rfl) rfl
theorem q1123 : (Jvm.Cond.selects "YoungerBack$Pilot" ({ cls := "YoungerBack$Person", name := "kind", desc := "()I" } : Jvm.MethodName) ({ cls := "YoungerBack$Pilot", name := "kind", desc := "()I" } : Jvm.MethodName)) ∈ lw_all := lw_g (lw_at lw_m5 104 rfl) rfl
theorem q1124 : (Jvm.Cond.instanceMethod ({ cls := "YoungerBack$Pilot", name := "kind", desc := "()I" } : Jvm.MethodName)) ∈ lw_all := lw_g (lw_at lw_m5 105 rfl) rfl
theorem q1125 : (Jvm.Cond.code ({ cls := "YoungerBack$Pilot", name := "kind", desc := "()I" } : Jvm.MethodName) prog_11_method_2_code (1 : Nat) (Option.some Jvm.ClassFile.FieldType.int)) ∈ lw_all := lw_g (lw_at lw_m5 106 rfl) rfl
theorem q1152 : (Jvm.Cond.selects "YoungerBack$Pilot" ({ cls := "YoungerBack$Person", name := "number", desc := "()I" } : Jvm.MethodName) ({ cls := "YoungerBack$Person", name := "number", desc := "()I" } : Jvm.MethodName)) ∈ lw_all := lw_g (lw_at lw_m5 133 rfl) rfl
theorem q1187 : (Jvm.Cond.selects "YoungerBack$Pilot" ({ cls := "YoungerBack$Captain", name := "mark", desc := "(LYoungerBack$Trail;LYoungerBack$League;)I" } : Jvm.MethodName) ({ cls := "YoungerBack$Pilot", name := "mark", desc := "(LYoungerBack$Trail;LYoungerBack$League;)I" } : Jvm.MethodName)) ∈ lw_all := lw_g (lw_at lw_m5 168 rfl) rfl
theorem q1188 : (Jvm.Cond.instanceMethod ({ cls := "YoungerBack$Pilot", name := "mark", desc := "(LYoungerBack$Trail;LYoungerBack$League;)I" } : Jvm.MethodName)) ∈ lw_all := lw_g (lw_at lw_m5 169 rfl) rfl
theorem q1189 : (Jvm.Cond.code ({ cls := "YoungerBack$Pilot", name := "mark", desc := "(LYoungerBack$Trail;LYoungerBack$League;)I" } : Jvm.MethodName) prog_11_method_5_code (3 : Nat) (Option.some Jvm.ClassFile.FieldType.int)) ∈ lw_all := lw_g (lw_at lw_m5 170 rfl) rfl
theorem q1190 : (Jvm.Cond.methodLink "YoungerBack$Pilot" (18 : Nat) ({ cls := "YoungerBack$Trail", name := "begins", desc := "(I)V" } : Jvm.MethodName)) ∈ lw_all := lw_g (lw_at lw_m5 171 rfl) rfl
theorem q1191 : (Jvm.Cond.methodLink "YoungerBack$Pilot" (28 : Nat) ({ cls := "YoungerBack$Captain", name := "mark", desc := "(LYoungerBack$Trail;LYoungerBack$League;)I" } : Jvm.MethodName)) ∈ lw_all := lw_g (lw_at lw_m5 172 rfl) rfl
theorem q1215 : (Jvm.Cond.castable "YoungerBack$Pilot" "YoungerBack$Marked") ∈ lw_tbl := lw_at lw_m5 196 rfl
theorem q1216 : (Jvm.Cond.selects "YoungerBack$Pilot" ({ cls := "YoungerBack$Marked", name := "number", desc := "()I" } : Jvm.MethodName) ({ cls := "YoungerBack$Person", name := "number", desc := "()I" } : Jvm.MethodName)) ∈ lw_all := lw_g (lw_at lw_m5 197 rfl) rfl
theorem q1217 : (Jvm.Cond.unhidden "YoungerBack$Pilot" "number" "()I") ∈ lw_tbl := lw_at lw_m5 198 rfl
theorem q1223 : (Jvm.Cond.selects "YoungerBack$Pilot" ({ cls := "YoungerBack$Captain", name := "number", desc := "()I" } : Jvm.MethodName) ({ cls := "YoungerBack$Person", name := "number", desc := "()I" } : Jvm.MethodName)) ∈ lw_all := lw_g (lw_at lw_m5 204 rfl) rfl
theorem q1226 : (Jvm.Cond.selects "YoungerBack$Pilot" ({ cls := "YoungerBack$Person", name := "size", desc := "(LYoungerBack$Trail;LYoungerBack$League;)I" } : Jvm.MethodName) ({ cls := "YoungerBack$Pilot", name := "size", desc := "(LYoungerBack$Trail;LYoungerBack$League;)I" } : Jvm.MethodName)) ∈ lw_all := lw_g (lw_at lw_m5 207 rfl) rfl
theorem q1227 : (Jvm.Cond.instanceMethod ({ cls := "YoungerBack$Pilot", name := "size", desc := "(LYoungerBack$Trail;LYoungerBack$League;)I" } : Jvm.MethodName)) ∈ lw_all := lw_g (lw_at lw_m5 208 rfl) rfl
theorem q1228 : (Jvm.Cond.code ({ cls := "YoungerBack$Pilot", name := "size", desc := "(LYoungerBack$Trail;LYoungerBack$League;)I" } : Jvm.MethodName) prog_11_method_4_code (3 : Nat) (Option.some Jvm.ClassFile.FieldType.int)) ∈ lw_all := lw_g (lw_at lw_m5 209 rfl) rfl
theorem q1229 : (Jvm.Cond.methodLink "YoungerBack$Pilot" (24 : Nat) ({ cls := "YoungerBack$Captain", name := "size", desc := "(LYoungerBack$Trail;LYoungerBack$League;)I" } : Jvm.MethodName)) ∈ lw_all := lw_g (lw_at lw_m5 210 rfl) rfl
theorem q1239 : (Jvm.Cond.selects "YoungerBack$Pilot" ({ cls := "YoungerBack$Marked", name := "mark", desc := "(LYoungerBack$Trail;LYoungerBack$League;)I" } : Jvm.MethodName) ({ cls := "YoungerBack$Pilot", name := "mark", desc := "(LYoungerBack$Trail;LYoungerBack$League;)I" } : Jvm.MethodName)) ∈ lw_all := lw_g (lw_at lw_m5 220 rfl) rfl
theorem q1639 : (Jvm.Cond.castable "YoungerBack$Pilot" "YoungerBack$Person") ∈ lw_tbl := lw_at lw_m7 140 rfl
theorem q1641 : (Jvm.Cond.castable "YoungerBack$Pilot" "YoungerBack$Captain") ∈ lw_tbl := lw_at lw_m7 142 rfl
theorem q1656 : (Jvm.Cond.castable "YoungerBack$Pilot" "java/lang/Object") ∈ lw_tbl := lw_at lw_m7 157 rfl
theorem in_X10 : ∀ w ∈ wsX100, w ∈ lw_all := lw_in wsX100 [773, 774] (by decide +kernel) (by decide +kernel)

/-! YoungerBack$Monk -/
set_option maxRecDepth 100000
def RX11 : String := "YoungerBack$Monk"
def TX11 : u_T := fun k => match k with
  | 0 => ("YoungerBack$Person", "number", "I", true)
  | _ => ("YoungerBack$Person", "age", "I", true)
def tyX11 : Nat → FieldType := fun k => match k with
  | 0 => .int
  | _ => .int
abbrev wsX110 : List Cond := u_ws RX11 TX11 2
theorem nmX11 : ∀ a, a < 2 → ∀ b, b < 2 → a ≠ b → (TX11 a).2.1 ≠ (TX11 b).2.1 := by decide +kernel
theorem tyX11_ok : ∀ k, k < 2 → parseFieldDescriptor (TX11 k).2.2.1 = some (tyX11 k) := by decide +kernel
abbrev cX11_init : ByteArray := prog_9_method_1_code
def yX11_init : MethodName := ⟨RX11, "<init>", "(II)V"⟩
def dkwX11_init_0 : List UInt8 := [42, 27, 28, 183, 0, 3, 177]
abbrev dktX11_init_0 : List UInt8 := dkwX11_init_0 ++ []
theorem dksX11_init_0 : cX11_init.data.toList.drop 0 = dktX11_init_0 := by decide +kernel
theorem dX11_init_0 : decode cX11_init 0 = .ok (.aload_n 0, 1) := dk_42 (dk_at dksX11_init_0 0 rfl rfl)
theorem dX11_init_1 : decode cX11_init 1 = .ok (.iload_n 1, 1) := dk_27 (dk_at dksX11_init_0 1 rfl rfl)
theorem dX11_init_2 : decode cX11_init 2 = .ok (.iload_n 2, 1) := dk_28 (dk_at dksX11_init_0 2 rfl rfl)
theorem dX11_init_3 : decode cX11_init 3 = .ok (.invokespecial 3, 3) := dk_183 0 3 (dk_at dksX11_init_0 3 rfl rfl)
theorem dX11_init_6 : decode cX11_init 6 = .ok (.return_, 1) := dk_177 (dk_at dksX11_init_0 6 rfl rfl)
abbrev cX11_ages : ByteArray := prog_9_method_3_code
def yX11_ages : MethodName := ⟨RX11, "ages", "(II)I"⟩
theorem dX11_ages_0 : decode cX11_ages 0 = .ok (.iconst 0, 1) := by decide +kernel
theorem dX11_ages_1 : decode cX11_ages 1 = .ok (.ireturn, 1) := by decide +kernel
abbrev cX11_kind : ByteArray := prog_9_method_2_code
def yX11_kind : MethodName := ⟨RX11, "kind", "()I"⟩
theorem dX11_kind_0 : decode cX11_kind 0 = .ok (.iconst 3, 1) := by decide +kernel
theorem dX11_kind_1 : decode cX11_kind 1 = .ok (.ireturn, 1) := by decide +kernel
abbrev cX11_mark : ByteArray := prog_9_method_4_code
def yX11_mark : MethodName := ⟨RX11, "mark", "(LYoungerBack$Trail;LYoungerBack$League;)I"⟩
def dkwX11_mark_0 : List UInt8 := [43, 16, 22, 182, 0, 9, 42, 43, 44, 183, 0, 15, 17, 3, 232, 100, 172]
abbrev dktX11_mark_0 : List UInt8 := dkwX11_mark_0 ++ []
theorem dksX11_mark_0 : cX11_mark.data.toList.drop 0 = dktX11_mark_0 := by decide +kernel
theorem dX11_mark_0 : decode cX11_mark 0 = .ok (.aload_n 1, 1) := dk_43 (dk_at dksX11_mark_0 0 rfl rfl)
theorem dX11_mark_1 : decode cX11_mark 1 = .ok (.bipush 22, 2) := dk_16 22 (dk_at dksX11_mark_0 1 rfl rfl)
theorem dX11_mark_3 : decode cX11_mark 3 = .ok (.invokevirtual 9, 3) := dk_182 0 9 (dk_at dksX11_mark_0 3 rfl rfl)
theorem dX11_mark_6 : decode cX11_mark 6 = .ok (.aload_n 0, 1) := dk_42 (dk_at dksX11_mark_0 6 rfl rfl)
theorem dX11_mark_7 : decode cX11_mark 7 = .ok (.aload_n 1, 1) := dk_43 (dk_at dksX11_mark_0 7 rfl rfl)
theorem dX11_mark_8 : decode cX11_mark 8 = .ok (.aload_n 2, 1) := dk_44 (dk_at dksX11_mark_0 8 rfl rfl)
theorem dX11_mark_9 : decode cX11_mark 9 = .ok (.invokespecial 15, 3) := dk_183 0 15 (dk_at dksX11_mark_0 9 rfl rfl)
theorem dX11_mark_12 : decode cX11_mark 12 = .ok (.sipush 1000, 3) := dk_17 3 232 (dk_at dksX11_mark_0 12 rfl rfl)
theorem dX11_mark_15 : decode cX11_mark 15 = .ok (.isub, 1) := dk_100 (dk_at dksX11_mark_0 15 rfl rfl)
theorem dX11_mark_16 : decode cX11_mark 16 = .ok (.ireturn, 1) := dk_172 (dk_at dksX11_mark_0 16 rfl rfl)
theorem q89 : (Jvm.Cond.initialized "YoungerBack$Monk") ∈ lw_all := lw_g (lw_at lw_m1 30 rfl) rfl
theorem q777 : (Jvm.Cond.instantiable "YoungerBack$Monk" (2 : Nat)) ∈ lw_all := lw_g (lw_at lw_m3 238 rfl) rfl
theorem q779 : (Jvm.Cond.instanceMethod ({ cls := "YoungerBack$Monk", name := "<init>", desc := "(II)V" } : Jvm.MethodName)) ∈ lw_all := lw_g (lw_at lw_m4 0 rfl) rfl
theorem q780 : (Jvm.Cond.code ({ cls := "YoungerBack$Monk", name := "<init>", desc := "(II)V" } : Jvm.MethodName) prog_9_method_1_code (3 : Nat) (Option.none : Option Jvm.ClassFile.FieldType)) ∈ lw_all := lw_g (lw_at lw_m4 1 rfl) rfl
theorem q781 : (Jvm.Cond.methodLink "YoungerBack$Monk" (3 : Nat) ({ cls := "YoungerBack$Captain", name := "<init>", desc := "(II)V" } : Jvm.MethodName)) ∈ lw_all := lw_g (lw_at lw_m4 2 rfl) rfl
theorem q782 : (Jvm.Cond.laysFinal "YoungerBack$Monk" "YoungerBack$Person" "number" "I") ∈ lw_all := lw_g (lw_at lw_m4 3 rfl) rfl
theorem q783 : (Jvm.Cond.laysFinal "YoungerBack$Monk" "YoungerBack$Person" "age" "I") ∈ lw_all := lw_g (lw_at lw_m4 4 rfl) rfl
theorem q784 : (Jvm.Cond.superclass "YoungerBack$Monk" "YoungerBack$Captain") ∈ lw_all := lw_g (lw_at lw_m4 5 rfl) rfl
theorem q838 : (Jvm.Cond.selects "YoungerBack$Monk" ({ cls := "java/lang/Object", name := "getClass", desc := "()Ljava/lang/Class;" } : Jvm.MethodName) ({ cls := "java/lang/Object", name := "getClass", desc := "()Ljava/lang/Class;" } : Jvm.MethodName)) ∈ lw_all := lw_g (lw_at lw_m4 59 rfl) rfl
theorem q915 : (Jvm.Cond.selects "YoungerBack$Monk" ({ cls := "YoungerBack$Person", name := "may", desc := "(I)Z" } : Jvm.MethodName) ({ cls := "YoungerBack$Person", name := "may", desc := "(I)Z" } : Jvm.MethodName)) ∈ lw_all := lw_g (lw_at lw_m4 136 rfl) rfl
theorem q950 : (Jvm.Cond.selects "YoungerBack$Monk" ({ cls := "YoungerBack$Person", name := "ages", desc := "(II)I" } : Jvm.MethodName) ({ cls := "YoungerBack$Monk", name := "ages", desc := "(II)I" } : Jvm.MethodName)) ∈ lw_all := lw_g (lw_at lw_m4 171 rfl) rfl
theorem q951 : (Jvm.Cond.instanceMethod ({ cls := "YoungerBack$Monk", name := "ages", desc := "(II)I" } : Jvm.MethodName)) ∈ lw_all := lw_g (lw_at lw_m4 172 rfl) rfl
theorem q952 : (Jvm.Cond.code ({ cls := "YoungerBack$Monk", name := "ages", desc := "(II)I" } : Jvm.MethodName) prog_9_method_3_code (3 : Nat) (Option.some Jvm.ClassFile.FieldType.int)) ∈ lw_all := lw_g (lw_at lw_m4 173 rfl) rfl
theorem q1120 : (Jvm.Cond.selects "YoungerBack$Monk" ({ cls := "YoungerBack$Person", name := "kind", desc := "()I" } : Jvm.MethodName) ({ cls := "YoungerBack$Monk", name := "kind", desc := "()I" } : Jvm.MethodName)) ∈ lw_all := lw_g (lw_at lw_m5 101 rfl) rfl
theorem q1121 : (Jvm.Cond.instanceMethod ({ cls := "YoungerBack$Monk", name := "kind", desc := "()I" } : Jvm.MethodName)) ∈ lw_all := lw_g (lw_at lw_m5 102 rfl) rfl
theorem q1122 : (Jvm.Cond.code ({ cls := "YoungerBack$Monk", name := "kind", desc := "()I" } : Jvm.MethodName) prog_9_method_2_code (1 : Nat) (Option.some Jvm.ClassFile.FieldType.int)) ∈ lw_all := lw_g (lw_at lw_m5 103 rfl) rfl
theorem q1151 : (Jvm.Cond.selects "YoungerBack$Monk" ({ cls := "YoungerBack$Person", name := "number", desc := "()I" } : Jvm.MethodName) ({ cls := "YoungerBack$Person", name := "number", desc := "()I" } : Jvm.MethodName)) ∈ lw_all := lw_g (lw_at lw_m5 132 rfl) rfl
theorem q1182 : (Jvm.Cond.selects "YoungerBack$Monk" ({ cls := "YoungerBack$Captain", name := "mark", desc := "(LYoungerBack$Trail;LYoungerBack$League;)I" } : Jvm.MethodName) ({ cls := "YoungerBack$Monk", name := "mark", desc := "(LYoungerBack$Trail;LYoungerBack$League;)I" } : Jvm.MethodName)) ∈ lw_all := lw_g (lw_at lw_m5 163 rfl) rfl
theorem q1183 : (Jvm.Cond.instanceMethod ({ cls := "YoungerBack$Monk", name := "mark", desc := "(LYoungerBack$Trail;LYoungerBack$League;)I" } : Jvm.MethodName)) ∈ lw_all := lw_g (lw_at lw_m5 164 rfl) rfl
theorem q1184 : (Jvm.Cond.code ({ cls := "YoungerBack$Monk", name := "mark", desc := "(LYoungerBack$Trail;LYoungerBack$League;)I" } : Jvm.MethodName) prog_9_method_4_code (3 : Nat) (Option.some Jvm.ClassFile.FieldType.int)) ∈ lw_all := lw_g (lw_at lw_m5 165 rfl) rfl
theorem q1185 : (Jvm.Cond.methodLink "YoungerBack$Monk" (9 : Nat) ({ cls := "YoungerBack$Trail", name := "begins", desc := "(I)V" } : Jvm.MethodName)) ∈ lw_all := lw_g (lw_at lw_m5 166 rfl) rfl
theorem q1186 : (Jvm.Cond.methodLink "YoungerBack$Monk" (15 : Nat) ({ cls := "YoungerBack$Captain", name := "mark", desc := "(LYoungerBack$Trail;LYoungerBack$League;)I" } : Jvm.MethodName)) ∈ lw_all := lw_g (lw_at lw_m5 167 rfl) rfl
theorem q1212 : (Jvm.Cond.castable "YoungerBack$Monk" "YoungerBack$Marked") ∈ lw_tbl := lw_at lw_m5 193 rfl
theorem q1213 : (Jvm.Cond.selects "YoungerBack$Monk" ({ cls := "YoungerBack$Marked", name := "number", desc := "()I" } : Jvm.MethodName) ({ cls := "YoungerBack$Person", name := "number", desc := "()I" } : Jvm.MethodName)) ∈ lw_all := lw_g (lw_at lw_m5 194 rfl) rfl
theorem q1214 : (Jvm.Cond.unhidden "YoungerBack$Monk" "number" "()I") ∈ lw_tbl := lw_at lw_m5 195 rfl
theorem q1222 : (Jvm.Cond.selects "YoungerBack$Monk" ({ cls := "YoungerBack$Captain", name := "number", desc := "()I" } : Jvm.MethodName) ({ cls := "YoungerBack$Person", name := "number", desc := "()I" } : Jvm.MethodName)) ∈ lw_all := lw_g (lw_at lw_m5 203 rfl) rfl
theorem q1225 : (Jvm.Cond.selects "YoungerBack$Monk" ({ cls := "YoungerBack$Person", name := "size", desc := "(LYoungerBack$Trail;LYoungerBack$League;)I" } : Jvm.MethodName) ({ cls := "YoungerBack$Captain", name := "size", desc := "(LYoungerBack$Trail;LYoungerBack$League;)I" } : Jvm.MethodName)) ∈ lw_all := lw_g (lw_at lw_m5 206 rfl) rfl
theorem q1238 : (Jvm.Cond.selects "YoungerBack$Monk" ({ cls := "YoungerBack$Marked", name := "mark", desc := "(LYoungerBack$Trail;LYoungerBack$League;)I" } : Jvm.MethodName) ({ cls := "YoungerBack$Monk", name := "mark", desc := "(LYoungerBack$Trail;LYoungerBack$League;)I" } : Jvm.MethodName)) ∈ lw_all := lw_g (lw_at lw_m5 219 rfl) rfl
theorem q1638 : (Jvm.Cond.castable "YoungerBack$Monk" "YoungerBack$Person") ∈ lw_tbl := lw_at lw_m7 139 rfl
theorem q1640 : (Jvm.Cond.castable "YoungerBack$Monk" "YoungerBack$Captain") ∈ lw_tbl := lw_at lw_m7 141 rfl
theorem q1657 : (Jvm.Cond.castable "YoungerBack$Monk" "java/lang/Object") ∈ lw_tbl := lw_at lw_m7 158 rfl
theorem in_X11 : ∀ w ∈ wsX110, w ∈ lw_all := lw_in wsX110 [782, 783] (by decide +kernel) (by decide +kernel)

/-! YoungerBack$Clerk -/
set_option maxRecDepth 100000
def RX12 : String := "YoungerBack$Clerk"
def TX12 : u_T := fun k => match k with
  | 0 => ("YoungerBack$Person", "number", "I", true)
  | _ => ("YoungerBack$Person", "age", "I", true)
def tyX12 : Nat → FieldType := fun k => match k with
  | 0 => .int
  | _ => .int
abbrev wsX120 : List Cond := u_ws RX12 TX12 2
theorem nmX12 : ∀ a, a < 2 → ∀ b, b < 2 → a ≠ b → (TX12 a).2.1 ≠ (TX12 b).2.1 := by decide +kernel
theorem tyX12_ok : ∀ k, k < 2 → parseFieldDescriptor (TX12 k).2.2.1 = some (tyX12 k) := by decide +kernel
abbrev cX12_init : ByteArray := prog_4_method_1_code
def yX12_init : MethodName := ⟨RX12, "<init>", "(II)V"⟩
def dkwX12_init_0 : List UInt8 := [42, 27, 28, 183, 0, 3, 177]
abbrev dktX12_init_0 : List UInt8 := dkwX12_init_0 ++ []
theorem dksX12_init_0 : cX12_init.data.toList.drop 0 = dktX12_init_0 := by decide +kernel
theorem dX12_init_0 : decode cX12_init 0 = .ok (.aload_n 0, 1) := dk_42 (dk_at dksX12_init_0 0 rfl rfl)
theorem dX12_init_1 : decode cX12_init 1 = .ok (.iload_n 1, 1) := dk_27 (dk_at dksX12_init_0 1 rfl rfl)
theorem dX12_init_2 : decode cX12_init 2 = .ok (.iload_n 2, 1) := dk_28 (dk_at dksX12_init_0 2 rfl rfl)
theorem dX12_init_3 : decode cX12_init 3 = .ok (.invokespecial 3, 3) := dk_183 0 3 (dk_at dksX12_init_0 3 rfl rfl)
theorem dX12_init_6 : decode cX12_init 6 = .ok (.return_, 1) := dk_177 (dk_at dksX12_init_0 6 rfl rfl)
abbrev cX12_ages : ByteArray := prog_4_method_3_code
def yX12_ages : MethodName := ⟨RX12, "ages", "(II)I"⟩
theorem dX12_ages_0 : decode cX12_ages 0 = .ok (.iload_n 1, 1) := by decide +kernel
theorem dX12_ages_1 : decode cX12_ages 1 = .ok (.ireturn, 1) := by decide +kernel
abbrev cX12_kind : ByteArray := prog_4_method_2_code
def yX12_kind : MethodName := ⟨RX12, "kind", "()I"⟩
theorem dX12_kind_0 : decode cX12_kind 0 = .ok (.iconst 4, 1) := by decide +kernel
theorem dX12_kind_1 : decode cX12_kind 1 = .ok (.ireturn, 1) := by decide +kernel
abbrev cX12_size : ByteArray := prog_4_method_4_code
def yX12_size : MethodName := ⟨RX12, "size", "(LYoungerBack$Trail;LYoungerBack$League;)I"⟩
def dkwX12_size_0 : List UInt8 := [43, 16, 13, 182, 0, 9, 42, 43, 44, 183, 0, 15, 16, 100, 100, 172]
abbrev dktX12_size_0 : List UInt8 := dkwX12_size_0 ++ []
theorem dksX12_size_0 : cX12_size.data.toList.drop 0 = dktX12_size_0 := by decide +kernel
theorem dX12_size_0 : decode cX12_size 0 = .ok (.aload_n 1, 1) := dk_43 (dk_at dksX12_size_0 0 rfl rfl)
theorem dX12_size_1 : decode cX12_size 1 = .ok (.bipush 13, 2) := dk_16 13 (dk_at dksX12_size_0 1 rfl rfl)
theorem dX12_size_3 : decode cX12_size 3 = .ok (.invokevirtual 9, 3) := dk_182 0 9 (dk_at dksX12_size_0 3 rfl rfl)
theorem dX12_size_6 : decode cX12_size 6 = .ok (.aload_n 0, 1) := dk_42 (dk_at dksX12_size_0 6 rfl rfl)
theorem dX12_size_7 : decode cX12_size 7 = .ok (.aload_n 1, 1) := dk_43 (dk_at dksX12_size_0 7 rfl rfl)
theorem dX12_size_8 : decode cX12_size 8 = .ok (.aload_n 2, 1) := dk_44 (dk_at dksX12_size_0 8 rfl rfl)
theorem dX12_size_9 : decode cX12_size 9 = .ok (.invokespecial 15, 3) := dk_183 0 15 (dk_at dksX12_size_0 9 rfl rfl)
theorem dX12_size_12 : decode cX12_size 12 = .ok (.bipush 100, 2) := dk_16 100 (dk_at dksX12_size_0 12 rfl rfl)
theorem dX12_size_14 : decode cX12_size 14 = .ok (.isub, 1) := dk_100 (dk_at dksX12_size_0 14 rfl rfl)
theorem dX12_size_15 : decode cX12_size 15 = .ok (.ireturn, 1) := dk_172 (dk_at dksX12_size_0 15 rfl rfl)
abbrev cX12_mark : ByteArray := prog_4_method_5_code
def yX12_mark : MethodName := ⟨RX12, "mark", "(LYoungerBack$Trail;LYoungerBack$League;)I"⟩
def dkwX12_mark_0 : List UInt8 := [43, 16, 23, 182, 0, 9, 42, 43, 44, 183, 0, 19, 42, 43, 44, 182, 0, 22, 100, 172]
abbrev dktX12_mark_0 : List UInt8 := dkwX12_mark_0 ++ []
theorem dksX12_mark_0 : cX12_mark.data.toList.drop 0 = dktX12_mark_0 := by decide +kernel
theorem dX12_mark_0 : decode cX12_mark 0 = .ok (.aload_n 1, 1) := dk_43 (dk_at dksX12_mark_0 0 rfl rfl)
theorem dX12_mark_1 : decode cX12_mark 1 = .ok (.bipush 23, 2) := dk_16 23 (dk_at dksX12_mark_0 1 rfl rfl)
theorem dX12_mark_3 : decode cX12_mark 3 = .ok (.invokevirtual 9, 3) := dk_182 0 9 (dk_at dksX12_mark_0 3 rfl rfl)
theorem dX12_mark_6 : decode cX12_mark 6 = .ok (.aload_n 0, 1) := dk_42 (dk_at dksX12_mark_0 6 rfl rfl)
theorem dX12_mark_7 : decode cX12_mark 7 = .ok (.aload_n 1, 1) := dk_43 (dk_at dksX12_mark_0 7 rfl rfl)
theorem dX12_mark_8 : decode cX12_mark 8 = .ok (.aload_n 2, 1) := dk_44 (dk_at dksX12_mark_0 8 rfl rfl)
theorem dX12_mark_9 : decode cX12_mark 9 = .ok (.invokespecial 19, 3) := dk_183 0 19 (dk_at dksX12_mark_0 9 rfl rfl)
theorem dX12_mark_12 : decode cX12_mark 12 = .ok (.aload_n 0, 1) := dk_42 (dk_at dksX12_mark_0 12 rfl rfl)
theorem dX12_mark_13 : decode cX12_mark 13 = .ok (.aload_n 1, 1) := dk_43 (dk_at dksX12_mark_0 13 rfl rfl)
theorem dX12_mark_14 : decode cX12_mark 14 = .ok (.aload_n 2, 1) := dk_44 (dk_at dksX12_mark_0 14 rfl rfl)
theorem dX12_mark_15 : decode cX12_mark 15 = .ok (.invokevirtual 22, 3) := dk_182 0 22 (dk_at dksX12_mark_0 15 rfl rfl)
theorem dX12_mark_18 : decode cX12_mark 18 = .ok (.isub, 1) := dk_100 (dk_at dksX12_mark_0 18 rfl rfl)
theorem dX12_mark_19 : decode cX12_mark 19 = .ok (.ireturn, 1) := dk_172 (dk_at dksX12_mark_0 19 rfl rfl)
theorem q90 : (Jvm.Cond.initialized "YoungerBack$Clerk") ∈ lw_all := lw_g (lw_at lw_m1 31 rfl) rfl
theorem q786 : (Jvm.Cond.instantiable "YoungerBack$Clerk" (2 : Nat)) ∈ lw_all := lw_g (lw_at lw_m4 7 rfl) rfl
theorem q788 : (Jvm.Cond.instanceMethod ({ cls := "YoungerBack$Clerk", name := "<init>", desc := "(II)V" } : Jvm.MethodName)) ∈ lw_all := lw_g (lw_at lw_m4 9 rfl) rfl
theorem q789 : (Jvm.Cond.code ({ cls := "YoungerBack$Clerk", name := "<init>", desc := "(II)V" } : Jvm.MethodName) prog_4_method_1_code (3 : Nat) (Option.none : Option Jvm.ClassFile.FieldType)) ∈ lw_all := lw_g (lw_at lw_m4 10 rfl) rfl
theorem q790 : (Jvm.Cond.methodLink "YoungerBack$Clerk" (3 : Nat) ({ cls := "YoungerBack$Person", name := "<init>", desc := "(II)V" } : Jvm.MethodName)) ∈ lw_all := lw_g (lw_at lw_m4 11 rfl) rfl
theorem q791 : (Jvm.Cond.laysFinal "YoungerBack$Clerk" "YoungerBack$Person" "number" "I") ∈ lw_all := lw_g (lw_at lw_m4 12 rfl) rfl
theorem q792 : (Jvm.Cond.laysFinal "YoungerBack$Clerk" "YoungerBack$Person" "age" "I") ∈ lw_all := lw_g (lw_at lw_m4 13 rfl) rfl
theorem q793 : (Jvm.Cond.superclass "YoungerBack$Clerk" "YoungerBack$Person") ∈ lw_all := lw_g (lw_at lw_m4 14 rfl) rfl
theorem q834 : (Jvm.Cond.selects "YoungerBack$Clerk" ({ cls := "java/lang/Object", name := "getClass", desc := "()Ljava/lang/Class;" } : Jvm.MethodName) ({ cls := "java/lang/Object", name := "getClass", desc := "()Ljava/lang/Class;" } : Jvm.MethodName)) ∈ lw_all := lw_g (lw_at lw_m4 55 rfl) rfl
theorem q914 : (Jvm.Cond.selects "YoungerBack$Clerk" ({ cls := "YoungerBack$Person", name := "may", desc := "(I)Z" } : Jvm.MethodName) ({ cls := "YoungerBack$Person", name := "may", desc := "(I)Z" } : Jvm.MethodName)) ∈ lw_all := lw_g (lw_at lw_m4 135 rfl) rfl
theorem q947 : (Jvm.Cond.selects "YoungerBack$Clerk" ({ cls := "YoungerBack$Person", name := "ages", desc := "(II)I" } : Jvm.MethodName) ({ cls := "YoungerBack$Clerk", name := "ages", desc := "(II)I" } : Jvm.MethodName)) ∈ lw_all := lw_g (lw_at lw_m4 168 rfl) rfl
theorem q948 : (Jvm.Cond.instanceMethod ({ cls := "YoungerBack$Clerk", name := "ages", desc := "(II)I" } : Jvm.MethodName)) ∈ lw_all := lw_g (lw_at lw_m4 169 rfl) rfl
theorem q949 : (Jvm.Cond.code ({ cls := "YoungerBack$Clerk", name := "ages", desc := "(II)I" } : Jvm.MethodName) prog_4_method_3_code (3 : Nat) (Option.some Jvm.ClassFile.FieldType.int)) ∈ lw_all := lw_g (lw_at lw_m4 170 rfl) rfl
theorem q1117 : (Jvm.Cond.selects "YoungerBack$Clerk" ({ cls := "YoungerBack$Person", name := "kind", desc := "()I" } : Jvm.MethodName) ({ cls := "YoungerBack$Clerk", name := "kind", desc := "()I" } : Jvm.MethodName)) ∈ lw_all := lw_g (lw_at lw_m5 98 rfl) rfl
theorem q1118 : (Jvm.Cond.instanceMethod ({ cls := "YoungerBack$Clerk", name := "kind", desc := "()I" } : Jvm.MethodName)) ∈ lw_all := lw_g (lw_at lw_m5 99 rfl) rfl
theorem q1119 : (Jvm.Cond.code ({ cls := "YoungerBack$Clerk", name := "kind", desc := "()I" } : Jvm.MethodName) prog_4_method_2_code (1 : Nat) (Option.some Jvm.ClassFile.FieldType.int)) ∈ lw_all := lw_g (lw_at lw_m5 100 rfl) rfl
theorem q1150 : (Jvm.Cond.selects "YoungerBack$Clerk" ({ cls := "YoungerBack$Person", name := "number", desc := "()I" } : Jvm.MethodName) ({ cls := "YoungerBack$Person", name := "number", desc := "()I" } : Jvm.MethodName)) ∈ lw_all := lw_g (lw_at lw_m5 131 rfl) rfl
theorem q1169 : (Jvm.Cond.instanceMethod ({ cls := "YoungerBack$Clerk", name := "size", desc := "(LYoungerBack$Trail;LYoungerBack$League;)I" } : Jvm.MethodName)) ∈ lw_all := lw_g (lw_at lw_m5 150 rfl) rfl
theorem q1170 : (Jvm.Cond.code ({ cls := "YoungerBack$Clerk", name := "size", desc := "(LYoungerBack$Trail;LYoungerBack$League;)I" } : Jvm.MethodName) prog_4_method_4_code (3 : Nat) (Option.some Jvm.ClassFile.FieldType.int)) ∈ lw_all := lw_g (lw_at lw_m5 151 rfl) rfl
theorem q1171 : (Jvm.Cond.methodLink "YoungerBack$Clerk" (9 : Nat) ({ cls := "YoungerBack$Trail", name := "begins", desc := "(I)V" } : Jvm.MethodName)) ∈ lw_all := lw_g (lw_at lw_m5 152 rfl) rfl
theorem q1172 : (Jvm.Cond.methodLink "YoungerBack$Clerk" (15 : Nat) ({ cls := "YoungerBack$Person", name := "size", desc := "(LYoungerBack$Trail;LYoungerBack$League;)I" } : Jvm.MethodName)) ∈ lw_all := lw_g (lw_at lw_m5 153 rfl) rfl
theorem q1209 : (Jvm.Cond.castable "YoungerBack$Clerk" "YoungerBack$Marked") ∈ lw_tbl := lw_at lw_m5 190 rfl
theorem q1210 : (Jvm.Cond.selects "YoungerBack$Clerk" ({ cls := "YoungerBack$Marked", name := "number", desc := "()I" } : Jvm.MethodName) ({ cls := "YoungerBack$Person", name := "number", desc := "()I" } : Jvm.MethodName)) ∈ lw_all := lw_g (lw_at lw_m5 191 rfl) rfl
theorem q1211 : (Jvm.Cond.unhidden "YoungerBack$Clerk" "number" "()I") ∈ lw_tbl := lw_at lw_m5 192 rfl
theorem q1224 : (Jvm.Cond.selects "YoungerBack$Clerk" ({ cls := "YoungerBack$Person", name := "size", desc := "(LYoungerBack$Trail;LYoungerBack$League;)I" } : Jvm.MethodName) ({ cls := "YoungerBack$Clerk", name := "size", desc := "(LYoungerBack$Trail;LYoungerBack$League;)I" } : Jvm.MethodName)) ∈ lw_all := lw_g (lw_at lw_m5 205 rfl) rfl
theorem q1233 : (Jvm.Cond.instanceMethod ({ cls := "YoungerBack$Clerk", name := "mark", desc := "(LYoungerBack$Trail;LYoungerBack$League;)I" } : Jvm.MethodName)) ∈ lw_all := lw_g (lw_at lw_m5 214 rfl) rfl
theorem q1234 : (Jvm.Cond.code ({ cls := "YoungerBack$Clerk", name := "mark", desc := "(LYoungerBack$Trail;LYoungerBack$League;)I" } : Jvm.MethodName) prog_4_method_5_code (3 : Nat) (Option.some Jvm.ClassFile.FieldType.int)) ∈ lw_all := lw_g (lw_at lw_m5 215 rfl) rfl
theorem q1235 : (Jvm.Cond.methodLink "YoungerBack$Clerk" (22 : Nat) ({ cls := "YoungerBack$Clerk", name := "size", desc := "(LYoungerBack$Trail;LYoungerBack$League;)I" } : Jvm.MethodName)) ∈ lw_all := lw_g (lw_at lw_m5 216 rfl) rfl
theorem q1237 : (Jvm.Cond.selects "YoungerBack$Clerk" ({ cls := "YoungerBack$Marked", name := "mark", desc := "(LYoungerBack$Trail;LYoungerBack$League;)I" } : Jvm.MethodName) ({ cls := "YoungerBack$Clerk", name := "mark", desc := "(LYoungerBack$Trail;LYoungerBack$League;)I" } : Jvm.MethodName)) ∈ lw_all := lw_g (lw_at lw_m5 218 rfl) rfl
theorem q1630 : (Jvm.Cond.sameMethod "YoungerBack$Clerk" "YoungerBack$Clerk" "size" "(LYoungerBack$Trail;LYoungerBack$League;)I") ∈ lw_all := lw_g (lw_at lw_m7 131 rfl) rfl
theorem q1633 : (Jvm.Cond.selects "YoungerBack$Clerk" ({ cls := "YoungerBack$Clerk", name := "size", desc := "(LYoungerBack$Trail;LYoungerBack$League;)I" } : Jvm.MethodName) ({ cls := "YoungerBack$Clerk", name := "size", desc := "(LYoungerBack$Trail;LYoungerBack$League;)I" } : Jvm.MethodName)) ∈ lw_all := lw_g (lw_at lw_m7 134 rfl) rfl
theorem q1637 : (Jvm.Cond.castable "YoungerBack$Clerk" "YoungerBack$Person") ∈ lw_tbl := lw_at lw_m7 138 rfl
theorem q1658 : (Jvm.Cond.castable "YoungerBack$Clerk" "java/lang/Object") ∈ lw_tbl := lw_at lw_m7 159 rfl
theorem in_X12 : ∀ w ∈ wsX120, w ∈ lw_all := lw_in wsX120 [791, 792] (by decide +kernel) (by decide +kernel)

/-! YoungerBack$Boy -/
set_option maxRecDepth 100000
def RX13 : String := "YoungerBack$Boy"
def TX13 : u_T := fun k => match k with
  | 0 => ("YoungerBack$Person", "number", "I", true)
  | _ => ("YoungerBack$Person", "age", "I", true)
def tyX13 : Nat → FieldType := fun k => match k with
  | 0 => .int
  | _ => .int
abbrev wsX130 : List Cond := u_ws RX13 TX13 2
theorem nmX13 : ∀ a, a < 2 → ∀ b, b < 2 → a ≠ b → (TX13 a).2.1 ≠ (TX13 b).2.1 := by decide +kernel
theorem tyX13_ok : ∀ k, k < 2 → parseFieldDescriptor (TX13 k).2.2.1 = some (tyX13 k) := by decide +kernel
abbrev cX13_init : ByteArray := prog_2_method_1_code
def yX13_init : MethodName := ⟨RX13, "<init>", "(II)V"⟩
def dkwX13_init_0 : List UInt8 := [42, 27, 28, 183, 0, 3, 177]
abbrev dktX13_init_0 : List UInt8 := dkwX13_init_0 ++ []
theorem dksX13_init_0 : cX13_init.data.toList.drop 0 = dktX13_init_0 := by decide +kernel
theorem dX13_init_0 : decode cX13_init 0 = .ok (.aload_n 0, 1) := dk_42 (dk_at dksX13_init_0 0 rfl rfl)
theorem dX13_init_1 : decode cX13_init 1 = .ok (.iload_n 1, 1) := dk_27 (dk_at dksX13_init_0 1 rfl rfl)
theorem dX13_init_2 : decode cX13_init 2 = .ok (.iload_n 2, 1) := dk_28 (dk_at dksX13_init_0 2 rfl rfl)
theorem dX13_init_3 : decode cX13_init 3 = .ok (.invokespecial 3, 3) := dk_183 0 3 (dk_at dksX13_init_0 3 rfl rfl)
theorem dX13_init_6 : decode cX13_init 6 = .ok (.return_, 1) := dk_177 (dk_at dksX13_init_0 6 rfl rfl)
abbrev cX13_may : ByteArray := prog_2_method_4_code
def yX13_may : MethodName := ⟨RX13, "may", "(I)Z"⟩
def dkwX13_may_0 : List UInt8 := [27, 16, 10, 163, 0, 7, 4, 167, 0, 4, 3, 172]
abbrev dktX13_may_0 : List UInt8 := dkwX13_may_0 ++ []
theorem dksX13_may_0 : cX13_may.data.toList.drop 0 = dktX13_may_0 := by decide +kernel
theorem dX13_may_0 : decode cX13_may 0 = .ok (.iload_n 1, 1) := dk_27 (dk_at dksX13_may_0 0 rfl rfl)
theorem dX13_may_1 : decode cX13_may 1 = .ok (.bipush 10, 2) := dk_16 10 (dk_at dksX13_may_0 1 rfl rfl)
theorem dX13_may_3 : decode cX13_may 3 = .ok (.if_icmp .gt 7, 3) := dk_163 0 7 (dk_at dksX13_may_0 3 rfl rfl)
theorem dX13_may_6 : decode cX13_may 6 = .ok (.iconst 1, 1) := dk_4 (dk_at dksX13_may_0 6 rfl rfl)
theorem dX13_may_7 : decode cX13_may 7 = .ok (.goto 4, 3) := dk_167 0 4 (dk_at dksX13_may_0 7 rfl rfl)
theorem dX13_may_10 : decode cX13_may 10 = .ok (.iconst 0, 1) := dk_3 (dk_at dksX13_may_0 10 rfl rfl)
theorem dX13_may_11 : decode cX13_may 11 = .ok (.ireturn, 1) := dk_172 (dk_at dksX13_may_0 11 rfl rfl)
abbrev cX13_ages : ByteArray := prog_2_method_3_code
def yX13_ages : MethodName := ⟨RX13, "ages", "(II)I"⟩
theorem dX13_ages_0 : decode cX13_ages 0 = .ok (.iload_n 2, 1) := by decide +kernel
theorem dX13_ages_1 : decode cX13_ages 1 = .ok (.ireturn, 1) := by decide +kernel
abbrev cX13_kind : ByteArray := prog_2_method_2_code
def yX13_kind : MethodName := ⟨RX13, "kind", "()I"⟩
theorem dX13_kind_0 : decode cX13_kind 0 = .ok (.iconst 5, 1) := by decide +kernel
theorem dX13_kind_1 : decode cX13_kind 1 = .ok (.ireturn, 1) := by decide +kernel
abbrev cX13_size : ByteArray := prog_2_method_5_code
def yX13_size : MethodName := ⟨RX13, "size", "(LYoungerBack$Trail;LYoungerBack$League;)I"⟩
def dkwX13_size_0 : List UInt8 := [43, 16, 14, 182, 0, 9, 5, 42, 43, 44, 183, 0, 15, 104, 172]
abbrev dktX13_size_0 : List UInt8 := dkwX13_size_0 ++ []
theorem dksX13_size_0 : cX13_size.data.toList.drop 0 = dktX13_size_0 := by decide +kernel
theorem dX13_size_0 : decode cX13_size 0 = .ok (.aload_n 1, 1) := dk_43 (dk_at dksX13_size_0 0 rfl rfl)
theorem dX13_size_1 : decode cX13_size 1 = .ok (.bipush 14, 2) := dk_16 14 (dk_at dksX13_size_0 1 rfl rfl)
theorem dX13_size_3 : decode cX13_size 3 = .ok (.invokevirtual 9, 3) := dk_182 0 9 (dk_at dksX13_size_0 3 rfl rfl)
theorem dX13_size_6 : decode cX13_size 6 = .ok (.iconst 2, 1) := dk_5 (dk_at dksX13_size_0 6 rfl rfl)
theorem dX13_size_7 : decode cX13_size 7 = .ok (.aload_n 0, 1) := dk_42 (dk_at dksX13_size_0 7 rfl rfl)
theorem dX13_size_8 : decode cX13_size 8 = .ok (.aload_n 1, 1) := dk_43 (dk_at dksX13_size_0 8 rfl rfl)
theorem dX13_size_9 : decode cX13_size 9 = .ok (.aload_n 2, 1) := dk_44 (dk_at dksX13_size_0 9 rfl rfl)
theorem dX13_size_10 : decode cX13_size 10 = .ok (.invokespecial 15, 3) := dk_183 0 15 (dk_at dksX13_size_0 10 rfl rfl)
theorem dX13_size_13 : decode cX13_size 13 = .ok (.imul, 1) := dk_104 (dk_at dksX13_size_0 13 rfl rfl)
theorem dX13_size_14 : decode cX13_size 14 = .ok (.ireturn, 1) := dk_172 (dk_at dksX13_size_0 14 rfl rfl)
theorem q91 : (Jvm.Cond.initialized "YoungerBack$Boy") ∈ lw_all := lw_g (lw_at lw_m1 32 rfl) rfl
theorem q795 : (Jvm.Cond.instantiable "YoungerBack$Boy" (2 : Nat)) ∈ lw_all := lw_g (lw_at lw_m4 16 rfl) rfl
theorem q797 : (Jvm.Cond.instanceMethod ({ cls := "YoungerBack$Boy", name := "<init>", desc := "(II)V" } : Jvm.MethodName)) ∈ lw_all := lw_g (lw_at lw_m4 18 rfl) rfl
theorem q798 : (Jvm.Cond.code ({ cls := "YoungerBack$Boy", name := "<init>", desc := "(II)V" } : Jvm.MethodName) prog_2_method_1_code (3 : Nat) (Option.none : Option Jvm.ClassFile.FieldType)) ∈ lw_all := lw_g (lw_at lw_m4 19 rfl) rfl
theorem q799 : (Jvm.Cond.methodLink "YoungerBack$Boy" (3 : Nat) ({ cls := "YoungerBack$Clerk", name := "<init>", desc := "(II)V" } : Jvm.MethodName)) ∈ lw_all := lw_g (lw_at lw_m4 20 rfl) rfl
theorem q800 : (Jvm.Cond.laysFinal "YoungerBack$Boy" "YoungerBack$Person" "number" "I") ∈ lw_all := lw_g (lw_at lw_m4 21 rfl) rfl
theorem q801 : (Jvm.Cond.laysFinal "YoungerBack$Boy" "YoungerBack$Person" "age" "I") ∈ lw_all := lw_g (lw_at lw_m4 22 rfl) rfl
theorem q802 : (Jvm.Cond.superclass "YoungerBack$Boy" "YoungerBack$Clerk") ∈ lw_all := lw_g (lw_at lw_m4 23 rfl) rfl
theorem q832 : (Jvm.Cond.selects "YoungerBack$Boy" ({ cls := "java/lang/Object", name := "getClass", desc := "()Ljava/lang/Class;" } : Jvm.MethodName) ({ cls := "java/lang/Object", name := "getClass", desc := "()Ljava/lang/Class;" } : Jvm.MethodName)) ∈ lw_all := lw_g (lw_at lw_m4 53 rfl) rfl
theorem q910 : (Jvm.Cond.selects "YoungerBack$Boy" ({ cls := "YoungerBack$Person", name := "may", desc := "(I)Z" } : Jvm.MethodName) ({ cls := "YoungerBack$Boy", name := "may", desc := "(I)Z" } : Jvm.MethodName)) ∈ lw_all := lw_g (lw_at lw_m4 131 rfl) rfl
theorem q911 : (Jvm.Cond.instanceMethod ({ cls := "YoungerBack$Boy", name := "may", desc := "(I)Z" } : Jvm.MethodName)) ∈ lw_all := lw_g (lw_at lw_m4 132 rfl) rfl
theorem q912 : (Jvm.Cond.code ({ cls := "YoungerBack$Boy", name := "may", desc := "(I)Z" } : Jvm.MethodName) prog_2_method_4_code (2 : Nat) (Option.some Jvm.ClassFile.FieldType.boolean)) ∈ lw_all := lw_g (lw_at lw_m4 133 rfl) rfl
theorem q941 : (Jvm.Cond.selects "YoungerBack$Boy" ({ cls := "YoungerBack$Person", name := "ages", desc := "(II)I" } : Jvm.MethodName) ({ cls := "YoungerBack$Boy", name := "ages", desc := "(II)I" } : Jvm.MethodName)) ∈ lw_all := lw_g (lw_at lw_m4 162 rfl) rfl
theorem q942 : (Jvm.Cond.instanceMethod ({ cls := "YoungerBack$Boy", name := "ages", desc := "(II)I" } : Jvm.MethodName)) ∈ lw_all := lw_g (lw_at lw_m4 163 rfl) rfl
theorem q943 : (Jvm.Cond.code ({ cls := "YoungerBack$Boy", name := "ages", desc := "(II)I" } : Jvm.MethodName) prog_2_method_3_code (3 : Nat) (Option.some Jvm.ClassFile.FieldType.int)) ∈ lw_all := lw_g (lw_at lw_m4 164 rfl) rfl
theorem q1111 : (Jvm.Cond.selects "YoungerBack$Boy" ({ cls := "YoungerBack$Person", name := "kind", desc := "()I" } : Jvm.MethodName) ({ cls := "YoungerBack$Boy", name := "kind", desc := "()I" } : Jvm.MethodName)) ∈ lw_all := lw_g (lw_at lw_m5 92 rfl) rfl
theorem q1112 : (Jvm.Cond.instanceMethod ({ cls := "YoungerBack$Boy", name := "kind", desc := "()I" } : Jvm.MethodName)) ∈ lw_all := lw_g (lw_at lw_m5 93 rfl) rfl
theorem q1113 : (Jvm.Cond.code ({ cls := "YoungerBack$Boy", name := "kind", desc := "()I" } : Jvm.MethodName) prog_2_method_2_code (1 : Nat) (Option.some Jvm.ClassFile.FieldType.int)) ∈ lw_all := lw_g (lw_at lw_m5 94 rfl) rfl
theorem q1148 : (Jvm.Cond.selects "YoungerBack$Boy" ({ cls := "YoungerBack$Person", name := "number", desc := "()I" } : Jvm.MethodName) ({ cls := "YoungerBack$Person", name := "number", desc := "()I" } : Jvm.MethodName)) ∈ lw_all := lw_g (lw_at lw_m5 129 rfl) rfl
theorem q1161 : (Jvm.Cond.selects "YoungerBack$Boy" ({ cls := "YoungerBack$Person", name := "size", desc := "(LYoungerBack$Trail;LYoungerBack$League;)I" } : Jvm.MethodName) ({ cls := "YoungerBack$Boy", name := "size", desc := "(LYoungerBack$Trail;LYoungerBack$League;)I" } : Jvm.MethodName)) ∈ lw_all := lw_g (lw_at lw_m5 142 rfl) rfl
theorem q1162 : (Jvm.Cond.instanceMethod ({ cls := "YoungerBack$Boy", name := "size", desc := "(LYoungerBack$Trail;LYoungerBack$League;)I" } : Jvm.MethodName)) ∈ lw_all := lw_g (lw_at lw_m5 143 rfl) rfl
theorem q1163 : (Jvm.Cond.code ({ cls := "YoungerBack$Boy", name := "size", desc := "(LYoungerBack$Trail;LYoungerBack$League;)I" } : Jvm.MethodName) prog_2_method_5_code (3 : Nat) (Option.some Jvm.ClassFile.FieldType.int)) ∈ lw_all := lw_g (lw_at lw_m5 144 rfl) rfl
theorem q1164 : (Jvm.Cond.methodLink "YoungerBack$Boy" (9 : Nat) ({ cls := "YoungerBack$Trail", name := "begins", desc := "(I)V" } : Jvm.MethodName)) ∈ lw_all := lw_g (lw_at lw_m5 145 rfl) rfl
theorem q1168 : (Jvm.Cond.methodLink "YoungerBack$Boy" (15 : Nat) ({ cls := "YoungerBack$Clerk", name := "size", desc := "(LYoungerBack$Trail;LYoungerBack$League;)I" } : Jvm.MethodName)) ∈ lw_all := lw_g (lw_at lw_m5 149 rfl) rfl
theorem q1202 : (Jvm.Cond.castable "YoungerBack$Boy" "YoungerBack$Marked") ∈ lw_tbl := lw_at lw_m5 183 rfl
theorem q1203 : (Jvm.Cond.selects "YoungerBack$Boy" ({ cls := "YoungerBack$Marked", name := "number", desc := "()I" } : Jvm.MethodName) ({ cls := "YoungerBack$Person", name := "number", desc := "()I" } : Jvm.MethodName)) ∈ lw_all := lw_g (lw_at lw_m5 184 rfl) rfl
theorem q1204 : (Jvm.Cond.unhidden "YoungerBack$Boy" "number" "()I") ∈ lw_tbl := lw_at lw_m5 185 rfl
theorem q1232 : (Jvm.Cond.selects "YoungerBack$Boy" ({ cls := "YoungerBack$Marked", name := "mark", desc := "(LYoungerBack$Trail;LYoungerBack$League;)I" } : Jvm.MethodName) ({ cls := "YoungerBack$Clerk", name := "mark", desc := "(LYoungerBack$Trail;LYoungerBack$League;)I" } : Jvm.MethodName)) ∈ lw_all := lw_g (lw_at lw_m5 213 rfl) rfl
theorem q1632 : (Jvm.Cond.selects "YoungerBack$Boy" ({ cls := "YoungerBack$Clerk", name := "size", desc := "(LYoungerBack$Trail;LYoungerBack$League;)I" } : Jvm.MethodName) ({ cls := "YoungerBack$Boy", name := "size", desc := "(LYoungerBack$Trail;LYoungerBack$League;)I" } : Jvm.MethodName)) ∈ lw_all := lw_g (lw_at lw_m7 133 rfl) rfl
theorem q1635 : (Jvm.Cond.castable "YoungerBack$Boy" "YoungerBack$Person") ∈ lw_tbl := lw_at lw_m7 136 rfl
theorem q1642 : (Jvm.Cond.castable "YoungerBack$Boy" "YoungerBack$Clerk") ∈ lw_tbl := lw_at lw_m7 143 rfl
theorem q1659 : (Jvm.Cond.castable "YoungerBack$Boy" "java/lang/Object") ∈ lw_tbl := lw_at lw_m7 160 rfl
theorem in_X13 : ∀ w ∈ wsX130, w ∈ lw_all := lw_in wsX130 [800, 801] (by decide +kernel) (by decide +kernel)

/-! YoungerBack$Marked -/
set_option maxRecDepth 100000
def RX14 : String := "YoungerBack$Marked"
abbrev cX14_mark : ByteArray := prog_8_method_3_code
def yX14_mark : MethodName := ⟨RX14, "mark", "(LYoungerBack$Trail;LYoungerBack$League;)I"⟩
def dkwX14_mark_0 : List UInt8 := [43, 16, 20, 182, 0, 1, 42, 185, 0, 7, 1, 0, 172]
abbrev dktX14_mark_0 : List UInt8 := dkwX14_mark_0 ++ []
theorem dksX14_mark_0 : cX14_mark.data.toList.drop 0 = dktX14_mark_0 := by decide +kernel
theorem dX14_mark_0 : decode cX14_mark 0 = .ok (.aload_n 1, 1) := dk_43 (dk_at dksX14_mark_0 0 rfl rfl)
theorem dX14_mark_1 : decode cX14_mark 1 = .ok (.bipush 20, 2) := dk_16 20 (dk_at dksX14_mark_0 1 rfl rfl)
theorem dX14_mark_3 : decode cX14_mark 3 = .ok (.invokevirtual 1, 3) := dk_182 0 1 (dk_at dksX14_mark_0 3 rfl rfl)
theorem dX14_mark_6 : decode cX14_mark 6 = .ok (.aload_n 0, 1) := dk_42 (dk_at dksX14_mark_0 6 rfl rfl)
theorem dX14_mark_7 : decode cX14_mark 7 = .ok (.invokeinterface 7 1, 5) := by decide +kernel
theorem dX14_mark_12 : decode cX14_mark 12 = .ok (.ireturn, 1) := dk_172 (dk_at dksX14_mark_0 12 rfl rfl)
theorem q1194 : (Jvm.Cond.declares ({ cls := "YoungerBack$Marked", name := "mark", desc := "(LYoungerBack$Trail;LYoungerBack$League;)I" } : Jvm.MethodName)) ∈ lw_tbl := lw_at lw_m5 175 rfl
theorem q1195 : (Jvm.Cond.instanceMethod ({ cls := "YoungerBack$Marked", name := "mark", desc := "(LYoungerBack$Trail;LYoungerBack$League;)I" } : Jvm.MethodName)) ∈ lw_all := lw_g (lw_at lw_m5 176 rfl) rfl
theorem q1196 : (Jvm.Cond.code ({ cls := "YoungerBack$Marked", name := "mark", desc := "(LYoungerBack$Trail;LYoungerBack$League;)I" } : Jvm.MethodName) prog_8_method_3_code (3 : Nat) (Option.some Jvm.ClassFile.FieldType.int)) ∈ lw_all := lw_g (lw_at lw_m5 177 rfl) rfl
theorem q1197 : (Jvm.Cond.methodLink "YoungerBack$Marked" (1 : Nat) ({ cls := "YoungerBack$Trail", name := "begins", desc := "(I)V" } : Jvm.MethodName)) ∈ lw_all := lw_g (lw_at lw_m5 178 rfl) rfl
theorem q1198 : (Jvm.Cond.interfaceEntry "YoungerBack$Marked" (7 : Nat)) ∈ lw_tbl := lw_at lw_m5 179 rfl
theorem q1199 : (Jvm.Cond.methodLink "YoungerBack$Marked" (7 : Nat) ({ cls := "YoungerBack$Marked", name := "number", desc := "()I" } : Jvm.MethodName)) ∈ lw_all := lw_g (lw_at lw_m5 180 rfl) rfl
theorem q1200 : (Jvm.Cond.interfaceMethod "YoungerBack$Marked" "YoungerBack$Marked" "number" "()I") ∈ lw_tbl := lw_at lw_m5 181 rfl
theorem q1201 : (Jvm.Cond.declares ({ cls := "YoungerBack$Marked", name := "number", desc := "()I" } : Jvm.MethodName)) ∈ lw_tbl := lw_at lw_m5 182 rfl

/-! YoungerBack$Trail -/
set_option maxRecDepth 100000
def RX2 : String := "YoungerBack$Trail"
def TX2 : u_T := fun k => match k with
  | 0 => ("YoungerBack$Trail", "body", "[I", true)
  | _ => ("YoungerBack$Trail", "many", "I", false)
def tyX2 : Nat → FieldType := fun k => match k with
  | 0 => .array .int
  | _ => .int
abbrev wsX20 : List Cond := u_ws RX2 TX2 2
theorem nmX2 : ∀ a, a < 2 → ∀ b, b < 2 → a ≠ b → (TX2 a).2.1 ≠ (TX2 b).2.1 := by decide +kernel
theorem tyX2_ok : ∀ k, k < 2 → parseFieldDescriptor (TX2 k).2.2.1 = some (tyX2 k) := by decide +kernel
abbrev cX2_init : ByteArray := prog_14_method_1_code
def yX2_init : MethodName := ⟨RX2, "<init>", "()V"⟩
def dkwX2_init_0 : List UInt8 := [42, 183, 0, 3, 42, 16, 16, 188, 10, 181, 0, 9, 177]
abbrev dktX2_init_0 : List UInt8 := dkwX2_init_0 ++ []
theorem dksX2_init_0 : cX2_init.data.toList.drop 0 = dktX2_init_0 := by decide +kernel
theorem dX2_init_0 : decode cX2_init 0 = .ok (.aload_n 0, 1) := dk_42 (dk_at dksX2_init_0 0 rfl rfl)
theorem dX2_init_1 : decode cX2_init 1 = .ok (.invokespecial 3, 3) := dk_183 0 3 (dk_at dksX2_init_0 1 rfl rfl)
theorem dX2_init_4 : decode cX2_init 4 = .ok (.aload_n 0, 1) := dk_42 (dk_at dksX2_init_0 4 rfl rfl)
theorem dX2_init_5 : decode cX2_init 5 = .ok (.bipush 16, 2) := dk_16 16 (dk_at dksX2_init_0 5 rfl rfl)
theorem dX2_init_7 : decode cX2_init 7 = .ok (.newarray .int, 2) := dk_188_10 (dk_at dksX2_init_0 7 rfl rfl)
theorem dX2_init_9 : decode cX2_init 9 = .ok (.putfield 9, 3) := dk_181 0 9 (dk_at dksX2_init_0 9 rfl rfl)
theorem dX2_init_12 : decode cX2_init 12 = .ok (.return_, 1) := dk_177 (dk_at dksX2_init_0 12 rfl rfl)
abbrev cX2_begins : ByteArray := prog_14_method_2_code
def yX2_begins : MethodName := ⟨RX2, "begins", "(I)V"⟩
def dkwX2_begins_1 : List UInt8 := [27, 79, 177]
abbrev dktX2_begins_1 : List UInt8 := dkwX2_begins_1 ++ []
def dkwX2_begins_0 : List UInt8 := [42, 180, 0, 15, 16, 16, 162, 0, 20, 42, 180, 0, 9, 42, 89, 180, 0, 15, 90, 4, 96, 181, 0, 15]
abbrev dktX2_begins_0 : List UInt8 := dkwX2_begins_0 ++ dktX2_begins_1
theorem dksX2_begins_0 : cX2_begins.data.toList.drop 0 = dktX2_begins_0 := by decide +kernel
theorem dksX2_begins_1 : cX2_begins.data.toList.drop 24 = dktX2_begins_1 := dk_seg dksX2_begins_0 24 rfl rfl
theorem dX2_begins_0 : decode cX2_begins 0 = .ok (.aload_n 0, 1) := dk_42 (dk_at dksX2_begins_0 0 rfl rfl)
theorem dX2_begins_1 : decode cX2_begins 1 = .ok (.getfield 15, 3) := dk_180 0 15 (dk_at dksX2_begins_0 1 rfl rfl)
theorem dX2_begins_4 : decode cX2_begins 4 = .ok (.bipush 16, 2) := dk_16 16 (dk_at dksX2_begins_0 4 rfl rfl)
theorem dX2_begins_6 : decode cX2_begins 6 = .ok (.if_icmp .ge 20, 3) := dk_162 0 20 (dk_at dksX2_begins_0 6 rfl rfl)
theorem dX2_begins_9 : decode cX2_begins 9 = .ok (.aload_n 0, 1) := dk_42 (dk_at dksX2_begins_0 9 rfl rfl)
theorem dX2_begins_10 : decode cX2_begins 10 = .ok (.getfield 9, 3) := dk_180 0 9 (dk_at dksX2_begins_0 10 rfl rfl)
theorem dX2_begins_13 : decode cX2_begins 13 = .ok (.aload_n 0, 1) := dk_42 (dk_at dksX2_begins_0 13 rfl rfl)
theorem dX2_begins_14 : decode cX2_begins 14 = .ok (.dup, 1) := dk_89 (dk_at dksX2_begins_0 14 rfl rfl)
theorem dX2_begins_15 : decode cX2_begins 15 = .ok (.getfield 15, 3) := dk_180 0 15 (dk_at dksX2_begins_0 15 rfl rfl)
theorem dX2_begins_18 : decode cX2_begins 18 = .ok (.dup_x1, 1) := dk_90 (dk_at dksX2_begins_0 18 rfl rfl)
theorem dX2_begins_19 : decode cX2_begins 19 = .ok (.iconst 1, 1) := dk_4 (dk_at dksX2_begins_0 19 rfl rfl)
theorem dX2_begins_20 : decode cX2_begins 20 = .ok (.iadd, 1) := dk_96 (dk_at dksX2_begins_0 20 rfl rfl)
theorem dX2_begins_21 : decode cX2_begins 21 = .ok (.putfield 15, 3) := dk_181 0 15 (dk_at dksX2_begins_0 21 rfl rfl)
theorem dX2_begins_24 : decode cX2_begins 24 = .ok (.iload_n 1, 1) := dk_27 (dk_at dksX2_begins_1 0 rfl rfl)
theorem dX2_begins_25 : decode cX2_begins 25 = .ok (.iastore, 1) := dk_79 (dk_at dksX2_begins_1 1 rfl rfl)
theorem dX2_begins_26 : decode cX2_begins 26 = .ok (.return_, 1) := dk_177 (dk_at dksX2_begins_1 2 rfl rfl)
theorem q65 : (Jvm.Cond.initialized "YoungerBack$Trail") ∈ lw_all := lw_g (lw_at lw_m1 6 rfl) rfl
theorem q211 : (Jvm.Cond.instantiable "YoungerBack$Trail" (2 : Nat)) ∈ lw_all := lw_g (lw_at lw_m1 152 rfl) rfl
theorem q213 : (Jvm.Cond.instanceMethod ({ cls := "YoungerBack$Trail", name := "<init>", desc := "()V" } : Jvm.MethodName)) ∈ lw_all := lw_g (lw_at lw_m1 154 rfl) rfl
theorem q214 : (Jvm.Cond.code ({ cls := "YoungerBack$Trail", name := "<init>", desc := "()V" } : Jvm.MethodName) prog_14_method_1_code (1 : Nat) (Option.none : Option Jvm.ClassFile.FieldType)) ∈ lw_all := lw_g (lw_at lw_m1 155 rfl) rfl
theorem q215 : (Jvm.Cond.methodLink "YoungerBack$Trail" (3 : Nat) ({ cls := "java/lang/Object", name := "<init>", desc := "()V" } : Jvm.MethodName)) ∈ lw_all := lw_g (lw_at lw_m1 156 rfl) rfl
theorem q216 : (Jvm.Cond.fieldLink "YoungerBack$Trail" (9 : Nat) "YoungerBack$Trail" "body" "[I") ∈ lw_all := lw_g (lw_at lw_m1 157 rfl) rfl
theorem q218 : (Jvm.Cond.fieldLink "YoungerBack$Trail" (15 : Nat) "YoungerBack$Trail" "many" "I") ∈ lw_all := lw_g (lw_at lw_m1 159 rfl) rfl
theorem q220 : (Jvm.Cond.laysFinal "YoungerBack$Trail" "YoungerBack$Trail" "body" "[I") ∈ lw_all := lw_g (lw_at lw_m1 161 rfl) rfl
theorem q221 : (Jvm.Cond.soleField "YoungerBack$Trail" "body") ∈ lw_all := lw_g (lw_at lw_m1 162 rfl) rfl
theorem q222 : (Jvm.Cond.lays "YoungerBack$Trail" "YoungerBack$Trail" "many" "I") ∈ lw_all := lw_g (lw_at lw_m1 163 rfl) rfl
theorem q223 : (Jvm.Cond.soleField "YoungerBack$Trail" "many") ∈ lw_all := lw_g (lw_at lw_m1 164 rfl) rfl
theorem q224 : (Jvm.Cond.superclass "YoungerBack$Trail" "java/lang/Object") ∈ lw_all := lw_g (lw_at lw_m1 165 rfl) rfl
theorem q842 : (Jvm.Cond.selects "YoungerBack$Trail" ({ cls := "java/lang/Object", name := "getClass", desc := "()Ljava/lang/Class;" } : Jvm.MethodName) ({ cls := "java/lang/Object", name := "getClass", desc := "()Ljava/lang/Class;" } : Jvm.MethodName)) ∈ lw_all := lw_g (lw_at lw_m4 63 rfl) rfl
theorem q1165 : (Jvm.Cond.instanceMethod ({ cls := "YoungerBack$Trail", name := "begins", desc := "(I)V" } : Jvm.MethodName)) ∈ lw_all := lw_g (lw_at lw_m5 146 rfl) rfl
theorem q1166 : (Jvm.Cond.selects "YoungerBack$Trail" ({ cls := "YoungerBack$Trail", name := "begins", desc := "(I)V" } : Jvm.MethodName) ({ cls := "YoungerBack$Trail", name := "begins", desc := "(I)V" } : Jvm.MethodName)) ∈ lw_all := lw_g (lw_at lw_m5 147 rfl) rfl
theorem q1167 : (Jvm.Cond.code ({ cls := "YoungerBack$Trail", name := "begins", desc := "(I)V" } : Jvm.MethodName) prog_14_method_2_code (2 : Nat) (Option.none : Option Jvm.ClassFile.FieldType)) ∈ lw_all := lw_g (lw_at lw_m5 148 rfl) rfl
theorem q1648 : (Jvm.Cond.castable "YoungerBack$Trail" "java/lang/Object") ∈ lw_tbl := lw_at lw_m7 149 rfl
theorem in_X2 : ∀ w ∈ wsX20, w ∈ lw_all := lw_in wsX20 [220, 222] (by decide +kernel) (by decide +kernel)

/-! YoungerBack$Finding -/
set_option maxRecDepth 100000
def RX4 : String := "YoungerBack$Finding"
def TX4 : u_T := fun k => match k with
  | 0 => ("java/lang/Throwable", "cause", "Ljava/lang/Throwable;", false)
  | 1 => ("java/lang/Throwable", "stackTrace", "[Ljava/lang/StackTraceElement;", false)
  | 2 => ("java/lang/Throwable", "suppressedExceptions", "Ljava/util/List;", false)
  | 3 => ("java/lang/Throwable", "detailMessage", "Ljava/lang/String;", false)
  | 4 => ("java/lang/Throwable", "backtrace", "Ljava/lang/Object;", false)
  | 5 => ("java/lang/Throwable", "depth", "I", false)
  | _ => ("YoungerBack$Finding", "number", "I", true)
def tyX4 : Nat → FieldType := fun k => match k with
  | 0 => .object "java/lang/Throwable"
  | 1 => .array (.object "java/lang/StackTraceElement")
  | 2 => .object "java/util/List"
  | 3 => .object "java/lang/String"
  | 4 => .object "java/lang/Object"
  | 5 => .int
  | _ => .int
abbrev wsX40 : List Cond := u_ws RX4 TX4 7
theorem nmX4 : ∀ a, a < 7 → ∀ b, b < 7 → a ≠ b → (TX4 a).2.1 ≠ (TX4 b).2.1 := by decide +kernel
theorem tyX4_ok : ∀ k, k < 7 → parseFieldDescriptor (TX4 k).2.2.1 = some (tyX4 k) := by decide +kernel
abbrev cX4_init : ByteArray := prog_6_method_1_code
def yX4_init : MethodName := ⟨RX4, "<init>", "(I)V"⟩
def dkwX4_init_0 : List UInt8 := [42, 1, 1, 3, 3, 183, 0, 1, 42, 27, 181, 0, 7, 177]
abbrev dktX4_init_0 : List UInt8 := dkwX4_init_0 ++ []
theorem dksX4_init_0 : cX4_init.data.toList.drop 0 = dktX4_init_0 := by decide +kernel
theorem dX4_init_0 : decode cX4_init 0 = .ok (.aload_n 0, 1) := dk_42 (dk_at dksX4_init_0 0 rfl rfl)
theorem dX4_init_1 : decode cX4_init 1 = .ok (.aconst_null, 1) := dk_1 (dk_at dksX4_init_0 1 rfl rfl)
theorem dX4_init_2 : decode cX4_init 2 = .ok (.aconst_null, 1) := dk_1 (dk_at dksX4_init_0 2 rfl rfl)
theorem dX4_init_3 : decode cX4_init 3 = .ok (.iconst 0, 1) := dk_3 (dk_at dksX4_init_0 3 rfl rfl)
theorem dX4_init_4 : decode cX4_init 4 = .ok (.iconst 0, 1) := dk_3 (dk_at dksX4_init_0 4 rfl rfl)
theorem dX4_init_5 : decode cX4_init 5 = .ok (.invokespecial 1, 3) := dk_183 0 1 (dk_at dksX4_init_0 5 rfl rfl)
theorem dX4_init_8 : decode cX4_init 8 = .ok (.aload_n 0, 1) := dk_42 (dk_at dksX4_init_0 8 rfl rfl)
theorem dX4_init_9 : decode cX4_init 9 = .ok (.iload_n 1, 1) := dk_27 (dk_at dksX4_init_0 9 rfl rfl)
theorem dX4_init_10 : decode cX4_init 10 = .ok (.putfield 7, 3) := dk_181 0 7 (dk_at dksX4_init_0 10 rfl rfl)
theorem dX4_init_13 : decode cX4_init 13 = .ok (.return_, 1) := dk_177 (dk_at dksX4_init_0 13 rfl rfl)
theorem q69 : (Jvm.Cond.initialized "YoungerBack$Finding") ∈ lw_all := lw_g (lw_at lw_m1 10 rfl) rfl
theorem q280 : (Jvm.Cond.instantiable "YoungerBack$Finding" (7 : Nat)) ∈ lw_all := lw_g (lw_at lw_m1 221 rfl) rfl
theorem q281 : (Jvm.Cond.castable "YoungerBack$Finding" "YoungerBack$Finding") ∈ lw_tbl := lw_at lw_m1 222 rfl
theorem q286 : (Jvm.Cond.selects "YoungerBack$Finding" ({ cls := "java/lang/Throwable", name := "fillInStackTrace", desc := "(I)Ljava/lang/Throwable;" } : Jvm.MethodName) ({ cls := "java/lang/Throwable", name := "fillInStackTrace", desc := "(I)Ljava/lang/Throwable;" } : Jvm.MethodName)) ∈ lw_all := lw_g (lw_at lw_m1 227 rfl) rfl
theorem q287 : (Jvm.Cond.selects "YoungerBack$Finding" ({ cls := "java/lang/Throwable", name := "fillInStackTrace", desc := "()Ljava/lang/Throwable;" } : Jvm.MethodName) ({ cls := "java/lang/Throwable", name := "fillInStackTrace", desc := "()Ljava/lang/Throwable;" } : Jvm.MethodName)) ∈ lw_all := lw_g (lw_at lw_m1 228 rfl) rfl
theorem q288 : (Jvm.Cond.lays "YoungerBack$Finding" "java/lang/Throwable" "cause" "Ljava/lang/Throwable;") ∈ lw_all := lw_g (lw_at lw_m1 229 rfl) rfl
theorem q290 : (Jvm.Cond.lays "YoungerBack$Finding" "java/lang/Throwable" "stackTrace" "[Ljava/lang/StackTraceElement;") ∈ lw_all := lw_g (lw_at lw_m1 231 rfl) rfl
theorem q292 : (Jvm.Cond.lays "YoungerBack$Finding" "java/lang/Throwable" "suppressedExceptions" "Ljava/util/List;") ∈ lw_all := lw_g (lw_at lw_m1 233 rfl) rfl
theorem q294 : (Jvm.Cond.lays "YoungerBack$Finding" "java/lang/Throwable" "detailMessage" "Ljava/lang/String;") ∈ lw_all := lw_g (lw_at lw_m1 235 rfl) rfl
theorem q296 : (Jvm.Cond.lays "YoungerBack$Finding" "java/lang/Throwable" "backtrace" "Ljava/lang/Object;") ∈ lw_all := lw_g (lw_at lw_m1 237 rfl) rfl
theorem q320 : (Jvm.Cond.instanceMethod ({ cls := "YoungerBack$Finding", name := "<init>", desc := "(I)V" } : Jvm.MethodName)) ∈ lw_all := lw_g (lw_at lw_m2 21 rfl) rfl
theorem q321 : (Jvm.Cond.code ({ cls := "YoungerBack$Finding", name := "<init>", desc := "(I)V" } : Jvm.MethodName) prog_6_method_1_code (2 : Nat) (Option.none : Option Jvm.ClassFile.FieldType)) ∈ lw_all := lw_g (lw_at lw_m2 22 rfl) rfl
theorem q322 : (Jvm.Cond.methodLink "YoungerBack$Finding" (1 : Nat) ({ cls := "java/lang/Exception", name := "<init>", desc := "(Ljava/lang/String;Ljava/lang/Throwable;ZZ)V" } : Jvm.MethodName)) ∈ lw_all := lw_g (lw_at lw_m2 23 rfl) rfl
theorem q328 : (Jvm.Cond.fieldLink "YoungerBack$Finding" (7 : Nat) "YoungerBack$Finding" "number" "I") ∈ lw_all := lw_g (lw_at lw_m2 29 rfl) rfl
theorem q335 : (Jvm.Cond.laysFinal "YoungerBack$Finding" "YoungerBack$Finding" "number" "I") ∈ lw_all := lw_g (lw_at lw_m2 36 rfl) rfl
theorem q336 : (Jvm.Cond.soleField "YoungerBack$Finding" "number") ∈ lw_all := lw_g (lw_at lw_m2 37 rfl) rfl
theorem q341 : (Jvm.Cond.lays "YoungerBack$Finding" "java/lang/Throwable" "depth" "I") ∈ lw_all := lw_g (lw_at lw_m2 42 rfl) rfl
theorem q344 : (Jvm.Cond.superclass "YoungerBack$Finding" "java/lang/Exception") ∈ lw_all := lw_g (lw_at lw_m2 45 rfl) rfl
theorem q836 : (Jvm.Cond.selects "YoungerBack$Finding" ({ cls := "java/lang/Object", name := "getClass", desc := "()Ljava/lang/Class;" } : Jvm.MethodName) ({ cls := "java/lang/Object", name := "getClass", desc := "()Ljava/lang/Class;" } : Jvm.MethodName)) ∈ lw_all := lw_g (lw_at lw_m4 57 rfl) rfl
theorem q1650 : (Jvm.Cond.castable "YoungerBack$Finding" "java/lang/Object") ∈ lw_tbl := lw_at lw_m7 151 rfl
theorem in_X4 : ∀ w ∈ wsX40, w ∈ lw_all := lw_in wsX40 [288, 290, 292, 294, 296, 341, 335] (by decide +kernel) (by decide +kernel)

/-! YoungerBack$Row -/
set_option maxRecDepth 100000
def RX5 : String := "YoungerBack$Row"
def TX5 : u_T := fun k => match k with
  | 0 => ("YoungerBack$Row", "lane", "I", true)
  | _ => ("YoungerBack$Row", "items", "[I", true)
def tyX5 : Nat → FieldType := fun k => match k with
  | 0 => .int
  | _ => .array .int
abbrev wsX50 : List Cond := u_ws RX5 TX5 2
theorem nmX5 : ∀ a, a < 2 → ∀ b, b < 2 → a ≠ b → (TX5 a).2.1 ≠ (TX5 b).2.1 := by decide +kernel
theorem tyX5_ok : ∀ k, k < 2 → parseFieldDescriptor (TX5 k).2.2.1 = some (tyX5 k) := by decide +kernel
abbrev cX5_init : ByteArray := prog_13_method_1_code
def yX5_init : MethodName := ⟨RX5, "<init>", "(II)V"⟩
def dkwX5_init_0 : List UInt8 := [42, 183, 0, 3, 42, 27, 181, 0, 9, 42, 28, 188, 10, 181, 0, 15, 177]
abbrev dktX5_init_0 : List UInt8 := dkwX5_init_0 ++ []
theorem dksX5_init_0 : cX5_init.data.toList.drop 0 = dktX5_init_0 := by decide +kernel
theorem dX5_init_0 : decode cX5_init 0 = .ok (.aload_n 0, 1) := dk_42 (dk_at dksX5_init_0 0 rfl rfl)
theorem dX5_init_1 : decode cX5_init 1 = .ok (.invokespecial 3, 3) := dk_183 0 3 (dk_at dksX5_init_0 1 rfl rfl)
theorem dX5_init_4 : decode cX5_init 4 = .ok (.aload_n 0, 1) := dk_42 (dk_at dksX5_init_0 4 rfl rfl)
theorem dX5_init_5 : decode cX5_init 5 = .ok (.iload_n 1, 1) := dk_27 (dk_at dksX5_init_0 5 rfl rfl)
theorem dX5_init_6 : decode cX5_init 6 = .ok (.putfield 9, 3) := dk_181 0 9 (dk_at dksX5_init_0 6 rfl rfl)
theorem dX5_init_9 : decode cX5_init 9 = .ok (.aload_n 0, 1) := dk_42 (dk_at dksX5_init_0 9 rfl rfl)
theorem dX5_init_10 : decode cX5_init 10 = .ok (.iload_n 2, 1) := dk_28 (dk_at dksX5_init_0 10 rfl rfl)
theorem dX5_init_11 : decode cX5_init 11 = .ok (.newarray .int, 2) := dk_188_10 (dk_at dksX5_init_0 11 rfl rfl)
theorem dX5_init_13 : decode cX5_init 13 = .ok (.putfield 15, 3) := dk_181 0 15 (dk_at dksX5_init_0 13 rfl rfl)
theorem dX5_init_16 : decode cX5_init 16 = .ok (.return_, 1) := dk_177 (dk_at dksX5_init_0 16 rfl rfl)
abbrev cX5_cut : ByteArray := prog_13_method_2_code
def yX5_cut : MethodName := ⟨RX5, "cut", "(I)I"⟩
def dkwX5_cut_1 : List UInt8 := [167, 0, 4, 27, 172]
abbrev dktX5_cut_1 : List UInt8 := dkwX5_cut_1 ++ []
def dkwX5_cut_0 : List UInt8 := [42, 180, 0, 9, 154, 0, 8, 27, 145, 167, 0, 17, 42, 180, 0, 9, 4, 160, 0, 8, 27, 147]
abbrev dktX5_cut_0 : List UInt8 := dkwX5_cut_0 ++ dktX5_cut_1
theorem dksX5_cut_0 : cX5_cut.data.toList.drop 0 = dktX5_cut_0 := by decide +kernel
theorem dksX5_cut_1 : cX5_cut.data.toList.drop 22 = dktX5_cut_1 := dk_seg dksX5_cut_0 22 rfl rfl
theorem dX5_cut_0 : decode cX5_cut 0 = .ok (.aload_n 0, 1) := dk_42 (dk_at dksX5_cut_0 0 rfl rfl)
theorem dX5_cut_1 : decode cX5_cut 1 = .ok (.getfield 9, 3) := dk_180 0 9 (dk_at dksX5_cut_0 1 rfl rfl)
theorem dX5_cut_4 : decode cX5_cut 4 = .ok (.ifCond .ne 8, 3) := dk_154 0 8 (dk_at dksX5_cut_0 4 rfl rfl)
theorem dX5_cut_7 : decode cX5_cut 7 = .ok (.iload_n 1, 1) := dk_27 (dk_at dksX5_cut_0 7 rfl rfl)
theorem dX5_cut_8 : decode cX5_cut 8 = .ok (.i2b, 1) := dk_145 (dk_at dksX5_cut_0 8 rfl rfl)
theorem dX5_cut_9 : decode cX5_cut 9 = .ok (.goto 17, 3) := dk_167 0 17 (dk_at dksX5_cut_0 9 rfl rfl)
theorem dX5_cut_12 : decode cX5_cut 12 = .ok (.aload_n 0, 1) := dk_42 (dk_at dksX5_cut_0 12 rfl rfl)
theorem dX5_cut_13 : decode cX5_cut 13 = .ok (.getfield 9, 3) := dk_180 0 9 (dk_at dksX5_cut_0 13 rfl rfl)
theorem dX5_cut_16 : decode cX5_cut 16 = .ok (.iconst 1, 1) := dk_4 (dk_at dksX5_cut_0 16 rfl rfl)
theorem dX5_cut_17 : decode cX5_cut 17 = .ok (.if_icmp .ne 8, 3) := dk_160 0 8 (dk_at dksX5_cut_0 17 rfl rfl)
theorem dX5_cut_20 : decode cX5_cut 20 = .ok (.iload_n 1, 1) := dk_27 (dk_at dksX5_cut_0 20 rfl rfl)
theorem dX5_cut_21 : decode cX5_cut 21 = .ok (.i2s, 1) := dk_147 (dk_at dksX5_cut_0 21 rfl rfl)
theorem dX5_cut_22 : decode cX5_cut 22 = .ok (.goto 4, 3) := dk_167 0 4 (dk_at dksX5_cut_1 0 rfl rfl)
theorem dX5_cut_25 : decode cX5_cut 25 = .ok (.iload_n 1, 1) := dk_27 (dk_at dksX5_cut_1 3 rfl rfl)
theorem dX5_cut_26 : decode cX5_cut 26 = .ok (.ireturn, 1) := dk_172 (dk_at dksX5_cut_1 4 rfl rfl)
abbrev cX5_row : ByteArray := prog_13_method_3_code
def yX5_row : MethodName := ⟨RX5, "row", "(II)[I"⟩
def dkwX5_row_1 : List UInt8 := [5, 184, 0, 19, 28, 188, 10, 78, 42, 180, 0, 15, 27, 45, 3, 28, 184, 0, 23, 45, 176]
abbrev dktX5_row_1 : List UInt8 := dkwX5_row_1 ++ []
def dkwX5_row_0 : List UInt8 := [27, 155, 0, 22, 27, 133, 28, 133, 97, 42, 180, 0, 15, 190, 133, 148, 157, 0, 7, 4, 167, 0, 4, 3]
abbrev dktX5_row_0 : List UInt8 := dkwX5_row_0 ++ dktX5_row_1
theorem dksX5_row_0 : cX5_row.data.toList.drop 0 = dktX5_row_0 := by decide +kernel
theorem dksX5_row_1 : cX5_row.data.toList.drop 24 = dktX5_row_1 := dk_seg dksX5_row_0 24 rfl rfl
theorem dX5_row_0 : decode cX5_row 0 = .ok (.iload_n 1, 1) := dk_27 (dk_at dksX5_row_0 0 rfl rfl)
theorem dX5_row_1 : decode cX5_row 1 = .ok (.ifCond .lt 22, 3) := dk_155 0 22 (dk_at dksX5_row_0 1 rfl rfl)
theorem dX5_row_4 : decode cX5_row 4 = .ok (.iload_n 1, 1) := dk_27 (dk_at dksX5_row_0 4 rfl rfl)
theorem dX5_row_5 : decode cX5_row 5 = .ok (.i2l, 1) := dk_133 (dk_at dksX5_row_0 5 rfl rfl)
theorem dX5_row_6 : decode cX5_row 6 = .ok (.iload_n 2, 1) := dk_28 (dk_at dksX5_row_0 6 rfl rfl)
theorem dX5_row_7 : decode cX5_row 7 = .ok (.i2l, 1) := dk_133 (dk_at dksX5_row_0 7 rfl rfl)
theorem dX5_row_8 : decode cX5_row 8 = .ok (.ladd, 1) := dk_97 (dk_at dksX5_row_0 8 rfl rfl)
theorem dX5_row_9 : decode cX5_row 9 = .ok (.aload_n 0, 1) := dk_42 (dk_at dksX5_row_0 9 rfl rfl)
theorem dX5_row_10 : decode cX5_row 10 = .ok (.getfield 15, 3) := dk_180 0 15 (dk_at dksX5_row_0 10 rfl rfl)
theorem dX5_row_13 : decode cX5_row 13 = .ok (.arraylength, 1) := dk_190 (dk_at dksX5_row_0 13 rfl rfl)
theorem dX5_row_14 : decode cX5_row 14 = .ok (.i2l, 1) := dk_133 (dk_at dksX5_row_0 14 rfl rfl)
theorem dX5_row_15 : decode cX5_row 15 = .ok (.lcmp, 1) := dk_148 (dk_at dksX5_row_0 15 rfl rfl)
theorem dX5_row_16 : decode cX5_row 16 = .ok (.ifCond .gt 7, 3) := dk_157 0 7 (dk_at dksX5_row_0 16 rfl rfl)
theorem dX5_row_19 : decode cX5_row 19 = .ok (.iconst 1, 1) := dk_4 (dk_at dksX5_row_0 19 rfl rfl)
theorem dX5_row_20 : decode cX5_row 20 = .ok (.goto 4, 3) := dk_167 0 4 (dk_at dksX5_row_0 20 rfl rfl)
theorem dX5_row_23 : decode cX5_row 23 = .ok (.iconst 0, 1) := dk_3 (dk_at dksX5_row_0 23 rfl rfl)
theorem dX5_row_24 : decode cX5_row 24 = .ok (.iconst 2, 1) := dk_5 (dk_at dksX5_row_1 0 rfl rfl)
theorem dX5_row_25 : decode cX5_row 25 = .ok (.invokestatic 19, 3) := dk_184 0 19 (dk_at dksX5_row_1 1 rfl rfl)
theorem dX5_row_28 : decode cX5_row 28 = .ok (.iload_n 2, 1) := dk_28 (dk_at dksX5_row_1 4 rfl rfl)
theorem dX5_row_29 : decode cX5_row 29 = .ok (.newarray .int, 2) := dk_188_10 (dk_at dksX5_row_1 5 rfl rfl)
theorem dX5_row_31 : decode cX5_row 31 = .ok (.astore_n 3, 1) := dk_78 (dk_at dksX5_row_1 7 rfl rfl)
theorem dX5_row_32 : decode cX5_row 32 = .ok (.aload_n 0, 1) := dk_42 (dk_at dksX5_row_1 8 rfl rfl)
theorem dX5_row_33 : decode cX5_row 33 = .ok (.getfield 15, 3) := dk_180 0 15 (dk_at dksX5_row_1 9 rfl rfl)
theorem dX5_row_36 : decode cX5_row 36 = .ok (.iload_n 1, 1) := dk_27 (dk_at dksX5_row_1 12 rfl rfl)
theorem dX5_row_37 : decode cX5_row 37 = .ok (.aload_n 3, 1) := dk_45 (dk_at dksX5_row_1 13 rfl rfl)
theorem dX5_row_38 : decode cX5_row 38 = .ok (.iconst 0, 1) := dk_3 (dk_at dksX5_row_1 14 rfl rfl)
theorem dX5_row_39 : decode cX5_row 39 = .ok (.iload_n 2, 1) := dk_28 (dk_at dksX5_row_1 15 rfl rfl)
theorem dX5_row_40 : decode cX5_row 40 = .ok (.invokestatic 23, 3) := dk_184 0 23 (dk_at dksX5_row_1 16 rfl rfl)
theorem dX5_row_43 : decode cX5_row 43 = .ok (.aload_n 3, 1) := dk_45 (dk_at dksX5_row_1 19 rfl rfl)
theorem dX5_row_44 : decode cX5_row 44 = .ok (.areturn, 1) := dk_176 (dk_at dksX5_row_1 20 rfl rfl)
theorem q70 : (Jvm.Cond.initialized "YoungerBack$Row") ∈ lw_all := lw_g (lw_at lw_m1 11 rfl) rfl
theorem q345 : (Jvm.Cond.instantiable "YoungerBack$Row" (2 : Nat)) ∈ lw_all := lw_g (lw_at lw_m2 46 rfl) rfl
theorem q347 : (Jvm.Cond.instanceMethod ({ cls := "YoungerBack$Row", name := "<init>", desc := "(II)V" } : Jvm.MethodName)) ∈ lw_all := lw_g (lw_at lw_m2 48 rfl) rfl
theorem q348 : (Jvm.Cond.code ({ cls := "YoungerBack$Row", name := "<init>", desc := "(II)V" } : Jvm.MethodName) prog_13_method_1_code (3 : Nat) (Option.none : Option Jvm.ClassFile.FieldType)) ∈ lw_all := lw_g (lw_at lw_m2 49 rfl) rfl
theorem q349 : (Jvm.Cond.methodLink "YoungerBack$Row" (3 : Nat) ({ cls := "java/lang/Object", name := "<init>", desc := "()V" } : Jvm.MethodName)) ∈ lw_all := lw_g (lw_at lw_m2 50 rfl) rfl
theorem q350 : (Jvm.Cond.fieldLink "YoungerBack$Row" (9 : Nat) "YoungerBack$Row" "lane" "I") ∈ lw_all := lw_g (lw_at lw_m2 51 rfl) rfl
theorem q352 : (Jvm.Cond.fieldLink "YoungerBack$Row" (15 : Nat) "YoungerBack$Row" "items" "[I") ∈ lw_all := lw_g (lw_at lw_m2 53 rfl) rfl
theorem q354 : (Jvm.Cond.laysFinal "YoungerBack$Row" "YoungerBack$Row" "lane" "I") ∈ lw_all := lw_g (lw_at lw_m2 55 rfl) rfl
theorem q355 : (Jvm.Cond.soleField "YoungerBack$Row" "lane") ∈ lw_all := lw_g (lw_at lw_m2 56 rfl) rfl
theorem q356 : (Jvm.Cond.laysFinal "YoungerBack$Row" "YoungerBack$Row" "items" "[I") ∈ lw_all := lw_g (lw_at lw_m2 57 rfl) rfl
theorem q357 : (Jvm.Cond.soleField "YoungerBack$Row" "items") ∈ lw_all := lw_g (lw_at lw_m2 58 rfl) rfl
theorem q358 : (Jvm.Cond.superclass "YoungerBack$Row" "java/lang/Object") ∈ lw_all := lw_g (lw_at lw_m2 59 rfl) rfl
theorem q377 : (Jvm.Cond.instanceMethod ({ cls := "YoungerBack$Row", name := "cut", desc := "(I)I" } : Jvm.MethodName)) ∈ lw_all := lw_g (lw_at lw_m2 78 rfl) rfl
theorem q378 : (Jvm.Cond.selects "YoungerBack$Row" ({ cls := "YoungerBack$Row", name := "cut", desc := "(I)I" } : Jvm.MethodName) ({ cls := "YoungerBack$Row", name := "cut", desc := "(I)I" } : Jvm.MethodName)) ∈ lw_all := lw_g (lw_at lw_m2 79 rfl) rfl
theorem q379 : (Jvm.Cond.code ({ cls := "YoungerBack$Row", name := "cut", desc := "(I)I" } : Jvm.MethodName) prog_13_method_2_code (2 : Nat) (Option.some Jvm.ClassFile.FieldType.int)) ∈ lw_all := lw_g (lw_at lw_m2 80 rfl) rfl
theorem q841 : (Jvm.Cond.selects "YoungerBack$Row" ({ cls := "java/lang/Object", name := "getClass", desc := "()Ljava/lang/Class;" } : Jvm.MethodName) ({ cls := "java/lang/Object", name := "getClass", desc := "()Ljava/lang/Class;" } : Jvm.MethodName)) ∈ lw_all := lw_g (lw_at lw_m4 62 rfl) rfl
theorem q964 : (Jvm.Cond.instanceMethod ({ cls := "YoungerBack$Row", name := "row", desc := "(II)[I" } : Jvm.MethodName)) ∈ lw_all := lw_g (lw_at lw_m4 185 rfl) rfl
theorem q965 : (Jvm.Cond.selects "YoungerBack$Row" ({ cls := "YoungerBack$Row", name := "row", desc := "(II)[I" } : Jvm.MethodName) ({ cls := "YoungerBack$Row", name := "row", desc := "(II)[I" } : Jvm.MethodName)) ∈ lw_all := lw_g (lw_at lw_m4 186 rfl) rfl
theorem q966 : (Jvm.Cond.code ({ cls := "YoungerBack$Row", name := "row", desc := "(II)[I" } : Jvm.MethodName) prog_13_method_3_code (4 : Nat) (Option.some (Jvm.ClassFile.FieldType.array Jvm.ClassFile.FieldType.int))) ∈ lw_all := lw_g (lw_at lw_m4 187 rfl) rfl
theorem q967 : (Jvm.Cond.methodLinkNest "YoungerBack$Row" (19 : Nat) ({ cls := "YoungerBack", name := "must", desc := "(ZI)V" } : Jvm.MethodName) "YoungerBack") ∈ lw_tbl := lw_at lw_m4 188 rfl
theorem q968 : (Jvm.Cond.methodLink "YoungerBack$Row" (23 : Nat) ({ cls := "java/lang/System", name := "arraycopy", desc := "(Ljava/lang/Object;ILjava/lang/Object;II)V" } : Jvm.MethodName)) ∈ lw_all := lw_g (lw_at lw_m4 189 rfl) rfl
theorem q1643 : (Jvm.Cond.castable "YoungerBack$Row" "java/lang/Object") ∈ lw_tbl := lw_at lw_m7 144 rfl
theorem in_X5 : ∀ w ∈ wsX50, w ∈ lw_all := lw_in wsX50 [354, 356] (by decide +kernel) (by decide +kernel)

/-! YoungerBack$Reader -/
set_option maxRecDepth 100000
def RX6 : String := "YoungerBack$Reader"
def TX6 : u_T := fun k => match k with
  | 0 => ("YoungerBack$Reader", "text", "[B", true)
  | 1 => ("YoungerBack$Reader", "size", "I", true)
  | 2 => ("YoungerBack$Reader", "at", "I", false)
  | 3 => ("YoungerBack$Reader", "token", "I", false)
  | 4 => ("YoungerBack$Reader", "from", "I", false)
  | 5 => ("YoungerBack$Reader", "number", "I", false)
  | 6 => ("YoungerBack$Reader", "name", "Ljava/lang/String;", false)
  | _ => ("YoungerBack$Reader", "made", "LYoungerBack$League;", true)
def tyX6 : Nat → FieldType := fun k => match k with
  | 0 => .array .byte
  | 1 => .int
  | 2 => .int
  | 3 => .int
  | 4 => .int
  | 5 => .int
  | 6 => .object "java/lang/String"
  | _ => .object "YoungerBack$League"
abbrev wsX60 : List Cond := u_ws RX6 TX6 8
theorem nmX6 : ∀ a, a < 8 → ∀ b, b < 8 → a ≠ b → (TX6 a).2.1 ≠ (TX6 b).2.1 := by decide +kernel
theorem tyX6_ok : ∀ k, k < 8 → parseFieldDescriptor (TX6 k).2.2.1 = some (tyX6 k) := by decide +kernel
abbrev cX6_init : ByteArray := prog_12_method_1_code
def yX6_init : MethodName := ⟨RX6, "<init>", "([BI)V"⟩
def dkwX6_init_1 : List UInt8 := [181, 0, 24, 42, 28, 181, 0, 28, 177]
abbrev dktX6_init_1 : List UInt8 := dkwX6_init_1 ++ []
def dkwX6_init_0 : List UInt8 := [42, 183, 0, 3, 42, 18, 9, 181, 0, 11, 42, 187, 0, 17, 89, 183, 0, 19, 181, 0, 20, 42, 43]
abbrev dktX6_init_0 : List UInt8 := dkwX6_init_0 ++ dktX6_init_1
theorem dksX6_init_0 : cX6_init.data.toList.drop 0 = dktX6_init_0 := by decide +kernel
theorem dksX6_init_1 : cX6_init.data.toList.drop 23 = dktX6_init_1 := dk_seg dksX6_init_0 23 rfl rfl
theorem dX6_init_0 : decode cX6_init 0 = .ok (.aload_n 0, 1) := dk_42 (dk_at dksX6_init_0 0 rfl rfl)
theorem dX6_init_1 : decode cX6_init 1 = .ok (.invokespecial 3, 3) := dk_183 0 3 (dk_at dksX6_init_0 1 rfl rfl)
theorem dX6_init_4 : decode cX6_init 4 = .ok (.aload_n 0, 1) := dk_42 (dk_at dksX6_init_0 4 rfl rfl)
theorem dX6_init_5 : decode cX6_init 5 = .ok (.ldc 9, 2) := dk_18 9 (dk_at dksX6_init_0 5 rfl rfl)
theorem dX6_init_7 : decode cX6_init 7 = .ok (.putfield 11, 3) := dk_181 0 11 (dk_at dksX6_init_0 7 rfl rfl)
theorem dX6_init_10 : decode cX6_init 10 = .ok (.aload_n 0, 1) := dk_42 (dk_at dksX6_init_0 10 rfl rfl)
theorem dX6_init_11 : decode cX6_init 11 = .ok (.new 17, 3) := dk_187 0 17 (dk_at dksX6_init_0 11 rfl rfl)
theorem dX6_init_14 : decode cX6_init 14 = .ok (.dup, 1) := dk_89 (dk_at dksX6_init_0 14 rfl rfl)
theorem dX6_init_15 : decode cX6_init 15 = .ok (.invokespecial 19, 3) := dk_183 0 19 (dk_at dksX6_init_0 15 rfl rfl)
theorem dX6_init_18 : decode cX6_init 18 = .ok (.putfield 20, 3) := dk_181 0 20 (dk_at dksX6_init_0 18 rfl rfl)
theorem dX6_init_21 : decode cX6_init 21 = .ok (.aload_n 0, 1) := dk_42 (dk_at dksX6_init_0 21 rfl rfl)
theorem dX6_init_22 : decode cX6_init 22 = .ok (.aload_n 1, 1) := dk_43 (dk_at dksX6_init_0 22 rfl rfl)
theorem dX6_init_23 : decode cX6_init 23 = .ok (.putfield 24, 3) := dk_181 0 24 (dk_at dksX6_init_1 0 rfl rfl)
theorem dX6_init_26 : decode cX6_init 26 = .ok (.aload_n 0, 1) := dk_42 (dk_at dksX6_init_1 3 rfl rfl)
theorem dX6_init_27 : decode cX6_init 27 = .ok (.iload_n 2, 1) := dk_28 (dk_at dksX6_init_1 4 rfl rfl)
theorem dX6_init_28 : decode cX6_init 28 = .ok (.putfield 28, 3) := dk_181 0 28 (dk_at dksX6_init_1 5 rfl rfl)
theorem dX6_init_31 : decode cX6_init 31 = .ok (.return_, 1) := dk_177 (dk_at dksX6_init_1 8 rfl rfl)
abbrev cX6_all : ByteArray := prog_12_method_9_code
def yX6_all : MethodName := ⟨RX6, "all", "()V"⟩
def dkwX6_all_4 : List UInt8 := [167, 0, 4, 3, 4, 182, 0, 83, 177]
abbrev dktX6_all_4 : List UInt8 := dkwX6_all_4 ++ []
def dkwX6_all_3 : List UInt8 := [182, 0, 92, 153, 0, 10, 42, 182, 0, 115, 167, 255, 243, 42, 42, 180, 0, 43, 154, 0, 7, 4]
abbrev dktX6_all_3 : List UInt8 := dkwX6_all_3 ++ dktX6_all_4
def dkwX6_all_2 : List UInt8 := [182, 0, 106, 42, 18, 109, 182, 0, 92, 153, 0, 10, 42, 182, 0, 111, 167, 255, 243, 42, 18, 113]
abbrev dktX6_all_2 : List UInt8 := dkwX6_all_2 ++ dktX6_all_3
def dkwX6_all_1 : List UInt8 := [4, 8, 182, 0, 96, 181, 0, 100, 42, 180, 0, 20, 42, 3, 16, 20, 182, 0, 96, 181, 0, 103, 42]
abbrev dktX6_all_1 : List UInt8 := dkwX6_all_1 ++ dktX6_all_2
def dkwX6_all_0 : List UInt8 := [42, 182, 0, 87, 42, 42, 18, 90, 182, 0, 92, 4, 182, 0, 83, 42, 182, 0, 87, 42, 180, 0, 20, 42]
abbrev dktX6_all_0 : List UInt8 := dkwX6_all_0 ++ dktX6_all_1
theorem dksX6_all_0 : cX6_all.data.toList.drop 0 = dktX6_all_0 := by decide +kernel
theorem dksX6_all_1 : cX6_all.data.toList.drop 24 = dktX6_all_1 := dk_seg dksX6_all_0 24 rfl rfl
theorem dksX6_all_2 : cX6_all.data.toList.drop 47 = dktX6_all_2 := dk_seg dksX6_all_1 23 rfl rfl
theorem dksX6_all_3 : cX6_all.data.toList.drop 69 = dktX6_all_3 := dk_seg dksX6_all_2 22 rfl rfl
theorem dksX6_all_4 : cX6_all.data.toList.drop 91 = dktX6_all_4 := dk_seg dksX6_all_3 22 rfl rfl
theorem dX6_all_0 : decode cX6_all 0 = .ok (.aload_n 0, 1) := dk_42 (dk_at dksX6_all_0 0 rfl rfl)
theorem dX6_all_1 : decode cX6_all 1 = .ok (.invokevirtual 87, 3) := dk_182 0 87 (dk_at dksX6_all_0 1 rfl rfl)
theorem dX6_all_4 : decode cX6_all 4 = .ok (.aload_n 0, 1) := dk_42 (dk_at dksX6_all_0 4 rfl rfl)
theorem dX6_all_5 : decode cX6_all 5 = .ok (.aload_n 0, 1) := dk_42 (dk_at dksX6_all_0 5 rfl rfl)
theorem dX6_all_6 : decode cX6_all 6 = .ok (.ldc 90, 2) := dk_18 90 (dk_at dksX6_all_0 6 rfl rfl)
theorem dX6_all_8 : decode cX6_all 8 = .ok (.invokevirtual 92, 3) := dk_182 0 92 (dk_at dksX6_all_0 8 rfl rfl)
theorem dX6_all_11 : decode cX6_all 11 = .ok (.iconst 1, 1) := dk_4 (dk_at dksX6_all_0 11 rfl rfl)
theorem dX6_all_12 : decode cX6_all 12 = .ok (.invokevirtual 83, 3) := dk_182 0 83 (dk_at dksX6_all_0 12 rfl rfl)
theorem dX6_all_15 : decode cX6_all 15 = .ok (.aload_n 0, 1) := dk_42 (dk_at dksX6_all_0 15 rfl rfl)
theorem dX6_all_16 : decode cX6_all 16 = .ok (.invokevirtual 87, 3) := dk_182 0 87 (dk_at dksX6_all_0 16 rfl rfl)
theorem dX6_all_19 : decode cX6_all 19 = .ok (.aload_n 0, 1) := dk_42 (dk_at dksX6_all_0 19 rfl rfl)
theorem dX6_all_20 : decode cX6_all 20 = .ok (.getfield 20, 3) := dk_180 0 20 (dk_at dksX6_all_0 20 rfl rfl)
theorem dX6_all_23 : decode cX6_all 23 = .ok (.aload_n 0, 1) := dk_42 (dk_at dksX6_all_0 23 rfl rfl)
theorem dX6_all_24 : decode cX6_all 24 = .ok (.iconst 1, 1) := dk_4 (dk_at dksX6_all_1 0 rfl rfl)
theorem dX6_all_25 : decode cX6_all 25 = .ok (.iconst 5, 1) := dk_8 (dk_at dksX6_all_1 1 rfl rfl)
theorem dX6_all_26 : decode cX6_all 26 = .ok (.invokevirtual 96, 3) := dk_182 0 96 (dk_at dksX6_all_1 2 rfl rfl)
theorem dX6_all_29 : decode cX6_all 29 = .ok (.putfield 100, 3) := dk_181 0 100 (dk_at dksX6_all_1 5 rfl rfl)
theorem dX6_all_32 : decode cX6_all 32 = .ok (.aload_n 0, 1) := dk_42 (dk_at dksX6_all_1 8 rfl rfl)
theorem dX6_all_33 : decode cX6_all 33 = .ok (.getfield 20, 3) := dk_180 0 20 (dk_at dksX6_all_1 9 rfl rfl)
theorem dX6_all_36 : decode cX6_all 36 = .ok (.aload_n 0, 1) := dk_42 (dk_at dksX6_all_1 12 rfl rfl)
theorem dX6_all_37 : decode cX6_all 37 = .ok (.iconst 0, 1) := dk_3 (dk_at dksX6_all_1 13 rfl rfl)
theorem dX6_all_38 : decode cX6_all 38 = .ok (.bipush 20, 2) := dk_16 20 (dk_at dksX6_all_1 14 rfl rfl)
theorem dX6_all_40 : decode cX6_all 40 = .ok (.invokevirtual 96, 3) := dk_182 0 96 (dk_at dksX6_all_1 16 rfl rfl)
theorem dX6_all_43 : decode cX6_all 43 = .ok (.putfield 103, 3) := dk_181 0 103 (dk_at dksX6_all_1 19 rfl rfl)
theorem dX6_all_46 : decode cX6_all 46 = .ok (.aload_n 0, 1) := dk_42 (dk_at dksX6_all_1 22 rfl rfl)
theorem dX6_all_47 : decode cX6_all 47 = .ok (.invokevirtual 106, 3) := dk_182 0 106 (dk_at dksX6_all_2 0 rfl rfl)
theorem dX6_all_50 : decode cX6_all 50 = .ok (.aload_n 0, 1) := dk_42 (dk_at dksX6_all_2 3 rfl rfl)
theorem dX6_all_51 : decode cX6_all 51 = .ok (.ldc 109, 2) := dk_18 109 (dk_at dksX6_all_2 4 rfl rfl)
theorem dX6_all_53 : decode cX6_all 53 = .ok (.invokevirtual 92, 3) := dk_182 0 92 (dk_at dksX6_all_2 6 rfl rfl)
theorem dX6_all_56 : decode cX6_all 56 = .ok (.ifCond .eq 10, 3) := dk_153 0 10 (dk_at dksX6_all_2 9 rfl rfl)
theorem dX6_all_59 : decode cX6_all 59 = .ok (.aload_n 0, 1) := dk_42 (dk_at dksX6_all_2 12 rfl rfl)
theorem dX6_all_60 : decode cX6_all 60 = .ok (.invokevirtual 111, 3) := dk_182 0 111 (dk_at dksX6_all_2 13 rfl rfl)
theorem dX6_all_63 : decode cX6_all 63 = .ok (.goto (-13), 3) := dk_167 255 243 (dk_at dksX6_all_2 16 rfl rfl)
theorem dX6_all_66 : decode cX6_all 66 = .ok (.aload_n 0, 1) := dk_42 (dk_at dksX6_all_2 19 rfl rfl)
theorem dX6_all_67 : decode cX6_all 67 = .ok (.ldc 113, 2) := dk_18 113 (dk_at dksX6_all_2 20 rfl rfl)
theorem dX6_all_69 : decode cX6_all 69 = .ok (.invokevirtual 92, 3) := dk_182 0 92 (dk_at dksX6_all_3 0 rfl rfl)
theorem dX6_all_72 : decode cX6_all 72 = .ok (.ifCond .eq 10, 3) := dk_153 0 10 (dk_at dksX6_all_3 3 rfl rfl)
theorem dX6_all_75 : decode cX6_all 75 = .ok (.aload_n 0, 1) := dk_42 (dk_at dksX6_all_3 6 rfl rfl)
theorem dX6_all_76 : decode cX6_all 76 = .ok (.invokevirtual 115, 3) := dk_182 0 115 (dk_at dksX6_all_3 7 rfl rfl)
theorem dX6_all_79 : decode cX6_all 79 = .ok (.goto (-13), 3) := dk_167 255 243 (dk_at dksX6_all_3 10 rfl rfl)
theorem dX6_all_82 : decode cX6_all 82 = .ok (.aload_n 0, 1) := dk_42 (dk_at dksX6_all_3 13 rfl rfl)
theorem dX6_all_83 : decode cX6_all 83 = .ok (.aload_n 0, 1) := dk_42 (dk_at dksX6_all_3 14 rfl rfl)
theorem dX6_all_84 : decode cX6_all 84 = .ok (.getfield 43, 3) := dk_180 0 43 (dk_at dksX6_all_3 15 rfl rfl)
theorem dX6_all_87 : decode cX6_all 87 = .ok (.ifCond .ne 7, 3) := dk_154 0 7 (dk_at dksX6_all_3 18 rfl rfl)
theorem dX6_all_90 : decode cX6_all 90 = .ok (.iconst 1, 1) := dk_4 (dk_at dksX6_all_3 21 rfl rfl)
theorem dX6_all_91 : decode cX6_all 91 = .ok (.goto 4, 3) := dk_167 0 4 (dk_at dksX6_all_4 0 rfl rfl)
theorem dX6_all_94 : decode cX6_all 94 = .ok (.iconst 0, 1) := dk_3 (dk_at dksX6_all_4 3 rfl rfl)
theorem dX6_all_95 : decode cX6_all 95 = .ok (.iconst 1, 1) := dk_4 (dk_at dksX6_all_4 4 rfl rfl)
theorem dX6_all_96 : decode cX6_all 96 = .ok (.invokevirtual 83, 3) := dk_182 0 83 (dk_at dksX6_all_4 5 rfl rfl)
theorem dX6_all_99 : decode cX6_all 99 = .ok (.return_, 1) := dk_177 (dk_at dksX6_all_4 8 rfl rfl)
abbrev cX6_next : ByteArray := prog_12_method_3_code
def yX6_next : MethodName := ⟨RX6, "next", "()V"⟩
def dkwX6_next_12 : List UInt8 := [167, 0, 4, 7, 181, 0, 43, 177]
abbrev dktX6_next_12 : List UInt8 := dkwX6_next_12 ++ []
def dkwX6_next_11 : List UInt8 := [181, 0, 43, 167, 0, 28, 42, 89, 180, 0, 32, 4, 96, 181, 0, 32, 42, 27, 16, 59, 160, 0, 7, 6]
abbrev dktX6_next_11 : List UInt8 := dkwX6_next_11 ++ dktX6_next_12
def dkwX6_next_10 : List UInt8 := [167, 255, 190, 42, 42, 180, 0, 32, 42, 180, 0, 40, 100, 6, 163, 0, 7, 5, 167, 0, 4, 7]
abbrev dktX6_next_10 : List UInt8 := dkwX6_next_10 ++ dktX6_next_11
def dkwX6_next_9 : List UInt8 := [16, 48, 100, 167, 0, 7, 42, 180, 0, 69, 181, 0, 69, 42, 89, 180, 0, 32, 4, 96, 181, 0, 32]
abbrev dktX6_next_9 : List UInt8 := dkwX6_next_9 ++ dktX6_next_10
def dkwX6_next_8 : List UInt8 := [180, 0, 32, 42, 180, 0, 40, 100, 6, 162, 0, 21, 16, 10, 42, 180, 0, 69, 104, 42, 182, 0, 36, 96]
abbrev dktX6_next_8 : List UInt8 := dkwX6_next_8 ++ dktX6_next_9
def dkwX6_next_7 : List UInt8 := [181, 0, 69, 42, 182, 0, 36, 133, 20, 0, 65, 20, 0, 67, 184, 0, 50, 153, 0, 55, 42, 42]
abbrev dktX6_next_7 : List UInt8 := dkwX6_next_7 ++ dktX6_next_8
def dkwX6_next_6 : List UInt8 := [181, 0, 43, 167, 0, 141, 27, 133, 20, 0, 65, 20, 0, 67, 184, 0, 50, 153, 0, 102, 42, 3]
abbrev dktX6_next_6 : List UInt8 := dkwX6_next_6 ++ dktX6_next_7
def dkwX6_next_5 : List UInt8 := [17, 0, 255, 126, 146, 182, 0, 57, 87, 167, 255, 213, 42, 44, 182, 0, 61, 181, 0, 11, 42, 4]
abbrev dktX6_next_5 : List UInt8 := dkwX6_next_5 ++ dktX6_next_6
def dkwX6_next_4 : List UInt8 := [184, 0, 50, 153, 0, 32, 44, 42, 180, 0, 24, 42, 89, 180, 0, 32, 90, 4, 96, 181, 0, 32, 51]
abbrev dktX6_next_4 : List UInt8 := dkwX6_next_4 ++ dktX6_next_5
def dkwX6_next_3 : List UInt8 := [153, 0, 73, 187, 0, 54, 89, 183, 0, 56, 77, 42, 182, 0, 36, 133, 20, 0, 46, 20, 0, 48]
abbrev dktX6_next_3 : List UInt8 := dkwX6_next_3 ++ dktX6_next_4
def dkwX6_next_2 : List UInt8 := [160, 0, 11, 42, 3, 181, 0, 43, 167, 0, 225, 27, 133, 20, 0, 46, 20, 0, 48, 184, 0, 50]
abbrev dktX6_next_2 : List UInt8 := dkwX6_next_2 ++ dktX6_next_3
def dkwX6_next_1 : List UInt8 := [96, 181, 0, 32, 167, 255, 228, 42, 42, 180, 0, 32, 181, 0, 40, 42, 182, 0, 36, 60, 27, 18, 35]
abbrev dktX6_next_1 : List UInt8 := dkwX6_next_1 ++ dktX6_next_2
def dkwX6_next_0 : List UInt8 := [42, 182, 0, 36, 16, 32, 159, 0, 12, 42, 182, 0, 36, 16, 10, 160, 0, 16, 42, 89, 180, 0, 32, 4]
abbrev dktX6_next_0 : List UInt8 := dkwX6_next_0 ++ dktX6_next_1
theorem dksX6_next_0 : cX6_next.data.toList.drop 0 = dktX6_next_0 := by decide +kernel
theorem dksX6_next_1 : cX6_next.data.toList.drop 24 = dktX6_next_1 := dk_seg dksX6_next_0 24 rfl rfl
theorem dksX6_next_2 : cX6_next.data.toList.drop 47 = dktX6_next_2 := dk_seg dksX6_next_1 23 rfl rfl
theorem dksX6_next_3 : cX6_next.data.toList.drop 69 = dktX6_next_3 := dk_seg dksX6_next_2 22 rfl rfl
theorem dksX6_next_4 : cX6_next.data.toList.drop 91 = dktX6_next_4 := dk_seg dksX6_next_3 22 rfl rfl
theorem dksX6_next_5 : cX6_next.data.toList.drop 114 = dktX6_next_5 := dk_seg dksX6_next_4 23 rfl rfl
theorem dksX6_next_6 : cX6_next.data.toList.drop 136 = dktX6_next_6 := dk_seg dksX6_next_5 22 rfl rfl
theorem dksX6_next_7 : cX6_next.data.toList.drop 158 = dktX6_next_7 := dk_seg dksX6_next_6 22 rfl rfl
theorem dksX6_next_8 : cX6_next.data.toList.drop 180 = dktX6_next_8 := dk_seg dksX6_next_7 22 rfl rfl
theorem dksX6_next_9 : cX6_next.data.toList.drop 204 = dktX6_next_9 := dk_seg dksX6_next_8 24 rfl rfl
theorem dksX6_next_10 : cX6_next.data.toList.drop 227 = dktX6_next_10 := dk_seg dksX6_next_9 23 rfl rfl
theorem dksX6_next_11 : cX6_next.data.toList.drop 249 = dktX6_next_11 := dk_seg dksX6_next_10 22 rfl rfl
theorem dksX6_next_12 : cX6_next.data.toList.drop 273 = dktX6_next_12 := dk_seg dksX6_next_11 24 rfl rfl
theorem dX6_next_0 : decode cX6_next 0 = .ok (.aload_n 0, 1) := dk_42 (dk_at dksX6_next_0 0 rfl rfl)
theorem dX6_next_1 : decode cX6_next 1 = .ok (.invokevirtual 36, 3) := dk_182 0 36 (dk_at dksX6_next_0 1 rfl rfl)
theorem dX6_next_4 : decode cX6_next 4 = .ok (.bipush 32, 2) := dk_16 32 (dk_at dksX6_next_0 4 rfl rfl)
theorem dX6_next_6 : decode cX6_next 6 = .ok (.if_icmp .eq 12, 3) := dk_159 0 12 (dk_at dksX6_next_0 6 rfl rfl)
theorem dX6_next_9 : decode cX6_next 9 = .ok (.aload_n 0, 1) := dk_42 (dk_at dksX6_next_0 9 rfl rfl)
theorem dX6_next_10 : decode cX6_next 10 = .ok (.invokevirtual 36, 3) := dk_182 0 36 (dk_at dksX6_next_0 10 rfl rfl)
theorem dX6_next_13 : decode cX6_next 13 = .ok (.bipush 10, 2) := dk_16 10 (dk_at dksX6_next_0 13 rfl rfl)
theorem dX6_next_15 : decode cX6_next 15 = .ok (.if_icmp .ne 16, 3) := dk_160 0 16 (dk_at dksX6_next_0 15 rfl rfl)
theorem dX6_next_18 : decode cX6_next 18 = .ok (.aload_n 0, 1) := dk_42 (dk_at dksX6_next_0 18 rfl rfl)
theorem dX6_next_19 : decode cX6_next 19 = .ok (.dup, 1) := dk_89 (dk_at dksX6_next_0 19 rfl rfl)
theorem dX6_next_20 : decode cX6_next 20 = .ok (.getfield 32, 3) := dk_180 0 32 (dk_at dksX6_next_0 20 rfl rfl)
theorem dX6_next_23 : decode cX6_next 23 = .ok (.iconst 1, 1) := dk_4 (dk_at dksX6_next_0 23 rfl rfl)
theorem dX6_next_24 : decode cX6_next 24 = .ok (.iadd, 1) := dk_96 (dk_at dksX6_next_1 0 rfl rfl)
theorem dX6_next_25 : decode cX6_next 25 = .ok (.putfield 32, 3) := dk_181 0 32 (dk_at dksX6_next_1 1 rfl rfl)
theorem dX6_next_28 : decode cX6_next 28 = .ok (.goto (-28), 3) := dk_167 255 228 (dk_at dksX6_next_1 4 rfl rfl)
theorem dX6_next_31 : decode cX6_next 31 = .ok (.aload_n 0, 1) := dk_42 (dk_at dksX6_next_1 7 rfl rfl)
theorem dX6_next_32 : decode cX6_next 32 = .ok (.aload_n 0, 1) := dk_42 (dk_at dksX6_next_1 8 rfl rfl)
theorem dX6_next_33 : decode cX6_next 33 = .ok (.getfield 32, 3) := dk_180 0 32 (dk_at dksX6_next_1 9 rfl rfl)
theorem dX6_next_36 : decode cX6_next 36 = .ok (.putfield 40, 3) := dk_181 0 40 (dk_at dksX6_next_1 12 rfl rfl)
theorem dX6_next_39 : decode cX6_next 39 = .ok (.aload_n 0, 1) := dk_42 (dk_at dksX6_next_1 15 rfl rfl)
theorem dX6_next_40 : decode cX6_next 40 = .ok (.invokevirtual 36, 3) := dk_182 0 36 (dk_at dksX6_next_1 16 rfl rfl)
theorem dX6_next_43 : decode cX6_next 43 = .ok (.istore_n 1, 1) := dk_60 (dk_at dksX6_next_1 19 rfl rfl)
theorem dX6_next_44 : decode cX6_next 44 = .ok (.iload_n 1, 1) := dk_27 (dk_at dksX6_next_1 20 rfl rfl)
theorem dX6_next_45 : decode cX6_next 45 = .ok (.ldc 35, 2) := dk_18 35 (dk_at dksX6_next_1 21 rfl rfl)
theorem dX6_next_47 : decode cX6_next 47 = .ok (.if_icmp .ne 11, 3) := dk_160 0 11 (dk_at dksX6_next_2 0 rfl rfl)
theorem dX6_next_50 : decode cX6_next 50 = .ok (.aload_n 0, 1) := dk_42 (dk_at dksX6_next_2 3 rfl rfl)
theorem dX6_next_51 : decode cX6_next 51 = .ok (.iconst 0, 1) := dk_3 (dk_at dksX6_next_2 4 rfl rfl)
theorem dX6_next_52 : decode cX6_next 52 = .ok (.putfield 43, 3) := dk_181 0 43 (dk_at dksX6_next_2 5 rfl rfl)
theorem dX6_next_55 : decode cX6_next 55 = .ok (.goto 225, 3) := dk_167 0 225 (dk_at dksX6_next_2 8 rfl rfl)
theorem dX6_next_58 : decode cX6_next 58 = .ok (.iload_n 1, 1) := dk_27 (dk_at dksX6_next_2 11 rfl rfl)
theorem dX6_next_59 : decode cX6_next 59 = .ok (.i2l, 1) := dk_133 (dk_at dksX6_next_2 12 rfl rfl)
theorem dX6_next_60 : decode cX6_next 60 = .ok (.ldc2_w 46, 3) := dk_20 0 46 (dk_at dksX6_next_2 13 rfl rfl)
theorem dX6_next_63 : decode cX6_next 63 = .ok (.ldc2_w 48, 3) := dk_20 0 48 (dk_at dksX6_next_2 16 rfl rfl)
theorem dX6_next_66 : decode cX6_next 66 = .ok (.invokestatic 50, 3) := dk_184 0 50 (dk_at dksX6_next_2 19 rfl rfl)
theorem dX6_next_69 : decode cX6_next 69 = .ok (.ifCond .eq 73, 3) := dk_153 0 73 (dk_at dksX6_next_3 0 rfl rfl)
theorem dX6_next_72 : decode cX6_next 72 = .ok (.new 54, 3) := dk_187 0 54 (dk_at dksX6_next_3 3 rfl rfl)
theorem dX6_next_75 : decode cX6_next 75 = .ok (.dup, 1) := dk_89 (dk_at dksX6_next_3 6 rfl rfl)
theorem dX6_next_76 : decode cX6_next 76 = .ok (.invokespecial 56, 3) := dk_183 0 56 (dk_at dksX6_next_3 7 rfl rfl)
theorem dX6_next_79 : decode cX6_next 79 = .ok (.astore_n 2, 1) := dk_77 (dk_at dksX6_next_3 10 rfl rfl)
theorem dX6_next_80 : decode cX6_next 80 = .ok (.aload_n 0, 1) := dk_42 (dk_at dksX6_next_3 11 rfl rfl)
theorem dX6_next_81 : decode cX6_next 81 = .ok (.invokevirtual 36, 3) := dk_182 0 36 (dk_at dksX6_next_3 12 rfl rfl)
theorem dX6_next_84 : decode cX6_next 84 = .ok (.i2l, 1) := dk_133 (dk_at dksX6_next_3 15 rfl rfl)
theorem dX6_next_85 : decode cX6_next 85 = .ok (.ldc2_w 46, 3) := dk_20 0 46 (dk_at dksX6_next_3 16 rfl rfl)
theorem dX6_next_88 : decode cX6_next 88 = .ok (.ldc2_w 48, 3) := dk_20 0 48 (dk_at dksX6_next_3 19 rfl rfl)
theorem dX6_next_91 : decode cX6_next 91 = .ok (.invokestatic 50, 3) := dk_184 0 50 (dk_at dksX6_next_4 0 rfl rfl)
theorem dX6_next_94 : decode cX6_next 94 = .ok (.ifCond .eq 32, 3) := dk_153 0 32 (dk_at dksX6_next_4 3 rfl rfl)
theorem dX6_next_97 : decode cX6_next 97 = .ok (.aload_n 2, 1) := dk_44 (dk_at dksX6_next_4 6 rfl rfl)
theorem dX6_next_98 : decode cX6_next 98 = .ok (.aload_n 0, 1) := dk_42 (dk_at dksX6_next_4 7 rfl rfl)
theorem dX6_next_99 : decode cX6_next 99 = .ok (.getfield 24, 3) := dk_180 0 24 (dk_at dksX6_next_4 8 rfl rfl)
theorem dX6_next_102 : decode cX6_next 102 = .ok (.aload_n 0, 1) := dk_42 (dk_at dksX6_next_4 11 rfl rfl)
theorem dX6_next_103 : decode cX6_next 103 = .ok (.dup, 1) := dk_89 (dk_at dksX6_next_4 12 rfl rfl)
theorem dX6_next_104 : decode cX6_next 104 = .ok (.getfield 32, 3) := dk_180 0 32 (dk_at dksX6_next_4 13 rfl rfl)
theorem dX6_next_107 : decode cX6_next 107 = .ok (.dup_x1, 1) := dk_90 (dk_at dksX6_next_4 16 rfl rfl)
theorem dX6_next_108 : decode cX6_next 108 = .ok (.iconst 1, 1) := dk_4 (dk_at dksX6_next_4 17 rfl rfl)
theorem dX6_next_109 : decode cX6_next 109 = .ok (.iadd, 1) := dk_96 (dk_at dksX6_next_4 18 rfl rfl)
theorem dX6_next_110 : decode cX6_next 110 = .ok (.putfield 32, 3) := dk_181 0 32 (dk_at dksX6_next_4 19 rfl rfl)
theorem dX6_next_113 : decode cX6_next 113 = .ok (.baload, 1) := dk_51 (dk_at dksX6_next_4 22 rfl rfl)
theorem dX6_next_114 : decode cX6_next 114 = .ok (.sipush 255, 3) := dk_17 0 255 (dk_at dksX6_next_5 0 rfl rfl)
theorem dX6_next_117 : decode cX6_next 117 = .ok (.iand, 1) := dk_126 (dk_at dksX6_next_5 3 rfl rfl)
theorem dX6_next_118 : decode cX6_next 118 = .ok (.i2c, 1) := dk_146 (dk_at dksX6_next_5 4 rfl rfl)
theorem dX6_next_119 : decode cX6_next 119 = .ok (.invokevirtual 57, 3) := dk_182 0 57 (dk_at dksX6_next_5 5 rfl rfl)
theorem dX6_next_122 : decode cX6_next 122 = .ok (.pop, 1) := dk_87 (dk_at dksX6_next_5 8 rfl rfl)
theorem dX6_next_123 : decode cX6_next 123 = .ok (.goto (-43), 3) := dk_167 255 213 (dk_at dksX6_next_5 9 rfl rfl)
theorem dX6_next_126 : decode cX6_next 126 = .ok (.aload_n 0, 1) := dk_42 (dk_at dksX6_next_5 12 rfl rfl)
theorem dX6_next_127 : decode cX6_next 127 = .ok (.aload_n 2, 1) := dk_44 (dk_at dksX6_next_5 13 rfl rfl)
theorem dX6_next_128 : decode cX6_next 128 = .ok (.invokevirtual 61, 3) := dk_182 0 61 (dk_at dksX6_next_5 14 rfl rfl)
theorem dX6_next_131 : decode cX6_next 131 = .ok (.putfield 11, 3) := dk_181 0 11 (dk_at dksX6_next_5 17 rfl rfl)
theorem dX6_next_134 : decode cX6_next 134 = .ok (.aload_n 0, 1) := dk_42 (dk_at dksX6_next_5 20 rfl rfl)
theorem dX6_next_135 : decode cX6_next 135 = .ok (.iconst 1, 1) := dk_4 (dk_at dksX6_next_5 21 rfl rfl)
theorem dX6_next_136 : decode cX6_next 136 = .ok (.putfield 43, 3) := dk_181 0 43 (dk_at dksX6_next_6 0 rfl rfl)
theorem dX6_next_139 : decode cX6_next 139 = .ok (.goto 141, 3) := dk_167 0 141 (dk_at dksX6_next_6 3 rfl rfl)
theorem dX6_next_142 : decode cX6_next 142 = .ok (.iload_n 1, 1) := dk_27 (dk_at dksX6_next_6 6 rfl rfl)
theorem dX6_next_143 : decode cX6_next 143 = .ok (.i2l, 1) := dk_133 (dk_at dksX6_next_6 7 rfl rfl)
theorem dX6_next_144 : decode cX6_next 144 = .ok (.ldc2_w 65, 3) := dk_20 0 65 (dk_at dksX6_next_6 8 rfl rfl)
theorem dX6_next_147 : decode cX6_next 147 = .ok (.ldc2_w 67, 3) := dk_20 0 67 (dk_at dksX6_next_6 11 rfl rfl)
theorem dX6_next_150 : decode cX6_next 150 = .ok (.invokestatic 50, 3) := dk_184 0 50 (dk_at dksX6_next_6 14 rfl rfl)
theorem dX6_next_153 : decode cX6_next 153 = .ok (.ifCond .eq 102, 3) := dk_153 0 102 (dk_at dksX6_next_6 17 rfl rfl)
theorem dX6_next_156 : decode cX6_next 156 = .ok (.aload_n 0, 1) := dk_42 (dk_at dksX6_next_6 20 rfl rfl)
theorem dX6_next_157 : decode cX6_next 157 = .ok (.iconst 0, 1) := dk_3 (dk_at dksX6_next_6 21 rfl rfl)
theorem dX6_next_158 : decode cX6_next 158 = .ok (.putfield 69, 3) := dk_181 0 69 (dk_at dksX6_next_7 0 rfl rfl)
theorem dX6_next_161 : decode cX6_next 161 = .ok (.aload_n 0, 1) := dk_42 (dk_at dksX6_next_7 3 rfl rfl)
theorem dX6_next_162 : decode cX6_next 162 = .ok (.invokevirtual 36, 3) := dk_182 0 36 (dk_at dksX6_next_7 4 rfl rfl)
theorem dX6_next_165 : decode cX6_next 165 = .ok (.i2l, 1) := dk_133 (dk_at dksX6_next_7 7 rfl rfl)
theorem dX6_next_166 : decode cX6_next 166 = .ok (.ldc2_w 65, 3) := dk_20 0 65 (dk_at dksX6_next_7 8 rfl rfl)
theorem dX6_next_169 : decode cX6_next 169 = .ok (.ldc2_w 67, 3) := dk_20 0 67 (dk_at dksX6_next_7 11 rfl rfl)
theorem dX6_next_172 : decode cX6_next 172 = .ok (.invokestatic 50, 3) := dk_184 0 50 (dk_at dksX6_next_7 14 rfl rfl)
theorem dX6_next_175 : decode cX6_next 175 = .ok (.ifCond .eq 55, 3) := dk_153 0 55 (dk_at dksX6_next_7 17 rfl rfl)
theorem dX6_next_178 : decode cX6_next 178 = .ok (.aload_n 0, 1) := dk_42 (dk_at dksX6_next_7 20 rfl rfl)
theorem dX6_next_179 : decode cX6_next 179 = .ok (.aload_n 0, 1) := dk_42 (dk_at dksX6_next_7 21 rfl rfl)
theorem dX6_next_180 : decode cX6_next 180 = .ok (.getfield 32, 3) := dk_180 0 32 (dk_at dksX6_next_8 0 rfl rfl)
theorem dX6_next_183 : decode cX6_next 183 = .ok (.aload_n 0, 1) := dk_42 (dk_at dksX6_next_8 3 rfl rfl)
theorem dX6_next_184 : decode cX6_next 184 = .ok (.getfield 40, 3) := dk_180 0 40 (dk_at dksX6_next_8 4 rfl rfl)
theorem dX6_next_187 : decode cX6_next 187 = .ok (.isub, 1) := dk_100 (dk_at dksX6_next_8 7 rfl rfl)
theorem dX6_next_188 : decode cX6_next 188 = .ok (.iconst 3, 1) := dk_6 (dk_at dksX6_next_8 8 rfl rfl)
theorem dX6_next_189 : decode cX6_next 189 = .ok (.if_icmp .ge 21, 3) := dk_162 0 21 (dk_at dksX6_next_8 9 rfl rfl)
theorem dX6_next_192 : decode cX6_next 192 = .ok (.bipush 10, 2) := dk_16 10 (dk_at dksX6_next_8 12 rfl rfl)
theorem dX6_next_194 : decode cX6_next 194 = .ok (.aload_n 0, 1) := dk_42 (dk_at dksX6_next_8 14 rfl rfl)
theorem dX6_next_195 : decode cX6_next 195 = .ok (.getfield 69, 3) := dk_180 0 69 (dk_at dksX6_next_8 15 rfl rfl)
theorem dX6_next_198 : decode cX6_next 198 = .ok (.imul, 1) := dk_104 (dk_at dksX6_next_8 18 rfl rfl)
theorem dX6_next_199 : decode cX6_next 199 = .ok (.aload_n 0, 1) := dk_42 (dk_at dksX6_next_8 19 rfl rfl)
theorem dX6_next_200 : decode cX6_next 200 = .ok (.invokevirtual 36, 3) := dk_182 0 36 (dk_at dksX6_next_8 20 rfl rfl)
theorem dX6_next_203 : decode cX6_next 203 = .ok (.iadd, 1) := dk_96 (dk_at dksX6_next_8 23 rfl rfl)
theorem dX6_next_204 : decode cX6_next 204 = .ok (.bipush 48, 2) := dk_16 48 (dk_at dksX6_next_9 0 rfl rfl)
theorem dX6_next_206 : decode cX6_next 206 = .ok (.isub, 1) := dk_100 (dk_at dksX6_next_9 2 rfl rfl)
theorem dX6_next_207 : decode cX6_next 207 = .ok (.goto 7, 3) := dk_167 0 7 (dk_at dksX6_next_9 3 rfl rfl)
theorem dX6_next_210 : decode cX6_next 210 = .ok (.aload_n 0, 1) := dk_42 (dk_at dksX6_next_9 6 rfl rfl)
theorem dX6_next_211 : decode cX6_next 211 = .ok (.getfield 69, 3) := dk_180 0 69 (dk_at dksX6_next_9 7 rfl rfl)
theorem dX6_next_214 : decode cX6_next 214 = .ok (.putfield 69, 3) := dk_181 0 69 (dk_at dksX6_next_9 10 rfl rfl)
theorem dX6_next_217 : decode cX6_next 217 = .ok (.aload_n 0, 1) := dk_42 (dk_at dksX6_next_9 13 rfl rfl)
theorem dX6_next_218 : decode cX6_next 218 = .ok (.dup, 1) := dk_89 (dk_at dksX6_next_9 14 rfl rfl)
theorem dX6_next_219 : decode cX6_next 219 = .ok (.getfield 32, 3) := dk_180 0 32 (dk_at dksX6_next_9 15 rfl rfl)
theorem dX6_next_222 : decode cX6_next 222 = .ok (.iconst 1, 1) := dk_4 (dk_at dksX6_next_9 18 rfl rfl)
theorem dX6_next_223 : decode cX6_next 223 = .ok (.iadd, 1) := dk_96 (dk_at dksX6_next_9 19 rfl rfl)
theorem dX6_next_224 : decode cX6_next 224 = .ok (.putfield 32, 3) := dk_181 0 32 (dk_at dksX6_next_9 20 rfl rfl)
theorem dX6_next_227 : decode cX6_next 227 = .ok (.goto (-66), 3) := dk_167 255 190 (dk_at dksX6_next_10 0 rfl rfl)
theorem dX6_next_230 : decode cX6_next 230 = .ok (.aload_n 0, 1) := dk_42 (dk_at dksX6_next_10 3 rfl rfl)
theorem dX6_next_231 : decode cX6_next 231 = .ok (.aload_n 0, 1) := dk_42 (dk_at dksX6_next_10 4 rfl rfl)
theorem dX6_next_232 : decode cX6_next 232 = .ok (.getfield 32, 3) := dk_180 0 32 (dk_at dksX6_next_10 5 rfl rfl)
theorem dX6_next_235 : decode cX6_next 235 = .ok (.aload_n 0, 1) := dk_42 (dk_at dksX6_next_10 8 rfl rfl)
theorem dX6_next_236 : decode cX6_next 236 = .ok (.getfield 40, 3) := dk_180 0 40 (dk_at dksX6_next_10 9 rfl rfl)
theorem dX6_next_239 : decode cX6_next 239 = .ok (.isub, 1) := dk_100 (dk_at dksX6_next_10 12 rfl rfl)
theorem dX6_next_240 : decode cX6_next 240 = .ok (.iconst 3, 1) := dk_6 (dk_at dksX6_next_10 13 rfl rfl)
theorem dX6_next_241 : decode cX6_next 241 = .ok (.if_icmp .gt 7, 3) := dk_163 0 7 (dk_at dksX6_next_10 14 rfl rfl)
theorem dX6_next_244 : decode cX6_next 244 = .ok (.iconst 2, 1) := dk_5 (dk_at dksX6_next_10 17 rfl rfl)
theorem dX6_next_245 : decode cX6_next 245 = .ok (.goto 4, 3) := dk_167 0 4 (dk_at dksX6_next_10 18 rfl rfl)
theorem dX6_next_248 : decode cX6_next 248 = .ok (.iconst 4, 1) := dk_7 (dk_at dksX6_next_10 21 rfl rfl)
theorem dX6_next_249 : decode cX6_next 249 = .ok (.putfield 43, 3) := dk_181 0 43 (dk_at dksX6_next_11 0 rfl rfl)
theorem dX6_next_252 : decode cX6_next 252 = .ok (.goto 28, 3) := dk_167 0 28 (dk_at dksX6_next_11 3 rfl rfl)
theorem dX6_next_255 : decode cX6_next 255 = .ok (.aload_n 0, 1) := dk_42 (dk_at dksX6_next_11 6 rfl rfl)
theorem dX6_next_256 : decode cX6_next 256 = .ok (.dup, 1) := dk_89 (dk_at dksX6_next_11 7 rfl rfl)
theorem dX6_next_257 : decode cX6_next 257 = .ok (.getfield 32, 3) := dk_180 0 32 (dk_at dksX6_next_11 8 rfl rfl)
theorem dX6_next_260 : decode cX6_next 260 = .ok (.iconst 1, 1) := dk_4 (dk_at dksX6_next_11 11 rfl rfl)
theorem dX6_next_261 : decode cX6_next 261 = .ok (.iadd, 1) := dk_96 (dk_at dksX6_next_11 12 rfl rfl)
theorem dX6_next_262 : decode cX6_next 262 = .ok (.putfield 32, 3) := dk_181 0 32 (dk_at dksX6_next_11 13 rfl rfl)
theorem dX6_next_265 : decode cX6_next 265 = .ok (.aload_n 0, 1) := dk_42 (dk_at dksX6_next_11 16 rfl rfl)
theorem dX6_next_266 : decode cX6_next 266 = .ok (.iload_n 1, 1) := dk_27 (dk_at dksX6_next_11 17 rfl rfl)
theorem dX6_next_267 : decode cX6_next 267 = .ok (.bipush 59, 2) := dk_16 59 (dk_at dksX6_next_11 18 rfl rfl)
theorem dX6_next_269 : decode cX6_next 269 = .ok (.if_icmp .ne 7, 3) := dk_160 0 7 (dk_at dksX6_next_11 20 rfl rfl)
theorem dX6_next_272 : decode cX6_next 272 = .ok (.iconst 3, 1) := dk_6 (dk_at dksX6_next_11 23 rfl rfl)
theorem dX6_next_273 : decode cX6_next 273 = .ok (.goto 4, 3) := dk_167 0 4 (dk_at dksX6_next_12 0 rfl rfl)
theorem dX6_next_276 : decode cX6_next 276 = .ok (.iconst 4, 1) := dk_7 (dk_at dksX6_next_12 3 rfl rfl)
theorem dX6_next_277 : decode cX6_next 277 = .ok (.putfield 43, 3) := dk_181 0 43 (dk_at dksX6_next_12 4 rfl rfl)
theorem dX6_next_280 : decode cX6_next 280 = .ok (.return_, 1) := dk_177 (dk_at dksX6_next_12 7 rfl rfl)
abbrev cX6_look : ByteArray := prog_12_method_2_code
def yX6_look : MethodName := ⟨RX6, "look", "()I"⟩
def dkwX6_look_1 : List UInt8 := [167, 0, 5, 18, 35, 172]
abbrev dktX6_look_1 : List UInt8 := dkwX6_look_1 ++ []
def dkwX6_look_0 : List UInt8 := [42, 180, 0, 32, 42, 180, 0, 28, 162, 0, 19, 42, 180, 0, 24, 42, 180, 0, 32, 51, 17, 0, 255, 126]
abbrev dktX6_look_0 : List UInt8 := dkwX6_look_0 ++ dktX6_look_1
theorem dksX6_look_0 : cX6_look.data.toList.drop 0 = dktX6_look_0 := by decide +kernel
theorem dksX6_look_1 : cX6_look.data.toList.drop 24 = dktX6_look_1 := dk_seg dksX6_look_0 24 rfl rfl
theorem dX6_look_0 : decode cX6_look 0 = .ok (.aload_n 0, 1) := dk_42 (dk_at dksX6_look_0 0 rfl rfl)
theorem dX6_look_1 : decode cX6_look 1 = .ok (.getfield 32, 3) := dk_180 0 32 (dk_at dksX6_look_0 1 rfl rfl)
theorem dX6_look_4 : decode cX6_look 4 = .ok (.aload_n 0, 1) := dk_42 (dk_at dksX6_look_0 4 rfl rfl)
theorem dX6_look_5 : decode cX6_look 5 = .ok (.getfield 28, 3) := dk_180 0 28 (dk_at dksX6_look_0 5 rfl rfl)
theorem dX6_look_8 : decode cX6_look 8 = .ok (.if_icmp .ge 19, 3) := dk_162 0 19 (dk_at dksX6_look_0 8 rfl rfl)
theorem dX6_look_11 : decode cX6_look 11 = .ok (.aload_n 0, 1) := dk_42 (dk_at dksX6_look_0 11 rfl rfl)
theorem dX6_look_12 : decode cX6_look 12 = .ok (.getfield 24, 3) := dk_180 0 24 (dk_at dksX6_look_0 12 rfl rfl)
theorem dX6_look_15 : decode cX6_look 15 = .ok (.aload_n 0, 1) := dk_42 (dk_at dksX6_look_0 15 rfl rfl)
theorem dX6_look_16 : decode cX6_look 16 = .ok (.getfield 32, 3) := dk_180 0 32 (dk_at dksX6_look_0 16 rfl rfl)
theorem dX6_look_19 : decode cX6_look 19 = .ok (.baload, 1) := dk_51 (dk_at dksX6_look_0 19 rfl rfl)
theorem dX6_look_20 : decode cX6_look 20 = .ok (.sipush 255, 3) := dk_17 0 255 (dk_at dksX6_look_0 20 rfl rfl)
theorem dX6_look_23 : decode cX6_look 23 = .ok (.iand, 1) := dk_126 (dk_at dksX6_look_0 23 rfl rfl)
theorem dX6_look_24 : decode cX6_look 24 = .ok (.goto 5, 3) := dk_167 0 5 (dk_at dksX6_look_1 0 rfl rfl)
theorem dX6_look_27 : decode cX6_look 27 = .ok (.ldc 35, 2) := dk_18 35 (dk_at dksX6_look_1 3 rfl rfl)
theorem dX6_look_29 : decode cX6_look 29 = .ok (.ireturn, 1) := dk_172 (dk_at dksX6_look_1 5 rfl rfl)
abbrev cX6_isWord : ByteArray := prog_12_method_5_code
def yX6_isWord : MethodName := ⟨RX6, "isWord", "(Ljava/lang/String;)Z"⟩
def dkwX6_isWord_1 : List UInt8 := [172]
abbrev dktX6_isWord_1 : List UInt8 := dkwX6_isWord_1 ++ []
def dkwX6_isWord_0 : List UInt8 := [42, 180, 0, 43, 4, 160, 0, 18, 42, 180, 0, 11, 43, 182, 0, 77, 153, 0, 7, 4, 167, 0, 4, 3]
abbrev dktX6_isWord_0 : List UInt8 := dkwX6_isWord_0 ++ dktX6_isWord_1
theorem dksX6_isWord_0 : cX6_isWord.data.toList.drop 0 = dktX6_isWord_0 := by decide +kernel
theorem dksX6_isWord_1 : cX6_isWord.data.toList.drop 24 = dktX6_isWord_1 := dk_seg dksX6_isWord_0 24 rfl rfl
theorem dX6_isWord_0 : decode cX6_isWord 0 = .ok (.aload_n 0, 1) := dk_42 (dk_at dksX6_isWord_0 0 rfl rfl)
theorem dX6_isWord_1 : decode cX6_isWord 1 = .ok (.getfield 43, 3) := dk_180 0 43 (dk_at dksX6_isWord_0 1 rfl rfl)
theorem dX6_isWord_4 : decode cX6_isWord 4 = .ok (.iconst 1, 1) := dk_4 (dk_at dksX6_isWord_0 4 rfl rfl)
theorem dX6_isWord_5 : decode cX6_isWord 5 = .ok (.if_icmp .ne 18, 3) := dk_160 0 18 (dk_at dksX6_isWord_0 5 rfl rfl)
theorem dX6_isWord_8 : decode cX6_isWord 8 = .ok (.aload_n 0, 1) := dk_42 (dk_at dksX6_isWord_0 8 rfl rfl)
theorem dX6_isWord_9 : decode cX6_isWord 9 = .ok (.getfield 11, 3) := dk_180 0 11 (dk_at dksX6_isWord_0 9 rfl rfl)
theorem dX6_isWord_12 : decode cX6_isWord 12 = .ok (.aload_n 1, 1) := dk_43 (dk_at dksX6_isWord_0 12 rfl rfl)
theorem dX6_isWord_13 : decode cX6_isWord 13 = .ok (.invokevirtual 77, 3) := dk_182 0 77 (dk_at dksX6_isWord_0 13 rfl rfl)
theorem dX6_isWord_16 : decode cX6_isWord 16 = .ok (.ifCond .eq 7, 3) := dk_153 0 7 (dk_at dksX6_isWord_0 16 rfl rfl)
theorem dX6_isWord_19 : decode cX6_isWord 19 = .ok (.iconst 1, 1) := dk_4 (dk_at dksX6_isWord_0 19 rfl rfl)
theorem dX6_isWord_20 : decode cX6_isWord 20 = .ok (.goto 4, 3) := dk_167 0 4 (dk_at dksX6_isWord_0 20 rfl rfl)
theorem dX6_isWord_23 : decode cX6_isWord 23 = .ok (.iconst 0, 1) := dk_3 (dk_at dksX6_isWord_0 23 rfl rfl)
theorem dX6_isWord_24 : decode cX6_isWord 24 = .ok (.ireturn, 1) := dk_172 (dk_at dksX6_isWord_1 0 rfl rfl)
abbrev cX6_must : ByteArray := prog_12_method_4_code
def yX6_must : MethodName := ⟨RX6, "must", "(ZI)V"⟩
def dkwX6_must_0 : List UInt8 := [27, 154, 0, 16, 187, 0, 72, 89, 28, 42, 180, 0, 40, 183, 0, 74, 191, 177]
abbrev dktX6_must_0 : List UInt8 := dkwX6_must_0 ++ []
theorem dksX6_must_0 : cX6_must.data.toList.drop 0 = dktX6_must_0 := by decide +kernel
theorem dX6_must_0 : decode cX6_must 0 = .ok (.iload_n 1, 1) := dk_27 (dk_at dksX6_must_0 0 rfl rfl)
theorem dX6_must_1 : decode cX6_must 1 = .ok (.ifCond .ne 16, 3) := dk_154 0 16 (dk_at dksX6_must_0 1 rfl rfl)
theorem dX6_must_4 : decode cX6_must 4 = .ok (.new 72, 3) := dk_187 0 72 (dk_at dksX6_must_0 4 rfl rfl)
theorem dX6_must_7 : decode cX6_must 7 = .ok (.dup, 1) := dk_89 (dk_at dksX6_must_0 7 rfl rfl)
theorem dX6_must_8 : decode cX6_must 8 = .ok (.iload_n 2, 1) := dk_28 (dk_at dksX6_must_0 8 rfl rfl)
theorem dX6_must_9 : decode cX6_must 9 = .ok (.aload_n 0, 1) := dk_42 (dk_at dksX6_must_0 9 rfl rfl)
theorem dX6_must_10 : decode cX6_must 10 = .ok (.getfield 40, 3) := dk_180 0 40 (dk_at dksX6_must_0 10 rfl rfl)
theorem dX6_must_13 : decode cX6_must 13 = .ok (.invokespecial 74, 3) := dk_183 0 74 (dk_at dksX6_must_0 13 rfl rfl)
theorem dX6_must_16 : decode cX6_must 16 = .ok (.athrow, 1) := dk_191 (dk_at dksX6_must_0 16 rfl rfl)
theorem dX6_must_17 : decode cX6_must 17 = .ok (.return_, 1) := dk_177 (dk_at dksX6_must_0 17 rfl rfl)
abbrev cX6_figure : ByteArray := prog_12_method_6_code
def yX6_figure : MethodName := ⟨RX6, "figure", "(II)I"⟩
def dkwX6_figure_1 : List UInt8 := [27, 133, 28, 133, 184, 0, 50, 5, 182, 0, 83, 42, 180, 0, 69, 62, 42, 182, 0, 87, 29, 172]
abbrev dktX6_figure_1 : List UInt8 := dkwX6_figure_1 ++ []
def dkwX6_figure_0 : List UInt8 := [42, 42, 180, 0, 43, 5, 160, 0, 7, 4, 167, 0, 4, 3, 4, 182, 0, 83, 42, 42, 180, 0, 69, 133]
abbrev dktX6_figure_0 : List UInt8 := dkwX6_figure_0 ++ dktX6_figure_1
theorem dksX6_figure_0 : cX6_figure.data.toList.drop 0 = dktX6_figure_0 := by decide +kernel
theorem dksX6_figure_1 : cX6_figure.data.toList.drop 24 = dktX6_figure_1 := dk_seg dksX6_figure_0 24 rfl rfl
theorem dX6_figure_0 : decode cX6_figure 0 = .ok (.aload_n 0, 1) := dk_42 (dk_at dksX6_figure_0 0 rfl rfl)
theorem dX6_figure_1 : decode cX6_figure 1 = .ok (.aload_n 0, 1) := dk_42 (dk_at dksX6_figure_0 1 rfl rfl)
theorem dX6_figure_2 : decode cX6_figure 2 = .ok (.getfield 43, 3) := dk_180 0 43 (dk_at dksX6_figure_0 2 rfl rfl)
theorem dX6_figure_5 : decode cX6_figure 5 = .ok (.iconst 2, 1) := dk_5 (dk_at dksX6_figure_0 5 rfl rfl)
theorem dX6_figure_6 : decode cX6_figure 6 = .ok (.if_icmp .ne 7, 3) := dk_160 0 7 (dk_at dksX6_figure_0 6 rfl rfl)
theorem dX6_figure_9 : decode cX6_figure 9 = .ok (.iconst 1, 1) := dk_4 (dk_at dksX6_figure_0 9 rfl rfl)
theorem dX6_figure_10 : decode cX6_figure 10 = .ok (.goto 4, 3) := dk_167 0 4 (dk_at dksX6_figure_0 10 rfl rfl)
theorem dX6_figure_13 : decode cX6_figure 13 = .ok (.iconst 0, 1) := dk_3 (dk_at dksX6_figure_0 13 rfl rfl)
theorem dX6_figure_14 : decode cX6_figure 14 = .ok (.iconst 1, 1) := dk_4 (dk_at dksX6_figure_0 14 rfl rfl)
theorem dX6_figure_15 : decode cX6_figure 15 = .ok (.invokevirtual 83, 3) := dk_182 0 83 (dk_at dksX6_figure_0 15 rfl rfl)
theorem dX6_figure_18 : decode cX6_figure 18 = .ok (.aload_n 0, 1) := dk_42 (dk_at dksX6_figure_0 18 rfl rfl)
theorem dX6_figure_19 : decode cX6_figure 19 = .ok (.aload_n 0, 1) := dk_42 (dk_at dksX6_figure_0 19 rfl rfl)
theorem dX6_figure_20 : decode cX6_figure 20 = .ok (.getfield 69, 3) := dk_180 0 69 (dk_at dksX6_figure_0 20 rfl rfl)
theorem dX6_figure_23 : decode cX6_figure 23 = .ok (.i2l, 1) := dk_133 (dk_at dksX6_figure_0 23 rfl rfl)
theorem dX6_figure_24 : decode cX6_figure 24 = .ok (.iload_n 1, 1) := dk_27 (dk_at dksX6_figure_1 0 rfl rfl)
theorem dX6_figure_25 : decode cX6_figure 25 = .ok (.i2l, 1) := dk_133 (dk_at dksX6_figure_1 1 rfl rfl)
theorem dX6_figure_26 : decode cX6_figure 26 = .ok (.iload_n 2, 1) := dk_28 (dk_at dksX6_figure_1 2 rfl rfl)
theorem dX6_figure_27 : decode cX6_figure 27 = .ok (.i2l, 1) := dk_133 (dk_at dksX6_figure_1 3 rfl rfl)
theorem dX6_figure_28 : decode cX6_figure 28 = .ok (.invokestatic 50, 3) := dk_184 0 50 (dk_at dksX6_figure_1 4 rfl rfl)
theorem dX6_figure_31 : decode cX6_figure 31 = .ok (.iconst 2, 1) := dk_5 (dk_at dksX6_figure_1 7 rfl rfl)
theorem dX6_figure_32 : decode cX6_figure 32 = .ok (.invokevirtual 83, 3) := dk_182 0 83 (dk_at dksX6_figure_1 8 rfl rfl)
theorem dX6_figure_35 : decode cX6_figure 35 = .ok (.aload_n 0, 1) := dk_42 (dk_at dksX6_figure_1 11 rfl rfl)
theorem dX6_figure_36 : decode cX6_figure 36 = .ok (.getfield 69, 3) := dk_180 0 69 (dk_at dksX6_figure_1 12 rfl rfl)
theorem dX6_figure_39 : decode cX6_figure 39 = .ok (.istore_n 3, 1) := dk_62 (dk_at dksX6_figure_1 15 rfl rfl)
theorem dX6_figure_40 : decode cX6_figure 40 = .ok (.aload_n 0, 1) := dk_42 (dk_at dksX6_figure_1 16 rfl rfl)
theorem dX6_figure_41 : decode cX6_figure 41 = .ok (.invokevirtual 87, 3) := dk_182 0 87 (dk_at dksX6_figure_1 17 rfl rfl)
theorem dX6_figure_44 : decode cX6_figure 44 = .ok (.iload_n 3, 1) := dk_29 (dk_at dksX6_figure_1 20 rfl rfl)
theorem dX6_figure_45 : decode cX6_figure 45 = .ok (.ireturn, 1) := dk_172 (dk_at dksX6_figure_1 21 rfl rfl)
abbrev cX6_sign : ByteArray := prog_12_method_7_code
def yX6_sign : MethodName := ⟨RX6, "sign", "()V"⟩
def dkwX6_sign_0 : List UInt8 := [42, 42, 180, 0, 43, 6, 160, 0, 7, 4, 167, 0, 4, 3, 4, 182, 0, 83, 42, 182, 0, 87, 177]
abbrev dktX6_sign_0 : List UInt8 := dkwX6_sign_0 ++ []
theorem dksX6_sign_0 : cX6_sign.data.toList.drop 0 = dktX6_sign_0 := by decide +kernel
theorem dX6_sign_0 : decode cX6_sign 0 = .ok (.aload_n 0, 1) := dk_42 (dk_at dksX6_sign_0 0 rfl rfl)
theorem dX6_sign_1 : decode cX6_sign 1 = .ok (.aload_n 0, 1) := dk_42 (dk_at dksX6_sign_0 1 rfl rfl)
theorem dX6_sign_2 : decode cX6_sign 2 = .ok (.getfield 43, 3) := dk_180 0 43 (dk_at dksX6_sign_0 2 rfl rfl)
theorem dX6_sign_5 : decode cX6_sign 5 = .ok (.iconst 3, 1) := dk_6 (dk_at dksX6_sign_0 5 rfl rfl)
theorem dX6_sign_6 : decode cX6_sign 6 = .ok (.if_icmp .ne 7, 3) := dk_160 0 7 (dk_at dksX6_sign_0 6 rfl rfl)
theorem dX6_sign_9 : decode cX6_sign 9 = .ok (.iconst 1, 1) := dk_4 (dk_at dksX6_sign_0 9 rfl rfl)
theorem dX6_sign_10 : decode cX6_sign 10 = .ok (.goto 4, 3) := dk_167 0 4 (dk_at dksX6_sign_0 10 rfl rfl)
theorem dX6_sign_13 : decode cX6_sign 13 = .ok (.iconst 0, 1) := dk_3 (dk_at dksX6_sign_0 13 rfl rfl)
theorem dX6_sign_14 : decode cX6_sign 14 = .ok (.iconst 1, 1) := dk_4 (dk_at dksX6_sign_0 14 rfl rfl)
theorem dX6_sign_15 : decode cX6_sign 15 = .ok (.invokevirtual 83, 3) := dk_182 0 83 (dk_at dksX6_sign_0 15 rfl rfl)
theorem dX6_sign_18 : decode cX6_sign 18 = .ok (.aload_n 0, 1) := dk_42 (dk_at dksX6_sign_0 18 rfl rfl)
theorem dX6_sign_19 : decode cX6_sign 19 = .ok (.invokevirtual 87, 3) := dk_182 0 87 (dk_at dksX6_sign_0 19 rfl rfl)
theorem dX6_sign_22 : decode cX6_sign 22 = .ok (.return_, 1) := dk_177 (dk_at dksX6_sign_0 22 rfl rfl)
abbrev cX6_way : ByteArray := prog_12_method_10_code
def yX6_way : MethodName := ⟨RX6, "way", "()V"⟩
def dkwX6_way_7 : List UInt8 := [180, 0, 20, 89, 180, 0, 117, 4, 96, 181, 0, 117, 42, 182, 0, 106, 177]
abbrev dktX6_way_7 : List UInt8 := dkwX6_way_7 ++ []
def dkwX6_way_6 : List UInt8 := [180, 0, 20, 180, 0, 133, 27, 42, 3, 42, 180, 0, 20, 180, 0, 130, 27, 46, 182, 0, 96, 79, 42]
abbrev dktX6_way_6 : List UInt8 := dkwX6_way_6 ++ dktX6_way_7
def dkwX6_way_5 : List UInt8 := [79, 42, 182, 0, 87, 42, 180, 0, 20, 180, 0, 130, 27, 42, 4, 16, 20, 182, 0, 96, 79, 42]
abbrev dktX6_way_5 : List UInt8 := dkwX6_way_5 ++ dktX6_way_6
def dkwX6_way_4 : List UInt8 := [159, 0, 7, 4, 167, 0, 4, 3, 5, 182, 0, 83, 42, 180, 0, 20, 180, 0, 127, 27, 42, 180, 0, 69]
abbrev dktX6_way_4 : List UInt8 := dkwX6_way_4 ++ dktX6_way_5
def dkwX6_way_3 : List UInt8 := [180, 0, 20, 180, 0, 100, 162, 0, 23, 42, 180, 0, 69, 42, 180, 0, 20, 180, 0, 123, 27, 46]
abbrev dktX6_way_3 : List UInt8 := dkwX6_way_3 ++ dktX6_way_4
def dkwX6_way_2 : List UInt8 := [180, 0, 43, 5, 160, 0, 7, 4, 167, 0, 4, 3, 4, 182, 0, 83, 42, 42, 180, 0, 69, 42]
abbrev dktX6_way_2 : List UInt8 := dkwX6_way_2 ++ dktX6_way_3
def dkwX6_way_1 : List UInt8 := [180, 0, 20, 180, 0, 123, 27, 42, 3, 42, 180, 0, 20, 180, 0, 100, 4, 100, 182, 0, 96, 79, 42, 42]
abbrev dktX6_way_1 : List UInt8 := dkwX6_way_1 ++ dktX6_way_2
def dkwX6_way_0 : List UInt8 := [42, 42, 180, 0, 20, 180, 0, 117, 16, 8, 182, 0, 120, 42, 180, 0, 20, 180, 0, 117, 60, 42]
abbrev dktX6_way_0 : List UInt8 := dkwX6_way_0 ++ dktX6_way_1
theorem dksX6_way_0 : cX6_way.data.toList.drop 0 = dktX6_way_0 := by decide +kernel
theorem dksX6_way_1 : cX6_way.data.toList.drop 22 = dktX6_way_1 := dk_seg dksX6_way_0 22 rfl rfl
theorem dksX6_way_2 : cX6_way.data.toList.drop 46 = dktX6_way_2 := dk_seg dksX6_way_1 24 rfl rfl
theorem dksX6_way_3 : cX6_way.data.toList.drop 68 = dktX6_way_3 := dk_seg dksX6_way_2 22 rfl rfl
theorem dksX6_way_4 : cX6_way.data.toList.drop 90 = dktX6_way_4 := dk_seg dksX6_way_3 22 rfl rfl
theorem dksX6_way_5 : cX6_way.data.toList.drop 114 = dktX6_way_5 := dk_seg dksX6_way_4 24 rfl rfl
theorem dksX6_way_6 : cX6_way.data.toList.drop 136 = dktX6_way_6 := dk_seg dksX6_way_5 22 rfl rfl
theorem dksX6_way_7 : cX6_way.data.toList.drop 159 = dktX6_way_7 := dk_seg dksX6_way_6 23 rfl rfl
theorem dX6_way_0 : decode cX6_way 0 = .ok (.aload_n 0, 1) := dk_42 (dk_at dksX6_way_0 0 rfl rfl)
theorem dX6_way_1 : decode cX6_way 1 = .ok (.aload_n 0, 1) := dk_42 (dk_at dksX6_way_0 1 rfl rfl)
theorem dX6_way_2 : decode cX6_way 2 = .ok (.getfield 20, 3) := dk_180 0 20 (dk_at dksX6_way_0 2 rfl rfl)
theorem dX6_way_5 : decode cX6_way 5 = .ok (.getfield 117, 3) := dk_180 0 117 (dk_at dksX6_way_0 5 rfl rfl)
theorem dX6_way_8 : decode cX6_way 8 = .ok (.bipush 8, 2) := dk_16 8 (dk_at dksX6_way_0 8 rfl rfl)
theorem dX6_way_10 : decode cX6_way 10 = .ok (.invokevirtual 120, 3) := dk_182 0 120 (dk_at dksX6_way_0 10 rfl rfl)
theorem dX6_way_13 : decode cX6_way 13 = .ok (.aload_n 0, 1) := dk_42 (dk_at dksX6_way_0 13 rfl rfl)
theorem dX6_way_14 : decode cX6_way 14 = .ok (.getfield 20, 3) := dk_180 0 20 (dk_at dksX6_way_0 14 rfl rfl)
theorem dX6_way_17 : decode cX6_way 17 = .ok (.getfield 117, 3) := dk_180 0 117 (dk_at dksX6_way_0 17 rfl rfl)
theorem dX6_way_20 : decode cX6_way 20 = .ok (.istore_n 1, 1) := dk_60 (dk_at dksX6_way_0 20 rfl rfl)
theorem dX6_way_21 : decode cX6_way 21 = .ok (.aload_n 0, 1) := dk_42 (dk_at dksX6_way_0 21 rfl rfl)
theorem dX6_way_22 : decode cX6_way 22 = .ok (.getfield 20, 3) := dk_180 0 20 (dk_at dksX6_way_1 0 rfl rfl)
theorem dX6_way_25 : decode cX6_way 25 = .ok (.getfield 123, 3) := dk_180 0 123 (dk_at dksX6_way_1 3 rfl rfl)
theorem dX6_way_28 : decode cX6_way 28 = .ok (.iload_n 1, 1) := dk_27 (dk_at dksX6_way_1 6 rfl rfl)
theorem dX6_way_29 : decode cX6_way 29 = .ok (.aload_n 0, 1) := dk_42 (dk_at dksX6_way_1 7 rfl rfl)
theorem dX6_way_30 : decode cX6_way 30 = .ok (.iconst 0, 1) := dk_3 (dk_at dksX6_way_1 8 rfl rfl)
theorem dX6_way_31 : decode cX6_way 31 = .ok (.aload_n 0, 1) := dk_42 (dk_at dksX6_way_1 9 rfl rfl)
theorem dX6_way_32 : decode cX6_way 32 = .ok (.getfield 20, 3) := dk_180 0 20 (dk_at dksX6_way_1 10 rfl rfl)
theorem dX6_way_35 : decode cX6_way 35 = .ok (.getfield 100, 3) := dk_180 0 100 (dk_at dksX6_way_1 13 rfl rfl)
theorem dX6_way_38 : decode cX6_way 38 = .ok (.iconst 1, 1) := dk_4 (dk_at dksX6_way_1 16 rfl rfl)
theorem dX6_way_39 : decode cX6_way 39 = .ok (.isub, 1) := dk_100 (dk_at dksX6_way_1 17 rfl rfl)
theorem dX6_way_40 : decode cX6_way 40 = .ok (.invokevirtual 96, 3) := dk_182 0 96 (dk_at dksX6_way_1 18 rfl rfl)
theorem dX6_way_43 : decode cX6_way 43 = .ok (.iastore, 1) := dk_79 (dk_at dksX6_way_1 21 rfl rfl)
theorem dX6_way_44 : decode cX6_way 44 = .ok (.aload_n 0, 1) := dk_42 (dk_at dksX6_way_1 22 rfl rfl)
theorem dX6_way_45 : decode cX6_way 45 = .ok (.aload_n 0, 1) := dk_42 (dk_at dksX6_way_1 23 rfl rfl)
theorem dX6_way_46 : decode cX6_way 46 = .ok (.getfield 43, 3) := dk_180 0 43 (dk_at dksX6_way_2 0 rfl rfl)
theorem dX6_way_49 : decode cX6_way 49 = .ok (.iconst 2, 1) := dk_5 (dk_at dksX6_way_2 3 rfl rfl)
theorem dX6_way_50 : decode cX6_way 50 = .ok (.if_icmp .ne 7, 3) := dk_160 0 7 (dk_at dksX6_way_2 4 rfl rfl)
theorem dX6_way_53 : decode cX6_way 53 = .ok (.iconst 1, 1) := dk_4 (dk_at dksX6_way_2 7 rfl rfl)
theorem dX6_way_54 : decode cX6_way 54 = .ok (.goto 4, 3) := dk_167 0 4 (dk_at dksX6_way_2 8 rfl rfl)
theorem dX6_way_57 : decode cX6_way 57 = .ok (.iconst 0, 1) := dk_3 (dk_at dksX6_way_2 11 rfl rfl)
theorem dX6_way_58 : decode cX6_way 58 = .ok (.iconst 1, 1) := dk_4 (dk_at dksX6_way_2 12 rfl rfl)
theorem dX6_way_59 : decode cX6_way 59 = .ok (.invokevirtual 83, 3) := dk_182 0 83 (dk_at dksX6_way_2 13 rfl rfl)
theorem dX6_way_62 : decode cX6_way 62 = .ok (.aload_n 0, 1) := dk_42 (dk_at dksX6_way_2 16 rfl rfl)
theorem dX6_way_63 : decode cX6_way 63 = .ok (.aload_n 0, 1) := dk_42 (dk_at dksX6_way_2 17 rfl rfl)
theorem dX6_way_64 : decode cX6_way 64 = .ok (.getfield 69, 3) := dk_180 0 69 (dk_at dksX6_way_2 18 rfl rfl)
theorem dX6_way_67 : decode cX6_way 67 = .ok (.aload_n 0, 1) := dk_42 (dk_at dksX6_way_2 21 rfl rfl)
theorem dX6_way_68 : decode cX6_way 68 = .ok (.getfield 20, 3) := dk_180 0 20 (dk_at dksX6_way_3 0 rfl rfl)
theorem dX6_way_71 : decode cX6_way 71 = .ok (.getfield 100, 3) := dk_180 0 100 (dk_at dksX6_way_3 3 rfl rfl)
theorem dX6_way_74 : decode cX6_way 74 = .ok (.if_icmp .ge 23, 3) := dk_162 0 23 (dk_at dksX6_way_3 6 rfl rfl)
theorem dX6_way_77 : decode cX6_way 77 = .ok (.aload_n 0, 1) := dk_42 (dk_at dksX6_way_3 9 rfl rfl)
theorem dX6_way_78 : decode cX6_way 78 = .ok (.getfield 69, 3) := dk_180 0 69 (dk_at dksX6_way_3 10 rfl rfl)
theorem dX6_way_81 : decode cX6_way 81 = .ok (.aload_n 0, 1) := dk_42 (dk_at dksX6_way_3 13 rfl rfl)
theorem dX6_way_82 : decode cX6_way 82 = .ok (.getfield 20, 3) := dk_180 0 20 (dk_at dksX6_way_3 14 rfl rfl)
theorem dX6_way_85 : decode cX6_way 85 = .ok (.getfield 123, 3) := dk_180 0 123 (dk_at dksX6_way_3 17 rfl rfl)
theorem dX6_way_88 : decode cX6_way 88 = .ok (.iload_n 1, 1) := dk_27 (dk_at dksX6_way_3 20 rfl rfl)
theorem dX6_way_89 : decode cX6_way 89 = .ok (.iaload, 1) := dk_46 (dk_at dksX6_way_3 21 rfl rfl)
theorem dX6_way_90 : decode cX6_way 90 = .ok (.if_icmp .eq 7, 3) := dk_159 0 7 (dk_at dksX6_way_4 0 rfl rfl)
theorem dX6_way_93 : decode cX6_way 93 = .ok (.iconst 1, 1) := dk_4 (dk_at dksX6_way_4 3 rfl rfl)
theorem dX6_way_94 : decode cX6_way 94 = .ok (.goto 4, 3) := dk_167 0 4 (dk_at dksX6_way_4 4 rfl rfl)
theorem dX6_way_97 : decode cX6_way 97 = .ok (.iconst 0, 1) := dk_3 (dk_at dksX6_way_4 7 rfl rfl)
theorem dX6_way_98 : decode cX6_way 98 = .ok (.iconst 2, 1) := dk_5 (dk_at dksX6_way_4 8 rfl rfl)
theorem dX6_way_99 : decode cX6_way 99 = .ok (.invokevirtual 83, 3) := dk_182 0 83 (dk_at dksX6_way_4 9 rfl rfl)
theorem dX6_way_102 : decode cX6_way 102 = .ok (.aload_n 0, 1) := dk_42 (dk_at dksX6_way_4 12 rfl rfl)
theorem dX6_way_103 : decode cX6_way 103 = .ok (.getfield 20, 3) := dk_180 0 20 (dk_at dksX6_way_4 13 rfl rfl)
theorem dX6_way_106 : decode cX6_way 106 = .ok (.getfield 127, 3) := dk_180 0 127 (dk_at dksX6_way_4 16 rfl rfl)
theorem dX6_way_109 : decode cX6_way 109 = .ok (.iload_n 1, 1) := dk_27 (dk_at dksX6_way_4 19 rfl rfl)
theorem dX6_way_110 : decode cX6_way 110 = .ok (.aload_n 0, 1) := dk_42 (dk_at dksX6_way_4 20 rfl rfl)
theorem dX6_way_111 : decode cX6_way 111 = .ok (.getfield 69, 3) := dk_180 0 69 (dk_at dksX6_way_4 21 rfl rfl)
theorem dX6_way_114 : decode cX6_way 114 = .ok (.iastore, 1) := dk_79 (dk_at dksX6_way_5 0 rfl rfl)
theorem dX6_way_115 : decode cX6_way 115 = .ok (.aload_n 0, 1) := dk_42 (dk_at dksX6_way_5 1 rfl rfl)
theorem dX6_way_116 : decode cX6_way 116 = .ok (.invokevirtual 87, 3) := dk_182 0 87 (dk_at dksX6_way_5 2 rfl rfl)
theorem dX6_way_119 : decode cX6_way 119 = .ok (.aload_n 0, 1) := dk_42 (dk_at dksX6_way_5 5 rfl rfl)
theorem dX6_way_120 : decode cX6_way 120 = .ok (.getfield 20, 3) := dk_180 0 20 (dk_at dksX6_way_5 6 rfl rfl)
theorem dX6_way_123 : decode cX6_way 123 = .ok (.getfield 130, 3) := dk_180 0 130 (dk_at dksX6_way_5 9 rfl rfl)
theorem dX6_way_126 : decode cX6_way 126 = .ok (.iload_n 1, 1) := dk_27 (dk_at dksX6_way_5 12 rfl rfl)
theorem dX6_way_127 : decode cX6_way 127 = .ok (.aload_n 0, 1) := dk_42 (dk_at dksX6_way_5 13 rfl rfl)
theorem dX6_way_128 : decode cX6_way 128 = .ok (.iconst 1, 1) := dk_4 (dk_at dksX6_way_5 14 rfl rfl)
theorem dX6_way_129 : decode cX6_way 129 = .ok (.bipush 20, 2) := dk_16 20 (dk_at dksX6_way_5 15 rfl rfl)
theorem dX6_way_131 : decode cX6_way 131 = .ok (.invokevirtual 96, 3) := dk_182 0 96 (dk_at dksX6_way_5 17 rfl rfl)
theorem dX6_way_134 : decode cX6_way 134 = .ok (.iastore, 1) := dk_79 (dk_at dksX6_way_5 20 rfl rfl)
theorem dX6_way_135 : decode cX6_way 135 = .ok (.aload_n 0, 1) := dk_42 (dk_at dksX6_way_5 21 rfl rfl)
theorem dX6_way_136 : decode cX6_way 136 = .ok (.getfield 20, 3) := dk_180 0 20 (dk_at dksX6_way_6 0 rfl rfl)
theorem dX6_way_139 : decode cX6_way 139 = .ok (.getfield 133, 3) := dk_180 0 133 (dk_at dksX6_way_6 3 rfl rfl)
theorem dX6_way_142 : decode cX6_way 142 = .ok (.iload_n 1, 1) := dk_27 (dk_at dksX6_way_6 6 rfl rfl)
theorem dX6_way_143 : decode cX6_way 143 = .ok (.aload_n 0, 1) := dk_42 (dk_at dksX6_way_6 7 rfl rfl)
theorem dX6_way_144 : decode cX6_way 144 = .ok (.iconst 0, 1) := dk_3 (dk_at dksX6_way_6 8 rfl rfl)
theorem dX6_way_145 : decode cX6_way 145 = .ok (.aload_n 0, 1) := dk_42 (dk_at dksX6_way_6 9 rfl rfl)
theorem dX6_way_146 : decode cX6_way 146 = .ok (.getfield 20, 3) := dk_180 0 20 (dk_at dksX6_way_6 10 rfl rfl)
theorem dX6_way_149 : decode cX6_way 149 = .ok (.getfield 130, 3) := dk_180 0 130 (dk_at dksX6_way_6 13 rfl rfl)
theorem dX6_way_152 : decode cX6_way 152 = .ok (.iload_n 1, 1) := dk_27 (dk_at dksX6_way_6 16 rfl rfl)
theorem dX6_way_153 : decode cX6_way 153 = .ok (.iaload, 1) := dk_46 (dk_at dksX6_way_6 17 rfl rfl)
theorem dX6_way_154 : decode cX6_way 154 = .ok (.invokevirtual 96, 3) := dk_182 0 96 (dk_at dksX6_way_6 18 rfl rfl)
theorem dX6_way_157 : decode cX6_way 157 = .ok (.iastore, 1) := dk_79 (dk_at dksX6_way_6 21 rfl rfl)
theorem dX6_way_158 : decode cX6_way 158 = .ok (.aload_n 0, 1) := dk_42 (dk_at dksX6_way_6 22 rfl rfl)
theorem dX6_way_159 : decode cX6_way 159 = .ok (.getfield 20, 3) := dk_180 0 20 (dk_at dksX6_way_7 0 rfl rfl)
theorem dX6_way_162 : decode cX6_way 162 = .ok (.dup, 1) := dk_89 (dk_at dksX6_way_7 3 rfl rfl)
theorem dX6_way_163 : decode cX6_way 163 = .ok (.getfield 117, 3) := dk_180 0 117 (dk_at dksX6_way_7 4 rfl rfl)
theorem dX6_way_166 : decode cX6_way 166 = .ok (.iconst 1, 1) := dk_4 (dk_at dksX6_way_7 7 rfl rfl)
theorem dX6_way_167 : decode cX6_way 167 = .ok (.iadd, 1) := dk_96 (dk_at dksX6_way_7 8 rfl rfl)
theorem dX6_way_168 : decode cX6_way 168 = .ok (.putfield 117, 3) := dk_181 0 117 (dk_at dksX6_way_7 9 rfl rfl)
theorem dX6_way_171 : decode cX6_way 171 = .ok (.aload_n 0, 1) := dk_42 (dk_at dksX6_way_7 12 rfl rfl)
theorem dX6_way_172 : decode cX6_way 172 = .ok (.invokevirtual 106, 3) := dk_182 0 106 (dk_at dksX6_way_7 13 rfl rfl)
theorem dX6_way_175 : decode cX6_way 175 = .ok (.return_, 1) := dk_177 (dk_at dksX6_way_7 16 rfl rfl)
abbrev cX6_begin : ByteArray := prog_12_method_8_code
def yX6_begin : MethodName := ⟨RX6, "begin", "(II)V"⟩
def dkwX6_begin_0 : List UInt8 := [42, 27, 28, 162, 0, 7, 4, 167, 0, 4, 3, 6, 182, 0, 83, 42, 182, 0, 87, 177]
abbrev dktX6_begin_0 : List UInt8 := dkwX6_begin_0 ++ []
theorem dksX6_begin_0 : cX6_begin.data.toList.drop 0 = dktX6_begin_0 := by decide +kernel
theorem dX6_begin_0 : decode cX6_begin 0 = .ok (.aload_n 0, 1) := dk_42 (dk_at dksX6_begin_0 0 rfl rfl)
theorem dX6_begin_1 : decode cX6_begin 1 = .ok (.iload_n 1, 1) := dk_27 (dk_at dksX6_begin_0 1 rfl rfl)
theorem dX6_begin_2 : decode cX6_begin 2 = .ok (.iload_n 2, 1) := dk_28 (dk_at dksX6_begin_0 2 rfl rfl)
theorem dX6_begin_3 : decode cX6_begin 3 = .ok (.if_icmp .ge 7, 3) := dk_162 0 7 (dk_at dksX6_begin_0 3 rfl rfl)
theorem dX6_begin_6 : decode cX6_begin 6 = .ok (.iconst 1, 1) := dk_4 (dk_at dksX6_begin_0 6 rfl rfl)
theorem dX6_begin_7 : decode cX6_begin 7 = .ok (.goto 4, 3) := dk_167 0 4 (dk_at dksX6_begin_0 7 rfl rfl)
theorem dX6_begin_10 : decode cX6_begin 10 = .ok (.iconst 0, 1) := dk_3 (dk_at dksX6_begin_0 10 rfl rfl)
theorem dX6_begin_11 : decode cX6_begin 11 = .ok (.iconst 3, 1) := dk_6 (dk_at dksX6_begin_0 11 rfl rfl)
theorem dX6_begin_12 : decode cX6_begin 12 = .ok (.invokevirtual 83, 3) := dk_182 0 83 (dk_at dksX6_begin_0 12 rfl rfl)
theorem dX6_begin_15 : decode cX6_begin 15 = .ok (.aload_n 0, 1) := dk_42 (dk_at dksX6_begin_0 15 rfl rfl)
theorem dX6_begin_16 : decode cX6_begin 16 = .ok (.invokevirtual 87, 3) := dk_182 0 87 (dk_at dksX6_begin_0 16 rfl rfl)
theorem dX6_begin_19 : decode cX6_begin 19 = .ok (.return_, 1) := dk_177 (dk_at dksX6_begin_0 19 rfl rfl)
abbrev cX6_person : ByteArray := prog_12_method_11_code
def yX6_person : MethodName := ⟨RX6, "person", "()V"⟩
def dkwX6_person_5 : List UInt8 := [46, 184, 0, 152, 185, 0, 156, 2, 0, 87, 42, 182, 0, 106, 177]
abbrev dktX6_person_5 : List UInt8 := dkwX6_person_5 ++ []
def dkwX6_person_4 : List UInt8 := [3, 16, 99, 182, 0, 96, 79, 42, 180, 0, 20, 180, 0, 148, 28, 27, 42, 180, 0, 20, 180, 0, 145, 27]
abbrev dktX6_person_4 : List UInt8 := dkwX6_person_4 ++ dktX6_person_5
def dkwX6_person_3 : List UInt8 := [42, 3, 42, 180, 0, 20, 180, 0, 100, 4, 100, 182, 0, 96, 79, 42, 180, 0, 20, 180, 0, 145, 27, 42]
abbrev dktX6_person_3 : List UInt8 := dkwX6_person_3 ++ dktX6_person_4
def dkwX6_person_2 : List UInt8 := [162, 0, 7, 4, 167, 0, 4, 3, 4, 182, 0, 83, 42, 182, 0, 87, 42, 180, 0, 20, 180, 0, 143, 27]
abbrev dktX6_person_2 : List UInt8 := dkwX6_person_2 ++ dktX6_person_3
def dkwX6_person_1 : List UInt8 := [42, 178, 0, 139, 28, 50, 182, 0, 92, 154, 0, 9, 132, 2, 1, 167, 255, 233, 42, 28, 178, 0, 139, 190]
abbrev dktX6_person_1 : List UInt8 := dkwX6_person_1 ++ dktX6_person_2
def dkwX6_person_0 : List UInt8 := [42, 180, 0, 20, 182, 0, 136, 60, 42, 27, 7, 182, 0, 120, 3, 61, 28, 178, 0, 139, 190, 162, 0, 21]
abbrev dktX6_person_0 : List UInt8 := dkwX6_person_0 ++ dktX6_person_1
theorem dksX6_person_0 : cX6_person.data.toList.drop 0 = dktX6_person_0 := by decide +kernel
theorem dksX6_person_1 : cX6_person.data.toList.drop 24 = dktX6_person_1 := dk_seg dksX6_person_0 24 rfl rfl
theorem dksX6_person_2 : cX6_person.data.toList.drop 48 = dktX6_person_2 := dk_seg dksX6_person_1 24 rfl rfl
theorem dksX6_person_3 : cX6_person.data.toList.drop 72 = dktX6_person_3 := dk_seg dksX6_person_2 24 rfl rfl
theorem dksX6_person_4 : cX6_person.data.toList.drop 96 = dktX6_person_4 := dk_seg dksX6_person_3 24 rfl rfl
theorem dksX6_person_5 : cX6_person.data.toList.drop 120 = dktX6_person_5 := dk_seg dksX6_person_4 24 rfl rfl
theorem dX6_person_0 : decode cX6_person 0 = .ok (.aload_n 0, 1) := dk_42 (dk_at dksX6_person_0 0 rfl rfl)
theorem dX6_person_1 : decode cX6_person 1 = .ok (.getfield 20, 3) := dk_180 0 20 (dk_at dksX6_person_0 1 rfl rfl)
theorem dX6_person_4 : decode cX6_person 4 = .ok (.invokevirtual 136, 3) := dk_182 0 136 (dk_at dksX6_person_0 4 rfl rfl)
theorem dX6_person_7 : decode cX6_person 7 = .ok (.istore_n 1, 1) := dk_60 (dk_at dksX6_person_0 7 rfl rfl)
theorem dX6_person_8 : decode cX6_person 8 = .ok (.aload_n 0, 1) := dk_42 (dk_at dksX6_person_0 8 rfl rfl)
theorem dX6_person_9 : decode cX6_person 9 = .ok (.iload_n 1, 1) := dk_27 (dk_at dksX6_person_0 9 rfl rfl)
theorem dX6_person_10 : decode cX6_person 10 = .ok (.iconst 4, 1) := dk_7 (dk_at dksX6_person_0 10 rfl rfl)
theorem dX6_person_11 : decode cX6_person 11 = .ok (.invokevirtual 120, 3) := dk_182 0 120 (dk_at dksX6_person_0 11 rfl rfl)
theorem dX6_person_14 : decode cX6_person 14 = .ok (.iconst 0, 1) := dk_3 (dk_at dksX6_person_0 14 rfl rfl)
theorem dX6_person_15 : decode cX6_person 15 = .ok (.istore_n 2, 1) := dk_61 (dk_at dksX6_person_0 15 rfl rfl)
theorem dX6_person_16 : decode cX6_person 16 = .ok (.iload_n 2, 1) := dk_28 (dk_at dksX6_person_0 16 rfl rfl)
theorem dX6_person_17 : decode cX6_person 17 = .ok (.getstatic 139, 3) := dk_178 0 139 (dk_at dksX6_person_0 17 rfl rfl)
theorem dX6_person_20 : decode cX6_person 20 = .ok (.arraylength, 1) := dk_190 (dk_at dksX6_person_0 20 rfl rfl)
theorem dX6_person_21 : decode cX6_person 21 = .ok (.if_icmp .ge 21, 3) := dk_162 0 21 (dk_at dksX6_person_0 21 rfl rfl)
theorem dX6_person_24 : decode cX6_person 24 = .ok (.aload_n 0, 1) := dk_42 (dk_at dksX6_person_1 0 rfl rfl)
theorem dX6_person_25 : decode cX6_person 25 = .ok (.getstatic 139, 3) := dk_178 0 139 (dk_at dksX6_person_1 1 rfl rfl)
theorem dX6_person_28 : decode cX6_person 28 = .ok (.iload_n 2, 1) := dk_28 (dk_at dksX6_person_1 4 rfl rfl)
theorem dX6_person_29 : decode cX6_person 29 = .ok (.aaload, 1) := dk_50 (dk_at dksX6_person_1 5 rfl rfl)
theorem dX6_person_30 : decode cX6_person 30 = .ok (.invokevirtual 92, 3) := dk_182 0 92 (dk_at dksX6_person_1 6 rfl rfl)
theorem dX6_person_33 : decode cX6_person 33 = .ok (.ifCond .ne 9, 3) := dk_154 0 9 (dk_at dksX6_person_1 9 rfl rfl)
theorem dX6_person_36 : decode cX6_person 36 = .ok (.iinc 2 1, 3) := dk_132 2 1 (dk_at dksX6_person_1 12 rfl rfl)
theorem dX6_person_39 : decode cX6_person 39 = .ok (.goto (-23), 3) := dk_167 255 233 (dk_at dksX6_person_1 15 rfl rfl)
theorem dX6_person_42 : decode cX6_person 42 = .ok (.aload_n 0, 1) := dk_42 (dk_at dksX6_person_1 18 rfl rfl)
theorem dX6_person_43 : decode cX6_person 43 = .ok (.iload_n 2, 1) := dk_28 (dk_at dksX6_person_1 19 rfl rfl)
theorem dX6_person_44 : decode cX6_person 44 = .ok (.getstatic 139, 3) := dk_178 0 139 (dk_at dksX6_person_1 20 rfl rfl)
theorem dX6_person_47 : decode cX6_person 47 = .ok (.arraylength, 1) := dk_190 (dk_at dksX6_person_1 23 rfl rfl)
theorem dX6_person_48 : decode cX6_person 48 = .ok (.if_icmp .ge 7, 3) := dk_162 0 7 (dk_at dksX6_person_2 0 rfl rfl)
theorem dX6_person_51 : decode cX6_person 51 = .ok (.iconst 1, 1) := dk_4 (dk_at dksX6_person_2 3 rfl rfl)
theorem dX6_person_52 : decode cX6_person 52 = .ok (.goto 4, 3) := dk_167 0 4 (dk_at dksX6_person_2 4 rfl rfl)
theorem dX6_person_55 : decode cX6_person 55 = .ok (.iconst 0, 1) := dk_3 (dk_at dksX6_person_2 7 rfl rfl)
theorem dX6_person_56 : decode cX6_person 56 = .ok (.iconst 1, 1) := dk_4 (dk_at dksX6_person_2 8 rfl rfl)
theorem dX6_person_57 : decode cX6_person 57 = .ok (.invokevirtual 83, 3) := dk_182 0 83 (dk_at dksX6_person_2 9 rfl rfl)
theorem dX6_person_60 : decode cX6_person 60 = .ok (.aload_n 0, 1) := dk_42 (dk_at dksX6_person_2 12 rfl rfl)
theorem dX6_person_61 : decode cX6_person 61 = .ok (.invokevirtual 87, 3) := dk_182 0 87 (dk_at dksX6_person_2 13 rfl rfl)
theorem dX6_person_64 : decode cX6_person 64 = .ok (.aload_n 0, 1) := dk_42 (dk_at dksX6_person_2 16 rfl rfl)
theorem dX6_person_65 : decode cX6_person 65 = .ok (.getfield 20, 3) := dk_180 0 20 (dk_at dksX6_person_2 17 rfl rfl)
theorem dX6_person_68 : decode cX6_person 68 = .ok (.getfield 143, 3) := dk_180 0 143 (dk_at dksX6_person_2 20 rfl rfl)
theorem dX6_person_71 : decode cX6_person 71 = .ok (.iload_n 1, 1) := dk_27 (dk_at dksX6_person_2 23 rfl rfl)
theorem dX6_person_72 : decode cX6_person 72 = .ok (.aload_n 0, 1) := dk_42 (dk_at dksX6_person_3 0 rfl rfl)
theorem dX6_person_73 : decode cX6_person 73 = .ok (.iconst 0, 1) := dk_3 (dk_at dksX6_person_3 1 rfl rfl)
theorem dX6_person_74 : decode cX6_person 74 = .ok (.aload_n 0, 1) := dk_42 (dk_at dksX6_person_3 2 rfl rfl)
theorem dX6_person_75 : decode cX6_person 75 = .ok (.getfield 20, 3) := dk_180 0 20 (dk_at dksX6_person_3 3 rfl rfl)
theorem dX6_person_78 : decode cX6_person 78 = .ok (.getfield 100, 3) := dk_180 0 100 (dk_at dksX6_person_3 6 rfl rfl)
theorem dX6_person_81 : decode cX6_person 81 = .ok (.iconst 1, 1) := dk_4 (dk_at dksX6_person_3 9 rfl rfl)
theorem dX6_person_82 : decode cX6_person 82 = .ok (.isub, 1) := dk_100 (dk_at dksX6_person_3 10 rfl rfl)
theorem dX6_person_83 : decode cX6_person 83 = .ok (.invokevirtual 96, 3) := dk_182 0 96 (dk_at dksX6_person_3 11 rfl rfl)
theorem dX6_person_86 : decode cX6_person 86 = .ok (.iastore, 1) := dk_79 (dk_at dksX6_person_3 14 rfl rfl)
theorem dX6_person_87 : decode cX6_person 87 = .ok (.aload_n 0, 1) := dk_42 (dk_at dksX6_person_3 15 rfl rfl)
theorem dX6_person_88 : decode cX6_person 88 = .ok (.getfield 20, 3) := dk_180 0 20 (dk_at dksX6_person_3 16 rfl rfl)
theorem dX6_person_91 : decode cX6_person 91 = .ok (.getfield 145, 3) := dk_180 0 145 (dk_at dksX6_person_3 19 rfl rfl)
theorem dX6_person_94 : decode cX6_person 94 = .ok (.iload_n 1, 1) := dk_27 (dk_at dksX6_person_3 22 rfl rfl)
theorem dX6_person_95 : decode cX6_person 95 = .ok (.aload_n 0, 1) := dk_42 (dk_at dksX6_person_3 23 rfl rfl)
theorem dX6_person_96 : decode cX6_person 96 = .ok (.iconst 0, 1) := dk_3 (dk_at dksX6_person_4 0 rfl rfl)
theorem dX6_person_97 : decode cX6_person 97 = .ok (.bipush 99, 2) := dk_16 99 (dk_at dksX6_person_4 1 rfl rfl)
theorem dX6_person_99 : decode cX6_person 99 = .ok (.invokevirtual 96, 3) := dk_182 0 96 (dk_at dksX6_person_4 3 rfl rfl)
theorem dX6_person_102 : decode cX6_person 102 = .ok (.iastore, 1) := dk_79 (dk_at dksX6_person_4 6 rfl rfl)
theorem dX6_person_103 : decode cX6_person 103 = .ok (.aload_n 0, 1) := dk_42 (dk_at dksX6_person_4 7 rfl rfl)
theorem dX6_person_104 : decode cX6_person 104 = .ok (.getfield 20, 3) := dk_180 0 20 (dk_at dksX6_person_4 8 rfl rfl)
theorem dX6_person_107 : decode cX6_person 107 = .ok (.getfield 148, 3) := dk_180 0 148 (dk_at dksX6_person_4 11 rfl rfl)
theorem dX6_person_110 : decode cX6_person 110 = .ok (.iload_n 2, 1) := dk_28 (dk_at dksX6_person_4 14 rfl rfl)
theorem dX6_person_111 : decode cX6_person 111 = .ok (.iload_n 1, 1) := dk_27 (dk_at dksX6_person_4 15 rfl rfl)
theorem dX6_person_112 : decode cX6_person 112 = .ok (.aload_n 0, 1) := dk_42 (dk_at dksX6_person_4 16 rfl rfl)
theorem dX6_person_113 : decode cX6_person 113 = .ok (.getfield 20, 3) := dk_180 0 20 (dk_at dksX6_person_4 17 rfl rfl)
theorem dX6_person_116 : decode cX6_person 116 = .ok (.getfield 145, 3) := dk_180 0 145 (dk_at dksX6_person_4 20 rfl rfl)
theorem dX6_person_119 : decode cX6_person 119 = .ok (.iload_n 1, 1) := dk_27 (dk_at dksX6_person_4 23 rfl rfl)
theorem dX6_person_120 : decode cX6_person 120 = .ok (.iaload, 1) := dk_46 (dk_at dksX6_person_5 0 rfl rfl)
theorem dX6_person_121 : decode cX6_person 121 = .ok (.invokestatic 152, 3) := dk_184 0 152 (dk_at dksX6_person_5 1 rfl rfl)
theorem dX6_person_124 : decode cX6_person 124 = .ok (.invokeinterface 156 2, 5) := by decide +kernel
theorem dX6_person_129 : decode cX6_person 129 = .ok (.pop, 1) := dk_87 (dk_at dksX6_person_5 9 rfl rfl)
theorem dX6_person_130 : decode cX6_person 130 = .ok (.aload_n 0, 1) := dk_42 (dk_at dksX6_person_5 10 rfl rfl)
theorem dX6_person_131 : decode cX6_person 131 = .ok (.invokevirtual 106, 3) := dk_182 0 106 (dk_at dksX6_person_5 11 rfl rfl)
theorem dX6_person_134 : decode cX6_person 134 = .ok (.return_, 1) := dk_177 (dk_at dksX6_person_5 14 rfl rfl)
theorem q76 : (Jvm.Cond.initialized "YoungerBack$Reader") ∈ lw_all := lw_g (lw_at lw_m1 17 rfl) rfl
theorem q142 : (Jvm.Cond.fieldLink "YoungerBack$Reader" (100 : Nat) "YoungerBack$League" "harbours" "I") ∈ lw_all := lw_g (lw_at lw_m1 83 rfl) rfl
theorem q145 : (Jvm.Cond.fieldLink "YoungerBack$Reader" (103 : Nat) "YoungerBack$League" "rate" "I") ∈ lw_all := lw_g (lw_at lw_m1 86 rfl) rfl
theorem q148 : (Jvm.Cond.fieldLink "YoungerBack$Reader" (117 : Nat) "YoungerBack$League" "ways" "I") ∈ lw_all := lw_g (lw_at lw_m1 89 rfl) rfl
theorem q151 : (Jvm.Cond.fieldLink "YoungerBack$Reader" (123 : Nat) "YoungerBack$League" "a" "[I") ∈ lw_all := lw_g (lw_at lw_m1 92 rfl) rfl
theorem q154 : (Jvm.Cond.fieldLink "YoungerBack$Reader" (127 : Nat) "YoungerBack$League" "b" "[I") ∈ lw_all := lw_g (lw_at lw_m1 95 rfl) rfl
theorem q157 : (Jvm.Cond.fieldLink "YoungerBack$Reader" (130 : Nat) "YoungerBack$League" "shore" "[I") ∈ lw_all := lw_g (lw_at lw_m1 98 rfl) rfl
theorem q160 : (Jvm.Cond.fieldLink "YoungerBack$Reader" (133 : Nat) "YoungerBack$League" "own" "[I") ∈ lw_all := lw_g (lw_at lw_m1 101 rfl) rfl
theorem q162 : (Jvm.Cond.fieldLink "YoungerBack$Reader" (148 : Nat) "YoungerBack$League" "people" "Ljava/util/List;") ∈ lw_all := lw_g (lw_at lw_m1 103 rfl) rfl
theorem q166 : (Jvm.Cond.fieldLink "YoungerBack$Reader" (143 : Nat) "YoungerBack$League" "at" "[I") ∈ lw_all := lw_g (lw_at lw_m1 107 rfl) rfl
theorem q172 : (Jvm.Cond.fieldLink "YoungerBack$Reader" (145 : Nat) "YoungerBack$League" "age" "[I") ∈ lw_all := lw_g (lw_at lw_m1 113 rfl) rfl
theorem q437 : (Jvm.Cond.instantiable "YoungerBack$Reader" (8 : Nat)) ∈ lw_all := lw_g (lw_at lw_m2 138 rfl) rfl
theorem q439 : (Jvm.Cond.instanceMethod ({ cls := "YoungerBack$Reader", name := "<init>", desc := "([BI)V" } : Jvm.MethodName)) ∈ lw_all := lw_g (lw_at lw_m2 140 rfl) rfl
theorem q440 : (Jvm.Cond.code ({ cls := "YoungerBack$Reader", name := "<init>", desc := "([BI)V" } : Jvm.MethodName) prog_12_method_1_code (3 : Nat) (Option.none : Option Jvm.ClassFile.FieldType)) ∈ lw_all := lw_g (lw_at lw_m2 141 rfl) rfl
theorem q441 : (Jvm.Cond.methodLink "YoungerBack$Reader" (3 : Nat) ({ cls := "java/lang/Object", name := "<init>", desc := "()V" } : Jvm.MethodName)) ∈ lw_all := lw_g (lw_at lw_m2 142 rfl) rfl
theorem q442 : (Jvm.Cond.stringRef "YoungerBack$Reader" (9 : Nat) "") ∈ lw_tbl := lw_at lw_m2 143 rfl
theorem q443 : (Jvm.Cond.classLink "YoungerBack$Reader" (17 : Nat) "YoungerBack$League") ∈ lw_all := lw_g (lw_at lw_m2 144 rfl) rfl
theorem q444 : (Jvm.Cond.methodLinkNest "YoungerBack$Reader" (19 : Nat) ({ cls := "YoungerBack$League", name := "<init>", desc := "()V" } : Jvm.MethodName) "YoungerBack") ∈ lw_tbl := lw_at lw_m2 145 rfl
theorem q445 : (Jvm.Cond.fieldLink "YoungerBack$Reader" (24 : Nat) "YoungerBack$Reader" "text" "[B") ∈ lw_all := lw_g (lw_at lw_m2 146 rfl) rfl
theorem q446 : (Jvm.Cond.fieldLink "YoungerBack$Reader" (28 : Nat) "YoungerBack$Reader" "size" "I") ∈ lw_all := lw_g (lw_at lw_m2 147 rfl) rfl
theorem q447 : (Jvm.Cond.fieldLink "YoungerBack$Reader" (32 : Nat) "YoungerBack$Reader" "at" "I") ∈ lw_all := lw_g (lw_at lw_m2 148 rfl) rfl
theorem q448 : (Jvm.Cond.fieldLink "YoungerBack$Reader" (43 : Nat) "YoungerBack$Reader" "token" "I") ∈ lw_all := lw_g (lw_at lw_m2 149 rfl) rfl
theorem q449 : (Jvm.Cond.fieldLink "YoungerBack$Reader" (40 : Nat) "YoungerBack$Reader" "from" "I") ∈ lw_all := lw_g (lw_at lw_m2 150 rfl) rfl
theorem q450 : (Jvm.Cond.fieldLink "YoungerBack$Reader" (69 : Nat) "YoungerBack$Reader" "number" "I") ∈ lw_all := lw_g (lw_at lw_m2 151 rfl) rfl
theorem q451 : (Jvm.Cond.fieldLink "YoungerBack$Reader" (11 : Nat) "YoungerBack$Reader" "name" "Ljava/lang/String;") ∈ lw_all := lw_g (lw_at lw_m2 152 rfl) rfl
theorem q452 : (Jvm.Cond.fieldLink "YoungerBack$Reader" (20 : Nat) "YoungerBack$Reader" "made" "LYoungerBack$League;") ∈ lw_all := lw_g (lw_at lw_m2 153 rfl) rfl
theorem q454 : (Jvm.Cond.laysFinal "YoungerBack$Reader" "YoungerBack$Reader" "text" "[B") ∈ lw_all := lw_g (lw_at lw_m2 155 rfl) rfl
theorem q455 : (Jvm.Cond.soleField "YoungerBack$Reader" "text") ∈ lw_all := lw_g (lw_at lw_m2 156 rfl) rfl
theorem q456 : (Jvm.Cond.laysFinal "YoungerBack$Reader" "YoungerBack$Reader" "size" "I") ∈ lw_all := lw_g (lw_at lw_m2 157 rfl) rfl
theorem q457 : (Jvm.Cond.soleField "YoungerBack$Reader" "size") ∈ lw_all := lw_g (lw_at lw_m2 158 rfl) rfl
theorem q458 : (Jvm.Cond.lays "YoungerBack$Reader" "YoungerBack$Reader" "at" "I") ∈ lw_all := lw_g (lw_at lw_m2 159 rfl) rfl
theorem q459 : (Jvm.Cond.soleField "YoungerBack$Reader" "at") ∈ lw_all := lw_g (lw_at lw_m2 160 rfl) rfl
theorem q460 : (Jvm.Cond.lays "YoungerBack$Reader" "YoungerBack$Reader" "token" "I") ∈ lw_all := lw_g (lw_at lw_m2 161 rfl) rfl
theorem q461 : (Jvm.Cond.soleField "YoungerBack$Reader" "token") ∈ lw_all := lw_g (lw_at lw_m2 162 rfl) rfl
theorem q462 : (Jvm.Cond.lays "YoungerBack$Reader" "YoungerBack$Reader" "from" "I") ∈ lw_all := lw_g (lw_at lw_m2 163 rfl) rfl
theorem q463 : (Jvm.Cond.soleField "YoungerBack$Reader" "from") ∈ lw_all := lw_g (lw_at lw_m2 164 rfl) rfl
theorem q464 : (Jvm.Cond.lays "YoungerBack$Reader" "YoungerBack$Reader" "number" "I") ∈ lw_all := lw_g (lw_at lw_m2 165 rfl) rfl
theorem q465 : (Jvm.Cond.soleField "YoungerBack$Reader" "number") ∈ lw_all := lw_g (lw_at lw_m2 166 rfl) rfl
theorem q466 : (Jvm.Cond.lays "YoungerBack$Reader" "YoungerBack$Reader" "name" "Ljava/lang/String;") ∈ lw_all := lw_g (lw_at lw_m2 167 rfl) rfl
theorem q467 : (Jvm.Cond.soleField "YoungerBack$Reader" "name") ∈ lw_all := lw_g (lw_at lw_m2 168 rfl) rfl
theorem q468 : (Jvm.Cond.laysFinal "YoungerBack$Reader" "YoungerBack$Reader" "made" "LYoungerBack$League;") ∈ lw_all := lw_g (lw_at lw_m2 169 rfl) rfl
theorem q469 : (Jvm.Cond.soleField "YoungerBack$Reader" "made") ∈ lw_all := lw_g (lw_at lw_m2 170 rfl) rfl
theorem q470 : (Jvm.Cond.superclass "YoungerBack$Reader" "java/lang/Object") ∈ lw_all := lw_g (lw_at lw_m2 171 rfl) rfl
theorem q472 : (Jvm.Cond.instanceMethod ({ cls := "YoungerBack$Reader", name := "all", desc := "()V" } : Jvm.MethodName)) ∈ lw_all := lw_g (lw_at lw_m2 173 rfl) rfl
theorem q473 : (Jvm.Cond.selects "YoungerBack$Reader" ({ cls := "YoungerBack$Reader", name := "all", desc := "()V" } : Jvm.MethodName) ({ cls := "YoungerBack$Reader", name := "all", desc := "()V" } : Jvm.MethodName)) ∈ lw_all := lw_g (lw_at lw_m2 174 rfl) rfl
theorem q474 : (Jvm.Cond.code ({ cls := "YoungerBack$Reader", name := "all", desc := "()V" } : Jvm.MethodName) prog_12_method_9_code (1 : Nat) (Option.none : Option Jvm.ClassFile.FieldType)) ∈ lw_all := lw_g (lw_at lw_m2 175 rfl) rfl
theorem q475 : (Jvm.Cond.methodLink "YoungerBack$Reader" (87 : Nat) ({ cls := "YoungerBack$Reader", name := "next", desc := "()V" } : Jvm.MethodName)) ∈ lw_all := lw_g (lw_at lw_m2 176 rfl) rfl
theorem q476 : (Jvm.Cond.privateMethod ({ cls := "YoungerBack$Reader", name := "next", desc := "()V" } : Jvm.MethodName)) ∈ lw_tbl := lw_at lw_m2 177 rfl
theorem q477 : (Jvm.Cond.instanceMethod ({ cls := "YoungerBack$Reader", name := "next", desc := "()V" } : Jvm.MethodName)) ∈ lw_all := lw_g (lw_at lw_m2 178 rfl) rfl
theorem q478 : (Jvm.Cond.code ({ cls := "YoungerBack$Reader", name := "next", desc := "()V" } : Jvm.MethodName) prog_12_method_3_code (3 : Nat) (Option.none : Option Jvm.ClassFile.FieldType)) ∈ lw_all := lw_g (lw_at lw_m2 179 rfl) rfl
theorem q479 : (Jvm.Cond.methodLink "YoungerBack$Reader" (36 : Nat) ({ cls := "YoungerBack$Reader", name := "look", desc := "()I" } : Jvm.MethodName)) ∈ lw_all := lw_g (lw_at lw_m2 180 rfl) rfl
theorem q480 : (Jvm.Cond.privateMethod ({ cls := "YoungerBack$Reader", name := "look", desc := "()I" } : Jvm.MethodName)) ∈ lw_tbl := lw_at lw_m2 181 rfl
theorem q481 : (Jvm.Cond.instanceMethod ({ cls := "YoungerBack$Reader", name := "look", desc := "()I" } : Jvm.MethodName)) ∈ lw_all := lw_g (lw_at lw_m2 182 rfl) rfl
theorem q482 : (Jvm.Cond.code ({ cls := "YoungerBack$Reader", name := "look", desc := "()I" } : Jvm.MethodName) prog_12_method_2_code (1 : Nat) (Option.some Jvm.ClassFile.FieldType.int)) ∈ lw_all := lw_g (lw_at lw_m2 183 rfl) rfl
theorem q483 : (Jvm.Cond.constant "YoungerBack$Reader" (35 : Nat) (-1000000 : Int32)) ∈ lw_all := lw_g (lw_at lw_m2 184 rfl) rfl
theorem q484 : (Jvm.Cond.constantLong "YoungerBack$Reader" (46 : Nat) (97 : Int64)) ∈ lw_all := lw_g (lw_at lw_m2 185 rfl) rfl
theorem q485 : (Jvm.Cond.constantLong "YoungerBack$Reader" (48 : Nat) (122 : Int64)) ∈ lw_all := lw_g (lw_at lw_m2 186 rfl) rfl
theorem q486 : (Jvm.Cond.methodLinkNest "YoungerBack$Reader" (50 : Nat) ({ cls := "YoungerBack", name := "isIn", desc := "(JJJ)Z" } : Jvm.MethodName) "YoungerBack") ∈ lw_tbl := lw_at lw_m2 187 rfl
theorem q487 : (Jvm.Cond.classLink "YoungerBack$Reader" (54 : Nat) "java/lang/StringBuilder") ∈ lw_all := lw_g (lw_at lw_m2 188 rfl) rfl
theorem q489 : (Jvm.Cond.methodLink "YoungerBack$Reader" (56 : Nat) ({ cls := "java/lang/StringBuilder", name := "<init>", desc := "()V" } : Jvm.MethodName)) ∈ lw_all := lw_g (lw_at lw_m2 190 rfl) rfl
theorem q518 : (Jvm.Cond.methodLink "YoungerBack$Reader" (57 : Nat) ({ cls := "java/lang/StringBuilder", name := "append", desc := "(C)Ljava/lang/StringBuilder;" } : Jvm.MethodName)) ∈ lw_all := lw_g (lw_at lw_m2 219 rfl) rfl
theorem q611 : (Jvm.Cond.methodLink "YoungerBack$Reader" (61 : Nat) ({ cls := "java/lang/StringBuilder", name := "toString", desc := "()Ljava/lang/String;" } : Jvm.MethodName)) ∈ lw_all := lw_g (lw_at lw_m3 72 rfl) rfl
theorem q667 : (Jvm.Cond.constantLong "YoungerBack$Reader" (65 : Nat) (48 : Int64)) ∈ lw_all := lw_g (lw_at lw_m3 128 rfl) rfl
theorem q668 : (Jvm.Cond.constantLong "YoungerBack$Reader" (67 : Nat) (57 : Int64)) ∈ lw_all := lw_g (lw_at lw_m3 129 rfl) rfl
theorem q669 : (Jvm.Cond.stringRef "YoungerBack$Reader" (90 : Nat) "law") ∈ lw_tbl := lw_at lw_m3 130 rfl
theorem q670 : (Jvm.Cond.methodLink "YoungerBack$Reader" (92 : Nat) ({ cls := "YoungerBack$Reader", name := "isWord", desc := "(Ljava/lang/String;)Z" } : Jvm.MethodName)) ∈ lw_all := lw_g (lw_at lw_m3 131 rfl) rfl
theorem q671 : (Jvm.Cond.privateMethod ({ cls := "YoungerBack$Reader", name := "isWord", desc := "(Ljava/lang/String;)Z" } : Jvm.MethodName)) ∈ lw_tbl := lw_at lw_m3 132 rfl
theorem q672 : (Jvm.Cond.instanceMethod ({ cls := "YoungerBack$Reader", name := "isWord", desc := "(Ljava/lang/String;)Z" } : Jvm.MethodName)) ∈ lw_all := lw_g (lw_at lw_m3 133 rfl) rfl
theorem q673 : (Jvm.Cond.code ({ cls := "YoungerBack$Reader", name := "isWord", desc := "(Ljava/lang/String;)Z" } : Jvm.MethodName) prog_12_method_5_code (2 : Nat) (Option.some Jvm.ClassFile.FieldType.boolean)) ∈ lw_all := lw_g (lw_at lw_m3 134 rfl) rfl
theorem q674 : (Jvm.Cond.methodLink "YoungerBack$Reader" (77 : Nat) ({ cls := "java/lang/String", name := "equals", desc := "(Ljava/lang/Object;)Z" } : Jvm.MethodName)) ∈ lw_all := lw_g (lw_at lw_m3 135 rfl) rfl
theorem q682 : (Jvm.Cond.methodLink "YoungerBack$Reader" (83 : Nat) ({ cls := "YoungerBack$Reader", name := "must", desc := "(ZI)V" } : Jvm.MethodName)) ∈ lw_all := lw_g (lw_at lw_m3 143 rfl) rfl
theorem q683 : (Jvm.Cond.privateMethod ({ cls := "YoungerBack$Reader", name := "must", desc := "(ZI)V" } : Jvm.MethodName)) ∈ lw_tbl := lw_at lw_m3 144 rfl
theorem q684 : (Jvm.Cond.instanceMethod ({ cls := "YoungerBack$Reader", name := "must", desc := "(ZI)V" } : Jvm.MethodName)) ∈ lw_all := lw_g (lw_at lw_m3 145 rfl) rfl
theorem q685 : (Jvm.Cond.code ({ cls := "YoungerBack$Reader", name := "must", desc := "(ZI)V" } : Jvm.MethodName) prog_12_method_4_code (3 : Nat) (Option.none : Option Jvm.ClassFile.FieldType)) ∈ lw_all := lw_g (lw_at lw_m3 146 rfl) rfl
theorem q686 : (Jvm.Cond.classLink "YoungerBack$Reader" (72 : Nat) "YoungerBack$Fault") ∈ lw_all := lw_g (lw_at lw_m3 147 rfl) rfl
theorem q695 : (Jvm.Cond.methodLink "YoungerBack$Reader" (74 : Nat) ({ cls := "YoungerBack$Fault", name := "<init>", desc := "(II)V" } : Jvm.MethodName)) ∈ lw_all := lw_g (lw_at lw_m3 156 rfl) rfl
theorem q709 : (Jvm.Cond.methodLink "YoungerBack$Reader" (96 : Nat) ({ cls := "YoungerBack$Reader", name := "figure", desc := "(II)I" } : Jvm.MethodName)) ∈ lw_all := lw_g (lw_at lw_m3 170 rfl) rfl
theorem q710 : (Jvm.Cond.privateMethod ({ cls := "YoungerBack$Reader", name := "figure", desc := "(II)I" } : Jvm.MethodName)) ∈ lw_tbl := lw_at lw_m3 171 rfl
theorem q711 : (Jvm.Cond.instanceMethod ({ cls := "YoungerBack$Reader", name := "figure", desc := "(II)I" } : Jvm.MethodName)) ∈ lw_all := lw_g (lw_at lw_m3 172 rfl) rfl
theorem q712 : (Jvm.Cond.code ({ cls := "YoungerBack$Reader", name := "figure", desc := "(II)I" } : Jvm.MethodName) prog_12_method_6_code (4 : Nat) (Option.some Jvm.ClassFile.FieldType.int)) ∈ lw_all := lw_g (lw_at lw_m3 173 rfl) rfl
theorem q713 : (Jvm.Cond.methodLink "YoungerBack$Reader" (106 : Nat) ({ cls := "YoungerBack$Reader", name := "sign", desc := "()V" } : Jvm.MethodName)) ∈ lw_all := lw_g (lw_at lw_m3 174 rfl) rfl
theorem q714 : (Jvm.Cond.privateMethod ({ cls := "YoungerBack$Reader", name := "sign", desc := "()V" } : Jvm.MethodName)) ∈ lw_tbl := lw_at lw_m3 175 rfl
theorem q715 : (Jvm.Cond.instanceMethod ({ cls := "YoungerBack$Reader", name := "sign", desc := "()V" } : Jvm.MethodName)) ∈ lw_all := lw_g (lw_at lw_m3 176 rfl) rfl
theorem q716 : (Jvm.Cond.code ({ cls := "YoungerBack$Reader", name := "sign", desc := "()V" } : Jvm.MethodName) prog_12_method_7_code (1 : Nat) (Option.none : Option Jvm.ClassFile.FieldType)) ∈ lw_all := lw_g (lw_at lw_m3 177 rfl) rfl
theorem q717 : (Jvm.Cond.stringRef "YoungerBack$Reader" (109 : Nat) "way") ∈ lw_tbl := lw_at lw_m3 178 rfl
theorem q718 : (Jvm.Cond.methodLink "YoungerBack$Reader" (111 : Nat) ({ cls := "YoungerBack$Reader", name := "way", desc := "()V" } : Jvm.MethodName)) ∈ lw_all := lw_g (lw_at lw_m3 179 rfl) rfl
theorem q719 : (Jvm.Cond.privateMethod ({ cls := "YoungerBack$Reader", name := "way", desc := "()V" } : Jvm.MethodName)) ∈ lw_tbl := lw_at lw_m3 180 rfl
theorem q720 : (Jvm.Cond.instanceMethod ({ cls := "YoungerBack$Reader", name := "way", desc := "()V" } : Jvm.MethodName)) ∈ lw_all := lw_g (lw_at lw_m3 181 rfl) rfl
theorem q721 : (Jvm.Cond.code ({ cls := "YoungerBack$Reader", name := "way", desc := "()V" } : Jvm.MethodName) prog_12_method_10_code (2 : Nat) (Option.none : Option Jvm.ClassFile.FieldType)) ∈ lw_all := lw_g (lw_at lw_m3 182 rfl) rfl
theorem q722 : (Jvm.Cond.methodLink "YoungerBack$Reader" (120 : Nat) ({ cls := "YoungerBack$Reader", name := "begin", desc := "(II)V" } : Jvm.MethodName)) ∈ lw_all := lw_g (lw_at lw_m3 183 rfl) rfl
theorem q723 : (Jvm.Cond.privateMethod ({ cls := "YoungerBack$Reader", name := "begin", desc := "(II)V" } : Jvm.MethodName)) ∈ lw_tbl := lw_at lw_m3 184 rfl
theorem q724 : (Jvm.Cond.instanceMethod ({ cls := "YoungerBack$Reader", name := "begin", desc := "(II)V" } : Jvm.MethodName)) ∈ lw_all := lw_g (lw_at lw_m3 185 rfl) rfl
theorem q725 : (Jvm.Cond.code ({ cls := "YoungerBack$Reader", name := "begin", desc := "(II)V" } : Jvm.MethodName) prog_12_method_8_code (3 : Nat) (Option.none : Option Jvm.ClassFile.FieldType)) ∈ lw_all := lw_g (lw_at lw_m3 186 rfl) rfl
theorem q726 : (Jvm.Cond.stringRef "YoungerBack$Reader" (113 : Nat) "person") ∈ lw_tbl := lw_at lw_m3 187 rfl
theorem q727 : (Jvm.Cond.methodLink "YoungerBack$Reader" (115 : Nat) ({ cls := "YoungerBack$Reader", name := "person", desc := "()V" } : Jvm.MethodName)) ∈ lw_all := lw_g (lw_at lw_m3 188 rfl) rfl
theorem q728 : (Jvm.Cond.privateMethod ({ cls := "YoungerBack$Reader", name := "person", desc := "()V" } : Jvm.MethodName)) ∈ lw_tbl := lw_at lw_m3 189 rfl
theorem q729 : (Jvm.Cond.instanceMethod ({ cls := "YoungerBack$Reader", name := "person", desc := "()V" } : Jvm.MethodName)) ∈ lw_all := lw_g (lw_at lw_m3 190 rfl) rfl
theorem q730 : (Jvm.Cond.code ({ cls := "YoungerBack$Reader", name := "person", desc := "()V" } : Jvm.MethodName) prog_12_method_11_code (3 : Nat) (Option.none : Option Jvm.ClassFile.FieldType)) ∈ lw_all := lw_g (lw_at lw_m3 191 rfl) rfl
theorem q731 : (Jvm.Cond.methodLink "YoungerBack$Reader" (136 : Nat) ({ cls := "YoungerBack$League", name := "many", desc := "()I" } : Jvm.MethodName)) ∈ lw_all := lw_g (lw_at lw_m3 192 rfl) rfl
theorem q745 : (Jvm.Cond.fieldLinkNest "YoungerBack$Reader" (139 : Nat) "YoungerBack" "SORT" "[Ljava/lang/String;" "YoungerBack") ∈ lw_tbl := lw_at lw_m3 206 rfl
theorem q747 : (Jvm.Cond.methodLinkNest "YoungerBack$Reader" (152 : Nat) ({ cls := "YoungerBack", name := "personBy", desc := "(III)LYoungerBack$Person;" } : Jvm.MethodName) "YoungerBack") ∈ lw_tbl := lw_at lw_m3 208 rfl
theorem q803 : (Jvm.Cond.interfaceEntry "YoungerBack$Reader" (156 : Nat)) ∈ lw_tbl := lw_at lw_m4 24 rfl
theorem q804 : (Jvm.Cond.methodLink "YoungerBack$Reader" (156 : Nat) ({ cls := "java/util/List", name := "add", desc := "(Ljava/lang/Object;)Z" } : Jvm.MethodName)) ∈ lw_all := lw_g (lw_at lw_m4 25 rfl) rfl
theorem q840 : (Jvm.Cond.selects "YoungerBack$Reader" ({ cls := "java/lang/Object", name := "getClass", desc := "()Ljava/lang/Class;" } : Jvm.MethodName) ({ cls := "java/lang/Object", name := "getClass", desc := "()Ljava/lang/Class;" } : Jvm.MethodName)) ∈ lw_all := lw_g (lw_at lw_m4 61 rfl) rfl
theorem q1652 : (Jvm.Cond.castable "YoungerBack$Reader" "java/lang/Object") ∈ lw_tbl := lw_at lw_m7 153 rfl
theorem in_X6 : ∀ w ∈ wsX60, w ∈ lw_all := lw_in wsX60 [454, 456, 458, 460, 462, 464, 466, 468] (by decide +kernel) (by decide +kernel)

/-! YoungerBack$Fault -/
set_option maxRecDepth 100000
def RX7 : String := "YoungerBack$Fault"
def TX7 : u_T := fun k => match k with
  | 0 => ("java/lang/Throwable", "cause", "Ljava/lang/Throwable;", false)
  | 1 => ("java/lang/Throwable", "stackTrace", "[Ljava/lang/StackTraceElement;", false)
  | 2 => ("java/lang/Throwable", "suppressedExceptions", "Ljava/util/List;", false)
  | 3 => ("java/lang/Throwable", "detailMessage", "Ljava/lang/String;", false)
  | 4 => ("java/lang/Throwable", "backtrace", "Ljava/lang/Object;", false)
  | 5 => ("java/lang/Throwable", "depth", "I", false)
  | 6 => ("YoungerBack$Fault", "kind", "I", true)
  | _ => ("YoungerBack$Fault", "place", "I", true)
def tyX7 : Nat → FieldType := fun k => match k with
  | 0 => .object "java/lang/Throwable"
  | 1 => .array (.object "java/lang/StackTraceElement")
  | 2 => .object "java/util/List"
  | 3 => .object "java/lang/String"
  | 4 => .object "java/lang/Object"
  | 5 => .int
  | 6 => .int
  | _ => .int
abbrev wsX70 : List Cond := u_ws RX7 TX7 8
theorem nmX7 : ∀ a, a < 8 → ∀ b, b < 8 → a ≠ b → (TX7 a).2.1 ≠ (TX7 b).2.1 := by decide +kernel
theorem tyX7_ok : ∀ k, k < 8 → parseFieldDescriptor (TX7 k).2.2.1 = some (tyX7 k) := by decide +kernel
abbrev cX7_init : ByteArray := prog_5_method_1_code
def yX7_init : MethodName := ⟨RX7, "<init>", "(II)V"⟩
def dkwX7_init_0 : List UInt8 := [42, 1, 1, 3, 3, 183, 0, 1, 42, 27, 181, 0, 7, 42, 28, 181, 0, 13, 177]
abbrev dktX7_init_0 : List UInt8 := dkwX7_init_0 ++ []
theorem dksX7_init_0 : cX7_init.data.toList.drop 0 = dktX7_init_0 := by decide +kernel
theorem dX7_init_0 : decode cX7_init 0 = .ok (.aload_n 0, 1) := dk_42 (dk_at dksX7_init_0 0 rfl rfl)
theorem dX7_init_1 : decode cX7_init 1 = .ok (.aconst_null, 1) := dk_1 (dk_at dksX7_init_0 1 rfl rfl)
theorem dX7_init_2 : decode cX7_init 2 = .ok (.aconst_null, 1) := dk_1 (dk_at dksX7_init_0 2 rfl rfl)
theorem dX7_init_3 : decode cX7_init 3 = .ok (.iconst 0, 1) := dk_3 (dk_at dksX7_init_0 3 rfl rfl)
theorem dX7_init_4 : decode cX7_init 4 = .ok (.iconst 0, 1) := dk_3 (dk_at dksX7_init_0 4 rfl rfl)
theorem dX7_init_5 : decode cX7_init 5 = .ok (.invokespecial 1, 3) := dk_183 0 1 (dk_at dksX7_init_0 5 rfl rfl)
theorem dX7_init_8 : decode cX7_init 8 = .ok (.aload_n 0, 1) := dk_42 (dk_at dksX7_init_0 8 rfl rfl)
theorem dX7_init_9 : decode cX7_init 9 = .ok (.iload_n 1, 1) := dk_27 (dk_at dksX7_init_0 9 rfl rfl)
theorem dX7_init_10 : decode cX7_init 10 = .ok (.putfield 7, 3) := dk_181 0 7 (dk_at dksX7_init_0 10 rfl rfl)
theorem dX7_init_13 : decode cX7_init 13 = .ok (.aload_n 0, 1) := dk_42 (dk_at dksX7_init_0 13 rfl rfl)
theorem dX7_init_14 : decode cX7_init 14 = .ok (.iload_n 2, 1) := dk_28 (dk_at dksX7_init_0 14 rfl rfl)
theorem dX7_init_15 : decode cX7_init 15 = .ok (.putfield 13, 3) := dk_181 0 13 (dk_at dksX7_init_0 15 rfl rfl)
theorem dX7_init_18 : decode cX7_init 18 = .ok (.return_, 1) := dk_177 (dk_at dksX7_init_0 18 rfl rfl)
theorem q85 : (Jvm.Cond.initialized "YoungerBack$Fault") ∈ lw_all := lw_g (lw_at lw_m1 26 rfl) rfl
theorem q310 : (Jvm.Cond.selects "YoungerBack$Fault" ({ cls := "java/lang/Throwable", name := "fillInStackTrace", desc := "()Ljava/lang/Throwable;" } : Jvm.MethodName) ({ cls := "java/lang/Throwable", name := "fillInStackTrace", desc := "()Ljava/lang/Throwable;" } : Jvm.MethodName)) ∈ lw_all := lw_g (lw_at lw_m2 11 rfl) rfl
theorem q687 : (Jvm.Cond.instantiable "YoungerBack$Fault" (8 : Nat)) ∈ lw_all := lw_g (lw_at lw_m3 148 rfl) rfl
theorem q688 : (Jvm.Cond.castable "YoungerBack$Fault" "YoungerBack$Fault") ∈ lw_tbl := lw_at lw_m3 149 rfl
theorem q689 : (Jvm.Cond.selects "YoungerBack$Fault" ({ cls := "java/lang/Throwable", name := "fillInStackTrace", desc := "(I)Ljava/lang/Throwable;" } : Jvm.MethodName) ({ cls := "java/lang/Throwable", name := "fillInStackTrace", desc := "(I)Ljava/lang/Throwable;" } : Jvm.MethodName)) ∈ lw_all := lw_g (lw_at lw_m3 150 rfl) rfl
theorem q690 : (Jvm.Cond.lays "YoungerBack$Fault" "java/lang/Throwable" "cause" "Ljava/lang/Throwable;") ∈ lw_all := lw_g (lw_at lw_m3 151 rfl) rfl
theorem q691 : (Jvm.Cond.lays "YoungerBack$Fault" "java/lang/Throwable" "stackTrace" "[Ljava/lang/StackTraceElement;") ∈ lw_all := lw_g (lw_at lw_m3 152 rfl) rfl
theorem q692 : (Jvm.Cond.lays "YoungerBack$Fault" "java/lang/Throwable" "suppressedExceptions" "Ljava/util/List;") ∈ lw_all := lw_g (lw_at lw_m3 153 rfl) rfl
theorem q693 : (Jvm.Cond.lays "YoungerBack$Fault" "java/lang/Throwable" "detailMessage" "Ljava/lang/String;") ∈ lw_all := lw_g (lw_at lw_m3 154 rfl) rfl
theorem q694 : (Jvm.Cond.lays "YoungerBack$Fault" "java/lang/Throwable" "backtrace" "Ljava/lang/Object;") ∈ lw_all := lw_g (lw_at lw_m3 155 rfl) rfl
theorem q696 : (Jvm.Cond.instanceMethod ({ cls := "YoungerBack$Fault", name := "<init>", desc := "(II)V" } : Jvm.MethodName)) ∈ lw_all := lw_g (lw_at lw_m3 157 rfl) rfl
theorem q697 : (Jvm.Cond.code ({ cls := "YoungerBack$Fault", name := "<init>", desc := "(II)V" } : Jvm.MethodName) prog_5_method_1_code (3 : Nat) (Option.none : Option Jvm.ClassFile.FieldType)) ∈ lw_all := lw_g (lw_at lw_m3 158 rfl) rfl
theorem q698 : (Jvm.Cond.methodLink "YoungerBack$Fault" (1 : Nat) ({ cls := "java/lang/Exception", name := "<init>", desc := "(Ljava/lang/String;Ljava/lang/Throwable;ZZ)V" } : Jvm.MethodName)) ∈ lw_all := lw_g (lw_at lw_m3 159 rfl) rfl
theorem q699 : (Jvm.Cond.fieldLink "YoungerBack$Fault" (7 : Nat) "YoungerBack$Fault" "kind" "I") ∈ lw_all := lw_g (lw_at lw_m3 160 rfl) rfl
theorem q701 : (Jvm.Cond.fieldLink "YoungerBack$Fault" (13 : Nat) "YoungerBack$Fault" "place" "I") ∈ lw_all := lw_g (lw_at lw_m3 162 rfl) rfl
theorem q703 : (Jvm.Cond.laysFinal "YoungerBack$Fault" "YoungerBack$Fault" "kind" "I") ∈ lw_all := lw_g (lw_at lw_m3 164 rfl) rfl
theorem q704 : (Jvm.Cond.soleField "YoungerBack$Fault" "kind") ∈ lw_all := lw_g (lw_at lw_m3 165 rfl) rfl
theorem q705 : (Jvm.Cond.laysFinal "YoungerBack$Fault" "YoungerBack$Fault" "place" "I") ∈ lw_all := lw_g (lw_at lw_m3 166 rfl) rfl
theorem q706 : (Jvm.Cond.soleField "YoungerBack$Fault" "place") ∈ lw_all := lw_g (lw_at lw_m3 167 rfl) rfl
theorem q707 : (Jvm.Cond.lays "YoungerBack$Fault" "java/lang/Throwable" "depth" "I") ∈ lw_all := lw_g (lw_at lw_m3 168 rfl) rfl
theorem q708 : (Jvm.Cond.superclass "YoungerBack$Fault" "java/lang/Exception") ∈ lw_all := lw_g (lw_at lw_m3 169 rfl) rfl
theorem q835 : (Jvm.Cond.selects "YoungerBack$Fault" ({ cls := "java/lang/Object", name := "getClass", desc := "()Ljava/lang/Class;" } : Jvm.MethodName) ({ cls := "java/lang/Object", name := "getClass", desc := "()Ljava/lang/Class;" } : Jvm.MethodName)) ∈ lw_all := lw_g (lw_at lw_m4 56 rfl) rfl
theorem q1654 : (Jvm.Cond.castable "YoungerBack$Fault" "java/lang/Object") ∈ lw_tbl := lw_at lw_m7 155 rfl
theorem in_X7 : ∀ w ∈ wsX70, w ∈ lw_all := lw_in wsX70 [690, 691, 692, 693, 694, 707, 703, 705] (by decide +kernel) (by decide +kernel)

/-! YoungerBack$Person -/
set_option maxRecDepth 100000
def RX8 : String := "YoungerBack$Person"
abbrev cX8_init : ByteArray := prog_10_method_1_code
def yX8_init : MethodName := ⟨RX8, "<init>", "(II)V"⟩
def dkwX8_init_0 : List UInt8 := [42, 183, 0, 1, 42, 27, 181, 0, 7, 42, 28, 181, 0, 13, 177]
abbrev dktX8_init_0 : List UInt8 := dkwX8_init_0 ++ []
theorem dksX8_init_0 : cX8_init.data.toList.drop 0 = dktX8_init_0 := by decide +kernel
theorem dX8_init_0 : decode cX8_init 0 = .ok (.aload_n 0, 1) := dk_42 (dk_at dksX8_init_0 0 rfl rfl)
theorem dX8_init_1 : decode cX8_init 1 = .ok (.invokespecial 1, 3) := dk_183 0 1 (dk_at dksX8_init_0 1 rfl rfl)
theorem dX8_init_4 : decode cX8_init 4 = .ok (.aload_n 0, 1) := dk_42 (dk_at dksX8_init_0 4 rfl rfl)
theorem dX8_init_5 : decode cX8_init 5 = .ok (.iload_n 1, 1) := dk_27 (dk_at dksX8_init_0 5 rfl rfl)
theorem dX8_init_6 : decode cX8_init 6 = .ok (.putfield 7, 3) := dk_181 0 7 (dk_at dksX8_init_0 6 rfl rfl)
theorem dX8_init_9 : decode cX8_init 9 = .ok (.aload_n 0, 1) := dk_42 (dk_at dksX8_init_0 9 rfl rfl)
theorem dX8_init_10 : decode cX8_init 10 = .ok (.iload_n 2, 1) := dk_28 (dk_at dksX8_init_0 10 rfl rfl)
theorem dX8_init_11 : decode cX8_init 11 = .ok (.putfield 13, 3) := dk_181 0 13 (dk_at dksX8_init_0 11 rfl rfl)
theorem dX8_init_14 : decode cX8_init 14 = .ok (.return_, 1) := dk_177 (dk_at dksX8_init_0 14 rfl rfl)
abbrev cX8_may : ByteArray := prog_10_method_4_code
def yX8_may : MethodName := ⟨RX8, "may", "(I)Z"⟩
theorem dX8_may_0 : decode cX8_may 0 = .ok (.iconst 1, 1) := by decide +kernel
theorem dX8_may_1 : decode cX8_may 1 = .ok (.ireturn, 1) := by decide +kernel
abbrev cX8_number : ByteArray := prog_10_method_5_code
def yX8_number : MethodName := ⟨RX8, "number", "()I"⟩
theorem dX8_number_0 : decode cX8_number 0 = .ok (.aload_n 0, 1) := by decide +kernel
theorem dX8_number_1 : decode cX8_number 1 = .ok (.getfield 7, 3) := by decide +kernel
theorem dX8_number_4 : decode cX8_number 4 = .ok (.ireturn, 1) := by decide +kernel
abbrev cX8_size : ByteArray := prog_10_method_6_code
def yX8_size : MethodName := ⟨RX8, "size", "(LYoungerBack$Trail;LYoungerBack$League;)I"⟩
def dkwX8_size_0 : List UInt8 := [43, 16, 10, 182, 0, 16, 44, 180, 0, 22, 42, 180, 0, 7, 46, 172]
abbrev dktX8_size_0 : List UInt8 := dkwX8_size_0 ++ []
theorem dksX8_size_0 : cX8_size.data.toList.drop 0 = dktX8_size_0 := by decide +kernel
theorem dX8_size_0 : decode cX8_size 0 = .ok (.aload_n 1, 1) := dk_43 (dk_at dksX8_size_0 0 rfl rfl)
theorem dX8_size_1 : decode cX8_size 1 = .ok (.bipush 10, 2) := dk_16 10 (dk_at dksX8_size_0 1 rfl rfl)
theorem dX8_size_3 : decode cX8_size 3 = .ok (.invokevirtual 16, 3) := dk_182 0 16 (dk_at dksX8_size_0 3 rfl rfl)
theorem dX8_size_6 : decode cX8_size 6 = .ok (.aload_n 2, 1) := dk_44 (dk_at dksX8_size_0 6 rfl rfl)
theorem dX8_size_7 : decode cX8_size 7 = .ok (.getfield 22, 3) := dk_180 0 22 (dk_at dksX8_size_0 7 rfl rfl)
theorem dX8_size_10 : decode cX8_size 10 = .ok (.aload_n 0, 1) := dk_42 (dk_at dksX8_size_0 10 rfl rfl)
theorem dX8_size_11 : decode cX8_size 11 = .ok (.getfield 7, 3) := dk_180 0 7 (dk_at dksX8_size_0 11 rfl rfl)
theorem dX8_size_14 : decode cX8_size 14 = .ok (.iaload, 1) := dk_46 (dk_at dksX8_size_0 14 rfl rfl)
theorem dX8_size_15 : decode cX8_size 15 = .ok (.ireturn, 1) := dk_172 (dk_at dksX8_size_0 15 rfl rfl)
theorem q86 : (Jvm.Cond.initialized "YoungerBack$Person") ∈ lw_all := lw_g (lw_at lw_m1 27 rfl) rfl
theorem q171 : (Jvm.Cond.fieldLink "YoungerBack$Person" (22 : Nat) "YoungerBack$League" "age" "[I") ∈ lw_all := lw_g (lw_at lw_m1 112 rfl) rfl
theorem q756 : (Jvm.Cond.instanceMethod ({ cls := "YoungerBack$Person", name := "<init>", desc := "(II)V" } : Jvm.MethodName)) ∈ lw_all := lw_g (lw_at lw_m3 217 rfl) rfl
theorem q757 : (Jvm.Cond.code ({ cls := "YoungerBack$Person", name := "<init>", desc := "(II)V" } : Jvm.MethodName) prog_10_method_1_code (3 : Nat) (Option.none : Option Jvm.ClassFile.FieldType)) ∈ lw_all := lw_g (lw_at lw_m3 218 rfl) rfl
theorem q758 : (Jvm.Cond.methodLink "YoungerBack$Person" (1 : Nat) ({ cls := "java/lang/Object", name := "<init>", desc := "()V" } : Jvm.MethodName)) ∈ lw_all := lw_g (lw_at lw_m3 219 rfl) rfl
theorem q759 : (Jvm.Cond.fieldLink "YoungerBack$Person" (7 : Nat) "YoungerBack$Person" "number" "I") ∈ lw_all := lw_g (lw_at lw_m3 220 rfl) rfl
theorem q760 : (Jvm.Cond.fieldLink "YoungerBack$Person" (13 : Nat) "YoungerBack$Person" "age" "I") ∈ lw_all := lw_g (lw_at lw_m3 221 rfl) rfl
theorem q763 : (Jvm.Cond.soleField "YoungerBack$Person" "number") ∈ lw_all := lw_g (lw_at lw_m3 224 rfl) rfl
theorem q765 : (Jvm.Cond.soleField "YoungerBack$Person" "age") ∈ lw_all := lw_g (lw_at lw_m3 226 rfl) rfl
theorem q908 : (Jvm.Cond.instanceMethod ({ cls := "YoungerBack$Person", name := "may", desc := "(I)Z" } : Jvm.MethodName)) ∈ lw_all := lw_g (lw_at lw_m4 129 rfl) rfl
theorem q909 : (Jvm.Cond.sameMethod "YoungerBack$Person" "YoungerBack$Person" "may" "(I)Z") ∈ lw_all := lw_g (lw_at lw_m4 130 rfl) rfl
theorem q917 : (Jvm.Cond.code ({ cls := "YoungerBack$Person", name := "may", desc := "(I)Z" } : Jvm.MethodName) prog_10_method_4_code (2 : Nat) (Option.some Jvm.ClassFile.FieldType.boolean)) ∈ lw_all := lw_g (lw_at lw_m4 138 rfl) rfl
theorem q939 : (Jvm.Cond.declares ({ cls := "YoungerBack$Person", name := "ages", desc := "(II)I" } : Jvm.MethodName)) ∈ lw_tbl := lw_at lw_m4 160 rfl
theorem q940 : (Jvm.Cond.sameMethod "YoungerBack$Person" "YoungerBack$Person" "ages" "(II)I") ∈ lw_all := lw_g (lw_at lw_m4 161 rfl) rfl
theorem q1109 : (Jvm.Cond.declares ({ cls := "YoungerBack$Person", name := "kind", desc := "()I" } : Jvm.MethodName)) ∈ lw_tbl := lw_at lw_m5 90 rfl
theorem q1110 : (Jvm.Cond.sameMethod "YoungerBack$Person" "YoungerBack$Person" "kind" "()I") ∈ lw_all := lw_g (lw_at lw_m5 91 rfl) rfl
theorem q1146 : (Jvm.Cond.instanceMethod ({ cls := "YoungerBack$Person", name := "number", desc := "()I" } : Jvm.MethodName)) ∈ lw_all := lw_g (lw_at lw_m5 127 rfl) rfl
theorem q1147 : (Jvm.Cond.sameMethod "YoungerBack$Person" "YoungerBack$Person" "number" "()I") ∈ lw_all := lw_g (lw_at lw_m5 128 rfl) rfl
theorem q1153 : (Jvm.Cond.code ({ cls := "YoungerBack$Person", name := "number", desc := "()I" } : Jvm.MethodName) prog_10_method_5_code (1 : Nat) (Option.some Jvm.ClassFile.FieldType.int)) ∈ lw_all := lw_g (lw_at lw_m5 134 rfl) rfl
theorem q1159 : (Jvm.Cond.instanceMethod ({ cls := "YoungerBack$Person", name := "size", desc := "(LYoungerBack$Trail;LYoungerBack$League;)I" } : Jvm.MethodName)) ∈ lw_all := lw_g (lw_at lw_m5 140 rfl) rfl
theorem q1160 : (Jvm.Cond.sameMethod "YoungerBack$Person" "YoungerBack$Person" "size" "(LYoungerBack$Trail;LYoungerBack$League;)I") ∈ lw_all := lw_g (lw_at lw_m5 141 rfl) rfl
theorem q1193 : (Jvm.Cond.superclass "YoungerBack$Person" "java/lang/Object") ∈ lw_all := lw_g (lw_at lw_m5 174 rfl) rfl
theorem q1205 : (Jvm.Cond.publicMethod ({ cls := "YoungerBack$Person", name := "number", desc := "()I" } : Jvm.MethodName)) ∈ lw_tbl := lw_at lw_m5 186 rfl
theorem q1220 : (Jvm.Cond.declares ({ cls := "YoungerBack$Person", name := "number", desc := "()I" } : Jvm.MethodName)) ∈ lw_tbl := lw_at lw_m5 201 rfl
theorem q1230 : (Jvm.Cond.code ({ cls := "YoungerBack$Person", name := "size", desc := "(LYoungerBack$Trail;LYoungerBack$League;)I" } : Jvm.MethodName) prog_10_method_6_code (3 : Nat) (Option.some Jvm.ClassFile.FieldType.int)) ∈ lw_all := lw_g (lw_at lw_m5 211 rfl) rfl
theorem q1231 : (Jvm.Cond.methodLink "YoungerBack$Person" (16 : Nat) ({ cls := "YoungerBack$Trail", name := "begins", desc := "(I)V" } : Jvm.MethodName)) ∈ lw_all := lw_g (lw_at lw_m5 212 rfl) rfl

/-! YoungerBack$Captain -/
set_option maxRecDepth 100000
def RX9 : String := "YoungerBack$Captain"
def TX9 : u_T := fun k => match k with
  | 0 => ("YoungerBack$Person", "number", "I", true)
  | _ => ("YoungerBack$Person", "age", "I", true)
def tyX9 : Nat → FieldType := fun k => match k with
  | 0 => .int
  | _ => .int
abbrev wsX90 : List Cond := u_ws RX9 TX9 2
theorem nmX9 : ∀ a, a < 2 → ∀ b, b < 2 → a ≠ b → (TX9 a).2.1 ≠ (TX9 b).2.1 := by decide +kernel
theorem tyX9_ok : ∀ k, k < 2 → parseFieldDescriptor (TX9 k).2.2.1 = some (tyX9 k) := by decide +kernel
abbrev cX9_init : ByteArray := prog_3_method_1_code
def yX9_init : MethodName := ⟨RX9, "<init>", "(II)V"⟩
def dkwX9_init_0 : List UInt8 := [42, 27, 28, 183, 0, 3, 177]
abbrev dktX9_init_0 : List UInt8 := dkwX9_init_0 ++ []
theorem dksX9_init_0 : cX9_init.data.toList.drop 0 = dktX9_init_0 := by decide +kernel
theorem dX9_init_0 : decode cX9_init 0 = .ok (.aload_n 0, 1) := dk_42 (dk_at dksX9_init_0 0 rfl rfl)
theorem dX9_init_1 : decode cX9_init 1 = .ok (.iload_n 1, 1) := dk_27 (dk_at dksX9_init_0 1 rfl rfl)
theorem dX9_init_2 : decode cX9_init 2 = .ok (.iload_n 2, 1) := dk_28 (dk_at dksX9_init_0 2 rfl rfl)
theorem dX9_init_3 : decode cX9_init 3 = .ok (.invokespecial 3, 3) := dk_183 0 3 (dk_at dksX9_init_0 3 rfl rfl)
theorem dX9_init_6 : decode cX9_init 6 = .ok (.return_, 1) := dk_177 (dk_at dksX9_init_0 6 rfl rfl)
abbrev cX9_ages : ByteArray := prog_3_method_3_code
def yX9_ages : MethodName := ⟨RX9, "ages", "(II)I"⟩
theorem dX9_ages_0 : decode cX9_ages 0 = .ok (.iload_n 2, 1) := by decide +kernel
theorem dX9_ages_1 : decode cX9_ages 1 = .ok (.ireturn, 1) := by decide +kernel
abbrev cX9_kind : ByteArray := prog_3_method_2_code
def yX9_kind : MethodName := ⟨RX9, "kind", "()I"⟩
theorem dX9_kind_0 : decode cX9_kind 0 = .ok (.iconst 1, 1) := by decide +kernel
theorem dX9_kind_1 : decode cX9_kind 1 = .ok (.ireturn, 1) := by decide +kernel
abbrev cX9_size : ByteArray := prog_3_method_4_code
def yX9_size : MethodName := ⟨RX9, "size", "(LYoungerBack$Trail;LYoungerBack$League;)I"⟩
def dkwX9_size_0 : List UInt8 := [43, 16, 11, 182, 0, 9, 42, 43, 44, 183, 0, 15, 42, 43, 44, 182, 0, 19, 96, 172]
abbrev dktX9_size_0 : List UInt8 := dkwX9_size_0 ++ []
theorem dksX9_size_0 : cX9_size.data.toList.drop 0 = dktX9_size_0 := by decide +kernel
theorem dX9_size_0 : decode cX9_size 0 = .ok (.aload_n 1, 1) := dk_43 (dk_at dksX9_size_0 0 rfl rfl)
theorem dX9_size_1 : decode cX9_size 1 = .ok (.bipush 11, 2) := dk_16 11 (dk_at dksX9_size_0 1 rfl rfl)
theorem dX9_size_3 : decode cX9_size 3 = .ok (.invokevirtual 9, 3) := dk_182 0 9 (dk_at dksX9_size_0 3 rfl rfl)
theorem dX9_size_6 : decode cX9_size 6 = .ok (.aload_n 0, 1) := dk_42 (dk_at dksX9_size_0 6 rfl rfl)
theorem dX9_size_7 : decode cX9_size 7 = .ok (.aload_n 1, 1) := dk_43 (dk_at dksX9_size_0 7 rfl rfl)
theorem dX9_size_8 : decode cX9_size 8 = .ok (.aload_n 2, 1) := dk_44 (dk_at dksX9_size_0 8 rfl rfl)
theorem dX9_size_9 : decode cX9_size 9 = .ok (.invokespecial 15, 3) := dk_183 0 15 (dk_at dksX9_size_0 9 rfl rfl)
theorem dX9_size_12 : decode cX9_size 12 = .ok (.aload_n 0, 1) := dk_42 (dk_at dksX9_size_0 12 rfl rfl)
theorem dX9_size_13 : decode cX9_size 13 = .ok (.aload_n 1, 1) := dk_43 (dk_at dksX9_size_0 13 rfl rfl)
theorem dX9_size_14 : decode cX9_size 14 = .ok (.aload_n 2, 1) := dk_44 (dk_at dksX9_size_0 14 rfl rfl)
theorem dX9_size_15 : decode cX9_size 15 = .ok (.invokevirtual 19, 3) := dk_182 0 19 (dk_at dksX9_size_0 15 rfl rfl)
theorem dX9_size_18 : decode cX9_size 18 = .ok (.iadd, 1) := dk_96 (dk_at dksX9_size_0 18 rfl rfl)
theorem dX9_size_19 : decode cX9_size 19 = .ok (.ireturn, 1) := dk_172 (dk_at dksX9_size_0 19 rfl rfl)
abbrev cX9_mark : ByteArray := prog_3_method_5_code
def yX9_mark : MethodName := ⟨RX9, "mark", "(LYoungerBack$Trail;LYoungerBack$League;)I"⟩
def dkwX9_mark_0 : List UInt8 := [43, 16, 21, 182, 0, 9, 42, 43, 44, 183, 0, 24, 44, 180, 0, 25, 42, 182, 0, 31, 46, 96, 172]
abbrev dktX9_mark_0 : List UInt8 := dkwX9_mark_0 ++ []
theorem dksX9_mark_0 : cX9_mark.data.toList.drop 0 = dktX9_mark_0 := by decide +kernel
theorem dX9_mark_0 : decode cX9_mark 0 = .ok (.aload_n 1, 1) := dk_43 (dk_at dksX9_mark_0 0 rfl rfl)
theorem dX9_mark_1 : decode cX9_mark 1 = .ok (.bipush 21, 2) := dk_16 21 (dk_at dksX9_mark_0 1 rfl rfl)
theorem dX9_mark_3 : decode cX9_mark 3 = .ok (.invokevirtual 9, 3) := dk_182 0 9 (dk_at dksX9_mark_0 3 rfl rfl)
theorem dX9_mark_6 : decode cX9_mark 6 = .ok (.aload_n 0, 1) := dk_42 (dk_at dksX9_mark_0 6 rfl rfl)
theorem dX9_mark_7 : decode cX9_mark 7 = .ok (.aload_n 1, 1) := dk_43 (dk_at dksX9_mark_0 7 rfl rfl)
theorem dX9_mark_8 : decode cX9_mark 8 = .ok (.aload_n 2, 1) := dk_44 (dk_at dksX9_mark_0 8 rfl rfl)
theorem dX9_mark_9 : decode cX9_mark 9 = .ok (.invokespecial 24, 3) := dk_183 0 24 (dk_at dksX9_mark_0 9 rfl rfl)
theorem dX9_mark_12 : decode cX9_mark 12 = .ok (.aload_n 2, 1) := dk_44 (dk_at dksX9_mark_0 12 rfl rfl)
theorem dX9_mark_13 : decode cX9_mark 13 = .ok (.getfield 25, 3) := dk_180 0 25 (dk_at dksX9_mark_0 13 rfl rfl)
theorem dX9_mark_16 : decode cX9_mark 16 = .ok (.aload_n 0, 1) := dk_42 (dk_at dksX9_mark_0 16 rfl rfl)
theorem dX9_mark_17 : decode cX9_mark 17 = .ok (.invokevirtual 31, 3) := dk_182 0 31 (dk_at dksX9_mark_0 17 rfl rfl)
theorem dX9_mark_20 : decode cX9_mark 20 = .ok (.iaload, 1) := dk_46 (dk_at dksX9_mark_0 20 rfl rfl)
theorem dX9_mark_21 : decode cX9_mark 21 = .ok (.iadd, 1) := dk_96 (dk_at dksX9_mark_0 21 rfl rfl)
theorem dX9_mark_22 : decode cX9_mark 22 = .ok (.ireturn, 1) := dk_172 (dk_at dksX9_mark_0 22 rfl rfl)
theorem q87 : (Jvm.Cond.initialized "YoungerBack$Captain") ∈ lw_all := lw_g (lw_at lw_m1 28 rfl) rfl
theorem q165 : (Jvm.Cond.fieldLink "YoungerBack$Captain" (25 : Nat) "YoungerBack$League" "at" "[I") ∈ lw_all := lw_g (lw_at lw_m1 106 rfl) rfl
theorem q751 : (Jvm.Cond.instantiable "YoungerBack$Captain" (2 : Nat)) ∈ lw_all := lw_g (lw_at lw_m3 212 rfl) rfl
theorem q753 : (Jvm.Cond.instanceMethod ({ cls := "YoungerBack$Captain", name := "<init>", desc := "(II)V" } : Jvm.MethodName)) ∈ lw_all := lw_g (lw_at lw_m3 214 rfl) rfl
theorem q754 : (Jvm.Cond.code ({ cls := "YoungerBack$Captain", name := "<init>", desc := "(II)V" } : Jvm.MethodName) prog_3_method_1_code (3 : Nat) (Option.none : Option Jvm.ClassFile.FieldType)) ∈ lw_all := lw_g (lw_at lw_m3 215 rfl) rfl
theorem q755 : (Jvm.Cond.methodLink "YoungerBack$Captain" (3 : Nat) ({ cls := "YoungerBack$Person", name := "<init>", desc := "(II)V" } : Jvm.MethodName)) ∈ lw_all := lw_g (lw_at lw_m3 216 rfl) rfl
theorem q762 : (Jvm.Cond.laysFinal "YoungerBack$Captain" "YoungerBack$Person" "number" "I") ∈ lw_all := lw_g (lw_at lw_m3 223 rfl) rfl
theorem q764 : (Jvm.Cond.laysFinal "YoungerBack$Captain" "YoungerBack$Person" "age" "I") ∈ lw_all := lw_g (lw_at lw_m3 225 rfl) rfl
theorem q766 : (Jvm.Cond.superclass "YoungerBack$Captain" "YoungerBack$Person") ∈ lw_all := lw_g (lw_at lw_m3 227 rfl) rfl
theorem q833 : (Jvm.Cond.selects "YoungerBack$Captain" ({ cls := "java/lang/Object", name := "getClass", desc := "()Ljava/lang/Class;" } : Jvm.MethodName) ({ cls := "java/lang/Object", name := "getClass", desc := "()Ljava/lang/Class;" } : Jvm.MethodName)) ∈ lw_all := lw_g (lw_at lw_m4 54 rfl) rfl
theorem q913 : (Jvm.Cond.selects "YoungerBack$Captain" ({ cls := "YoungerBack$Person", name := "may", desc := "(I)Z" } : Jvm.MethodName) ({ cls := "YoungerBack$Person", name := "may", desc := "(I)Z" } : Jvm.MethodName)) ∈ lw_all := lw_g (lw_at lw_m4 134 rfl) rfl
theorem q944 : (Jvm.Cond.selects "YoungerBack$Captain" ({ cls := "YoungerBack$Person", name := "ages", desc := "(II)I" } : Jvm.MethodName) ({ cls := "YoungerBack$Captain", name := "ages", desc := "(II)I" } : Jvm.MethodName)) ∈ lw_all := lw_g (lw_at lw_m4 165 rfl) rfl
theorem q945 : (Jvm.Cond.instanceMethod ({ cls := "YoungerBack$Captain", name := "ages", desc := "(II)I" } : Jvm.MethodName)) ∈ lw_all := lw_g (lw_at lw_m4 166 rfl) rfl
theorem q946 : (Jvm.Cond.code ({ cls := "YoungerBack$Captain", name := "ages", desc := "(II)I" } : Jvm.MethodName) prog_3_method_3_code (3 : Nat) (Option.some Jvm.ClassFile.FieldType.int)) ∈ lw_all := lw_g (lw_at lw_m4 167 rfl) rfl
theorem q1114 : (Jvm.Cond.selects "YoungerBack$Captain" ({ cls := "YoungerBack$Person", name := "kind", desc := "()I" } : Jvm.MethodName) ({ cls := "YoungerBack$Captain", name := "kind", desc := "()I" } : Jvm.MethodName)) ∈ lw_all := lw_g (lw_at lw_m5 95 rfl) rfl
theorem q1115 : (Jvm.Cond.instanceMethod ({ cls := "YoungerBack$Captain", name := "kind", desc := "()I" } : Jvm.MethodName)) ∈ lw_all := lw_g (lw_at lw_m5 96 rfl) rfl
theorem q1116 : (Jvm.Cond.code ({ cls := "YoungerBack$Captain", name := "kind", desc := "()I" } : Jvm.MethodName) prog_3_method_2_code (1 : Nat) (Option.some Jvm.ClassFile.FieldType.int)) ∈ lw_all := lw_g (lw_at lw_m5 97 rfl) rfl
theorem q1149 : (Jvm.Cond.selects "YoungerBack$Captain" ({ cls := "YoungerBack$Person", name := "number", desc := "()I" } : Jvm.MethodName) ({ cls := "YoungerBack$Person", name := "number", desc := "()I" } : Jvm.MethodName)) ∈ lw_all := lw_g (lw_at lw_m5 130 rfl) rfl
theorem q1173 : (Jvm.Cond.selects "YoungerBack$Captain" ({ cls := "YoungerBack$Person", name := "size", desc := "(LYoungerBack$Trail;LYoungerBack$League;)I" } : Jvm.MethodName) ({ cls := "YoungerBack$Captain", name := "size", desc := "(LYoungerBack$Trail;LYoungerBack$League;)I" } : Jvm.MethodName)) ∈ lw_all := lw_g (lw_at lw_m5 154 rfl) rfl
theorem q1174 : (Jvm.Cond.instanceMethod ({ cls := "YoungerBack$Captain", name := "size", desc := "(LYoungerBack$Trail;LYoungerBack$League;)I" } : Jvm.MethodName)) ∈ lw_all := lw_g (lw_at lw_m5 155 rfl) rfl
theorem q1175 : (Jvm.Cond.code ({ cls := "YoungerBack$Captain", name := "size", desc := "(LYoungerBack$Trail;LYoungerBack$League;)I" } : Jvm.MethodName) prog_3_method_4_code (3 : Nat) (Option.some Jvm.ClassFile.FieldType.int)) ∈ lw_all := lw_g (lw_at lw_m5 156 rfl) rfl
theorem q1176 : (Jvm.Cond.methodLink "YoungerBack$Captain" (9 : Nat) ({ cls := "YoungerBack$Trail", name := "begins", desc := "(I)V" } : Jvm.MethodName)) ∈ lw_all := lw_g (lw_at lw_m5 157 rfl) rfl
theorem q1177 : (Jvm.Cond.methodLink "YoungerBack$Captain" (15 : Nat) ({ cls := "YoungerBack$Person", name := "size", desc := "(LYoungerBack$Trail;LYoungerBack$League;)I" } : Jvm.MethodName)) ∈ lw_all := lw_g (lw_at lw_m5 158 rfl) rfl
theorem q1178 : (Jvm.Cond.methodLink "YoungerBack$Captain" (19 : Nat) ({ cls := "YoungerBack$Captain", name := "mark", desc := "(LYoungerBack$Trail;LYoungerBack$League;)I" } : Jvm.MethodName)) ∈ lw_all := lw_g (lw_at lw_m5 159 rfl) rfl
theorem q1179 : (Jvm.Cond.instanceMethod ({ cls := "YoungerBack$Captain", name := "mark", desc := "(LYoungerBack$Trail;LYoungerBack$League;)I" } : Jvm.MethodName)) ∈ lw_all := lw_g (lw_at lw_m5 160 rfl) rfl
theorem q1180 : (Jvm.Cond.selects "YoungerBack$Captain" ({ cls := "YoungerBack$Captain", name := "mark", desc := "(LYoungerBack$Trail;LYoungerBack$League;)I" } : Jvm.MethodName) ({ cls := "YoungerBack$Captain", name := "mark", desc := "(LYoungerBack$Trail;LYoungerBack$League;)I" } : Jvm.MethodName)) ∈ lw_all := lw_g (lw_at lw_m5 161 rfl) rfl
theorem q1181 : (Jvm.Cond.sameMethod "YoungerBack$Captain" "YoungerBack$Captain" "mark" "(LYoungerBack$Trail;LYoungerBack$League;)I") ∈ lw_all := lw_g (lw_at lw_m5 162 rfl) rfl
theorem q1192 : (Jvm.Cond.code ({ cls := "YoungerBack$Captain", name := "mark", desc := "(LYoungerBack$Trail;LYoungerBack$League;)I" } : Jvm.MethodName) prog_3_method_5_code (3 : Nat) (Option.some Jvm.ClassFile.FieldType.int)) ∈ lw_all := lw_g (lw_at lw_m5 173 rfl) rfl
theorem q1206 : (Jvm.Cond.castable "YoungerBack$Captain" "YoungerBack$Marked") ∈ lw_tbl := lw_at lw_m5 187 rfl
theorem q1207 : (Jvm.Cond.selects "YoungerBack$Captain" ({ cls := "YoungerBack$Marked", name := "number", desc := "()I" } : Jvm.MethodName) ({ cls := "YoungerBack$Person", name := "number", desc := "()I" } : Jvm.MethodName)) ∈ lw_all := lw_g (lw_at lw_m5 188 rfl) rfl
theorem q1208 : (Jvm.Cond.unhidden "YoungerBack$Captain" "number" "()I") ∈ lw_tbl := lw_at lw_m5 189 rfl
theorem q1218 : (Jvm.Cond.methodLink "YoungerBack$Captain" (31 : Nat) ({ cls := "YoungerBack$Captain", name := "number", desc := "()I" } : Jvm.MethodName)) ∈ lw_all := lw_g (lw_at lw_m5 199 rfl) rfl
theorem q1219 : (Jvm.Cond.sameMethod "YoungerBack$Captain" "YoungerBack$Person" "number" "()I") ∈ lw_all := lw_g (lw_at lw_m5 200 rfl) rfl
theorem q1221 : (Jvm.Cond.selects "YoungerBack$Captain" ({ cls := "YoungerBack$Captain", name := "number", desc := "()I" } : Jvm.MethodName) ({ cls := "YoungerBack$Person", name := "number", desc := "()I" } : Jvm.MethodName)) ∈ lw_all := lw_g (lw_at lw_m5 202 rfl) rfl
theorem q1236 : (Jvm.Cond.selects "YoungerBack$Captain" ({ cls := "YoungerBack$Marked", name := "mark", desc := "(LYoungerBack$Trail;LYoungerBack$League;)I" } : Jvm.MethodName) ({ cls := "YoungerBack$Captain", name := "mark", desc := "(LYoungerBack$Trail;LYoungerBack$League;)I" } : Jvm.MethodName)) ∈ lw_all := lw_g (lw_at lw_m5 217 rfl) rfl
theorem q1629 : (Jvm.Cond.sameMethod "YoungerBack$Captain" "YoungerBack$Captain" "ages" "(II)I") ∈ lw_all := lw_g (lw_at lw_m7 130 rfl) rfl
theorem q1631 : (Jvm.Cond.sameMethod "YoungerBack$Captain" "YoungerBack$Captain" "size" "(LYoungerBack$Trail;LYoungerBack$League;)I") ∈ lw_all := lw_g (lw_at lw_m7 132 rfl) rfl
theorem q1636 : (Jvm.Cond.castable "YoungerBack$Captain" "YoungerBack$Person") ∈ lw_tbl := lw_at lw_m7 137 rfl
theorem q1655 : (Jvm.Cond.castable "YoungerBack$Captain" "java/lang/Object") ∈ lw_tbl := lw_at lw_m7 156 rfl
theorem in_X9 : ∀ w ∈ wsX90, w ∈ lw_all := lw_in wsX90 [762, 764] (by decide +kernel) (by decide +kernel)
