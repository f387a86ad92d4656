/-! MossLawnModel -/
set_option maxRecDepth 100000
def RX9 : String := "MossLawnModel"
def TX9 : u_T := fun k => match k with
  | 0 => ("MossLawnModel", "fails", "I", false)
  | 1 => ("MossLawnModel", "changes", "I", false)
  | 2 => ("MossLawnModel", "causes", "I", false)
  | 3 => ("MossLawnModel", "kept", "I", false)
  | 4 => ("MossLawnModel", "error", "I", false)
  | 5 => ("MossLawnModel", "isSaved", "Z", false)
  | 6 => ("MossLawnModel", "v", "[I", true)
  | 7 => ("MossLawnModel", "before", "[I", true)
  | 8 => ("MossLawnModel", "aside", "[I", true)
  | 9 => ("MossLawnModel", "saved", "[I", true)
  | 10 => ("MossLawnModel", "past", "[I", true)
  | 11 => ("MossLawnModel", "now", "[I", true)
  | 12 => ("MossLawnModel", "last", "[I", true)
  | 13 => ("MossLawnModel", "far", "[I", true)
  | 14 => ("MossLawnModel", "queue", "[I", true)
  | 15 => ("MossLawnModel", "input", "[I", true)
  | 16 => ("MossLawnModel", "line", "[I", true)
  | 17 => ("MossLawnModel", "inputN", "I", false)
  | 18 => ("MossLawnModel", "lineN", "I", false)
  | 19 => ("MossLawnModel", "here", "I", false)
  | 20 => ("MossLawnModel", "isWrong", "Z", false)
  | _ => ("MossLawnModel", "isDoing", "Z", false)
def tyX9 : Nat → FieldType := fun k => match k with
  | 0 => .int
  | 1 => .int
  | 2 => .int
  | 3 => .int
  | 4 => .int
  | 5 => .boolean
  | 6 => .array .int
  | 7 => .array .int
  | 8 => .array .int
  | 9 => .array .int
  | 10 => .array .int
  | 11 => .array .int
  | 12 => .array .int
  | 13 => .array .int
  | 14 => .array .int
  | 15 => .array .int
  | 16 => .array .int
  | 17 => .int
  | 18 => .int
  | 19 => .int
  | 20 => .boolean
  | _ => .boolean
abbrev wsX90 : List Cond := u_ws RX9 TX9 22
set_option maxRecDepth 100000 in
theorem nmX9 : ∀ a, a < 22 → ∀ b, b < 22 → a ≠ b → (TX9 a).2.1 ≠ (TX9 b).2.1 := by decide +kernel
set_option maxRecDepth 100000 in
theorem tyX9_ok : ∀ k, k < 22 → parseFieldDescriptor (TX9 k).2.2.1 = some (tyX9 k) := by decide +kernel
abbrev cX9_init : ByteArray := prog_23_method_1_code
def yX9_init : MethodName := ⟨RX9, "<init>", "()V"⟩
def dkwX9_init_4 : List UInt8 := [42, 16, 12, 188, 10, 181, 0, 44, 42, 182, 0, 47, 177]
abbrev dktX9_init_4 : List UInt8 := dkwX9_init_4 ++ []
def dkwX9_init_3 : List UInt8 := [42, 16, 30, 188, 10, 181, 0, 35, 42, 16, 30, 188, 10, 181, 0, 38, 42, 16, 60, 188, 10, 181, 0, 41]
abbrev dktX9_init_3 : List UInt8 := dkwX9_init_3 ++ dktX9_init_4
def dkwX9_init_2 : List UInt8 := [17, 6, 192, 188, 10, 181, 0, 26, 42, 16, 6, 188, 10, 181, 0, 29, 42, 16, 6, 188, 10, 181, 0, 32]
abbrev dktX9_init_2 : List UInt8 := dkwX9_init_2 ++ dktX9_init_3
def dkwX9_init_1 : List UInt8 := [181, 0, 17, 42, 17, 0, 216, 188, 10, 181, 0, 20, 42, 17, 0, 216, 188, 10, 181, 0, 23, 42]
abbrev dktX9_init_1 : List UInt8 := dkwX9_init_1 ++ dktX9_init_2
def dkwX9_init_0 : List UInt8 := [42, 183, 0, 1, 42, 2, 181, 0, 9, 42, 17, 0, 216, 188, 10, 181, 0, 13, 42, 17, 0, 216, 188, 10]
abbrev dktX9_init_0 : List UInt8 := dkwX9_init_0 ++ dktX9_init_1
theorem dksX9_init_0 : cX9_init.data.toList.drop 0 = dktX9_init_0 := by decide +kernel
theorem dksX9_init_1 : cX9_init.data.toList.drop 24 = dktX9_init_1 := dk_seg dksX9_init_0 24 rfl rfl
theorem dksX9_init_2 : cX9_init.data.toList.drop 46 = dktX9_init_2 := dk_seg dksX9_init_1 22 rfl rfl
theorem dksX9_init_3 : cX9_init.data.toList.drop 70 = dktX9_init_3 := dk_seg dksX9_init_2 24 rfl rfl
theorem dksX9_init_4 : cX9_init.data.toList.drop 94 = dktX9_init_4 := dk_seg dksX9_init_3 24 rfl rfl
theorem dX9_init_0 : decode cX9_init 0 = .ok (.aload_n 0, 1) := dk_42 (dk_at dksX9_init_0 0 rfl rfl)
theorem dX9_init_1 : decode cX9_init 1 = .ok (.invokespecial 1, 3) := dk_183 0 1 (dk_at dksX9_init_0 1 rfl rfl)
theorem dX9_init_4 : decode cX9_init 4 = .ok (.aload_n 0, 1) := dk_42 (dk_at dksX9_init_0 4 rfl rfl)
theorem dX9_init_5 : decode cX9_init 5 = .ok (.iconst (-1), 1) := dk_2 (dk_at dksX9_init_0 5 rfl rfl)
theorem dX9_init_6 : decode cX9_init 6 = .ok (.putfield 9, 3) := dk_181 0 9 (dk_at dksX9_init_0 6 rfl rfl)
theorem dX9_init_9 : decode cX9_init 9 = .ok (.aload_n 0, 1) := dk_42 (dk_at dksX9_init_0 9 rfl rfl)
theorem dX9_init_10 : decode cX9_init 10 = .ok (.sipush 216, 3) := dk_17 0 216 (dk_at dksX9_init_0 10 rfl rfl)
theorem dX9_init_13 : decode cX9_init 13 = .ok (.newarray .int, 2) := dk_188_10 (dk_at dksX9_init_0 13 rfl rfl)
theorem dX9_init_15 : decode cX9_init 15 = .ok (.putfield 13, 3) := dk_181 0 13 (dk_at dksX9_init_0 15 rfl rfl)
theorem dX9_init_18 : decode cX9_init 18 = .ok (.aload_n 0, 1) := dk_42 (dk_at dksX9_init_0 18 rfl rfl)
theorem dX9_init_19 : decode cX9_init 19 = .ok (.sipush 216, 3) := dk_17 0 216 (dk_at dksX9_init_0 19 rfl rfl)
theorem dX9_init_22 : decode cX9_init 22 = .ok (.newarray .int, 2) := dk_188_10 (dk_at dksX9_init_0 22 rfl rfl)
theorem dX9_init_24 : decode cX9_init 24 = .ok (.putfield 17, 3) := dk_181 0 17 (dk_at dksX9_init_1 0 rfl rfl)
theorem dX9_init_27 : decode cX9_init 27 = .ok (.aload_n 0, 1) := dk_42 (dk_at dksX9_init_1 3 rfl rfl)
theorem dX9_init_28 : decode cX9_init 28 = .ok (.sipush 216, 3) := dk_17 0 216 (dk_at dksX9_init_1 4 rfl rfl)
theorem dX9_init_31 : decode cX9_init 31 = .ok (.newarray .int, 2) := dk_188_10 (dk_at dksX9_init_1 7 rfl rfl)
theorem dX9_init_33 : decode cX9_init 33 = .ok (.putfield 20, 3) := dk_181 0 20 (dk_at dksX9_init_1 9 rfl rfl)
theorem dX9_init_36 : decode cX9_init 36 = .ok (.aload_n 0, 1) := dk_42 (dk_at dksX9_init_1 12 rfl rfl)
theorem dX9_init_37 : decode cX9_init 37 = .ok (.sipush 216, 3) := dk_17 0 216 (dk_at dksX9_init_1 13 rfl rfl)
theorem dX9_init_40 : decode cX9_init 40 = .ok (.newarray .int, 2) := dk_188_10 (dk_at dksX9_init_1 16 rfl rfl)
theorem dX9_init_42 : decode cX9_init 42 = .ok (.putfield 23, 3) := dk_181 0 23 (dk_at dksX9_init_1 18 rfl rfl)
theorem dX9_init_45 : decode cX9_init 45 = .ok (.aload_n 0, 1) := dk_42 (dk_at dksX9_init_1 21 rfl rfl)
theorem dX9_init_46 : decode cX9_init 46 = .ok (.sipush 1728, 3) := dk_17 6 192 (dk_at dksX9_init_2 0 rfl rfl)
theorem dX9_init_49 : decode cX9_init 49 = .ok (.newarray .int, 2) := dk_188_10 (dk_at dksX9_init_2 3 rfl rfl)
theorem dX9_init_51 : decode cX9_init 51 = .ok (.putfield 26, 3) := dk_181 0 26 (dk_at dksX9_init_2 5 rfl rfl)
theorem dX9_init_54 : decode cX9_init 54 = .ok (.aload_n 0, 1) := dk_42 (dk_at dksX9_init_2 8 rfl rfl)
theorem dX9_init_55 : decode cX9_init 55 = .ok (.bipush 6, 2) := dk_16 6 (dk_at dksX9_init_2 9 rfl rfl)
theorem dX9_init_57 : decode cX9_init 57 = .ok (.newarray .int, 2) := dk_188_10 (dk_at dksX9_init_2 11 rfl rfl)
theorem dX9_init_59 : decode cX9_init 59 = .ok (.putfield 29, 3) := dk_181 0 29 (dk_at dksX9_init_2 13 rfl rfl)
theorem dX9_init_62 : decode cX9_init 62 = .ok (.aload_n 0, 1) := dk_42 (dk_at dksX9_init_2 16 rfl rfl)
theorem dX9_init_63 : decode cX9_init 63 = .ok (.bipush 6, 2) := dk_16 6 (dk_at dksX9_init_2 17 rfl rfl)
theorem dX9_init_65 : decode cX9_init 65 = .ok (.newarray .int, 2) := dk_188_10 (dk_at dksX9_init_2 19 rfl rfl)
theorem dX9_init_67 : decode cX9_init 67 = .ok (.putfield 32, 3) := dk_181 0 32 (dk_at dksX9_init_2 21 rfl rfl)
theorem dX9_init_70 : decode cX9_init 70 = .ok (.aload_n 0, 1) := dk_42 (dk_at dksX9_init_3 0 rfl rfl)
theorem dX9_init_71 : decode cX9_init 71 = .ok (.bipush 30, 2) := dk_16 30 (dk_at dksX9_init_3 1 rfl rfl)
theorem dX9_init_73 : decode cX9_init 73 = .ok (.newarray .int, 2) := dk_188_10 (dk_at dksX9_init_3 3 rfl rfl)
theorem dX9_init_75 : decode cX9_init 75 = .ok (.putfield 35, 3) := dk_181 0 35 (dk_at dksX9_init_3 5 rfl rfl)
theorem dX9_init_78 : decode cX9_init 78 = .ok (.aload_n 0, 1) := dk_42 (dk_at dksX9_init_3 8 rfl rfl)
theorem dX9_init_79 : decode cX9_init 79 = .ok (.bipush 30, 2) := dk_16 30 (dk_at dksX9_init_3 9 rfl rfl)
theorem dX9_init_81 : decode cX9_init 81 = .ok (.newarray .int, 2) := dk_188_10 (dk_at dksX9_init_3 11 rfl rfl)
theorem dX9_init_83 : decode cX9_init 83 = .ok (.putfield 38, 3) := dk_181 0 38 (dk_at dksX9_init_3 13 rfl rfl)
theorem dX9_init_86 : decode cX9_init 86 = .ok (.aload_n 0, 1) := dk_42 (dk_at dksX9_init_3 16 rfl rfl)
theorem dX9_init_87 : decode cX9_init 87 = .ok (.bipush 60, 2) := dk_16 60 (dk_at dksX9_init_3 17 rfl rfl)
theorem dX9_init_89 : decode cX9_init 89 = .ok (.newarray .int, 2) := dk_188_10 (dk_at dksX9_init_3 19 rfl rfl)
theorem dX9_init_91 : decode cX9_init 91 = .ok (.putfield 41, 3) := dk_181 0 41 (dk_at dksX9_init_3 21 rfl rfl)
theorem dX9_init_94 : decode cX9_init 94 = .ok (.aload_n 0, 1) := dk_42 (dk_at dksX9_init_4 0 rfl rfl)
theorem dX9_init_95 : decode cX9_init 95 = .ok (.bipush 12, 2) := dk_16 12 (dk_at dksX9_init_4 1 rfl rfl)
theorem dX9_init_97 : decode cX9_init 97 = .ok (.newarray .int, 2) := dk_188_10 (dk_at dksX9_init_4 3 rfl rfl)
theorem dX9_init_99 : decode cX9_init 99 = .ok (.putfield 44, 3) := dk_181 0 44 (dk_at dksX9_init_4 5 rfl rfl)
theorem dX9_init_102 : decode cX9_init 102 = .ok (.aload_n 0, 1) := dk_42 (dk_at dksX9_init_4 8 rfl rfl)
theorem dX9_init_103 : decode cX9_init 103 = .ok (.invokevirtual 47, 3) := dk_182 0 47 (dk_at dksX9_init_4 9 rfl rfl)
theorem dX9_init_106 : decode cX9_init 106 = .ok (.return_, 1) := dk_177 (dk_at dksX9_init_4 12 rfl rfl)
abbrev cX9_makes : ByteArray := prog_23_method_2_code
def yX9_makes : MethodName := ⟨RX9, "makes", "()V"⟩
def dkwX9_makes_4 : List UInt8 := [167, 255, 237, 177]
abbrev dktX9_makes_4 : List UInt8 := dkwX9_makes_4 ++ []
def dkwX9_makes_3 : List UInt8 := [167, 255, 226, 3, 60, 27, 8, 162, 0, 20, 42, 180, 0, 13, 17, 0, 191, 27, 96, 6, 79, 132, 1, 1]
abbrev dktX9_makes_3 : List UInt8 := dkwX9_makes_3 ++ dktX9_makes_4
def dkwX9_makes_2 : List UInt8 := [180, 0, 13, 16, 12, 27, 96, 5, 79, 42, 180, 0, 13, 16, 42, 27, 96, 16, 10, 79, 132, 1, 1]
abbrev dktX9_makes_2 : List UInt8 := dkwX9_makes_2 ++ dktX9_makes_3
def dkwX9_makes_1 : List UInt8 := [180, 0, 13, 4, 4, 79, 42, 180, 0, 13, 7, 8, 79, 3, 60, 27, 16, 30, 162, 0, 30, 42]
abbrev dktX9_makes_1 : List UInt8 := dkwX9_makes_1 ++ dktX9_makes_2
def dkwX9_makes_0 : List UInt8 := [3, 60, 27, 17, 0, 216, 162, 0, 16, 42, 180, 0, 13, 27, 3, 79, 132, 1, 1, 167, 255, 239, 42]
abbrev dktX9_makes_0 : List UInt8 := dkwX9_makes_0 ++ dktX9_makes_1
theorem dksX9_makes_0 : cX9_makes.data.toList.drop 0 = dktX9_makes_0 := by decide +kernel
theorem dksX9_makes_1 : cX9_makes.data.toList.drop 23 = dktX9_makes_1 := dk_seg dksX9_makes_0 23 rfl rfl
theorem dksX9_makes_2 : cX9_makes.data.toList.drop 45 = dktX9_makes_2 := dk_seg dksX9_makes_1 22 rfl rfl
theorem dksX9_makes_3 : cX9_makes.data.toList.drop 68 = dktX9_makes_3 := dk_seg dksX9_makes_2 23 rfl rfl
theorem dksX9_makes_4 : cX9_makes.data.toList.drop 92 = dktX9_makes_4 := dk_seg dksX9_makes_3 24 rfl rfl
theorem dX9_makes_0 : decode cX9_makes 0 = .ok (.iconst 0, 1) := dk_3 (dk_at dksX9_makes_0 0 rfl rfl)
theorem dX9_makes_1 : decode cX9_makes 1 = .ok (.istore_n 1, 1) := dk_60 (dk_at dksX9_makes_0 1 rfl rfl)
theorem dX9_makes_2 : decode cX9_makes 2 = .ok (.iload_n 1, 1) := dk_27 (dk_at dksX9_makes_0 2 rfl rfl)
theorem dX9_makes_3 : decode cX9_makes 3 = .ok (.sipush 216, 3) := dk_17 0 216 (dk_at dksX9_makes_0 3 rfl rfl)
theorem dX9_makes_6 : decode cX9_makes 6 = .ok (.if_icmp .ge 16, 3) := dk_162 0 16 (dk_at dksX9_makes_0 6 rfl rfl)
theorem dX9_makes_9 : decode cX9_makes 9 = .ok (.aload_n 0, 1) := dk_42 (dk_at dksX9_makes_0 9 rfl rfl)
theorem dX9_makes_10 : decode cX9_makes 10 = .ok (.getfield 13, 3) := dk_180 0 13 (dk_at dksX9_makes_0 10 rfl rfl)
theorem dX9_makes_13 : decode cX9_makes 13 = .ok (.iload_n 1, 1) := dk_27 (dk_at dksX9_makes_0 13 rfl rfl)
theorem dX9_makes_14 : decode cX9_makes 14 = .ok (.iconst 0, 1) := dk_3 (dk_at dksX9_makes_0 14 rfl rfl)
theorem dX9_makes_15 : decode cX9_makes 15 = .ok (.iastore, 1) := dk_79 (dk_at dksX9_makes_0 15 rfl rfl)
theorem dX9_makes_16 : decode cX9_makes 16 = .ok (.iinc 1 1, 3) := dk_132 1 1 (dk_at dksX9_makes_0 16 rfl rfl)
theorem dX9_makes_19 : decode cX9_makes 19 = .ok (.goto (-17), 3) := dk_167 255 239 (dk_at dksX9_makes_0 19 rfl rfl)
theorem dX9_makes_22 : decode cX9_makes 22 = .ok (.aload_n 0, 1) := dk_42 (dk_at dksX9_makes_0 22 rfl rfl)
theorem dX9_makes_23 : decode cX9_makes 23 = .ok (.getfield 13, 3) := dk_180 0 13 (dk_at dksX9_makes_1 0 rfl rfl)
theorem dX9_makes_26 : decode cX9_makes 26 = .ok (.iconst 1, 1) := dk_4 (dk_at dksX9_makes_1 3 rfl rfl)
theorem dX9_makes_27 : decode cX9_makes 27 = .ok (.iconst 1, 1) := dk_4 (dk_at dksX9_makes_1 4 rfl rfl)
theorem dX9_makes_28 : decode cX9_makes 28 = .ok (.iastore, 1) := dk_79 (dk_at dksX9_makes_1 5 rfl rfl)
theorem dX9_makes_29 : decode cX9_makes 29 = .ok (.aload_n 0, 1) := dk_42 (dk_at dksX9_makes_1 6 rfl rfl)
theorem dX9_makes_30 : decode cX9_makes 30 = .ok (.getfield 13, 3) := dk_180 0 13 (dk_at dksX9_makes_1 7 rfl rfl)
theorem dX9_makes_33 : decode cX9_makes 33 = .ok (.iconst 4, 1) := dk_7 (dk_at dksX9_makes_1 10 rfl rfl)
theorem dX9_makes_34 : decode cX9_makes 34 = .ok (.iconst 5, 1) := dk_8 (dk_at dksX9_makes_1 11 rfl rfl)
theorem dX9_makes_35 : decode cX9_makes 35 = .ok (.iastore, 1) := dk_79 (dk_at dksX9_makes_1 12 rfl rfl)
theorem dX9_makes_36 : decode cX9_makes 36 = .ok (.iconst 0, 1) := dk_3 (dk_at dksX9_makes_1 13 rfl rfl)
theorem dX9_makes_37 : decode cX9_makes 37 = .ok (.istore_n 1, 1) := dk_60 (dk_at dksX9_makes_1 14 rfl rfl)
theorem dX9_makes_38 : decode cX9_makes 38 = .ok (.iload_n 1, 1) := dk_27 (dk_at dksX9_makes_1 15 rfl rfl)
theorem dX9_makes_39 : decode cX9_makes 39 = .ok (.bipush 30, 2) := dk_16 30 (dk_at dksX9_makes_1 16 rfl rfl)
theorem dX9_makes_41 : decode cX9_makes 41 = .ok (.if_icmp .ge 30, 3) := dk_162 0 30 (dk_at dksX9_makes_1 18 rfl rfl)
theorem dX9_makes_44 : decode cX9_makes 44 = .ok (.aload_n 0, 1) := dk_42 (dk_at dksX9_makes_1 21 rfl rfl)
theorem dX9_makes_45 : decode cX9_makes 45 = .ok (.getfield 13, 3) := dk_180 0 13 (dk_at dksX9_makes_2 0 rfl rfl)
theorem dX9_makes_48 : decode cX9_makes 48 = .ok (.bipush 12, 2) := dk_16 12 (dk_at dksX9_makes_2 3 rfl rfl)
theorem dX9_makes_50 : decode cX9_makes 50 = .ok (.iload_n 1, 1) := dk_27 (dk_at dksX9_makes_2 5 rfl rfl)
theorem dX9_makes_51 : decode cX9_makes 51 = .ok (.iadd, 1) := dk_96 (dk_at dksX9_makes_2 6 rfl rfl)
theorem dX9_makes_52 : decode cX9_makes 52 = .ok (.iconst 2, 1) := dk_5 (dk_at dksX9_makes_2 7 rfl rfl)
theorem dX9_makes_53 : decode cX9_makes 53 = .ok (.iastore, 1) := dk_79 (dk_at dksX9_makes_2 8 rfl rfl)
theorem dX9_makes_54 : decode cX9_makes 54 = .ok (.aload_n 0, 1) := dk_42 (dk_at dksX9_makes_2 9 rfl rfl)
theorem dX9_makes_55 : decode cX9_makes 55 = .ok (.getfield 13, 3) := dk_180 0 13 (dk_at dksX9_makes_2 10 rfl rfl)
theorem dX9_makes_58 : decode cX9_makes 58 = .ok (.bipush 42, 2) := dk_16 42 (dk_at dksX9_makes_2 13 rfl rfl)
theorem dX9_makes_60 : decode cX9_makes 60 = .ok (.iload_n 1, 1) := dk_27 (dk_at dksX9_makes_2 15 rfl rfl)
theorem dX9_makes_61 : decode cX9_makes 61 = .ok (.iadd, 1) := dk_96 (dk_at dksX9_makes_2 16 rfl rfl)
theorem dX9_makes_62 : decode cX9_makes 62 = .ok (.bipush 10, 2) := dk_16 10 (dk_at dksX9_makes_2 17 rfl rfl)
theorem dX9_makes_64 : decode cX9_makes 64 = .ok (.iastore, 1) := dk_79 (dk_at dksX9_makes_2 19 rfl rfl)
theorem dX9_makes_65 : decode cX9_makes 65 = .ok (.iinc 1 1, 3) := dk_132 1 1 (dk_at dksX9_makes_2 20 rfl rfl)
theorem dX9_makes_68 : decode cX9_makes 68 = .ok (.goto (-30), 3) := dk_167 255 226 (dk_at dksX9_makes_3 0 rfl rfl)
theorem dX9_makes_71 : decode cX9_makes 71 = .ok (.iconst 0, 1) := dk_3 (dk_at dksX9_makes_3 3 rfl rfl)
theorem dX9_makes_72 : decode cX9_makes 72 = .ok (.istore_n 1, 1) := dk_60 (dk_at dksX9_makes_3 4 rfl rfl)
theorem dX9_makes_73 : decode cX9_makes 73 = .ok (.iload_n 1, 1) := dk_27 (dk_at dksX9_makes_3 5 rfl rfl)
theorem dX9_makes_74 : decode cX9_makes 74 = .ok (.iconst 5, 1) := dk_8 (dk_at dksX9_makes_3 6 rfl rfl)
theorem dX9_makes_75 : decode cX9_makes 75 = .ok (.if_icmp .ge 20, 3) := dk_162 0 20 (dk_at dksX9_makes_3 7 rfl rfl)
theorem dX9_makes_78 : decode cX9_makes 78 = .ok (.aload_n 0, 1) := dk_42 (dk_at dksX9_makes_3 10 rfl rfl)
theorem dX9_makes_79 : decode cX9_makes 79 = .ok (.getfield 13, 3) := dk_180 0 13 (dk_at dksX9_makes_3 11 rfl rfl)
theorem dX9_makes_82 : decode cX9_makes 82 = .ok (.sipush 191, 3) := dk_17 0 191 (dk_at dksX9_makes_3 14 rfl rfl)
theorem dX9_makes_85 : decode cX9_makes 85 = .ok (.iload_n 1, 1) := dk_27 (dk_at dksX9_makes_3 17 rfl rfl)
theorem dX9_makes_86 : decode cX9_makes 86 = .ok (.iadd, 1) := dk_96 (dk_at dksX9_makes_3 18 rfl rfl)
theorem dX9_makes_87 : decode cX9_makes 87 = .ok (.iconst 3, 1) := dk_6 (dk_at dksX9_makes_3 19 rfl rfl)
theorem dX9_makes_88 : decode cX9_makes 88 = .ok (.iastore, 1) := dk_79 (dk_at dksX9_makes_3 20 rfl rfl)
theorem dX9_makes_89 : decode cX9_makes 89 = .ok (.iinc 1 1, 3) := dk_132 1 1 (dk_at dksX9_makes_3 21 rfl rfl)
theorem dX9_makes_92 : decode cX9_makes 92 = .ok (.goto (-19), 3) := dk_167 255 237 (dk_at dksX9_makes_4 0 rfl rfl)
theorem dX9_makes_95 : decode cX9_makes 95 = .ok (.return_, 1) := dk_177 (dk_at dksX9_makes_4 3 rfl rfl)
abbrev cX9_clear : ByteArray := prog_23_method_19_code
def yX9_clear : MethodName := ⟨RX9, "clear", "()I"⟩
def dkwX9_clear_0 : List UInt8 := [42, 180, 0, 13, 3, 46, 60, 42, 182, 0, 47, 42, 3, 181, 0, 71, 27, 172]
abbrev dktX9_clear_0 : List UInt8 := dkwX9_clear_0 ++ []
theorem dksX9_clear_0 : cX9_clear.data.toList.drop 0 = dktX9_clear_0 := by decide +kernel
theorem dX9_clear_0 : decode cX9_clear 0 = .ok (.aload_n 0, 1) := dk_42 (dk_at dksX9_clear_0 0 rfl rfl)
theorem dX9_clear_1 : decode cX9_clear 1 = .ok (.getfield 13, 3) := dk_180 0 13 (dk_at dksX9_clear_0 1 rfl rfl)
theorem dX9_clear_4 : decode cX9_clear 4 = .ok (.iconst 0, 1) := dk_3 (dk_at dksX9_clear_0 4 rfl rfl)
theorem dX9_clear_5 : decode cX9_clear 5 = .ok (.iaload, 1) := dk_46 (dk_at dksX9_clear_0 5 rfl rfl)
theorem dX9_clear_6 : decode cX9_clear 6 = .ok (.istore_n 1, 1) := dk_60 (dk_at dksX9_clear_0 6 rfl rfl)
theorem dX9_clear_7 : decode cX9_clear 7 = .ok (.aload_n 0, 1) := dk_42 (dk_at dksX9_clear_0 7 rfl rfl)
theorem dX9_clear_8 : decode cX9_clear 8 = .ok (.invokevirtual 47, 3) := dk_182 0 47 (dk_at dksX9_clear_0 8 rfl rfl)
theorem dX9_clear_11 : decode cX9_clear 11 = .ok (.aload_n 0, 1) := dk_42 (dk_at dksX9_clear_0 11 rfl rfl)
theorem dX9_clear_12 : decode cX9_clear 12 = .ok (.iconst 0, 1) := dk_3 (dk_at dksX9_clear_0 12 rfl rfl)
theorem dX9_clear_13 : decode cX9_clear 13 = .ok (.putfield 71, 3) := dk_181 0 71 (dk_at dksX9_clear_0 13 rfl rfl)
theorem dX9_clear_16 : decode cX9_clear 16 = .ok (.iload_n 1, 1) := dk_27 (dk_at dksX9_clear_0 16 rfl rfl)
theorem dX9_clear_17 : decode cX9_clear 17 = .ok (.ireturn, 1) := dk_172 (dk_at dksX9_clear_0 17 rfl rfl)
abbrev cX9_shade : ByteArray := prog_23_method_21_code
def yX9_shade : MethodName := ⟨RX9, "shade", "(II)I"⟩
def dkwX9_shade_0 : List UInt8 := [42, 182, 0, 82, 42, 42, 27, 28, 182, 0, 85, 182, 0, 88, 172]
abbrev dktX9_shade_0 : List UInt8 := dkwX9_shade_0 ++ []
theorem dksX9_shade_0 : cX9_shade.data.toList.drop 0 = dktX9_shade_0 := by decide +kernel
theorem dX9_shade_0 : decode cX9_shade 0 = .ok (.aload_n 0, 1) := dk_42 (dk_at dksX9_shade_0 0 rfl rfl)
theorem dX9_shade_1 : decode cX9_shade 1 = .ok (.invokevirtual 82, 3) := dk_182 0 82 (dk_at dksX9_shade_0 1 rfl rfl)
theorem dX9_shade_4 : decode cX9_shade 4 = .ok (.aload_n 0, 1) := dk_42 (dk_at dksX9_shade_0 4 rfl rfl)
theorem dX9_shade_5 : decode cX9_shade 5 = .ok (.aload_n 0, 1) := dk_42 (dk_at dksX9_shade_0 5 rfl rfl)
theorem dX9_shade_6 : decode cX9_shade 6 = .ok (.iload_n 1, 1) := dk_27 (dk_at dksX9_shade_0 6 rfl rfl)
theorem dX9_shade_7 : decode cX9_shade 7 = .ok (.iload_n 2, 1) := dk_28 (dk_at dksX9_shade_0 7 rfl rfl)
theorem dX9_shade_8 : decode cX9_shade 8 = .ok (.invokevirtual 85, 3) := dk_182 0 85 (dk_at dksX9_shade_0 8 rfl rfl)
theorem dX9_shade_11 : decode cX9_shade 11 = .ok (.invokevirtual 88, 3) := dk_182 0 88 (dk_at dksX9_shade_0 11 rfl rfl)
theorem dX9_shade_14 : decode cX9_shade 14 = .ok (.ireturn, 1) := dk_172 (dk_at dksX9_shade_0 14 rfl rfl)
abbrev cX9_begins : ByteArray := prog_23_method_9_code
def yX9_begins : MethodName := ⟨RX9, "begins", "()V"⟩
def dkwX9_begins_0 : List UInt8 := [42, 3, 181, 0, 50, 42, 180, 0, 17, 42, 180, 0, 13, 184, 0, 64, 177]
abbrev dktX9_begins_0 : List UInt8 := dkwX9_begins_0 ++ []
theorem dksX9_begins_0 : cX9_begins.data.toList.drop 0 = dktX9_begins_0 := by decide +kernel
theorem dX9_begins_0 : decode cX9_begins 0 = .ok (.aload_n 0, 1) := dk_42 (dk_at dksX9_begins_0 0 rfl rfl)
theorem dX9_begins_1 : decode cX9_begins 1 = .ok (.iconst 0, 1) := dk_3 (dk_at dksX9_begins_0 1 rfl rfl)
theorem dX9_begins_2 : decode cX9_begins 2 = .ok (.putfield 50, 3) := dk_181 0 50 (dk_at dksX9_begins_0 2 rfl rfl)
theorem dX9_begins_5 : decode cX9_begins 5 = .ok (.aload_n 0, 1) := dk_42 (dk_at dksX9_begins_0 5 rfl rfl)
theorem dX9_begins_6 : decode cX9_begins 6 = .ok (.getfield 17, 3) := dk_180 0 17 (dk_at dksX9_begins_0 6 rfl rfl)
theorem dX9_begins_9 : decode cX9_begins 9 = .ok (.aload_n 0, 1) := dk_42 (dk_at dksX9_begins_0 9 rfl rfl)
theorem dX9_begins_10 : decode cX9_begins 10 = .ok (.getfield 13, 3) := dk_180 0 13 (dk_at dksX9_begins_0 10 rfl rfl)
theorem dX9_begins_13 : decode cX9_begins 13 = .ok (.invokestatic 64, 3) := dk_184 0 64 (dk_at dksX9_begins_0 13 rfl rfl)
theorem dX9_begins_16 : decode cX9_begins 16 = .ok (.return_, 1) := dk_177 (dk_at dksX9_begins_0 16 rfl rfl)
abbrev cX9_lays : ByteArray := prog_23_method_8_code
def yX9_lays : MethodName := ⟨RX9, "lays", "([I[I)V"⟩
def dkwX9_lays_0 : List UInt8 := [3, 61, 28, 17, 0, 216, 162, 0, 15, 42, 28, 43, 28, 46, 79, 132, 2, 1, 167, 255, 240, 177]
abbrev dktX9_lays_0 : List UInt8 := dkwX9_lays_0 ++ []
theorem dksX9_lays_0 : cX9_lays.data.toList.drop 0 = dktX9_lays_0 := by decide +kernel
theorem dX9_lays_0 : decode cX9_lays 0 = .ok (.iconst 0, 1) := dk_3 (dk_at dksX9_lays_0 0 rfl rfl)
theorem dX9_lays_1 : decode cX9_lays 1 = .ok (.istore_n 2, 1) := dk_61 (dk_at dksX9_lays_0 1 rfl rfl)
theorem dX9_lays_2 : decode cX9_lays 2 = .ok (.iload_n 2, 1) := dk_28 (dk_at dksX9_lays_0 2 rfl rfl)
theorem dX9_lays_3 : decode cX9_lays 3 = .ok (.sipush 216, 3) := dk_17 0 216 (dk_at dksX9_lays_0 3 rfl rfl)
theorem dX9_lays_6 : decode cX9_lays 6 = .ok (.if_icmp .ge 15, 3) := dk_162 0 15 (dk_at dksX9_lays_0 6 rfl rfl)
theorem dX9_lays_9 : decode cX9_lays 9 = .ok (.aload_n 0, 1) := dk_42 (dk_at dksX9_lays_0 9 rfl rfl)
theorem dX9_lays_10 : decode cX9_lays 10 = .ok (.iload_n 2, 1) := dk_28 (dk_at dksX9_lays_0 10 rfl rfl)
theorem dX9_lays_11 : decode cX9_lays 11 = .ok (.aload_n 1, 1) := dk_43 (dk_at dksX9_lays_0 11 rfl rfl)
theorem dX9_lays_12 : decode cX9_lays 12 = .ok (.iload_n 2, 1) := dk_28 (dk_at dksX9_lays_0 12 rfl rfl)
theorem dX9_lays_13 : decode cX9_lays 13 = .ok (.iaload, 1) := dk_46 (dk_at dksX9_lays_0 13 rfl rfl)
theorem dX9_lays_14 : decode cX9_lays 14 = .ok (.iastore, 1) := dk_79 (dk_at dksX9_lays_0 14 rfl rfl)
theorem dX9_lays_15 : decode cX9_lays 15 = .ok (.iinc 2 1, 3) := dk_132 2 1 (dk_at dksX9_lays_0 15 rfl rfl)
theorem dX9_lays_18 : decode cX9_lays 18 = .ok (.goto (-16), 3) := dk_167 255 240 (dk_at dksX9_lays_0 18 rfl rfl)
theorem dX9_lays_21 : decode cX9_lays 21 = .ok (.return_, 1) := dk_177 (dk_at dksX9_lays_0 21 rfl rfl)
abbrev cX9_shades : ByteArray := prog_23_method_20_code
def yX9_shades : MethodName := ⟨RX9, "shades", "(II)I"⟩
def dkwX9_shades_2 : List UInt8 := [28, 79, 29, 172]
abbrev dktX9_shades_2 : List UInt8 := dkwX9_shades_2 ++ []
def dkwX9_shades_1 : List UInt8 := [16, 254, 182, 0, 56, 172, 42, 180, 0, 13, 16, 12, 27, 96, 46, 62, 42, 180, 0, 13, 16, 12, 27, 96]
abbrev dktX9_shades_1 : List UInt8 := dkwX9_shades_1 ++ dktX9_shades_2
def dkwX9_shades_0 : List UInt8 := [27, 184, 0, 78, 154, 0, 9, 42, 2, 182, 0, 56, 172, 28, 3, 7, 184, 0, 74, 154, 0, 10, 42]
abbrev dktX9_shades_0 : List UInt8 := dkwX9_shades_0 ++ dktX9_shades_1
theorem dksX9_shades_0 : cX9_shades.data.toList.drop 0 = dktX9_shades_0 := by decide +kernel
theorem dksX9_shades_1 : cX9_shades.data.toList.drop 23 = dktX9_shades_1 := dk_seg dksX9_shades_0 23 rfl rfl
theorem dksX9_shades_2 : cX9_shades.data.toList.drop 47 = dktX9_shades_2 := dk_seg dksX9_shades_1 24 rfl rfl
theorem dX9_shades_0 : decode cX9_shades 0 = .ok (.iload_n 1, 1) := dk_27 (dk_at dksX9_shades_0 0 rfl rfl)
theorem dX9_shades_1 : decode cX9_shades 1 = .ok (.invokestatic 78, 3) := dk_184 0 78 (dk_at dksX9_shades_0 1 rfl rfl)
theorem dX9_shades_4 : decode cX9_shades 4 = .ok (.ifCond .ne 9, 3) := dk_154 0 9 (dk_at dksX9_shades_0 4 rfl rfl)
theorem dX9_shades_7 : decode cX9_shades 7 = .ok (.aload_n 0, 1) := dk_42 (dk_at dksX9_shades_0 7 rfl rfl)
theorem dX9_shades_8 : decode cX9_shades 8 = .ok (.iconst (-1), 1) := dk_2 (dk_at dksX9_shades_0 8 rfl rfl)
theorem dX9_shades_9 : decode cX9_shades 9 = .ok (.invokevirtual 56, 3) := dk_182 0 56 (dk_at dksX9_shades_0 9 rfl rfl)
theorem dX9_shades_12 : decode cX9_shades 12 = .ok (.ireturn, 1) := dk_172 (dk_at dksX9_shades_0 12 rfl rfl)
theorem dX9_shades_13 : decode cX9_shades 13 = .ok (.iload_n 2, 1) := dk_28 (dk_at dksX9_shades_0 13 rfl rfl)
theorem dX9_shades_14 : decode cX9_shades 14 = .ok (.iconst 0, 1) := dk_3 (dk_at dksX9_shades_0 14 rfl rfl)
theorem dX9_shades_15 : decode cX9_shades 15 = .ok (.iconst 4, 1) := dk_7 (dk_at dksX9_shades_0 15 rfl rfl)
theorem dX9_shades_16 : decode cX9_shades 16 = .ok (.invokestatic 74, 3) := dk_184 0 74 (dk_at dksX9_shades_0 16 rfl rfl)
theorem dX9_shades_19 : decode cX9_shades 19 = .ok (.ifCond .ne 10, 3) := dk_154 0 10 (dk_at dksX9_shades_0 19 rfl rfl)
theorem dX9_shades_22 : decode cX9_shades 22 = .ok (.aload_n 0, 1) := dk_42 (dk_at dksX9_shades_0 22 rfl rfl)
theorem dX9_shades_23 : decode cX9_shades 23 = .ok (.bipush (-2), 2) := dk_16 254 (dk_at dksX9_shades_1 0 rfl rfl)
theorem dX9_shades_25 : decode cX9_shades 25 = .ok (.invokevirtual 56, 3) := dk_182 0 56 (dk_at dksX9_shades_1 2 rfl rfl)
theorem dX9_shades_28 : decode cX9_shades 28 = .ok (.ireturn, 1) := dk_172 (dk_at dksX9_shades_1 5 rfl rfl)
theorem dX9_shades_29 : decode cX9_shades 29 = .ok (.aload_n 0, 1) := dk_42 (dk_at dksX9_shades_1 6 rfl rfl)
theorem dX9_shades_30 : decode cX9_shades 30 = .ok (.getfield 13, 3) := dk_180 0 13 (dk_at dksX9_shades_1 7 rfl rfl)
theorem dX9_shades_33 : decode cX9_shades 33 = .ok (.bipush 12, 2) := dk_16 12 (dk_at dksX9_shades_1 10 rfl rfl)
theorem dX9_shades_35 : decode cX9_shades 35 = .ok (.iload_n 1, 1) := dk_27 (dk_at dksX9_shades_1 12 rfl rfl)
theorem dX9_shades_36 : decode cX9_shades 36 = .ok (.iadd, 1) := dk_96 (dk_at dksX9_shades_1 13 rfl rfl)
theorem dX9_shades_37 : decode cX9_shades 37 = .ok (.iaload, 1) := dk_46 (dk_at dksX9_shades_1 14 rfl rfl)
theorem dX9_shades_38 : decode cX9_shades 38 = .ok (.istore_n 3, 1) := dk_62 (dk_at dksX9_shades_1 15 rfl rfl)
theorem dX9_shades_39 : decode cX9_shades 39 = .ok (.aload_n 0, 1) := dk_42 (dk_at dksX9_shades_1 16 rfl rfl)
theorem dX9_shades_40 : decode cX9_shades 40 = .ok (.getfield 13, 3) := dk_180 0 13 (dk_at dksX9_shades_1 17 rfl rfl)
theorem dX9_shades_43 : decode cX9_shades 43 = .ok (.bipush 12, 2) := dk_16 12 (dk_at dksX9_shades_1 20 rfl rfl)
theorem dX9_shades_45 : decode cX9_shades 45 = .ok (.iload_n 1, 1) := dk_27 (dk_at dksX9_shades_1 22 rfl rfl)
theorem dX9_shades_46 : decode cX9_shades 46 = .ok (.iadd, 1) := dk_96 (dk_at dksX9_shades_1 23 rfl rfl)
theorem dX9_shades_47 : decode cX9_shades 47 = .ok (.iload_n 2, 1) := dk_28 (dk_at dksX9_shades_2 0 rfl rfl)
theorem dX9_shades_48 : decode cX9_shades 48 = .ok (.iastore, 1) := dk_79 (dk_at dksX9_shades_2 1 rfl rfl)
theorem dX9_shades_49 : decode cX9_shades 49 = .ok (.iload_n 3, 1) := dk_29 (dk_at dksX9_shades_2 2 rfl rfl)
theorem dX9_shades_50 : decode cX9_shades 50 = .ok (.ireturn, 1) := dk_172 (dk_at dksX9_shades_2 3 rfl rfl)
abbrev cX9_isSquare : ByteArray := prog_23_method_13_code
def yX9_isSquare : MethodName := ⟨RX9, "isSquare", "(I)Z"⟩
def dkwX9_isSquare_0 : List UInt8 := [26, 3, 16, 29, 184, 0, 74, 172]
abbrev dktX9_isSquare_0 : List UInt8 := dkwX9_isSquare_0 ++ []
theorem dksX9_isSquare_0 : cX9_isSquare.data.toList.drop 0 = dktX9_isSquare_0 := by decide +kernel
theorem dX9_isSquare_0 : decode cX9_isSquare 0 = .ok (.iload_n 0, 1) := dk_26 (dk_at dksX9_isSquare_0 0 rfl rfl)
theorem dX9_isSquare_1 : decode cX9_isSquare 1 = .ok (.iconst 0, 1) := dk_3 (dk_at dksX9_isSquare_0 1 rfl rfl)
theorem dX9_isSquare_2 : decode cX9_isSquare 2 = .ok (.bipush 29, 2) := dk_16 29 (dk_at dksX9_isSquare_0 2 rfl rfl)
theorem dX9_isSquare_4 : decode cX9_isSquare 4 = .ok (.invokestatic 74, 3) := dk_184 0 74 (dk_at dksX9_isSquare_0 4 rfl rfl)
theorem dX9_isSquare_7 : decode cX9_isSquare 7 = .ok (.ireturn, 1) := dk_172 (dk_at dksX9_isSquare_0 7 rfl rfl)
abbrev cX9_isIn : ByteArray := prog_23_method_6_code
def yX9_isIn : MethodName := ⟨RX9, "isIn", "(III)Z"⟩
def dkwX9_isIn_0 : List UInt8 := [26, 27, 161, 0, 12, 26, 28, 163, 0, 7, 4, 167, 0, 4, 3, 172]
abbrev dktX9_isIn_0 : List UInt8 := dkwX9_isIn_0 ++ []
theorem dksX9_isIn_0 : cX9_isIn.data.toList.drop 0 = dktX9_isIn_0 := by decide +kernel
theorem dX9_isIn_0 : decode cX9_isIn 0 = .ok (.iload_n 0, 1) := dk_26 (dk_at dksX9_isIn_0 0 rfl rfl)
theorem dX9_isIn_1 : decode cX9_isIn 1 = .ok (.iload_n 1, 1) := dk_27 (dk_at dksX9_isIn_0 1 rfl rfl)
theorem dX9_isIn_2 : decode cX9_isIn 2 = .ok (.if_icmp .lt 12, 3) := dk_161 0 12 (dk_at dksX9_isIn_0 2 rfl rfl)
theorem dX9_isIn_5 : decode cX9_isIn 5 = .ok (.iload_n 0, 1) := dk_26 (dk_at dksX9_isIn_0 5 rfl rfl)
theorem dX9_isIn_6 : decode cX9_isIn 6 = .ok (.iload_n 2, 1) := dk_28 (dk_at dksX9_isIn_0 6 rfl rfl)
theorem dX9_isIn_7 : decode cX9_isIn 7 = .ok (.if_icmp .gt 7, 3) := dk_163 0 7 (dk_at dksX9_isIn_0 7 rfl rfl)
theorem dX9_isIn_10 : decode cX9_isIn 10 = .ok (.iconst 1, 1) := dk_4 (dk_at dksX9_isIn_0 10 rfl rfl)
theorem dX9_isIn_11 : decode cX9_isIn 11 = .ok (.goto 4, 3) := dk_167 0 4 (dk_at dksX9_isIn_0 11 rfl rfl)
theorem dX9_isIn_14 : decode cX9_isIn 14 = .ok (.iconst 0, 1) := dk_3 (dk_at dksX9_isIn_0 14 rfl rfl)
theorem dX9_isIn_15 : decode cX9_isIn 15 = .ok (.ireturn, 1) := dk_172 (dk_at dksX9_isIn_0 15 rfl rfl)
abbrev cX9_fail : ByteArray := prog_23_method_3_code
def yX9_fail : MethodName := ⟨RX9, "fail", "(I)I"⟩
def dkwX9_fail_0 : List UInt8 := [42, 27, 181, 0, 50, 27, 172]
abbrev dktX9_fail_0 : List UInt8 := dkwX9_fail_0 ++ []
theorem dksX9_fail_0 : cX9_fail.data.toList.drop 0 = dktX9_fail_0 := by decide +kernel
theorem dX9_fail_0 : decode cX9_fail 0 = .ok (.aload_n 0, 1) := dk_42 (dk_at dksX9_fail_0 0 rfl rfl)
theorem dX9_fail_1 : decode cX9_fail 1 = .ok (.iload_n 1, 1) := dk_27 (dk_at dksX9_fail_0 1 rfl rfl)
theorem dX9_fail_2 : decode cX9_fail 2 = .ok (.putfield 50, 3) := dk_181 0 50 (dk_at dksX9_fail_0 2 rfl rfl)
theorem dX9_fail_5 : decode cX9_fail 5 = .ok (.iload_n 1, 1) := dk_27 (dk_at dksX9_fail_0 5 rfl rfl)
theorem dX9_fail_6 : decode cX9_fail 6 = .ok (.ireturn, 1) := dk_172 (dk_at dksX9_fail_0 6 rfl rfl)
abbrev cX9_ends : ByteArray := prog_23_method_10_code
def yX9_ends : MethodName := ⟨RX9, "ends", "(I)I"⟩
def dkwX9_ends_6 : List UInt8 := [180, 0, 17, 28, 46, 79, 132, 2, 1, 167, 255, 225, 42, 89, 180, 0, 71, 4, 96, 181, 0, 71, 27, 172]
abbrev dktX9_ends_6 : List UInt8 := dkwX9_ends_6 ++ []
def dkwX9_ends_5 : List UInt8 := [28, 17, 0, 216, 162, 0, 30, 42, 180, 0, 26, 42, 180, 0, 71, 17, 0, 216, 104, 28, 96, 42]
abbrev dktX9_ends_5 : List UInt8 := dkwX9_ends_5 ++ dktX9_ends_6
def dkwX9_ends_4 : List UInt8 := [17, 0, 216, 96, 46, 79, 132, 2, 1, 167, 255, 230, 42, 89, 180, 0, 71, 4, 100, 181, 0, 71, 3, 61]
abbrev dktX9_ends_4 : List UInt8 := dkwX9_ends_4 ++ dktX9_ends_5
def dkwX9_ends_3 : List UInt8 := [160, 0, 44, 3, 61, 28, 17, 5, 232, 162, 0, 25, 42, 180, 0, 26, 28, 42, 180, 0, 26, 28]
abbrev dktX9_ends_3 : List UInt8 := dkwX9_ends_3 ++ dktX9_ends_4
def dkwX9_ends_2 : List UInt8 := [42, 180, 0, 29, 28, 46, 79, 132, 2, 1, 167, 255, 235, 42, 180, 0, 50, 172, 42, 180, 0, 71, 16, 8]
abbrev dktX9_ends_2 : List UInt8 := dkwX9_ends_2 ++ dktX9_ends_3
def dkwX9_ends_1 : List UInt8 := [160, 0, 37, 42, 42, 180, 0, 53, 181, 0, 68, 3, 61, 28, 16, 6, 162, 0, 21, 42, 180, 0, 32, 28]
abbrev dktX9_ends_1 : List UInt8 := dkwX9_ends_1 ++ dktX9_ends_2
def dkwX9_ends_0 : List UInt8 := [42, 180, 0, 50, 153, 0, 62, 42, 180, 0, 13, 42, 180, 0, 17, 184, 0, 64, 42, 180, 0, 50, 16, 253]
abbrev dktX9_ends_0 : List UInt8 := dkwX9_ends_0 ++ dktX9_ends_1
theorem dksX9_ends_0 : cX9_ends.data.toList.drop 0 = dktX9_ends_0 := by decide +kernel
theorem dksX9_ends_1 : cX9_ends.data.toList.drop 24 = dktX9_ends_1 := dk_seg dksX9_ends_0 24 rfl rfl
theorem dksX9_ends_2 : cX9_ends.data.toList.drop 48 = dktX9_ends_2 := dk_seg dksX9_ends_1 24 rfl rfl
theorem dksX9_ends_3 : cX9_ends.data.toList.drop 72 = dktX9_ends_3 := dk_seg dksX9_ends_2 24 rfl rfl
theorem dksX9_ends_4 : cX9_ends.data.toList.drop 94 = dktX9_ends_4 := dk_seg dksX9_ends_3 22 rfl rfl
theorem dksX9_ends_5 : cX9_ends.data.toList.drop 118 = dktX9_ends_5 := dk_seg dksX9_ends_4 24 rfl rfl
theorem dksX9_ends_6 : cX9_ends.data.toList.drop 140 = dktX9_ends_6 := dk_seg dksX9_ends_5 22 rfl rfl
theorem dX9_ends_0 : decode cX9_ends 0 = .ok (.aload_n 0, 1) := dk_42 (dk_at dksX9_ends_0 0 rfl rfl)
theorem dX9_ends_1 : decode cX9_ends 1 = .ok (.getfield 50, 3) := dk_180 0 50 (dk_at dksX9_ends_0 1 rfl rfl)
theorem dX9_ends_4 : decode cX9_ends 4 = .ok (.ifCond .eq 62, 3) := dk_153 0 62 (dk_at dksX9_ends_0 4 rfl rfl)
theorem dX9_ends_7 : decode cX9_ends 7 = .ok (.aload_n 0, 1) := dk_42 (dk_at dksX9_ends_0 7 rfl rfl)
theorem dX9_ends_8 : decode cX9_ends 8 = .ok (.getfield 13, 3) := dk_180 0 13 (dk_at dksX9_ends_0 8 rfl rfl)
theorem dX9_ends_11 : decode cX9_ends 11 = .ok (.aload_n 0, 1) := dk_42 (dk_at dksX9_ends_0 11 rfl rfl)
theorem dX9_ends_12 : decode cX9_ends 12 = .ok (.getfield 17, 3) := dk_180 0 17 (dk_at dksX9_ends_0 12 rfl rfl)
theorem dX9_ends_15 : decode cX9_ends 15 = .ok (.invokestatic 64, 3) := dk_184 0 64 (dk_at dksX9_ends_0 15 rfl rfl)
theorem dX9_ends_18 : decode cX9_ends 18 = .ok (.aload_n 0, 1) := dk_42 (dk_at dksX9_ends_0 18 rfl rfl)
theorem dX9_ends_19 : decode cX9_ends 19 = .ok (.getfield 50, 3) := dk_180 0 50 (dk_at dksX9_ends_0 19 rfl rfl)
theorem dX9_ends_22 : decode cX9_ends 22 = .ok (.bipush (-3), 2) := dk_16 253 (dk_at dksX9_ends_0 22 rfl rfl)
theorem dX9_ends_24 : decode cX9_ends 24 = .ok (.if_icmp .ne 37, 3) := dk_160 0 37 (dk_at dksX9_ends_1 0 rfl rfl)
theorem dX9_ends_27 : decode cX9_ends 27 = .ok (.aload_n 0, 1) := dk_42 (dk_at dksX9_ends_1 3 rfl rfl)
theorem dX9_ends_28 : decode cX9_ends 28 = .ok (.aload_n 0, 1) := dk_42 (dk_at dksX9_ends_1 4 rfl rfl)
theorem dX9_ends_29 : decode cX9_ends 29 = .ok (.getfield 53, 3) := dk_180 0 53 (dk_at dksX9_ends_1 5 rfl rfl)
theorem dX9_ends_32 : decode cX9_ends 32 = .ok (.putfield 68, 3) := dk_181 0 68 (dk_at dksX9_ends_1 8 rfl rfl)
theorem dX9_ends_35 : decode cX9_ends 35 = .ok (.iconst 0, 1) := dk_3 (dk_at dksX9_ends_1 11 rfl rfl)
theorem dX9_ends_36 : decode cX9_ends 36 = .ok (.istore_n 2, 1) := dk_61 (dk_at dksX9_ends_1 12 rfl rfl)
theorem dX9_ends_37 : decode cX9_ends 37 = .ok (.iload_n 2, 1) := dk_28 (dk_at dksX9_ends_1 13 rfl rfl)
theorem dX9_ends_38 : decode cX9_ends 38 = .ok (.bipush 6, 2) := dk_16 6 (dk_at dksX9_ends_1 14 rfl rfl)
theorem dX9_ends_40 : decode cX9_ends 40 = .ok (.if_icmp .ge 21, 3) := dk_162 0 21 (dk_at dksX9_ends_1 16 rfl rfl)
theorem dX9_ends_43 : decode cX9_ends 43 = .ok (.aload_n 0, 1) := dk_42 (dk_at dksX9_ends_1 19 rfl rfl)
theorem dX9_ends_44 : decode cX9_ends 44 = .ok (.getfield 32, 3) := dk_180 0 32 (dk_at dksX9_ends_1 20 rfl rfl)
theorem dX9_ends_47 : decode cX9_ends 47 = .ok (.iload_n 2, 1) := dk_28 (dk_at dksX9_ends_1 23 rfl rfl)
theorem dX9_ends_48 : decode cX9_ends 48 = .ok (.aload_n 0, 1) := dk_42 (dk_at dksX9_ends_2 0 rfl rfl)
theorem dX9_ends_49 : decode cX9_ends 49 = .ok (.getfield 29, 3) := dk_180 0 29 (dk_at dksX9_ends_2 1 rfl rfl)
theorem dX9_ends_52 : decode cX9_ends 52 = .ok (.iload_n 2, 1) := dk_28 (dk_at dksX9_ends_2 4 rfl rfl)
theorem dX9_ends_53 : decode cX9_ends 53 = .ok (.iaload, 1) := dk_46 (dk_at dksX9_ends_2 5 rfl rfl)
theorem dX9_ends_54 : decode cX9_ends 54 = .ok (.iastore, 1) := dk_79 (dk_at dksX9_ends_2 6 rfl rfl)
theorem dX9_ends_55 : decode cX9_ends 55 = .ok (.iinc 2 1, 3) := dk_132 2 1 (dk_at dksX9_ends_2 7 rfl rfl)
theorem dX9_ends_58 : decode cX9_ends 58 = .ok (.goto (-21), 3) := dk_167 255 235 (dk_at dksX9_ends_2 10 rfl rfl)
theorem dX9_ends_61 : decode cX9_ends 61 = .ok (.aload_n 0, 1) := dk_42 (dk_at dksX9_ends_2 13 rfl rfl)
theorem dX9_ends_62 : decode cX9_ends 62 = .ok (.getfield 50, 3) := dk_180 0 50 (dk_at dksX9_ends_2 14 rfl rfl)
theorem dX9_ends_65 : decode cX9_ends 65 = .ok (.ireturn, 1) := dk_172 (dk_at dksX9_ends_2 17 rfl rfl)
theorem dX9_ends_66 : decode cX9_ends 66 = .ok (.aload_n 0, 1) := dk_42 (dk_at dksX9_ends_2 18 rfl rfl)
theorem dX9_ends_67 : decode cX9_ends 67 = .ok (.getfield 71, 3) := dk_180 0 71 (dk_at dksX9_ends_2 19 rfl rfl)
theorem dX9_ends_70 : decode cX9_ends 70 = .ok (.bipush 8, 2) := dk_16 8 (dk_at dksX9_ends_2 22 rfl rfl)
theorem dX9_ends_72 : decode cX9_ends 72 = .ok (.if_icmp .ne 44, 3) := dk_160 0 44 (dk_at dksX9_ends_3 0 rfl rfl)
theorem dX9_ends_75 : decode cX9_ends 75 = .ok (.iconst 0, 1) := dk_3 (dk_at dksX9_ends_3 3 rfl rfl)
theorem dX9_ends_76 : decode cX9_ends 76 = .ok (.istore_n 2, 1) := dk_61 (dk_at dksX9_ends_3 4 rfl rfl)
theorem dX9_ends_77 : decode cX9_ends 77 = .ok (.iload_n 2, 1) := dk_28 (dk_at dksX9_ends_3 5 rfl rfl)
theorem dX9_ends_78 : decode cX9_ends 78 = .ok (.sipush 1512, 3) := dk_17 5 232 (dk_at dksX9_ends_3 6 rfl rfl)
theorem dX9_ends_81 : decode cX9_ends 81 = .ok (.if_icmp .ge 25, 3) := dk_162 0 25 (dk_at dksX9_ends_3 9 rfl rfl)
theorem dX9_ends_84 : decode cX9_ends 84 = .ok (.aload_n 0, 1) := dk_42 (dk_at dksX9_ends_3 12 rfl rfl)
theorem dX9_ends_85 : decode cX9_ends 85 = .ok (.getfield 26, 3) := dk_180 0 26 (dk_at dksX9_ends_3 13 rfl rfl)
theorem dX9_ends_88 : decode cX9_ends 88 = .ok (.iload_n 2, 1) := dk_28 (dk_at dksX9_ends_3 16 rfl rfl)
theorem dX9_ends_89 : decode cX9_ends 89 = .ok (.aload_n 0, 1) := dk_42 (dk_at dksX9_ends_3 17 rfl rfl)
theorem dX9_ends_90 : decode cX9_ends 90 = .ok (.getfield 26, 3) := dk_180 0 26 (dk_at dksX9_ends_3 18 rfl rfl)
theorem dX9_ends_93 : decode cX9_ends 93 = .ok (.iload_n 2, 1) := dk_28 (dk_at dksX9_ends_3 21 rfl rfl)
theorem dX9_ends_94 : decode cX9_ends 94 = .ok (.sipush 216, 3) := dk_17 0 216 (dk_at dksX9_ends_4 0 rfl rfl)
theorem dX9_ends_97 : decode cX9_ends 97 = .ok (.iadd, 1) := dk_96 (dk_at dksX9_ends_4 3 rfl rfl)
theorem dX9_ends_98 : decode cX9_ends 98 = .ok (.iaload, 1) := dk_46 (dk_at dksX9_ends_4 4 rfl rfl)
theorem dX9_ends_99 : decode cX9_ends 99 = .ok (.iastore, 1) := dk_79 (dk_at dksX9_ends_4 5 rfl rfl)
theorem dX9_ends_100 : decode cX9_ends 100 = .ok (.iinc 2 1, 3) := dk_132 2 1 (dk_at dksX9_ends_4 6 rfl rfl)
theorem dX9_ends_103 : decode cX9_ends 103 = .ok (.goto (-26), 3) := dk_167 255 230 (dk_at dksX9_ends_4 9 rfl rfl)
theorem dX9_ends_106 : decode cX9_ends 106 = .ok (.aload_n 0, 1) := dk_42 (dk_at dksX9_ends_4 12 rfl rfl)
theorem dX9_ends_107 : decode cX9_ends 107 = .ok (.dup, 1) := dk_89 (dk_at dksX9_ends_4 13 rfl rfl)
theorem dX9_ends_108 : decode cX9_ends 108 = .ok (.getfield 71, 3) := dk_180 0 71 (dk_at dksX9_ends_4 14 rfl rfl)
theorem dX9_ends_111 : decode cX9_ends 111 = .ok (.iconst 1, 1) := dk_4 (dk_at dksX9_ends_4 17 rfl rfl)
theorem dX9_ends_112 : decode cX9_ends 112 = .ok (.isub, 1) := dk_100 (dk_at dksX9_ends_4 18 rfl rfl)
theorem dX9_ends_113 : decode cX9_ends 113 = .ok (.putfield 71, 3) := dk_181 0 71 (dk_at dksX9_ends_4 19 rfl rfl)
theorem dX9_ends_116 : decode cX9_ends 116 = .ok (.iconst 0, 1) := dk_3 (dk_at dksX9_ends_4 22 rfl rfl)
theorem dX9_ends_117 : decode cX9_ends 117 = .ok (.istore_n 2, 1) := dk_61 (dk_at dksX9_ends_4 23 rfl rfl)
theorem dX9_ends_118 : decode cX9_ends 118 = .ok (.iload_n 2, 1) := dk_28 (dk_at dksX9_ends_5 0 rfl rfl)
theorem dX9_ends_119 : decode cX9_ends 119 = .ok (.sipush 216, 3) := dk_17 0 216 (dk_at dksX9_ends_5 1 rfl rfl)
theorem dX9_ends_122 : decode cX9_ends 122 = .ok (.if_icmp .ge 30, 3) := dk_162 0 30 (dk_at dksX9_ends_5 4 rfl rfl)
theorem dX9_ends_125 : decode cX9_ends 125 = .ok (.aload_n 0, 1) := dk_42 (dk_at dksX9_ends_5 7 rfl rfl)
theorem dX9_ends_126 : decode cX9_ends 126 = .ok (.getfield 26, 3) := dk_180 0 26 (dk_at dksX9_ends_5 8 rfl rfl)
theorem dX9_ends_129 : decode cX9_ends 129 = .ok (.aload_n 0, 1) := dk_42 (dk_at dksX9_ends_5 11 rfl rfl)
theorem dX9_ends_130 : decode cX9_ends 130 = .ok (.getfield 71, 3) := dk_180 0 71 (dk_at dksX9_ends_5 12 rfl rfl)
theorem dX9_ends_133 : decode cX9_ends 133 = .ok (.sipush 216, 3) := dk_17 0 216 (dk_at dksX9_ends_5 15 rfl rfl)
theorem dX9_ends_136 : decode cX9_ends 136 = .ok (.imul, 1) := dk_104 (dk_at dksX9_ends_5 18 rfl rfl)
theorem dX9_ends_137 : decode cX9_ends 137 = .ok (.iload_n 2, 1) := dk_28 (dk_at dksX9_ends_5 19 rfl rfl)
theorem dX9_ends_138 : decode cX9_ends 138 = .ok (.iadd, 1) := dk_96 (dk_at dksX9_ends_5 20 rfl rfl)
theorem dX9_ends_139 : decode cX9_ends 139 = .ok (.aload_n 0, 1) := dk_42 (dk_at dksX9_ends_5 21 rfl rfl)
theorem dX9_ends_140 : decode cX9_ends 140 = .ok (.getfield 17, 3) := dk_180 0 17 (dk_at dksX9_ends_6 0 rfl rfl)
theorem dX9_ends_143 : decode cX9_ends 143 = .ok (.iload_n 2, 1) := dk_28 (dk_at dksX9_ends_6 3 rfl rfl)
theorem dX9_ends_144 : decode cX9_ends 144 = .ok (.iaload, 1) := dk_46 (dk_at dksX9_ends_6 4 rfl rfl)
theorem dX9_ends_145 : decode cX9_ends 145 = .ok (.iastore, 1) := dk_79 (dk_at dksX9_ends_6 5 rfl rfl)
theorem dX9_ends_146 : decode cX9_ends 146 = .ok (.iinc 2 1, 3) := dk_132 2 1 (dk_at dksX9_ends_6 6 rfl rfl)
theorem dX9_ends_149 : decode cX9_ends 149 = .ok (.goto (-31), 3) := dk_167 255 225 (dk_at dksX9_ends_6 9 rfl rfl)
theorem dX9_ends_152 : decode cX9_ends 152 = .ok (.aload_n 0, 1) := dk_42 (dk_at dksX9_ends_6 12 rfl rfl)
theorem dX9_ends_153 : decode cX9_ends 153 = .ok (.dup, 1) := dk_89 (dk_at dksX9_ends_6 13 rfl rfl)
theorem dX9_ends_154 : decode cX9_ends 154 = .ok (.getfield 71, 3) := dk_180 0 71 (dk_at dksX9_ends_6 14 rfl rfl)
theorem dX9_ends_157 : decode cX9_ends 157 = .ok (.iconst 1, 1) := dk_4 (dk_at dksX9_ends_6 17 rfl rfl)
theorem dX9_ends_158 : decode cX9_ends 158 = .ok (.iadd, 1) := dk_96 (dk_at dksX9_ends_6 18 rfl rfl)
theorem dX9_ends_159 : decode cX9_ends 159 = .ok (.putfield 71, 3) := dk_181 0 71 (dk_at dksX9_ends_6 19 rfl rfl)
theorem dX9_ends_162 : decode cX9_ends 162 = .ok (.iload_n 1, 1) := dk_27 (dk_at dksX9_ends_6 22 rfl rfl)
theorem dX9_ends_163 : decode cX9_ends 163 = .ok (.ireturn, 1) := dk_172 (dk_at dksX9_ends_6 23 rfl rfl)
abbrev cX9_stone : ByteArray := prog_23_method_25_code
def yX9_stone : MethodName := ⟨RX9, "stone", "(I)I"⟩
def dkwX9_stone_0 : List UInt8 := [42, 182, 0, 82, 42, 42, 27, 182, 0, 106, 182, 0, 88, 172]
abbrev dktX9_stone_0 : List UInt8 := dkwX9_stone_0 ++ []
theorem dksX9_stone_0 : cX9_stone.data.toList.drop 0 = dktX9_stone_0 := by decide +kernel
theorem dX9_stone_0 : decode cX9_stone 0 = .ok (.aload_n 0, 1) := dk_42 (dk_at dksX9_stone_0 0 rfl rfl)
theorem dX9_stone_1 : decode cX9_stone 1 = .ok (.invokevirtual 82, 3) := dk_182 0 82 (dk_at dksX9_stone_0 1 rfl rfl)
theorem dX9_stone_4 : decode cX9_stone 4 = .ok (.aload_n 0, 1) := dk_42 (dk_at dksX9_stone_0 4 rfl rfl)
theorem dX9_stone_5 : decode cX9_stone 5 = .ok (.aload_n 0, 1) := dk_42 (dk_at dksX9_stone_0 5 rfl rfl)
theorem dX9_stone_6 : decode cX9_stone 6 = .ok (.iload_n 1, 1) := dk_27 (dk_at dksX9_stone_0 6 rfl rfl)
theorem dX9_stone_7 : decode cX9_stone 7 = .ok (.invokevirtual 106, 3) := dk_182 0 106 (dk_at dksX9_stone_0 7 rfl rfl)
theorem dX9_stone_10 : decode cX9_stone 10 = .ok (.invokevirtual 88, 3) := dk_182 0 88 (dk_at dksX9_stone_0 10 rfl rfl)
theorem dX9_stone_13 : decode cX9_stone 13 = .ok (.ireturn, 1) := dk_172 (dk_at dksX9_stone_0 13 rfl rfl)
abbrev cX9_stones : ByteArray := prog_23_method_24_code
def yX9_stones : MethodName := ⟨RX9, "stones", "(I)I"⟩
def dkwX9_stones_4 : List UInt8 := [42, 180, 0, 13, 16, 72, 27, 96, 3, 79, 42, 180, 0, 13, 16, 6, 92, 46, 28, 96, 79, 28, 172]
abbrev dktX9_stones_4 : List UInt8 := dkwX9_stones_4 ++ []
def dkwX9_stones_3 : List UInt8 := [27, 96, 46, 61, 42, 180, 0, 13, 16, 102, 27, 96, 4, 79, 42, 180, 0, 13, 16, 42, 27, 96, 3, 79]
abbrev dktX9_stones_3 : List UInt8 := dkwX9_stones_3 ++ dktX9_stones_4
def dkwX9_stones_2 : List UInt8 := [17, 0, 132, 27, 96, 46, 4, 160, 0, 11, 42, 16, 14, 27, 182, 0, 60, 172, 42, 180, 0, 13, 16, 42]
abbrev dktX9_stones_2 : List UInt8 := dkwX9_stones_2 ++ dktX9_stones_3
def dkwX9_stones_1 : List UInt8 := [182, 0, 60, 172, 42, 27, 182, 0, 100, 154, 0, 25, 42, 27, 182, 0, 103, 154, 0, 17, 42, 180, 0, 13]
abbrev dktX9_stones_1 : List UInt8 := dkwX9_stones_1 ++ dktX9_stones_2
def dkwX9_stones_0 : List UInt8 := [27, 184, 0, 78, 154, 0, 9, 42, 2, 182, 0, 56, 172, 42, 27, 182, 0, 97, 153, 0, 10, 42, 5, 27]
abbrev dktX9_stones_0 : List UInt8 := dkwX9_stones_0 ++ dktX9_stones_1
theorem dksX9_stones_0 : cX9_stones.data.toList.drop 0 = dktX9_stones_0 := by decide +kernel
theorem dksX9_stones_1 : cX9_stones.data.toList.drop 24 = dktX9_stones_1 := dk_seg dksX9_stones_0 24 rfl rfl
theorem dksX9_stones_2 : cX9_stones.data.toList.drop 48 = dktX9_stones_2 := dk_seg dksX9_stones_1 24 rfl rfl
theorem dksX9_stones_3 : cX9_stones.data.toList.drop 72 = dktX9_stones_3 := dk_seg dksX9_stones_2 24 rfl rfl
theorem dksX9_stones_4 : cX9_stones.data.toList.drop 96 = dktX9_stones_4 := dk_seg dksX9_stones_3 24 rfl rfl
theorem dX9_stones_0 : decode cX9_stones 0 = .ok (.iload_n 1, 1) := dk_27 (dk_at dksX9_stones_0 0 rfl rfl)
theorem dX9_stones_1 : decode cX9_stones 1 = .ok (.invokestatic 78, 3) := dk_184 0 78 (dk_at dksX9_stones_0 1 rfl rfl)
theorem dX9_stones_4 : decode cX9_stones 4 = .ok (.ifCond .ne 9, 3) := dk_154 0 9 (dk_at dksX9_stones_0 4 rfl rfl)
theorem dX9_stones_7 : decode cX9_stones 7 = .ok (.aload_n 0, 1) := dk_42 (dk_at dksX9_stones_0 7 rfl rfl)
theorem dX9_stones_8 : decode cX9_stones 8 = .ok (.iconst (-1), 1) := dk_2 (dk_at dksX9_stones_0 8 rfl rfl)
theorem dX9_stones_9 : decode cX9_stones 9 = .ok (.invokevirtual 56, 3) := dk_182 0 56 (dk_at dksX9_stones_0 9 rfl rfl)
theorem dX9_stones_12 : decode cX9_stones 12 = .ok (.ireturn, 1) := dk_172 (dk_at dksX9_stones_0 12 rfl rfl)
theorem dX9_stones_13 : decode cX9_stones 13 = .ok (.aload_n 0, 1) := dk_42 (dk_at dksX9_stones_0 13 rfl rfl)
theorem dX9_stones_14 : decode cX9_stones 14 = .ok (.iload_n 1, 1) := dk_27 (dk_at dksX9_stones_0 14 rfl rfl)
theorem dX9_stones_15 : decode cX9_stones 15 = .ok (.invokevirtual 97, 3) := dk_182 0 97 (dk_at dksX9_stones_0 15 rfl rfl)
theorem dX9_stones_18 : decode cX9_stones 18 = .ok (.ifCond .eq 10, 3) := dk_153 0 10 (dk_at dksX9_stones_0 18 rfl rfl)
theorem dX9_stones_21 : decode cX9_stones 21 = .ok (.aload_n 0, 1) := dk_42 (dk_at dksX9_stones_0 21 rfl rfl)
theorem dX9_stones_22 : decode cX9_stones 22 = .ok (.iconst 2, 1) := dk_5 (dk_at dksX9_stones_0 22 rfl rfl)
theorem dX9_stones_23 : decode cX9_stones 23 = .ok (.iload_n 1, 1) := dk_27 (dk_at dksX9_stones_0 23 rfl rfl)
theorem dX9_stones_24 : decode cX9_stones 24 = .ok (.invokevirtual 60, 3) := dk_182 0 60 (dk_at dksX9_stones_1 0 rfl rfl)
theorem dX9_stones_27 : decode cX9_stones 27 = .ok (.ireturn, 1) := dk_172 (dk_at dksX9_stones_1 3 rfl rfl)
theorem dX9_stones_28 : decode cX9_stones 28 = .ok (.aload_n 0, 1) := dk_42 (dk_at dksX9_stones_1 4 rfl rfl)
theorem dX9_stones_29 : decode cX9_stones 29 = .ok (.iload_n 1, 1) := dk_27 (dk_at dksX9_stones_1 5 rfl rfl)
theorem dX9_stones_30 : decode cX9_stones 30 = .ok (.invokevirtual 100, 3) := dk_182 0 100 (dk_at dksX9_stones_1 6 rfl rfl)
theorem dX9_stones_33 : decode cX9_stones 33 = .ok (.ifCond .ne 25, 3) := dk_154 0 25 (dk_at dksX9_stones_1 9 rfl rfl)
theorem dX9_stones_36 : decode cX9_stones 36 = .ok (.aload_n 0, 1) := dk_42 (dk_at dksX9_stones_1 12 rfl rfl)
theorem dX9_stones_37 : decode cX9_stones 37 = .ok (.iload_n 1, 1) := dk_27 (dk_at dksX9_stones_1 13 rfl rfl)
theorem dX9_stones_38 : decode cX9_stones 38 = .ok (.invokevirtual 103, 3) := dk_182 0 103 (dk_at dksX9_stones_1 14 rfl rfl)
theorem dX9_stones_41 : decode cX9_stones 41 = .ok (.ifCond .ne 17, 3) := dk_154 0 17 (dk_at dksX9_stones_1 17 rfl rfl)
theorem dX9_stones_44 : decode cX9_stones 44 = .ok (.aload_n 0, 1) := dk_42 (dk_at dksX9_stones_1 20 rfl rfl)
theorem dX9_stones_45 : decode cX9_stones 45 = .ok (.getfield 13, 3) := dk_180 0 13 (dk_at dksX9_stones_1 21 rfl rfl)
theorem dX9_stones_48 : decode cX9_stones 48 = .ok (.sipush 132, 3) := dk_17 0 132 (dk_at dksX9_stones_2 0 rfl rfl)
theorem dX9_stones_51 : decode cX9_stones 51 = .ok (.iload_n 1, 1) := dk_27 (dk_at dksX9_stones_2 3 rfl rfl)
theorem dX9_stones_52 : decode cX9_stones 52 = .ok (.iadd, 1) := dk_96 (dk_at dksX9_stones_2 4 rfl rfl)
theorem dX9_stones_53 : decode cX9_stones 53 = .ok (.iaload, 1) := dk_46 (dk_at dksX9_stones_2 5 rfl rfl)
theorem dX9_stones_54 : decode cX9_stones 54 = .ok (.iconst 1, 1) := dk_4 (dk_at dksX9_stones_2 6 rfl rfl)
theorem dX9_stones_55 : decode cX9_stones 55 = .ok (.if_icmp .ne 11, 3) := dk_160 0 11 (dk_at dksX9_stones_2 7 rfl rfl)
theorem dX9_stones_58 : decode cX9_stones 58 = .ok (.aload_n 0, 1) := dk_42 (dk_at dksX9_stones_2 10 rfl rfl)
theorem dX9_stones_59 : decode cX9_stones 59 = .ok (.bipush 14, 2) := dk_16 14 (dk_at dksX9_stones_2 11 rfl rfl)
theorem dX9_stones_61 : decode cX9_stones 61 = .ok (.iload_n 1, 1) := dk_27 (dk_at dksX9_stones_2 13 rfl rfl)
theorem dX9_stones_62 : decode cX9_stones 62 = .ok (.invokevirtual 60, 3) := dk_182 0 60 (dk_at dksX9_stones_2 14 rfl rfl)
theorem dX9_stones_65 : decode cX9_stones 65 = .ok (.ireturn, 1) := dk_172 (dk_at dksX9_stones_2 17 rfl rfl)
theorem dX9_stones_66 : decode cX9_stones 66 = .ok (.aload_n 0, 1) := dk_42 (dk_at dksX9_stones_2 18 rfl rfl)
theorem dX9_stones_67 : decode cX9_stones 67 = .ok (.getfield 13, 3) := dk_180 0 13 (dk_at dksX9_stones_2 19 rfl rfl)
theorem dX9_stones_70 : decode cX9_stones 70 = .ok (.bipush 42, 2) := dk_16 42 (dk_at dksX9_stones_2 22 rfl rfl)
theorem dX9_stones_72 : decode cX9_stones 72 = .ok (.iload_n 1, 1) := dk_27 (dk_at dksX9_stones_3 0 rfl rfl)
theorem dX9_stones_73 : decode cX9_stones 73 = .ok (.iadd, 1) := dk_96 (dk_at dksX9_stones_3 1 rfl rfl)
theorem dX9_stones_74 : decode cX9_stones 74 = .ok (.iaload, 1) := dk_46 (dk_at dksX9_stones_3 2 rfl rfl)
theorem dX9_stones_75 : decode cX9_stones 75 = .ok (.istore_n 2, 1) := dk_61 (dk_at dksX9_stones_3 3 rfl rfl)
theorem dX9_stones_76 : decode cX9_stones 76 = .ok (.aload_n 0, 1) := dk_42 (dk_at dksX9_stones_3 4 rfl rfl)
theorem dX9_stones_77 : decode cX9_stones 77 = .ok (.getfield 13, 3) := dk_180 0 13 (dk_at dksX9_stones_3 5 rfl rfl)
theorem dX9_stones_80 : decode cX9_stones 80 = .ok (.bipush 102, 2) := dk_16 102 (dk_at dksX9_stones_3 8 rfl rfl)
theorem dX9_stones_82 : decode cX9_stones 82 = .ok (.iload_n 1, 1) := dk_27 (dk_at dksX9_stones_3 10 rfl rfl)
theorem dX9_stones_83 : decode cX9_stones 83 = .ok (.iadd, 1) := dk_96 (dk_at dksX9_stones_3 11 rfl rfl)
theorem dX9_stones_84 : decode cX9_stones 84 = .ok (.iconst 1, 1) := dk_4 (dk_at dksX9_stones_3 12 rfl rfl)
theorem dX9_stones_85 : decode cX9_stones 85 = .ok (.iastore, 1) := dk_79 (dk_at dksX9_stones_3 13 rfl rfl)
theorem dX9_stones_86 : decode cX9_stones 86 = .ok (.aload_n 0, 1) := dk_42 (dk_at dksX9_stones_3 14 rfl rfl)
theorem dX9_stones_87 : decode cX9_stones 87 = .ok (.getfield 13, 3) := dk_180 0 13 (dk_at dksX9_stones_3 15 rfl rfl)
theorem dX9_stones_90 : decode cX9_stones 90 = .ok (.bipush 42, 2) := dk_16 42 (dk_at dksX9_stones_3 18 rfl rfl)
theorem dX9_stones_92 : decode cX9_stones 92 = .ok (.iload_n 1, 1) := dk_27 (dk_at dksX9_stones_3 20 rfl rfl)
theorem dX9_stones_93 : decode cX9_stones 93 = .ok (.iadd, 1) := dk_96 (dk_at dksX9_stones_3 21 rfl rfl)
theorem dX9_stones_94 : decode cX9_stones 94 = .ok (.iconst 0, 1) := dk_3 (dk_at dksX9_stones_3 22 rfl rfl)
theorem dX9_stones_95 : decode cX9_stones 95 = .ok (.iastore, 1) := dk_79 (dk_at dksX9_stones_3 23 rfl rfl)
theorem dX9_stones_96 : decode cX9_stones 96 = .ok (.aload_n 0, 1) := dk_42 (dk_at dksX9_stones_4 0 rfl rfl)
theorem dX9_stones_97 : decode cX9_stones 97 = .ok (.getfield 13, 3) := dk_180 0 13 (dk_at dksX9_stones_4 1 rfl rfl)
theorem dX9_stones_100 : decode cX9_stones 100 = .ok (.bipush 72, 2) := dk_16 72 (dk_at dksX9_stones_4 4 rfl rfl)
theorem dX9_stones_102 : decode cX9_stones 102 = .ok (.iload_n 1, 1) := dk_27 (dk_at dksX9_stones_4 6 rfl rfl)
theorem dX9_stones_103 : decode cX9_stones 103 = .ok (.iadd, 1) := dk_96 (dk_at dksX9_stones_4 7 rfl rfl)
theorem dX9_stones_104 : decode cX9_stones 104 = .ok (.iconst 0, 1) := dk_3 (dk_at dksX9_stones_4 8 rfl rfl)
theorem dX9_stones_105 : decode cX9_stones 105 = .ok (.iastore, 1) := dk_79 (dk_at dksX9_stones_4 9 rfl rfl)
theorem dX9_stones_106 : decode cX9_stones 106 = .ok (.aload_n 0, 1) := dk_42 (dk_at dksX9_stones_4 10 rfl rfl)
theorem dX9_stones_107 : decode cX9_stones 107 = .ok (.getfield 13, 3) := dk_180 0 13 (dk_at dksX9_stones_4 11 rfl rfl)
theorem dX9_stones_110 : decode cX9_stones 110 = .ok (.bipush 6, 2) := dk_16 6 (dk_at dksX9_stones_4 14 rfl rfl)
theorem dX9_stones_112 : decode cX9_stones 112 = .ok (.dup2, 1) := dk_92 (dk_at dksX9_stones_4 16 rfl rfl)
theorem dX9_stones_113 : decode cX9_stones 113 = .ok (.iaload, 1) := dk_46 (dk_at dksX9_stones_4 17 rfl rfl)
theorem dX9_stones_114 : decode cX9_stones 114 = .ok (.iload_n 2, 1) := dk_28 (dk_at dksX9_stones_4 18 rfl rfl)
theorem dX9_stones_115 : decode cX9_stones 115 = .ok (.iadd, 1) := dk_96 (dk_at dksX9_stones_4 19 rfl rfl)
theorem dX9_stones_116 : decode cX9_stones 116 = .ok (.iastore, 1) := dk_79 (dk_at dksX9_stones_4 20 rfl rfl)
theorem dX9_stones_117 : decode cX9_stones 117 = .ok (.iload_n 2, 1) := dk_28 (dk_at dksX9_stones_4 21 rfl rfl)
theorem dX9_stones_118 : decode cX9_stones 118 = .ok (.ireturn, 1) := dk_172 (dk_at dksX9_stones_4 22 rfl rfl)
abbrev cX9_isStone : ByteArray := prog_23_method_15_code
def yX9_isStone : MethodName := ⟨RX9, "isStone", "(I)Z"⟩
def dkwX9_isStone_0 : List UInt8 := [42, 180, 0, 13, 16, 102, 27, 96, 46, 4, 160, 0, 7, 4, 167, 0, 4, 3, 172]
abbrev dktX9_isStone_0 : List UInt8 := dkwX9_isStone_0 ++ []
theorem dksX9_isStone_0 : cX9_isStone.data.toList.drop 0 = dktX9_isStone_0 := by decide +kernel
theorem dX9_isStone_0 : decode cX9_isStone 0 = .ok (.aload_n 0, 1) := dk_42 (dk_at dksX9_isStone_0 0 rfl rfl)
theorem dX9_isStone_1 : decode cX9_isStone 1 = .ok (.getfield 13, 3) := dk_180 0 13 (dk_at dksX9_isStone_0 1 rfl rfl)
theorem dX9_isStone_4 : decode cX9_isStone 4 = .ok (.bipush 102, 2) := dk_16 102 (dk_at dksX9_isStone_0 4 rfl rfl)
theorem dX9_isStone_6 : decode cX9_isStone 6 = .ok (.iload_n 1, 1) := dk_27 (dk_at dksX9_isStone_0 6 rfl rfl)
theorem dX9_isStone_7 : decode cX9_isStone 7 = .ok (.iadd, 1) := dk_96 (dk_at dksX9_isStone_0 7 rfl rfl)
theorem dX9_isStone_8 : decode cX9_isStone 8 = .ok (.iaload, 1) := dk_46 (dk_at dksX9_isStone_0 8 rfl rfl)
theorem dX9_isStone_9 : decode cX9_isStone 9 = .ok (.iconst 1, 1) := dk_4 (dk_at dksX9_isStone_0 9 rfl rfl)
theorem dX9_isStone_10 : decode cX9_isStone 10 = .ok (.if_icmp .ne 7, 3) := dk_160 0 7 (dk_at dksX9_isStone_0 10 rfl rfl)
theorem dX9_isStone_13 : decode cX9_isStone 13 = .ok (.iconst 1, 1) := dk_4 (dk_at dksX9_isStone_0 13 rfl rfl)
theorem dX9_isStone_14 : decode cX9_isStone 14 = .ok (.goto 4, 3) := dk_167 0 4 (dk_at dksX9_isStone_0 14 rfl rfl)
theorem dX9_isStone_17 : decode cX9_isStone 17 = .ok (.iconst 0, 1) := dk_3 (dk_at dksX9_isStone_0 17 rfl rfl)
theorem dX9_isStone_18 : decode cX9_isStone 18 = .ok (.ireturn, 1) := dk_172 (dk_at dksX9_isStone_0 18 rfl rfl)
abbrev cX9_refuses : ByteArray := prog_23_method_4_code
def yX9_refuses : MethodName := ⟨RX9, "refuses", "(II)I"⟩
def dkwX9_refuses_1 : List UInt8 := [182, 0, 56, 172]
abbrev dktX9_refuses_1 : List UInt8 := dkwX9_refuses_1 ++ []
def dkwX9_refuses_0 : List UInt8 := [42, 180, 0, 29, 3, 27, 79, 42, 180, 0, 29, 4, 28, 79, 42, 4, 181, 0, 53, 42, 16, 253]
abbrev dktX9_refuses_0 : List UInt8 := dkwX9_refuses_0 ++ dktX9_refuses_1
theorem dksX9_refuses_0 : cX9_refuses.data.toList.drop 0 = dktX9_refuses_0 := by decide +kernel
theorem dksX9_refuses_1 : cX9_refuses.data.toList.drop 22 = dktX9_refuses_1 := dk_seg dksX9_refuses_0 22 rfl rfl
theorem dX9_refuses_0 : decode cX9_refuses 0 = .ok (.aload_n 0, 1) := dk_42 (dk_at dksX9_refuses_0 0 rfl rfl)
theorem dX9_refuses_1 : decode cX9_refuses 1 = .ok (.getfield 29, 3) := dk_180 0 29 (dk_at dksX9_refuses_0 1 rfl rfl)
theorem dX9_refuses_4 : decode cX9_refuses 4 = .ok (.iconst 0, 1) := dk_3 (dk_at dksX9_refuses_0 4 rfl rfl)
theorem dX9_refuses_5 : decode cX9_refuses 5 = .ok (.iload_n 1, 1) := dk_27 (dk_at dksX9_refuses_0 5 rfl rfl)
theorem dX9_refuses_6 : decode cX9_refuses 6 = .ok (.iastore, 1) := dk_79 (dk_at dksX9_refuses_0 6 rfl rfl)
theorem dX9_refuses_7 : decode cX9_refuses 7 = .ok (.aload_n 0, 1) := dk_42 (dk_at dksX9_refuses_0 7 rfl rfl)
theorem dX9_refuses_8 : decode cX9_refuses 8 = .ok (.getfield 29, 3) := dk_180 0 29 (dk_at dksX9_refuses_0 8 rfl rfl)
theorem dX9_refuses_11 : decode cX9_refuses 11 = .ok (.iconst 1, 1) := dk_4 (dk_at dksX9_refuses_0 11 rfl rfl)
theorem dX9_refuses_12 : decode cX9_refuses 12 = .ok (.iload_n 2, 1) := dk_28 (dk_at dksX9_refuses_0 12 rfl rfl)
theorem dX9_refuses_13 : decode cX9_refuses 13 = .ok (.iastore, 1) := dk_79 (dk_at dksX9_refuses_0 13 rfl rfl)
theorem dX9_refuses_14 : decode cX9_refuses 14 = .ok (.aload_n 0, 1) := dk_42 (dk_at dksX9_refuses_0 14 rfl rfl)
theorem dX9_refuses_15 : decode cX9_refuses 15 = .ok (.iconst 1, 1) := dk_4 (dk_at dksX9_refuses_0 15 rfl rfl)
theorem dX9_refuses_16 : decode cX9_refuses 16 = .ok (.putfield 53, 3) := dk_181 0 53 (dk_at dksX9_refuses_0 16 rfl rfl)
theorem dX9_refuses_19 : decode cX9_refuses 19 = .ok (.aload_n 0, 1) := dk_42 (dk_at dksX9_refuses_0 19 rfl rfl)
theorem dX9_refuses_20 : decode cX9_refuses 20 = .ok (.bipush (-3), 2) := dk_16 253 (dk_at dksX9_refuses_0 20 rfl rfl)
theorem dX9_refuses_22 : decode cX9_refuses 22 = .ok (.invokevirtual 56, 3) := dk_182 0 56 (dk_at dksX9_refuses_1 0 rfl rfl)
theorem dX9_refuses_25 : decode cX9_refuses 25 = .ok (.ireturn, 1) := dk_172 (dk_at dksX9_refuses_1 3 rfl rfl)
abbrev cX9_gardenersOn : ByteArray := prog_23_method_22_code
def yX9_gardenersOn : MethodName := ⟨RX9, "gardenersOn", "(I)I"⟩
def dkwX9_gardenersOn_1 : List UInt8 := [46, 27, 160, 0, 9, 4, 29, 120, 167, 0, 4, 3, 128, 61, 132, 3, 1, 167, 255, 219, 28, 172]
abbrev dktX9_gardenersOn_1 : List UInt8 := dkwX9_gardenersOn_1 ++ []
def dkwX9_gardenersOn_0 : List UInt8 := [3, 61, 3, 62, 29, 42, 180, 0, 13, 5, 46, 162, 0, 33, 28, 42, 180, 0, 13, 29, 3, 184, 0, 91]
abbrev dktX9_gardenersOn_0 : List UInt8 := dkwX9_gardenersOn_0 ++ dktX9_gardenersOn_1
theorem dksX9_gardenersOn_0 : cX9_gardenersOn.data.toList.drop 0 = dktX9_gardenersOn_0 := by decide +kernel
theorem dksX9_gardenersOn_1 : cX9_gardenersOn.data.toList.drop 24 = dktX9_gardenersOn_1 := dk_seg dksX9_gardenersOn_0 24 rfl rfl
theorem dX9_gardenersOn_0 : decode cX9_gardenersOn 0 = .ok (.iconst 0, 1) := dk_3 (dk_at dksX9_gardenersOn_0 0 rfl rfl)
theorem dX9_gardenersOn_1 : decode cX9_gardenersOn 1 = .ok (.istore_n 2, 1) := dk_61 (dk_at dksX9_gardenersOn_0 1 rfl rfl)
theorem dX9_gardenersOn_2 : decode cX9_gardenersOn 2 = .ok (.iconst 0, 1) := dk_3 (dk_at dksX9_gardenersOn_0 2 rfl rfl)
theorem dX9_gardenersOn_3 : decode cX9_gardenersOn 3 = .ok (.istore_n 3, 1) := dk_62 (dk_at dksX9_gardenersOn_0 3 rfl rfl)
theorem dX9_gardenersOn_4 : decode cX9_gardenersOn 4 = .ok (.iload_n 3, 1) := dk_29 (dk_at dksX9_gardenersOn_0 4 rfl rfl)
theorem dX9_gardenersOn_5 : decode cX9_gardenersOn 5 = .ok (.aload_n 0, 1) := dk_42 (dk_at dksX9_gardenersOn_0 5 rfl rfl)
theorem dX9_gardenersOn_6 : decode cX9_gardenersOn 6 = .ok (.getfield 13, 3) := dk_180 0 13 (dk_at dksX9_gardenersOn_0 6 rfl rfl)
theorem dX9_gardenersOn_9 : decode cX9_gardenersOn 9 = .ok (.iconst 2, 1) := dk_5 (dk_at dksX9_gardenersOn_0 9 rfl rfl)
theorem dX9_gardenersOn_10 : decode cX9_gardenersOn 10 = .ok (.iaload, 1) := dk_46 (dk_at dksX9_gardenersOn_0 10 rfl rfl)
theorem dX9_gardenersOn_11 : decode cX9_gardenersOn 11 = .ok (.if_icmp .ge 33, 3) := dk_162 0 33 (dk_at dksX9_gardenersOn_0 11 rfl rfl)
theorem dX9_gardenersOn_14 : decode cX9_gardenersOn 14 = .ok (.iload_n 2, 1) := dk_28 (dk_at dksX9_gardenersOn_0 14 rfl rfl)
theorem dX9_gardenersOn_15 : decode cX9_gardenersOn 15 = .ok (.aload_n 0, 1) := dk_42 (dk_at dksX9_gardenersOn_0 15 rfl rfl)
theorem dX9_gardenersOn_16 : decode cX9_gardenersOn 16 = .ok (.getfield 13, 3) := dk_180 0 13 (dk_at dksX9_gardenersOn_0 16 rfl rfl)
theorem dX9_gardenersOn_19 : decode cX9_gardenersOn 19 = .ok (.iload_n 3, 1) := dk_29 (dk_at dksX9_gardenersOn_0 19 rfl rfl)
theorem dX9_gardenersOn_20 : decode cX9_gardenersOn 20 = .ok (.iconst 0, 1) := dk_3 (dk_at dksX9_gardenersOn_0 20 rfl rfl)
theorem dX9_gardenersOn_21 : decode cX9_gardenersOn 21 = .ok (.invokestatic 91, 3) := dk_184 0 91 (dk_at dksX9_gardenersOn_0 21 rfl rfl)
theorem dX9_gardenersOn_24 : decode cX9_gardenersOn 24 = .ok (.iaload, 1) := dk_46 (dk_at dksX9_gardenersOn_1 0 rfl rfl)
theorem dX9_gardenersOn_25 : decode cX9_gardenersOn 25 = .ok (.iload_n 1, 1) := dk_27 (dk_at dksX9_gardenersOn_1 1 rfl rfl)
theorem dX9_gardenersOn_26 : decode cX9_gardenersOn 26 = .ok (.if_icmp .ne 9, 3) := dk_160 0 9 (dk_at dksX9_gardenersOn_1 2 rfl rfl)
theorem dX9_gardenersOn_29 : decode cX9_gardenersOn 29 = .ok (.iconst 1, 1) := dk_4 (dk_at dksX9_gardenersOn_1 5 rfl rfl)
theorem dX9_gardenersOn_30 : decode cX9_gardenersOn 30 = .ok (.iload_n 3, 1) := dk_29 (dk_at dksX9_gardenersOn_1 6 rfl rfl)
theorem dX9_gardenersOn_31 : decode cX9_gardenersOn 31 = .ok (.ishl, 1) := dk_120 (dk_at dksX9_gardenersOn_1 7 rfl rfl)
theorem dX9_gardenersOn_32 : decode cX9_gardenersOn 32 = .ok (.goto 4, 3) := dk_167 0 4 (dk_at dksX9_gardenersOn_1 8 rfl rfl)
theorem dX9_gardenersOn_35 : decode cX9_gardenersOn 35 = .ok (.iconst 0, 1) := dk_3 (dk_at dksX9_gardenersOn_1 11 rfl rfl)
theorem dX9_gardenersOn_36 : decode cX9_gardenersOn 36 = .ok (.ior, 1) := dk_128 (dk_at dksX9_gardenersOn_1 12 rfl rfl)
theorem dX9_gardenersOn_37 : decode cX9_gardenersOn 37 = .ok (.istore_n 2, 1) := dk_61 (dk_at dksX9_gardenersOn_1 13 rfl rfl)
theorem dX9_gardenersOn_38 : decode cX9_gardenersOn 38 = .ok (.iinc 3 1, 3) := dk_132 3 1 (dk_at dksX9_gardenersOn_1 14 rfl rfl)
theorem dX9_gardenersOn_41 : decode cX9_gardenersOn 41 = .ok (.goto (-37), 3) := dk_167 255 219 (dk_at dksX9_gardenersOn_1 17 rfl rfl)
theorem dX9_gardenersOn_44 : decode cX9_gardenersOn 44 = .ok (.iload_n 2, 1) := dk_28 (dk_at dksX9_gardenersOn_1 20 rfl rfl)
theorem dX9_gardenersOn_45 : decode cX9_gardenersOn 45 = .ok (.ireturn, 1) := dk_172 (dk_at dksX9_gardenersOn_1 21 rfl rfl)
abbrev cX9_gardAt : ByteArray := prog_23_method_11_code
def yX9_gardAt : MethodName := ⟨RX9, "gardAt", "(II)I"⟩
def dkwX9_gardAt_0 : List UInt8 := [17, 0, 162, 8, 26, 104, 96, 27, 96, 172]
abbrev dktX9_gardAt_0 : List UInt8 := dkwX9_gardAt_0 ++ []
theorem dksX9_gardAt_0 : cX9_gardAt.data.toList.drop 0 = dktX9_gardAt_0 := by decide +kernel
theorem dX9_gardAt_0 : decode cX9_gardAt 0 = .ok (.sipush 162, 3) := dk_17 0 162 (dk_at dksX9_gardAt_0 0 rfl rfl)
theorem dX9_gardAt_3 : decode cX9_gardAt 3 = .ok (.iconst 5, 1) := dk_8 (dk_at dksX9_gardAt_0 3 rfl rfl)
theorem dX9_gardAt_4 : decode cX9_gardAt 4 = .ok (.iload_n 0, 1) := dk_26 (dk_at dksX9_gardAt_0 4 rfl rfl)
theorem dX9_gardAt_5 : decode cX9_gardAt 5 = .ok (.imul, 1) := dk_104 (dk_at dksX9_gardAt_0 5 rfl rfl)
theorem dX9_gardAt_6 : decode cX9_gardAt 6 = .ok (.iadd, 1) := dk_96 (dk_at dksX9_gardAt_0 6 rfl rfl)
theorem dX9_gardAt_7 : decode cX9_gardAt 7 = .ok (.iload_n 1, 1) := dk_27 (dk_at dksX9_gardAt_0 7 rfl rfl)
theorem dX9_gardAt_8 : decode cX9_gardAt 8 = .ok (.iadd, 1) := dk_96 (dk_at dksX9_gardAt_0 8 rfl rfl)
theorem dX9_gardAt_9 : decode cX9_gardAt 9 = .ok (.ireturn, 1) := dk_172 (dk_at dksX9_gardAt_0 9 rfl rfl)
abbrev cX9_molesOn : ByteArray := prog_23_method_23_code
def yX9_molesOn : MethodName := ⟨RX9, "molesOn", "(I)I"⟩
def dkwX9_molesOn_2 : List UInt8 := [3, 128, 61, 132, 3, 1, 167, 255, 206, 28, 172]
abbrev dktX9_molesOn_2 : List UInt8 := dkwX9_molesOn_2 ++ []
def dkwX9_molesOn_1 : List UInt8 := [46, 27, 160, 0, 22, 42, 180, 0, 13, 29, 4, 184, 0, 94, 46, 154, 0, 9, 4, 29, 120, 167, 0, 4]
abbrev dktX9_molesOn_1 : List UInt8 := dkwX9_molesOn_1 ++ dktX9_molesOn_2
def dkwX9_molesOn_0 : List UInt8 := [3, 61, 3, 62, 29, 42, 180, 0, 13, 6, 46, 162, 0, 46, 28, 42, 180, 0, 13, 29, 3, 184, 0, 94]
abbrev dktX9_molesOn_0 : List UInt8 := dkwX9_molesOn_0 ++ dktX9_molesOn_1
theorem dksX9_molesOn_0 : cX9_molesOn.data.toList.drop 0 = dktX9_molesOn_0 := by decide +kernel
theorem dksX9_molesOn_1 : cX9_molesOn.data.toList.drop 24 = dktX9_molesOn_1 := dk_seg dksX9_molesOn_0 24 rfl rfl
theorem dksX9_molesOn_2 : cX9_molesOn.data.toList.drop 48 = dktX9_molesOn_2 := dk_seg dksX9_molesOn_1 24 rfl rfl
theorem dX9_molesOn_0 : decode cX9_molesOn 0 = .ok (.iconst 0, 1) := dk_3 (dk_at dksX9_molesOn_0 0 rfl rfl)
theorem dX9_molesOn_1 : decode cX9_molesOn 1 = .ok (.istore_n 2, 1) := dk_61 (dk_at dksX9_molesOn_0 1 rfl rfl)
theorem dX9_molesOn_2 : decode cX9_molesOn 2 = .ok (.iconst 0, 1) := dk_3 (dk_at dksX9_molesOn_0 2 rfl rfl)
theorem dX9_molesOn_3 : decode cX9_molesOn 3 = .ok (.istore_n 3, 1) := dk_62 (dk_at dksX9_molesOn_0 3 rfl rfl)
theorem dX9_molesOn_4 : decode cX9_molesOn 4 = .ok (.iload_n 3, 1) := dk_29 (dk_at dksX9_molesOn_0 4 rfl rfl)
theorem dX9_molesOn_5 : decode cX9_molesOn 5 = .ok (.aload_n 0, 1) := dk_42 (dk_at dksX9_molesOn_0 5 rfl rfl)
theorem dX9_molesOn_6 : decode cX9_molesOn 6 = .ok (.getfield 13, 3) := dk_180 0 13 (dk_at dksX9_molesOn_0 6 rfl rfl)
theorem dX9_molesOn_9 : decode cX9_molesOn 9 = .ok (.iconst 3, 1) := dk_6 (dk_at dksX9_molesOn_0 9 rfl rfl)
theorem dX9_molesOn_10 : decode cX9_molesOn 10 = .ok (.iaload, 1) := dk_46 (dk_at dksX9_molesOn_0 10 rfl rfl)
theorem dX9_molesOn_11 : decode cX9_molesOn 11 = .ok (.if_icmp .ge 46, 3) := dk_162 0 46 (dk_at dksX9_molesOn_0 11 rfl rfl)
theorem dX9_molesOn_14 : decode cX9_molesOn 14 = .ok (.iload_n 2, 1) := dk_28 (dk_at dksX9_molesOn_0 14 rfl rfl)
theorem dX9_molesOn_15 : decode cX9_molesOn 15 = .ok (.aload_n 0, 1) := dk_42 (dk_at dksX9_molesOn_0 15 rfl rfl)
theorem dX9_molesOn_16 : decode cX9_molesOn 16 = .ok (.getfield 13, 3) := dk_180 0 13 (dk_at dksX9_molesOn_0 16 rfl rfl)
theorem dX9_molesOn_19 : decode cX9_molesOn 19 = .ok (.iload_n 3, 1) := dk_29 (dk_at dksX9_molesOn_0 19 rfl rfl)
theorem dX9_molesOn_20 : decode cX9_molesOn 20 = .ok (.iconst 0, 1) := dk_3 (dk_at dksX9_molesOn_0 20 rfl rfl)
theorem dX9_molesOn_21 : decode cX9_molesOn 21 = .ok (.invokestatic 94, 3) := dk_184 0 94 (dk_at dksX9_molesOn_0 21 rfl rfl)
theorem dX9_molesOn_24 : decode cX9_molesOn 24 = .ok (.iaload, 1) := dk_46 (dk_at dksX9_molesOn_1 0 rfl rfl)
theorem dX9_molesOn_25 : decode cX9_molesOn 25 = .ok (.iload_n 1, 1) := dk_27 (dk_at dksX9_molesOn_1 1 rfl rfl)
theorem dX9_molesOn_26 : decode cX9_molesOn 26 = .ok (.if_icmp .ne 22, 3) := dk_160 0 22 (dk_at dksX9_molesOn_1 2 rfl rfl)
theorem dX9_molesOn_29 : decode cX9_molesOn 29 = .ok (.aload_n 0, 1) := dk_42 (dk_at dksX9_molesOn_1 5 rfl rfl)
theorem dX9_molesOn_30 : decode cX9_molesOn 30 = .ok (.getfield 13, 3) := dk_180 0 13 (dk_at dksX9_molesOn_1 6 rfl rfl)
theorem dX9_molesOn_33 : decode cX9_molesOn 33 = .ok (.iload_n 3, 1) := dk_29 (dk_at dksX9_molesOn_1 9 rfl rfl)
theorem dX9_molesOn_34 : decode cX9_molesOn 34 = .ok (.iconst 1, 1) := dk_4 (dk_at dksX9_molesOn_1 10 rfl rfl)
theorem dX9_molesOn_35 : decode cX9_molesOn 35 = .ok (.invokestatic 94, 3) := dk_184 0 94 (dk_at dksX9_molesOn_1 11 rfl rfl)
theorem dX9_molesOn_38 : decode cX9_molesOn 38 = .ok (.iaload, 1) := dk_46 (dk_at dksX9_molesOn_1 14 rfl rfl)
theorem dX9_molesOn_39 : decode cX9_molesOn 39 = .ok (.ifCond .ne 9, 3) := dk_154 0 9 (dk_at dksX9_molesOn_1 15 rfl rfl)
theorem dX9_molesOn_42 : decode cX9_molesOn 42 = .ok (.iconst 1, 1) := dk_4 (dk_at dksX9_molesOn_1 18 rfl rfl)
theorem dX9_molesOn_43 : decode cX9_molesOn 43 = .ok (.iload_n 3, 1) := dk_29 (dk_at dksX9_molesOn_1 19 rfl rfl)
theorem dX9_molesOn_44 : decode cX9_molesOn 44 = .ok (.ishl, 1) := dk_120 (dk_at dksX9_molesOn_1 20 rfl rfl)
theorem dX9_molesOn_45 : decode cX9_molesOn 45 = .ok (.goto 4, 3) := dk_167 0 4 (dk_at dksX9_molesOn_1 21 rfl rfl)
theorem dX9_molesOn_48 : decode cX9_molesOn 48 = .ok (.iconst 0, 1) := dk_3 (dk_at dksX9_molesOn_2 0 rfl rfl)
theorem dX9_molesOn_49 : decode cX9_molesOn 49 = .ok (.ior, 1) := dk_128 (dk_at dksX9_molesOn_2 1 rfl rfl)
theorem dX9_molesOn_50 : decode cX9_molesOn 50 = .ok (.istore_n 2, 1) := dk_61 (dk_at dksX9_molesOn_2 2 rfl rfl)
theorem dX9_molesOn_51 : decode cX9_molesOn 51 = .ok (.iinc 3 1, 3) := dk_132 3 1 (dk_at dksX9_molesOn_2 3 rfl rfl)
theorem dX9_molesOn_54 : decode cX9_molesOn 54 = .ok (.goto (-50), 3) := dk_167 255 206 (dk_at dksX9_molesOn_2 6 rfl rfl)
theorem dX9_molesOn_57 : decode cX9_molesOn 57 = .ok (.iload_n 2, 1) := dk_28 (dk_at dksX9_molesOn_2 9 rfl rfl)
theorem dX9_molesOn_58 : decode cX9_molesOn 58 = .ok (.ireturn, 1) := dk_172 (dk_at dksX9_molesOn_2 10 rfl rfl)
abbrev cX9_moleAt : ByteArray := prog_23_method_12_code
def yX9_moleAt : MethodName := ⟨RX9, "moleAt", "(II)I"⟩
def dkwX9_moleAt_0 : List UInt8 := [17, 0, 182, 6, 26, 104, 96, 27, 96, 172]
abbrev dktX9_moleAt_0 : List UInt8 := dkwX9_moleAt_0 ++ []
theorem dksX9_moleAt_0 : cX9_moleAt.data.toList.drop 0 = dktX9_moleAt_0 := by decide +kernel
theorem dX9_moleAt_0 : decode cX9_moleAt 0 = .ok (.sipush 182, 3) := dk_17 0 182 (dk_at dksX9_moleAt_0 0 rfl rfl)
theorem dX9_moleAt_3 : decode cX9_moleAt 3 = .ok (.iconst 3, 1) := dk_6 (dk_at dksX9_moleAt_0 3 rfl rfl)
theorem dX9_moleAt_4 : decode cX9_moleAt 4 = .ok (.iload_n 0, 1) := dk_26 (dk_at dksX9_moleAt_0 4 rfl rfl)
theorem dX9_moleAt_5 : decode cX9_moleAt 5 = .ok (.imul, 1) := dk_104 (dk_at dksX9_moleAt_0 5 rfl rfl)
theorem dX9_moleAt_6 : decode cX9_moleAt 6 = .ok (.iadd, 1) := dk_96 (dk_at dksX9_moleAt_0 6 rfl rfl)
theorem dX9_moleAt_7 : decode cX9_moleAt 7 = .ok (.iload_n 1, 1) := dk_27 (dk_at dksX9_moleAt_0 7 rfl rfl)
theorem dX9_moleAt_8 : decode cX9_moleAt 8 = .ok (.iadd, 1) := dk_96 (dk_at dksX9_moleAt_0 8 rfl rfl)
theorem dX9_moleAt_9 : decode cX9_moleAt 9 = .ok (.ireturn, 1) := dk_172 (dk_at dksX9_moleAt_0 9 rfl rfl)
abbrev cX9_rain : ByteArray := prog_23_method_27_code
def yX9_rain : MethodName := ⟨RX9, "rain", "(I)I"⟩
def dkwX9_rain_0 : List UInt8 := [42, 182, 0, 82, 42, 42, 27, 182, 0, 109, 182, 0, 88, 172]
abbrev dktX9_rain_0 : List UInt8 := dkwX9_rain_0 ++ []
theorem dksX9_rain_0 : cX9_rain.data.toList.drop 0 = dktX9_rain_0 := by decide +kernel
theorem dX9_rain_0 : decode cX9_rain 0 = .ok (.aload_n 0, 1) := dk_42 (dk_at dksX9_rain_0 0 rfl rfl)
theorem dX9_rain_1 : decode cX9_rain 1 = .ok (.invokevirtual 82, 3) := dk_182 0 82 (dk_at dksX9_rain_0 1 rfl rfl)
theorem dX9_rain_4 : decode cX9_rain 4 = .ok (.aload_n 0, 1) := dk_42 (dk_at dksX9_rain_0 4 rfl rfl)
theorem dX9_rain_5 : decode cX9_rain 5 = .ok (.aload_n 0, 1) := dk_42 (dk_at dksX9_rain_0 5 rfl rfl)
theorem dX9_rain_6 : decode cX9_rain 6 = .ok (.iload_n 1, 1) := dk_27 (dk_at dksX9_rain_0 6 rfl rfl)
theorem dX9_rain_7 : decode cX9_rain 7 = .ok (.invokevirtual 109, 3) := dk_182 0 109 (dk_at dksX9_rain_0 7 rfl rfl)
theorem dX9_rain_10 : decode cX9_rain 10 = .ok (.invokevirtual 88, 3) := dk_182 0 88 (dk_at dksX9_rain_0 10 rfl rfl)
theorem dX9_rain_13 : decode cX9_rain 13 = .ok (.ireturn, 1) := dk_172 (dk_at dksX9_rain_0 13 rfl rfl)
abbrev cX9_rains : ByteArray := prog_23_method_26_code
def yX9_rains : MethodName := ⟨RX9, "rains", "(I)I"⟩
def dkwX9_rains_1 : List UInt8 := [180, 0, 13, 4, 27, 79, 28, 172]
abbrev dktX9_rains_1 : List UInt8 := dkwX9_rains_1 ++ []
def dkwX9_rains_0 : List UInt8 := [27, 3, 8, 184, 0, 74, 154, 0, 10, 42, 16, 254, 182, 0, 56, 172, 42, 180, 0, 13, 4, 46, 61, 42]
abbrev dktX9_rains_0 : List UInt8 := dkwX9_rains_0 ++ dktX9_rains_1
theorem dksX9_rains_0 : cX9_rains.data.toList.drop 0 = dktX9_rains_0 := by decide +kernel
theorem dksX9_rains_1 : cX9_rains.data.toList.drop 24 = dktX9_rains_1 := dk_seg dksX9_rains_0 24 rfl rfl
theorem dX9_rains_0 : decode cX9_rains 0 = .ok (.iload_n 1, 1) := dk_27 (dk_at dksX9_rains_0 0 rfl rfl)
theorem dX9_rains_1 : decode cX9_rains 1 = .ok (.iconst 0, 1) := dk_3 (dk_at dksX9_rains_0 1 rfl rfl)
theorem dX9_rains_2 : decode cX9_rains 2 = .ok (.iconst 5, 1) := dk_8 (dk_at dksX9_rains_0 2 rfl rfl)
theorem dX9_rains_3 : decode cX9_rains 3 = .ok (.invokestatic 74, 3) := dk_184 0 74 (dk_at dksX9_rains_0 3 rfl rfl)
theorem dX9_rains_6 : decode cX9_rains 6 = .ok (.ifCond .ne 10, 3) := dk_154 0 10 (dk_at dksX9_rains_0 6 rfl rfl)
theorem dX9_rains_9 : decode cX9_rains 9 = .ok (.aload_n 0, 1) := dk_42 (dk_at dksX9_rains_0 9 rfl rfl)
theorem dX9_rains_10 : decode cX9_rains 10 = .ok (.bipush (-2), 2) := dk_16 254 (dk_at dksX9_rains_0 10 rfl rfl)
theorem dX9_rains_12 : decode cX9_rains 12 = .ok (.invokevirtual 56, 3) := dk_182 0 56 (dk_at dksX9_rains_0 12 rfl rfl)
theorem dX9_rains_15 : decode cX9_rains 15 = .ok (.ireturn, 1) := dk_172 (dk_at dksX9_rains_0 15 rfl rfl)
theorem dX9_rains_16 : decode cX9_rains 16 = .ok (.aload_n 0, 1) := dk_42 (dk_at dksX9_rains_0 16 rfl rfl)
theorem dX9_rains_17 : decode cX9_rains 17 = .ok (.getfield 13, 3) := dk_180 0 13 (dk_at dksX9_rains_0 17 rfl rfl)
theorem dX9_rains_20 : decode cX9_rains 20 = .ok (.iconst 1, 1) := dk_4 (dk_at dksX9_rains_0 20 rfl rfl)
theorem dX9_rains_21 : decode cX9_rains 21 = .ok (.iaload, 1) := dk_46 (dk_at dksX9_rains_0 21 rfl rfl)
theorem dX9_rains_22 : decode cX9_rains 22 = .ok (.istore_n 2, 1) := dk_61 (dk_at dksX9_rains_0 22 rfl rfl)
theorem dX9_rains_23 : decode cX9_rains 23 = .ok (.aload_n 0, 1) := dk_42 (dk_at dksX9_rains_0 23 rfl rfl)
theorem dX9_rains_24 : decode cX9_rains 24 = .ok (.getfield 13, 3) := dk_180 0 13 (dk_at dksX9_rains_1 0 rfl rfl)
theorem dX9_rains_27 : decode cX9_rains 27 = .ok (.iconst 1, 1) := dk_4 (dk_at dksX9_rains_1 3 rfl rfl)
theorem dX9_rains_28 : decode cX9_rains 28 = .ok (.iload_n 1, 1) := dk_27 (dk_at dksX9_rains_1 4 rfl rfl)
theorem dX9_rains_29 : decode cX9_rains 29 = .ok (.iastore, 1) := dk_79 (dk_at dksX9_rains_1 5 rfl rfl)
theorem dX9_rains_30 : decode cX9_rains 30 = .ok (.iload_n 2, 1) := dk_28 (dk_at dksX9_rains_1 6 rfl rfl)
theorem dX9_rains_31 : decode cX9_rains 31 = .ok (.ireturn, 1) := dk_172 (dk_at dksX9_rains_1 7 rfl rfl)
abbrev cX9_gardener : ByteArray := prog_23_method_29_code
def yX9_gardener : MethodName := ⟨RX9, "gardener", "(I)I"⟩
def dkwX9_gardener_0 : List UInt8 := [42, 182, 0, 82, 42, 42, 27, 182, 0, 118, 182, 0, 88, 172]
abbrev dktX9_gardener_0 : List UInt8 := dkwX9_gardener_0 ++ []
theorem dksX9_gardener_0 : cX9_gardener.data.toList.drop 0 = dktX9_gardener_0 := by decide +kernel
theorem dX9_gardener_0 : decode cX9_gardener 0 = .ok (.aload_n 0, 1) := dk_42 (dk_at dksX9_gardener_0 0 rfl rfl)
theorem dX9_gardener_1 : decode cX9_gardener 1 = .ok (.invokevirtual 82, 3) := dk_182 0 82 (dk_at dksX9_gardener_0 1 rfl rfl)
theorem dX9_gardener_4 : decode cX9_gardener 4 = .ok (.aload_n 0, 1) := dk_42 (dk_at dksX9_gardener_0 4 rfl rfl)
theorem dX9_gardener_5 : decode cX9_gardener 5 = .ok (.aload_n 0, 1) := dk_42 (dk_at dksX9_gardener_0 5 rfl rfl)
theorem dX9_gardener_6 : decode cX9_gardener 6 = .ok (.iload_n 1, 1) := dk_27 (dk_at dksX9_gardener_0 6 rfl rfl)
theorem dX9_gardener_7 : decode cX9_gardener 7 = .ok (.invokevirtual 118, 3) := dk_182 0 118 (dk_at dksX9_gardener_0 7 rfl rfl)
theorem dX9_gardener_10 : decode cX9_gardener 10 = .ok (.invokevirtual 88, 3) := dk_182 0 88 (dk_at dksX9_gardener_0 10 rfl rfl)
theorem dX9_gardener_13 : decode cX9_gardener 13 = .ok (.ireturn, 1) := dk_172 (dk_at dksX9_gardener_0 13 rfl rfl)
abbrev cX9_addsGardener : ByteArray := prog_23_method_28_code
def yX9_addsGardener : MethodName := ⟨RX9, "addsGardener", "(I)I"⟩
def dkwX9_addsGardener_5 : List UInt8 := [79, 28, 172]
abbrev dktX9_addsGardener_5 : List UInt8 := dkwX9_addsGardener_5 ++ []
def dkwX9_addsGardener_4 : List UInt8 := [16, 6, 79, 42, 180, 0, 13, 28, 5, 184, 0, 91, 16, 12, 79, 42, 180, 0, 13, 5, 92, 46, 4, 96]
abbrev dktX9_addsGardener_4 : List UInt8 := dkwX9_addsGardener_4 ++ dktX9_addsGardener_5
def dkwX9_addsGardener_3 : List UInt8 := [167, 255, 237, 42, 180, 0, 13, 28, 3, 184, 0, 91, 27, 79, 42, 180, 0, 13, 28, 4, 184, 0, 91]
abbrev dktX9_addsGardener_3 : List UInt8 := dkwX9_addsGardener_3 ++ dktX9_addsGardener_4
def dkwX9_addsGardener_2 : List UInt8 := [5, 46, 61, 3, 62, 29, 8, 162, 0, 20, 42, 180, 0, 13, 28, 29, 184, 0, 91, 3, 79, 132, 3, 1]
abbrev dktX9_addsGardener_2 : List UInt8 := dkwX9_addsGardener_2 ++ dktX9_addsGardener_3
def dkwX9_addsGardener_1 : List UInt8 := [4, 7, 182, 0, 60, 172, 42, 27, 182, 0, 112, 154, 0, 9, 42, 27, 182, 0, 115, 172, 42, 180, 0, 13]
abbrev dktX9_addsGardener_1 : List UInt8 := dkwX9_addsGardener_1 ++ dktX9_addsGardener_2
def dkwX9_addsGardener_0 : List UInt8 := [27, 184, 0, 78, 154, 0, 9, 42, 2, 182, 0, 56, 172, 42, 180, 0, 13, 5, 46, 7, 160, 0, 10, 42]
abbrev dktX9_addsGardener_0 : List UInt8 := dkwX9_addsGardener_0 ++ dktX9_addsGardener_1
theorem dksX9_addsGardener_0 : cX9_addsGardener.data.toList.drop 0 = dktX9_addsGardener_0 := by decide +kernel
theorem dksX9_addsGardener_1 : cX9_addsGardener.data.toList.drop 24 = dktX9_addsGardener_1 := dk_seg dksX9_addsGardener_0 24 rfl rfl
theorem dksX9_addsGardener_2 : cX9_addsGardener.data.toList.drop 48 = dktX9_addsGardener_2 := dk_seg dksX9_addsGardener_1 24 rfl rfl
theorem dksX9_addsGardener_3 : cX9_addsGardener.data.toList.drop 72 = dktX9_addsGardener_3 := dk_seg dksX9_addsGardener_2 24 rfl rfl
theorem dksX9_addsGardener_4 : cX9_addsGardener.data.toList.drop 95 = dktX9_addsGardener_4 := dk_seg dksX9_addsGardener_3 23 rfl rfl
theorem dksX9_addsGardener_5 : cX9_addsGardener.data.toList.drop 119 = dktX9_addsGardener_5 := dk_seg dksX9_addsGardener_4 24 rfl rfl
theorem dX9_addsGardener_0 : decode cX9_addsGardener 0 = .ok (.iload_n 1, 1) := dk_27 (dk_at dksX9_addsGardener_0 0 rfl rfl)
theorem dX9_addsGardener_1 : decode cX9_addsGardener 1 = .ok (.invokestatic 78, 3) := dk_184 0 78 (dk_at dksX9_addsGardener_0 1 rfl rfl)
theorem dX9_addsGardener_4 : decode cX9_addsGardener 4 = .ok (.ifCond .ne 9, 3) := dk_154 0 9 (dk_at dksX9_addsGardener_0 4 rfl rfl)
theorem dX9_addsGardener_7 : decode cX9_addsGardener 7 = .ok (.aload_n 0, 1) := dk_42 (dk_at dksX9_addsGardener_0 7 rfl rfl)
theorem dX9_addsGardener_8 : decode cX9_addsGardener 8 = .ok (.iconst (-1), 1) := dk_2 (dk_at dksX9_addsGardener_0 8 rfl rfl)
theorem dX9_addsGardener_9 : decode cX9_addsGardener 9 = .ok (.invokevirtual 56, 3) := dk_182 0 56 (dk_at dksX9_addsGardener_0 9 rfl rfl)
theorem dX9_addsGardener_12 : decode cX9_addsGardener 12 = .ok (.ireturn, 1) := dk_172 (dk_at dksX9_addsGardener_0 12 rfl rfl)
theorem dX9_addsGardener_13 : decode cX9_addsGardener 13 = .ok (.aload_n 0, 1) := dk_42 (dk_at dksX9_addsGardener_0 13 rfl rfl)
theorem dX9_addsGardener_14 : decode cX9_addsGardener 14 = .ok (.getfield 13, 3) := dk_180 0 13 (dk_at dksX9_addsGardener_0 14 rfl rfl)
theorem dX9_addsGardener_17 : decode cX9_addsGardener 17 = .ok (.iconst 2, 1) := dk_5 (dk_at dksX9_addsGardener_0 17 rfl rfl)
theorem dX9_addsGardener_18 : decode cX9_addsGardener 18 = .ok (.iaload, 1) := dk_46 (dk_at dksX9_addsGardener_0 18 rfl rfl)
theorem dX9_addsGardener_19 : decode cX9_addsGardener 19 = .ok (.iconst 4, 1) := dk_7 (dk_at dksX9_addsGardener_0 19 rfl rfl)
theorem dX9_addsGardener_20 : decode cX9_addsGardener 20 = .ok (.if_icmp .ne 10, 3) := dk_160 0 10 (dk_at dksX9_addsGardener_0 20 rfl rfl)
theorem dX9_addsGardener_23 : decode cX9_addsGardener 23 = .ok (.aload_n 0, 1) := dk_42 (dk_at dksX9_addsGardener_0 23 rfl rfl)
theorem dX9_addsGardener_24 : decode cX9_addsGardener 24 = .ok (.iconst 1, 1) := dk_4 (dk_at dksX9_addsGardener_1 0 rfl rfl)
theorem dX9_addsGardener_25 : decode cX9_addsGardener 25 = .ok (.iconst 4, 1) := dk_7 (dk_at dksX9_addsGardener_1 1 rfl rfl)
theorem dX9_addsGardener_26 : decode cX9_addsGardener 26 = .ok (.invokevirtual 60, 3) := dk_182 0 60 (dk_at dksX9_addsGardener_1 2 rfl rfl)
theorem dX9_addsGardener_29 : decode cX9_addsGardener 29 = .ok (.ireturn, 1) := dk_172 (dk_at dksX9_addsGardener_1 5 rfl rfl)
theorem dX9_addsGardener_30 : decode cX9_addsGardener 30 = .ok (.aload_n 0, 1) := dk_42 (dk_at dksX9_addsGardener_1 6 rfl rfl)
theorem dX9_addsGardener_31 : decode cX9_addsGardener 31 = .ok (.iload_n 1, 1) := dk_27 (dk_at dksX9_addsGardener_1 7 rfl rfl)
theorem dX9_addsGardener_32 : decode cX9_addsGardener 32 = .ok (.invokevirtual 112, 3) := dk_182 0 112 (dk_at dksX9_addsGardener_1 8 rfl rfl)
theorem dX9_addsGardener_35 : decode cX9_addsGardener 35 = .ok (.ifCond .ne 9, 3) := dk_154 0 9 (dk_at dksX9_addsGardener_1 11 rfl rfl)
theorem dX9_addsGardener_38 : decode cX9_addsGardener 38 = .ok (.aload_n 0, 1) := dk_42 (dk_at dksX9_addsGardener_1 14 rfl rfl)
theorem dX9_addsGardener_39 : decode cX9_addsGardener 39 = .ok (.iload_n 1, 1) := dk_27 (dk_at dksX9_addsGardener_1 15 rfl rfl)
theorem dX9_addsGardener_40 : decode cX9_addsGardener 40 = .ok (.invokevirtual 115, 3) := dk_182 0 115 (dk_at dksX9_addsGardener_1 16 rfl rfl)
theorem dX9_addsGardener_43 : decode cX9_addsGardener 43 = .ok (.ireturn, 1) := dk_172 (dk_at dksX9_addsGardener_1 19 rfl rfl)
theorem dX9_addsGardener_44 : decode cX9_addsGardener 44 = .ok (.aload_n 0, 1) := dk_42 (dk_at dksX9_addsGardener_1 20 rfl rfl)
theorem dX9_addsGardener_45 : decode cX9_addsGardener 45 = .ok (.getfield 13, 3) := dk_180 0 13 (dk_at dksX9_addsGardener_1 21 rfl rfl)
theorem dX9_addsGardener_48 : decode cX9_addsGardener 48 = .ok (.iconst 2, 1) := dk_5 (dk_at dksX9_addsGardener_2 0 rfl rfl)
theorem dX9_addsGardener_49 : decode cX9_addsGardener 49 = .ok (.iaload, 1) := dk_46 (dk_at dksX9_addsGardener_2 1 rfl rfl)
theorem dX9_addsGardener_50 : decode cX9_addsGardener 50 = .ok (.istore_n 2, 1) := dk_61 (dk_at dksX9_addsGardener_2 2 rfl rfl)
theorem dX9_addsGardener_51 : decode cX9_addsGardener 51 = .ok (.iconst 0, 1) := dk_3 (dk_at dksX9_addsGardener_2 3 rfl rfl)
theorem dX9_addsGardener_52 : decode cX9_addsGardener 52 = .ok (.istore_n 3, 1) := dk_62 (dk_at dksX9_addsGardener_2 4 rfl rfl)
theorem dX9_addsGardener_53 : decode cX9_addsGardener 53 = .ok (.iload_n 3, 1) := dk_29 (dk_at dksX9_addsGardener_2 5 rfl rfl)
theorem dX9_addsGardener_54 : decode cX9_addsGardener 54 = .ok (.iconst 5, 1) := dk_8 (dk_at dksX9_addsGardener_2 6 rfl rfl)
theorem dX9_addsGardener_55 : decode cX9_addsGardener 55 = .ok (.if_icmp .ge 20, 3) := dk_162 0 20 (dk_at dksX9_addsGardener_2 7 rfl rfl)
theorem dX9_addsGardener_58 : decode cX9_addsGardener 58 = .ok (.aload_n 0, 1) := dk_42 (dk_at dksX9_addsGardener_2 10 rfl rfl)
theorem dX9_addsGardener_59 : decode cX9_addsGardener 59 = .ok (.getfield 13, 3) := dk_180 0 13 (dk_at dksX9_addsGardener_2 11 rfl rfl)
theorem dX9_addsGardener_62 : decode cX9_addsGardener 62 = .ok (.iload_n 2, 1) := dk_28 (dk_at dksX9_addsGardener_2 14 rfl rfl)
theorem dX9_addsGardener_63 : decode cX9_addsGardener 63 = .ok (.iload_n 3, 1) := dk_29 (dk_at dksX9_addsGardener_2 15 rfl rfl)
theorem dX9_addsGardener_64 : decode cX9_addsGardener 64 = .ok (.invokestatic 91, 3) := dk_184 0 91 (dk_at dksX9_addsGardener_2 16 rfl rfl)
theorem dX9_addsGardener_67 : decode cX9_addsGardener 67 = .ok (.iconst 0, 1) := dk_3 (dk_at dksX9_addsGardener_2 19 rfl rfl)
theorem dX9_addsGardener_68 : decode cX9_addsGardener 68 = .ok (.iastore, 1) := dk_79 (dk_at dksX9_addsGardener_2 20 rfl rfl)
theorem dX9_addsGardener_69 : decode cX9_addsGardener 69 = .ok (.iinc 3 1, 3) := dk_132 3 1 (dk_at dksX9_addsGardener_2 21 rfl rfl)
theorem dX9_addsGardener_72 : decode cX9_addsGardener 72 = .ok (.goto (-19), 3) := dk_167 255 237 (dk_at dksX9_addsGardener_3 0 rfl rfl)
theorem dX9_addsGardener_75 : decode cX9_addsGardener 75 = .ok (.aload_n 0, 1) := dk_42 (dk_at dksX9_addsGardener_3 3 rfl rfl)
theorem dX9_addsGardener_76 : decode cX9_addsGardener 76 = .ok (.getfield 13, 3) := dk_180 0 13 (dk_at dksX9_addsGardener_3 4 rfl rfl)
theorem dX9_addsGardener_79 : decode cX9_addsGardener 79 = .ok (.iload_n 2, 1) := dk_28 (dk_at dksX9_addsGardener_3 7 rfl rfl)
theorem dX9_addsGardener_80 : decode cX9_addsGardener 80 = .ok (.iconst 0, 1) := dk_3 (dk_at dksX9_addsGardener_3 8 rfl rfl)
theorem dX9_addsGardener_81 : decode cX9_addsGardener 81 = .ok (.invokestatic 91, 3) := dk_184 0 91 (dk_at dksX9_addsGardener_3 9 rfl rfl)
theorem dX9_addsGardener_84 : decode cX9_addsGardener 84 = .ok (.iload_n 1, 1) := dk_27 (dk_at dksX9_addsGardener_3 12 rfl rfl)
theorem dX9_addsGardener_85 : decode cX9_addsGardener 85 = .ok (.iastore, 1) := dk_79 (dk_at dksX9_addsGardener_3 13 rfl rfl)
theorem dX9_addsGardener_86 : decode cX9_addsGardener 86 = .ok (.aload_n 0, 1) := dk_42 (dk_at dksX9_addsGardener_3 14 rfl rfl)
theorem dX9_addsGardener_87 : decode cX9_addsGardener 87 = .ok (.getfield 13, 3) := dk_180 0 13 (dk_at dksX9_addsGardener_3 15 rfl rfl)
theorem dX9_addsGardener_90 : decode cX9_addsGardener 90 = .ok (.iload_n 2, 1) := dk_28 (dk_at dksX9_addsGardener_3 18 rfl rfl)
theorem dX9_addsGardener_91 : decode cX9_addsGardener 91 = .ok (.iconst 1, 1) := dk_4 (dk_at dksX9_addsGardener_3 19 rfl rfl)
theorem dX9_addsGardener_92 : decode cX9_addsGardener 92 = .ok (.invokestatic 91, 3) := dk_184 0 91 (dk_at dksX9_addsGardener_3 20 rfl rfl)
theorem dX9_addsGardener_95 : decode cX9_addsGardener 95 = .ok (.bipush 6, 2) := dk_16 6 (dk_at dksX9_addsGardener_4 0 rfl rfl)
theorem dX9_addsGardener_97 : decode cX9_addsGardener 97 = .ok (.iastore, 1) := dk_79 (dk_at dksX9_addsGardener_4 2 rfl rfl)
theorem dX9_addsGardener_98 : decode cX9_addsGardener 98 = .ok (.aload_n 0, 1) := dk_42 (dk_at dksX9_addsGardener_4 3 rfl rfl)
theorem dX9_addsGardener_99 : decode cX9_addsGardener 99 = .ok (.getfield 13, 3) := dk_180 0 13 (dk_at dksX9_addsGardener_4 4 rfl rfl)
theorem dX9_addsGardener_102 : decode cX9_addsGardener 102 = .ok (.iload_n 2, 1) := dk_28 (dk_at dksX9_addsGardener_4 7 rfl rfl)
theorem dX9_addsGardener_103 : decode cX9_addsGardener 103 = .ok (.iconst 2, 1) := dk_5 (dk_at dksX9_addsGardener_4 8 rfl rfl)
theorem dX9_addsGardener_104 : decode cX9_addsGardener 104 = .ok (.invokestatic 91, 3) := dk_184 0 91 (dk_at dksX9_addsGardener_4 9 rfl rfl)
theorem dX9_addsGardener_107 : decode cX9_addsGardener 107 = .ok (.bipush 12, 2) := dk_16 12 (dk_at dksX9_addsGardener_4 12 rfl rfl)
theorem dX9_addsGardener_109 : decode cX9_addsGardener 109 = .ok (.iastore, 1) := dk_79 (dk_at dksX9_addsGardener_4 14 rfl rfl)
theorem dX9_addsGardener_110 : decode cX9_addsGardener 110 = .ok (.aload_n 0, 1) := dk_42 (dk_at dksX9_addsGardener_4 15 rfl rfl)
theorem dX9_addsGardener_111 : decode cX9_addsGardener 111 = .ok (.getfield 13, 3) := dk_180 0 13 (dk_at dksX9_addsGardener_4 16 rfl rfl)
theorem dX9_addsGardener_114 : decode cX9_addsGardener 114 = .ok (.iconst 2, 1) := dk_5 (dk_at dksX9_addsGardener_4 19 rfl rfl)
theorem dX9_addsGardener_115 : decode cX9_addsGardener 115 = .ok (.dup2, 1) := dk_92 (dk_at dksX9_addsGardener_4 20 rfl rfl)
theorem dX9_addsGardener_116 : decode cX9_addsGardener 116 = .ok (.iaload, 1) := dk_46 (dk_at dksX9_addsGardener_4 21 rfl rfl)
theorem dX9_addsGardener_117 : decode cX9_addsGardener 117 = .ok (.iconst 1, 1) := dk_4 (dk_at dksX9_addsGardener_4 22 rfl rfl)
theorem dX9_addsGardener_118 : decode cX9_addsGardener 118 = .ok (.iadd, 1) := dk_96 (dk_at dksX9_addsGardener_4 23 rfl rfl)
theorem dX9_addsGardener_119 : decode cX9_addsGardener 119 = .ok (.iastore, 1) := dk_79 (dk_at dksX9_addsGardener_5 0 rfl rfl)
theorem dX9_addsGardener_120 : decode cX9_addsGardener 120 = .ok (.iload_n 2, 1) := dk_28 (dk_at dksX9_addsGardener_5 1 rfl rfl)
theorem dX9_addsGardener_121 : decode cX9_addsGardener 121 = .ok (.ireturn, 1) := dk_172 (dk_at dksX9_addsGardener_5 2 rfl rfl)
abbrev cX9_mayTread : ByteArray := prog_23_method_16_code
def yX9_mayTread : MethodName := ⟨RX9, "mayTread", "(I)Z"⟩
def dkwX9_mayTread_0 : List UInt8 := [42, 180, 0, 13, 16, 42, 27, 96, 46, 4, 8, 184, 0, 74, 154, 0, 7, 4, 167, 0, 4, 3, 172]
abbrev dktX9_mayTread_0 : List UInt8 := dkwX9_mayTread_0 ++ []
theorem dksX9_mayTread_0 : cX9_mayTread.data.toList.drop 0 = dktX9_mayTread_0 := by decide +kernel
theorem dX9_mayTread_0 : decode cX9_mayTread 0 = .ok (.aload_n 0, 1) := dk_42 (dk_at dksX9_mayTread_0 0 rfl rfl)
theorem dX9_mayTread_1 : decode cX9_mayTread 1 = .ok (.getfield 13, 3) := dk_180 0 13 (dk_at dksX9_mayTread_0 1 rfl rfl)
theorem dX9_mayTread_4 : decode cX9_mayTread 4 = .ok (.bipush 42, 2) := dk_16 42 (dk_at dksX9_mayTread_0 4 rfl rfl)
theorem dX9_mayTread_6 : decode cX9_mayTread 6 = .ok (.iload_n 1, 1) := dk_27 (dk_at dksX9_mayTread_0 6 rfl rfl)
theorem dX9_mayTread_7 : decode cX9_mayTread 7 = .ok (.iadd, 1) := dk_96 (dk_at dksX9_mayTread_0 7 rfl rfl)
theorem dX9_mayTread_8 : decode cX9_mayTread 8 = .ok (.iaload, 1) := dk_46 (dk_at dksX9_mayTread_0 8 rfl rfl)
theorem dX9_mayTread_9 : decode cX9_mayTread 9 = .ok (.iconst 1, 1) := dk_4 (dk_at dksX9_mayTread_0 9 rfl rfl)
theorem dX9_mayTread_10 : decode cX9_mayTread 10 = .ok (.iconst 5, 1) := dk_8 (dk_at dksX9_mayTread_0 10 rfl rfl)
theorem dX9_mayTread_11 : decode cX9_mayTread 11 = .ok (.invokestatic 74, 3) := dk_184 0 74 (dk_at dksX9_mayTread_0 11 rfl rfl)
theorem dX9_mayTread_14 : decode cX9_mayTread 14 = .ok (.ifCond .ne 7, 3) := dk_154 0 7 (dk_at dksX9_mayTread_0 14 rfl rfl)
theorem dX9_mayTread_17 : decode cX9_mayTread 17 = .ok (.iconst 1, 1) := dk_4 (dk_at dksX9_mayTread_0 17 rfl rfl)
theorem dX9_mayTread_18 : decode cX9_mayTread 18 = .ok (.goto 4, 3) := dk_167 0 4 (dk_at dksX9_mayTread_0 18 rfl rfl)
theorem dX9_mayTread_21 : decode cX9_mayTread 21 = .ok (.iconst 0, 1) := dk_3 (dk_at dksX9_mayTread_0 21 rfl rfl)
theorem dX9_mayTread_22 : decode cX9_mayTread 22 = .ok (.ireturn, 1) := dk_172 (dk_at dksX9_mayTread_0 22 rfl rfl)
abbrev cX9_refusesFoot : ByteArray := prog_23_method_5_code
def yX9_refusesFoot : MethodName := ⟨RX9, "refusesFoot", "(I)I"⟩
def dkwX9_refusesFoot_1 : List UInt8 := [16, 42, 27, 96, 46, 79, 42, 5, 181, 0, 53, 28, 172]
abbrev dktX9_refusesFoot_1 : List UInt8 := dkwX9_refusesFoot_1 ++ []
def dkwX9_refusesFoot_0 : List UInt8 := [42, 6, 27, 182, 0, 60, 61, 42, 180, 0, 29, 5, 16, 13, 79, 42, 180, 0, 29, 6, 42, 180, 0, 13]
abbrev dktX9_refusesFoot_0 : List UInt8 := dkwX9_refusesFoot_0 ++ dktX9_refusesFoot_1
theorem dksX9_refusesFoot_0 : cX9_refusesFoot.data.toList.drop 0 = dktX9_refusesFoot_0 := by decide +kernel
theorem dksX9_refusesFoot_1 : cX9_refusesFoot.data.toList.drop 24 = dktX9_refusesFoot_1 := dk_seg dksX9_refusesFoot_0 24 rfl rfl
theorem dX9_refusesFoot_0 : decode cX9_refusesFoot 0 = .ok (.aload_n 0, 1) := dk_42 (dk_at dksX9_refusesFoot_0 0 rfl rfl)
theorem dX9_refusesFoot_1 : decode cX9_refusesFoot 1 = .ok (.iconst 3, 1) := dk_6 (dk_at dksX9_refusesFoot_0 1 rfl rfl)
theorem dX9_refusesFoot_2 : decode cX9_refusesFoot 2 = .ok (.iload_n 1, 1) := dk_27 (dk_at dksX9_refusesFoot_0 2 rfl rfl)
theorem dX9_refusesFoot_3 : decode cX9_refusesFoot 3 = .ok (.invokevirtual 60, 3) := dk_182 0 60 (dk_at dksX9_refusesFoot_0 3 rfl rfl)
theorem dX9_refusesFoot_6 : decode cX9_refusesFoot 6 = .ok (.istore_n 2, 1) := dk_61 (dk_at dksX9_refusesFoot_0 6 rfl rfl)
theorem dX9_refusesFoot_7 : decode cX9_refusesFoot 7 = .ok (.aload_n 0, 1) := dk_42 (dk_at dksX9_refusesFoot_0 7 rfl rfl)
theorem dX9_refusesFoot_8 : decode cX9_refusesFoot 8 = .ok (.getfield 29, 3) := dk_180 0 29 (dk_at dksX9_refusesFoot_0 8 rfl rfl)
theorem dX9_refusesFoot_11 : decode cX9_refusesFoot 11 = .ok (.iconst 2, 1) := dk_5 (dk_at dksX9_refusesFoot_0 11 rfl rfl)
theorem dX9_refusesFoot_12 : decode cX9_refusesFoot 12 = .ok (.bipush 13, 2) := dk_16 13 (dk_at dksX9_refusesFoot_0 12 rfl rfl)
theorem dX9_refusesFoot_14 : decode cX9_refusesFoot 14 = .ok (.iastore, 1) := dk_79 (dk_at dksX9_refusesFoot_0 14 rfl rfl)
theorem dX9_refusesFoot_15 : decode cX9_refusesFoot 15 = .ok (.aload_n 0, 1) := dk_42 (dk_at dksX9_refusesFoot_0 15 rfl rfl)
theorem dX9_refusesFoot_16 : decode cX9_refusesFoot 16 = .ok (.getfield 29, 3) := dk_180 0 29 (dk_at dksX9_refusesFoot_0 16 rfl rfl)
theorem dX9_refusesFoot_19 : decode cX9_refusesFoot 19 = .ok (.iconst 3, 1) := dk_6 (dk_at dksX9_refusesFoot_0 19 rfl rfl)
theorem dX9_refusesFoot_20 : decode cX9_refusesFoot 20 = .ok (.aload_n 0, 1) := dk_42 (dk_at dksX9_refusesFoot_0 20 rfl rfl)
theorem dX9_refusesFoot_21 : decode cX9_refusesFoot 21 = .ok (.getfield 13, 3) := dk_180 0 13 (dk_at dksX9_refusesFoot_0 21 rfl rfl)
theorem dX9_refusesFoot_24 : decode cX9_refusesFoot 24 = .ok (.bipush 42, 2) := dk_16 42 (dk_at dksX9_refusesFoot_1 0 rfl rfl)
theorem dX9_refusesFoot_26 : decode cX9_refusesFoot 26 = .ok (.iload_n 1, 1) := dk_27 (dk_at dksX9_refusesFoot_1 2 rfl rfl)
theorem dX9_refusesFoot_27 : decode cX9_refusesFoot 27 = .ok (.iadd, 1) := dk_96 (dk_at dksX9_refusesFoot_1 3 rfl rfl)
theorem dX9_refusesFoot_28 : decode cX9_refusesFoot 28 = .ok (.iaload, 1) := dk_46 (dk_at dksX9_refusesFoot_1 4 rfl rfl)
theorem dX9_refusesFoot_29 : decode cX9_refusesFoot 29 = .ok (.iastore, 1) := dk_79 (dk_at dksX9_refusesFoot_1 5 rfl rfl)
theorem dX9_refusesFoot_30 : decode cX9_refusesFoot 30 = .ok (.aload_n 0, 1) := dk_42 (dk_at dksX9_refusesFoot_1 6 rfl rfl)
theorem dX9_refusesFoot_31 : decode cX9_refusesFoot 31 = .ok (.iconst 2, 1) := dk_5 (dk_at dksX9_refusesFoot_1 7 rfl rfl)
theorem dX9_refusesFoot_32 : decode cX9_refusesFoot 32 = .ok (.putfield 53, 3) := dk_181 0 53 (dk_at dksX9_refusesFoot_1 8 rfl rfl)
theorem dX9_refusesFoot_35 : decode cX9_refusesFoot 35 = .ok (.iload_n 2, 1) := dk_28 (dk_at dksX9_refusesFoot_1 11 rfl rfl)
theorem dX9_refusesFoot_36 : decode cX9_refusesFoot 36 = .ok (.ireturn, 1) := dk_172 (dk_at dksX9_refusesFoot_1 12 rfl rfl)
abbrev cX9_walk : ByteArray := prog_23_method_32_code
def yX9_walk : MethodName := ⟨RX9, "walk", "(IC)I"⟩
def dkwX9_walk_0 : List UInt8 := [42, 182, 0, 82, 42, 42, 27, 28, 182, 0, 134, 182, 0, 88, 172]
abbrev dktX9_walk_0 : List UInt8 := dkwX9_walk_0 ++ []
theorem dksX9_walk_0 : cX9_walk.data.toList.drop 0 = dktX9_walk_0 := by decide +kernel
theorem dX9_walk_0 : decode cX9_walk 0 = .ok (.aload_n 0, 1) := dk_42 (dk_at dksX9_walk_0 0 rfl rfl)
theorem dX9_walk_1 : decode cX9_walk 1 = .ok (.invokevirtual 82, 3) := dk_182 0 82 (dk_at dksX9_walk_0 1 rfl rfl)
theorem dX9_walk_4 : decode cX9_walk 4 = .ok (.aload_n 0, 1) := dk_42 (dk_at dksX9_walk_0 4 rfl rfl)
theorem dX9_walk_5 : decode cX9_walk 5 = .ok (.aload_n 0, 1) := dk_42 (dk_at dksX9_walk_0 5 rfl rfl)
theorem dX9_walk_6 : decode cX9_walk 6 = .ok (.iload_n 1, 1) := dk_27 (dk_at dksX9_walk_0 6 rfl rfl)
theorem dX9_walk_7 : decode cX9_walk 7 = .ok (.iload_n 2, 1) := dk_28 (dk_at dksX9_walk_0 7 rfl rfl)
theorem dX9_walk_8 : decode cX9_walk 8 = .ok (.invokevirtual 134, 3) := dk_182 0 134 (dk_at dksX9_walk_0 8 rfl rfl)
theorem dX9_walk_11 : decode cX9_walk 11 = .ok (.invokevirtual 88, 3) := dk_182 0 88 (dk_at dksX9_walk_0 11 rfl rfl)
theorem dX9_walk_14 : decode cX9_walk 14 = .ok (.ireturn, 1) := dk_172 (dk_at dksX9_walk_0 14 rfl rfl)
abbrev cX9_walks : ByteArray := prog_23_method_31_code
def yX9_walks : MethodName := ⟨RX9, "walks", "(II)I"⟩
def dkwX9_walks_5 : List UInt8 := [21, 5, 172]
abbrev dktX9_walks_5 : List UInt8 := dkwX9_walks_5 ++ []
def dkwX9_walks_4 : List UInt8 := [172, 42, 180, 0, 13, 21, 4, 21, 5, 79, 42, 180, 0, 13, 27, 7, 184, 0, 91, 92, 46, 4, 96, 79]
abbrev dktX9_walks_4 : List UInt8 := dkwX9_walks_4 ++ dktX9_walks_5
def dkwX9_walks_3 : List UInt8 := [182, 0, 112, 154, 0, 10, 42, 21, 5, 182, 0, 115, 172, 42, 27, 4, 182, 0, 130, 154, 0, 6, 16, 253]
abbrev dktX9_walks_3 : List UInt8 := dkwX9_walks_3 ++ dktX9_walks_4
def dkwX9_walks_2 : List UInt8 := [54, 5, 21, 5, 156, 0, 16, 42, 8, 42, 180, 0, 13, 21, 4, 46, 182, 0, 60, 172, 42, 21, 5]
abbrev dktX9_walks_2 : List UInt8 := dkwX9_walks_2 ++ dktX9_walks_3
def dkwX9_walks_1 : List UInt8 := [54, 4, 29, 156, 0, 10, 42, 16, 254, 182, 0, 56, 172, 42, 180, 0, 13, 21, 4, 46, 29, 184, 0, 127]
abbrev dktX9_walks_1 : List UInt8 := dkwX9_walks_1 ++ dktX9_walks_2
def dkwX9_walks_0 : List UInt8 := [42, 27, 182, 0, 121, 154, 0, 9, 42, 2, 182, 0, 56, 172, 28, 184, 0, 124, 62, 27, 3, 184, 0, 91]
abbrev dktX9_walks_0 : List UInt8 := dkwX9_walks_0 ++ dktX9_walks_1
theorem dksX9_walks_0 : cX9_walks.data.toList.drop 0 = dktX9_walks_0 := by decide +kernel
theorem dksX9_walks_1 : cX9_walks.data.toList.drop 24 = dktX9_walks_1 := dk_seg dksX9_walks_0 24 rfl rfl
theorem dksX9_walks_2 : cX9_walks.data.toList.drop 48 = dktX9_walks_2 := dk_seg dksX9_walks_1 24 rfl rfl
theorem dksX9_walks_3 : cX9_walks.data.toList.drop 71 = dktX9_walks_3 := dk_seg dksX9_walks_2 23 rfl rfl
theorem dksX9_walks_4 : cX9_walks.data.toList.drop 95 = dktX9_walks_4 := dk_seg dksX9_walks_3 24 rfl rfl
theorem dksX9_walks_5 : cX9_walks.data.toList.drop 119 = dktX9_walks_5 := dk_seg dksX9_walks_4 24 rfl rfl
theorem dX9_walks_0 : decode cX9_walks 0 = .ok (.aload_n 0, 1) := dk_42 (dk_at dksX9_walks_0 0 rfl rfl)
theorem dX9_walks_1 : decode cX9_walks 1 = .ok (.iload_n 1, 1) := dk_27 (dk_at dksX9_walks_0 1 rfl rfl)
theorem dX9_walks_2 : decode cX9_walks 2 = .ok (.invokevirtual 121, 3) := dk_182 0 121 (dk_at dksX9_walks_0 2 rfl rfl)
theorem dX9_walks_5 : decode cX9_walks 5 = .ok (.ifCond .ne 9, 3) := dk_154 0 9 (dk_at dksX9_walks_0 5 rfl rfl)
theorem dX9_walks_8 : decode cX9_walks 8 = .ok (.aload_n 0, 1) := dk_42 (dk_at dksX9_walks_0 8 rfl rfl)
theorem dX9_walks_9 : decode cX9_walks 9 = .ok (.iconst (-1), 1) := dk_2 (dk_at dksX9_walks_0 9 rfl rfl)
theorem dX9_walks_10 : decode cX9_walks 10 = .ok (.invokevirtual 56, 3) := dk_182 0 56 (dk_at dksX9_walks_0 10 rfl rfl)
theorem dX9_walks_13 : decode cX9_walks 13 = .ok (.ireturn, 1) := dk_172 (dk_at dksX9_walks_0 13 rfl rfl)
theorem dX9_walks_14 : decode cX9_walks 14 = .ok (.iload_n 2, 1) := dk_28 (dk_at dksX9_walks_0 14 rfl rfl)
theorem dX9_walks_15 : decode cX9_walks 15 = .ok (.invokestatic 124, 3) := dk_184 0 124 (dk_at dksX9_walks_0 15 rfl rfl)
theorem dX9_walks_18 : decode cX9_walks 18 = .ok (.istore_n 3, 1) := dk_62 (dk_at dksX9_walks_0 18 rfl rfl)
theorem dX9_walks_19 : decode cX9_walks 19 = .ok (.iload_n 1, 1) := dk_27 (dk_at dksX9_walks_0 19 rfl rfl)
theorem dX9_walks_20 : decode cX9_walks 20 = .ok (.iconst 0, 1) := dk_3 (dk_at dksX9_walks_0 20 rfl rfl)
theorem dX9_walks_21 : decode cX9_walks 21 = .ok (.invokestatic 91, 3) := dk_184 0 91 (dk_at dksX9_walks_0 21 rfl rfl)
theorem dX9_walks_24 : decode cX9_walks 24 = .ok (.istore 4, 2) := dk_54 4 (dk_at dksX9_walks_1 0 rfl rfl)
theorem dX9_walks_26 : decode cX9_walks 26 = .ok (.iload_n 3, 1) := dk_29 (dk_at dksX9_walks_1 2 rfl rfl)
theorem dX9_walks_27 : decode cX9_walks 27 = .ok (.ifCond .ge 10, 3) := dk_156 0 10 (dk_at dksX9_walks_1 3 rfl rfl)
theorem dX9_walks_30 : decode cX9_walks 30 = .ok (.aload_n 0, 1) := dk_42 (dk_at dksX9_walks_1 6 rfl rfl)
theorem dX9_walks_31 : decode cX9_walks 31 = .ok (.bipush (-2), 2) := dk_16 254 (dk_at dksX9_walks_1 7 rfl rfl)
theorem dX9_walks_33 : decode cX9_walks 33 = .ok (.invokevirtual 56, 3) := dk_182 0 56 (dk_at dksX9_walks_1 9 rfl rfl)
theorem dX9_walks_36 : decode cX9_walks 36 = .ok (.ireturn, 1) := dk_172 (dk_at dksX9_walks_1 12 rfl rfl)
theorem dX9_walks_37 : decode cX9_walks 37 = .ok (.aload_n 0, 1) := dk_42 (dk_at dksX9_walks_1 13 rfl rfl)
theorem dX9_walks_38 : decode cX9_walks 38 = .ok (.getfield 13, 3) := dk_180 0 13 (dk_at dksX9_walks_1 14 rfl rfl)
theorem dX9_walks_41 : decode cX9_walks 41 = .ok (.iload 4, 2) := dk_21 4 (dk_at dksX9_walks_1 17 rfl rfl)
theorem dX9_walks_43 : decode cX9_walks 43 = .ok (.iaload, 1) := dk_46 (dk_at dksX9_walks_1 19 rfl rfl)
theorem dX9_walks_44 : decode cX9_walks 44 = .ok (.iload_n 3, 1) := dk_29 (dk_at dksX9_walks_1 20 rfl rfl)
theorem dX9_walks_45 : decode cX9_walks 45 = .ok (.invokestatic 127, 3) := dk_184 0 127 (dk_at dksX9_walks_1 21 rfl rfl)
theorem dX9_walks_48 : decode cX9_walks 48 = .ok (.istore 5, 2) := dk_54 5 (dk_at dksX9_walks_2 0 rfl rfl)
theorem dX9_walks_50 : decode cX9_walks 50 = .ok (.iload 5, 2) := dk_21 5 (dk_at dksX9_walks_2 2 rfl rfl)
theorem dX9_walks_52 : decode cX9_walks 52 = .ok (.ifCond .ge 16, 3) := dk_156 0 16 (dk_at dksX9_walks_2 4 rfl rfl)
theorem dX9_walks_55 : decode cX9_walks 55 = .ok (.aload_n 0, 1) := dk_42 (dk_at dksX9_walks_2 7 rfl rfl)
theorem dX9_walks_56 : decode cX9_walks 56 = .ok (.iconst 5, 1) := dk_8 (dk_at dksX9_walks_2 8 rfl rfl)
theorem dX9_walks_57 : decode cX9_walks 57 = .ok (.aload_n 0, 1) := dk_42 (dk_at dksX9_walks_2 9 rfl rfl)
theorem dX9_walks_58 : decode cX9_walks 58 = .ok (.getfield 13, 3) := dk_180 0 13 (dk_at dksX9_walks_2 10 rfl rfl)
theorem dX9_walks_61 : decode cX9_walks 61 = .ok (.iload 4, 2) := dk_21 4 (dk_at dksX9_walks_2 13 rfl rfl)
theorem dX9_walks_63 : decode cX9_walks 63 = .ok (.iaload, 1) := dk_46 (dk_at dksX9_walks_2 15 rfl rfl)
theorem dX9_walks_64 : decode cX9_walks 64 = .ok (.invokevirtual 60, 3) := dk_182 0 60 (dk_at dksX9_walks_2 16 rfl rfl)
theorem dX9_walks_67 : decode cX9_walks 67 = .ok (.ireturn, 1) := dk_172 (dk_at dksX9_walks_2 19 rfl rfl)
theorem dX9_walks_68 : decode cX9_walks 68 = .ok (.aload_n 0, 1) := dk_42 (dk_at dksX9_walks_2 20 rfl rfl)
theorem dX9_walks_69 : decode cX9_walks 69 = .ok (.iload 5, 2) := dk_21 5 (dk_at dksX9_walks_2 21 rfl rfl)
theorem dX9_walks_71 : decode cX9_walks 71 = .ok (.invokevirtual 112, 3) := dk_182 0 112 (dk_at dksX9_walks_3 0 rfl rfl)
theorem dX9_walks_74 : decode cX9_walks 74 = .ok (.ifCond .ne 10, 3) := dk_154 0 10 (dk_at dksX9_walks_3 3 rfl rfl)
theorem dX9_walks_77 : decode cX9_walks 77 = .ok (.aload_n 0, 1) := dk_42 (dk_at dksX9_walks_3 6 rfl rfl)
theorem dX9_walks_78 : decode cX9_walks 78 = .ok (.iload 5, 2) := dk_21 5 (dk_at dksX9_walks_3 7 rfl rfl)
theorem dX9_walks_80 : decode cX9_walks 80 = .ok (.invokevirtual 115, 3) := dk_182 0 115 (dk_at dksX9_walks_3 9 rfl rfl)
theorem dX9_walks_83 : decode cX9_walks 83 = .ok (.ireturn, 1) := dk_172 (dk_at dksX9_walks_3 12 rfl rfl)
theorem dX9_walks_84 : decode cX9_walks 84 = .ok (.aload_n 0, 1) := dk_42 (dk_at dksX9_walks_3 13 rfl rfl)
theorem dX9_walks_85 : decode cX9_walks 85 = .ok (.iload_n 1, 1) := dk_27 (dk_at dksX9_walks_3 14 rfl rfl)
theorem dX9_walks_86 : decode cX9_walks 86 = .ok (.iconst 1, 1) := dk_4 (dk_at dksX9_walks_3 15 rfl rfl)
theorem dX9_walks_87 : decode cX9_walks 87 = .ok (.invokevirtual 130, 3) := dk_182 0 130 (dk_at dksX9_walks_3 16 rfl rfl)
theorem dX9_walks_90 : decode cX9_walks 90 = .ok (.ifCond .ne 6, 3) := dk_154 0 6 (dk_at dksX9_walks_3 19 rfl rfl)
theorem dX9_walks_93 : decode cX9_walks 93 = .ok (.bipush (-3), 2) := dk_16 253 (dk_at dksX9_walks_3 22 rfl rfl)
theorem dX9_walks_95 : decode cX9_walks 95 = .ok (.ireturn, 1) := dk_172 (dk_at dksX9_walks_4 0 rfl rfl)
theorem dX9_walks_96 : decode cX9_walks 96 = .ok (.aload_n 0, 1) := dk_42 (dk_at dksX9_walks_4 1 rfl rfl)
theorem dX9_walks_97 : decode cX9_walks 97 = .ok (.getfield 13, 3) := dk_180 0 13 (dk_at dksX9_walks_4 2 rfl rfl)
theorem dX9_walks_100 : decode cX9_walks 100 = .ok (.iload 4, 2) := dk_21 4 (dk_at dksX9_walks_4 5 rfl rfl)
theorem dX9_walks_102 : decode cX9_walks 102 = .ok (.iload 5, 2) := dk_21 5 (dk_at dksX9_walks_4 7 rfl rfl)
theorem dX9_walks_104 : decode cX9_walks 104 = .ok (.iastore, 1) := dk_79 (dk_at dksX9_walks_4 9 rfl rfl)
theorem dX9_walks_105 : decode cX9_walks 105 = .ok (.aload_n 0, 1) := dk_42 (dk_at dksX9_walks_4 10 rfl rfl)
theorem dX9_walks_106 : decode cX9_walks 106 = .ok (.getfield 13, 3) := dk_180 0 13 (dk_at dksX9_walks_4 11 rfl rfl)
theorem dX9_walks_109 : decode cX9_walks 109 = .ok (.iload_n 1, 1) := dk_27 (dk_at dksX9_walks_4 14 rfl rfl)
theorem dX9_walks_110 : decode cX9_walks 110 = .ok (.iconst 4, 1) := dk_7 (dk_at dksX9_walks_4 15 rfl rfl)
theorem dX9_walks_111 : decode cX9_walks 111 = .ok (.invokestatic 91, 3) := dk_184 0 91 (dk_at dksX9_walks_4 16 rfl rfl)
theorem dX9_walks_114 : decode cX9_walks 114 = .ok (.dup2, 1) := dk_92 (dk_at dksX9_walks_4 19 rfl rfl)
theorem dX9_walks_115 : decode cX9_walks 115 = .ok (.iaload, 1) := dk_46 (dk_at dksX9_walks_4 20 rfl rfl)
theorem dX9_walks_116 : decode cX9_walks 116 = .ok (.iconst 1, 1) := dk_4 (dk_at dksX9_walks_4 21 rfl rfl)
theorem dX9_walks_117 : decode cX9_walks 117 = .ok (.iadd, 1) := dk_96 (dk_at dksX9_walks_4 22 rfl rfl)
theorem dX9_walks_118 : decode cX9_walks 118 = .ok (.iastore, 1) := dk_79 (dk_at dksX9_walks_4 23 rfl rfl)
theorem dX9_walks_119 : decode cX9_walks 119 = .ok (.iload 5, 2) := dk_21 5 (dk_at dksX9_walks_5 0 rfl rfl)
theorem dX9_walks_121 : decode cX9_walks 121 = .ok (.ireturn, 1) := dk_172 (dk_at dksX9_walks_5 2 rfl rfl)
abbrev cX9_isGardener : ByteArray := prog_23_method_14_code
def yX9_isGardener : MethodName := ⟨RX9, "isGardener", "(I)Z"⟩
def dkwX9_isGardener_0 : List UInt8 := [27, 3, 42, 180, 0, 13, 5, 46, 4, 100, 184, 0, 74, 172]
abbrev dktX9_isGardener_0 : List UInt8 := dkwX9_isGardener_0 ++ []
theorem dksX9_isGardener_0 : cX9_isGardener.data.toList.drop 0 = dktX9_isGardener_0 := by decide +kernel
theorem dX9_isGardener_0 : decode cX9_isGardener 0 = .ok (.iload_n 1, 1) := dk_27 (dk_at dksX9_isGardener_0 0 rfl rfl)
theorem dX9_isGardener_1 : decode cX9_isGardener 1 = .ok (.iconst 0, 1) := dk_3 (dk_at dksX9_isGardener_0 1 rfl rfl)
theorem dX9_isGardener_2 : decode cX9_isGardener 2 = .ok (.aload_n 0, 1) := dk_42 (dk_at dksX9_isGardener_0 2 rfl rfl)
theorem dX9_isGardener_3 : decode cX9_isGardener 3 = .ok (.getfield 13, 3) := dk_180 0 13 (dk_at dksX9_isGardener_0 3 rfl rfl)
theorem dX9_isGardener_6 : decode cX9_isGardener 6 = .ok (.iconst 2, 1) := dk_5 (dk_at dksX9_isGardener_0 6 rfl rfl)
theorem dX9_isGardener_7 : decode cX9_isGardener 7 = .ok (.iaload, 1) := dk_46 (dk_at dksX9_isGardener_0 7 rfl rfl)
theorem dX9_isGardener_8 : decode cX9_isGardener 8 = .ok (.iconst 1, 1) := dk_4 (dk_at dksX9_isGardener_0 8 rfl rfl)
theorem dX9_isGardener_9 : decode cX9_isGardener 9 = .ok (.isub, 1) := dk_100 (dk_at dksX9_isGardener_0 9 rfl rfl)
theorem dX9_isGardener_10 : decode cX9_isGardener 10 = .ok (.invokestatic 74, 3) := dk_184 0 74 (dk_at dksX9_isGardener_0 10 rfl rfl)
theorem dX9_isGardener_13 : decode cX9_isGardener 13 = .ok (.ireturn, 1) := dk_172 (dk_at dksX9_isGardener_0 13 rfl rfl)
abbrev cX9_sideOf : ByteArray := prog_23_method_18_code
def yX9_sideOf : MethodName := ⟨RX9, "sideOf", "(I)I"⟩
def dkwX9_sideOf_1 : List UInt8 := [160, 0, 7, 5, 167, 0, 14, 26, 16, 115, 160, 0, 7, 6, 167, 0, 4, 2, 172]
abbrev dktX9_sideOf_1 : List UInt8 := dkwX9_sideOf_1 ++ []
def dkwX9_sideOf_0 : List UInt8 := [26, 16, 110, 160, 0, 7, 3, 167, 0, 34, 26, 16, 119, 160, 0, 7, 4, 167, 0, 24, 26, 16, 101]
abbrev dktX9_sideOf_0 : List UInt8 := dkwX9_sideOf_0 ++ dktX9_sideOf_1
theorem dksX9_sideOf_0 : cX9_sideOf.data.toList.drop 0 = dktX9_sideOf_0 := by decide +kernel
theorem dksX9_sideOf_1 : cX9_sideOf.data.toList.drop 23 = dktX9_sideOf_1 := dk_seg dksX9_sideOf_0 23 rfl rfl
theorem dX9_sideOf_0 : decode cX9_sideOf 0 = .ok (.iload_n 0, 1) := dk_26 (dk_at dksX9_sideOf_0 0 rfl rfl)
theorem dX9_sideOf_1 : decode cX9_sideOf 1 = .ok (.bipush 110, 2) := dk_16 110 (dk_at dksX9_sideOf_0 1 rfl rfl)
theorem dX9_sideOf_3 : decode cX9_sideOf 3 = .ok (.if_icmp .ne 7, 3) := dk_160 0 7 (dk_at dksX9_sideOf_0 3 rfl rfl)
theorem dX9_sideOf_6 : decode cX9_sideOf 6 = .ok (.iconst 0, 1) := dk_3 (dk_at dksX9_sideOf_0 6 rfl rfl)
theorem dX9_sideOf_7 : decode cX9_sideOf 7 = .ok (.goto 34, 3) := dk_167 0 34 (dk_at dksX9_sideOf_0 7 rfl rfl)
theorem dX9_sideOf_10 : decode cX9_sideOf 10 = .ok (.iload_n 0, 1) := dk_26 (dk_at dksX9_sideOf_0 10 rfl rfl)
theorem dX9_sideOf_11 : decode cX9_sideOf 11 = .ok (.bipush 119, 2) := dk_16 119 (dk_at dksX9_sideOf_0 11 rfl rfl)
theorem dX9_sideOf_13 : decode cX9_sideOf 13 = .ok (.if_icmp .ne 7, 3) := dk_160 0 7 (dk_at dksX9_sideOf_0 13 rfl rfl)
theorem dX9_sideOf_16 : decode cX9_sideOf 16 = .ok (.iconst 1, 1) := dk_4 (dk_at dksX9_sideOf_0 16 rfl rfl)
theorem dX9_sideOf_17 : decode cX9_sideOf 17 = .ok (.goto 24, 3) := dk_167 0 24 (dk_at dksX9_sideOf_0 17 rfl rfl)
theorem dX9_sideOf_20 : decode cX9_sideOf 20 = .ok (.iload_n 0, 1) := dk_26 (dk_at dksX9_sideOf_0 20 rfl rfl)
theorem dX9_sideOf_21 : decode cX9_sideOf 21 = .ok (.bipush 101, 2) := dk_16 101 (dk_at dksX9_sideOf_0 21 rfl rfl)
theorem dX9_sideOf_23 : decode cX9_sideOf 23 = .ok (.if_icmp .ne 7, 3) := dk_160 0 7 (dk_at dksX9_sideOf_1 0 rfl rfl)
theorem dX9_sideOf_26 : decode cX9_sideOf 26 = .ok (.iconst 2, 1) := dk_5 (dk_at dksX9_sideOf_1 3 rfl rfl)
theorem dX9_sideOf_27 : decode cX9_sideOf 27 = .ok (.goto 14, 3) := dk_167 0 14 (dk_at dksX9_sideOf_1 4 rfl rfl)
theorem dX9_sideOf_30 : decode cX9_sideOf 30 = .ok (.iload_n 0, 1) := dk_26 (dk_at dksX9_sideOf_1 7 rfl rfl)
theorem dX9_sideOf_31 : decode cX9_sideOf 31 = .ok (.bipush 115, 2) := dk_16 115 (dk_at dksX9_sideOf_1 8 rfl rfl)
theorem dX9_sideOf_33 : decode cX9_sideOf 33 = .ok (.if_icmp .ne 7, 3) := dk_160 0 7 (dk_at dksX9_sideOf_1 10 rfl rfl)
theorem dX9_sideOf_36 : decode cX9_sideOf 36 = .ok (.iconst 3, 1) := dk_6 (dk_at dksX9_sideOf_1 13 rfl rfl)
theorem dX9_sideOf_37 : decode cX9_sideOf 37 = .ok (.goto 4, 3) := dk_167 0 4 (dk_at dksX9_sideOf_1 14 rfl rfl)
theorem dX9_sideOf_40 : decode cX9_sideOf 40 = .ok (.iconst (-1), 1) := dk_2 (dk_at dksX9_sideOf_1 17 rfl rfl)
theorem dX9_sideOf_41 : decode cX9_sideOf 41 = .ok (.ireturn, 1) := dk_172 (dk_at dksX9_sideOf_1 18 rfl rfl)
abbrev cX9_beside : ByteArray := prog_23_method_17_code
def yX9_beside : MethodName := ⟨RX9, "beside", "(II)I"⟩
def dkwX9_beside_3 : List UInt8 := [96, 167, 0, 4, 2, 172]
abbrev dktX9_beside_3 : List UInt8 := dkwX9_beside_3 ++ []
def dkwX9_beside_2 : List UInt8 := [160, 0, 16, 29, 8, 162, 0, 9, 26, 4, 96, 167, 0, 4, 2, 172, 28, 7, 162, 0, 10, 26, 16, 6]
abbrev dktX9_beside_2 : List UInt8 := dkwX9_beside_2 ++ dktX9_beside_3
def dkwX9_beside_1 : List UInt8 := [167, 0, 4, 2, 172, 27, 4, 160, 0, 15, 29, 158, 0, 9, 26, 4, 100, 167, 0, 4, 2, 172, 27, 5]
abbrev dktX9_beside_1 : List UInt8 := dkwX9_beside_1 ++ dktX9_beside_2
def dkwX9_beside_0 : List UInt8 := [26, 16, 6, 108, 61, 26, 16, 6, 112, 62, 27, 154, 0, 16, 28, 158, 0, 10, 26, 16, 6, 100]
abbrev dktX9_beside_0 : List UInt8 := dkwX9_beside_0 ++ dktX9_beside_1
theorem dksX9_beside_0 : cX9_beside.data.toList.drop 0 = dktX9_beside_0 := by decide +kernel
theorem dksX9_beside_1 : cX9_beside.data.toList.drop 22 = dktX9_beside_1 := dk_seg dksX9_beside_0 22 rfl rfl
theorem dksX9_beside_2 : cX9_beside.data.toList.drop 46 = dktX9_beside_2 := dk_seg dksX9_beside_1 24 rfl rfl
theorem dksX9_beside_3 : cX9_beside.data.toList.drop 70 = dktX9_beside_3 := dk_seg dksX9_beside_2 24 rfl rfl
theorem dX9_beside_0 : decode cX9_beside 0 = .ok (.iload_n 0, 1) := dk_26 (dk_at dksX9_beside_0 0 rfl rfl)
theorem dX9_beside_1 : decode cX9_beside 1 = .ok (.bipush 6, 2) := dk_16 6 (dk_at dksX9_beside_0 1 rfl rfl)
theorem dX9_beside_3 : decode cX9_beside 3 = .ok (.idiv, 1) := dk_108 (dk_at dksX9_beside_0 3 rfl rfl)
theorem dX9_beside_4 : decode cX9_beside 4 = .ok (.istore_n 2, 1) := dk_61 (dk_at dksX9_beside_0 4 rfl rfl)
theorem dX9_beside_5 : decode cX9_beside 5 = .ok (.iload_n 0, 1) := dk_26 (dk_at dksX9_beside_0 5 rfl rfl)
theorem dX9_beside_6 : decode cX9_beside 6 = .ok (.bipush 6, 2) := dk_16 6 (dk_at dksX9_beside_0 6 rfl rfl)
theorem dX9_beside_8 : decode cX9_beside 8 = .ok (.irem, 1) := dk_112 (dk_at dksX9_beside_0 8 rfl rfl)
theorem dX9_beside_9 : decode cX9_beside 9 = .ok (.istore_n 3, 1) := dk_62 (dk_at dksX9_beside_0 9 rfl rfl)
theorem dX9_beside_10 : decode cX9_beside 10 = .ok (.iload_n 1, 1) := dk_27 (dk_at dksX9_beside_0 10 rfl rfl)
theorem dX9_beside_11 : decode cX9_beside 11 = .ok (.ifCond .ne 16, 3) := dk_154 0 16 (dk_at dksX9_beside_0 11 rfl rfl)
theorem dX9_beside_14 : decode cX9_beside 14 = .ok (.iload_n 2, 1) := dk_28 (dk_at dksX9_beside_0 14 rfl rfl)
theorem dX9_beside_15 : decode cX9_beside 15 = .ok (.ifCond .le 10, 3) := dk_158 0 10 (dk_at dksX9_beside_0 15 rfl rfl)
theorem dX9_beside_18 : decode cX9_beside 18 = .ok (.iload_n 0, 1) := dk_26 (dk_at dksX9_beside_0 18 rfl rfl)
theorem dX9_beside_19 : decode cX9_beside 19 = .ok (.bipush 6, 2) := dk_16 6 (dk_at dksX9_beside_0 19 rfl rfl)
theorem dX9_beside_21 : decode cX9_beside 21 = .ok (.isub, 1) := dk_100 (dk_at dksX9_beside_0 21 rfl rfl)
theorem dX9_beside_22 : decode cX9_beside 22 = .ok (.goto 4, 3) := dk_167 0 4 (dk_at dksX9_beside_1 0 rfl rfl)
theorem dX9_beside_25 : decode cX9_beside 25 = .ok (.iconst (-1), 1) := dk_2 (dk_at dksX9_beside_1 3 rfl rfl)
theorem dX9_beside_26 : decode cX9_beside 26 = .ok (.ireturn, 1) := dk_172 (dk_at dksX9_beside_1 4 rfl rfl)
theorem dX9_beside_27 : decode cX9_beside 27 = .ok (.iload_n 1, 1) := dk_27 (dk_at dksX9_beside_1 5 rfl rfl)
theorem dX9_beside_28 : decode cX9_beside 28 = .ok (.iconst 1, 1) := dk_4 (dk_at dksX9_beside_1 6 rfl rfl)
theorem dX9_beside_29 : decode cX9_beside 29 = .ok (.if_icmp .ne 15, 3) := dk_160 0 15 (dk_at dksX9_beside_1 7 rfl rfl)
theorem dX9_beside_32 : decode cX9_beside 32 = .ok (.iload_n 3, 1) := dk_29 (dk_at dksX9_beside_1 10 rfl rfl)
theorem dX9_beside_33 : decode cX9_beside 33 = .ok (.ifCond .le 9, 3) := dk_158 0 9 (dk_at dksX9_beside_1 11 rfl rfl)
theorem dX9_beside_36 : decode cX9_beside 36 = .ok (.iload_n 0, 1) := dk_26 (dk_at dksX9_beside_1 14 rfl rfl)
theorem dX9_beside_37 : decode cX9_beside 37 = .ok (.iconst 1, 1) := dk_4 (dk_at dksX9_beside_1 15 rfl rfl)
theorem dX9_beside_38 : decode cX9_beside 38 = .ok (.isub, 1) := dk_100 (dk_at dksX9_beside_1 16 rfl rfl)
theorem dX9_beside_39 : decode cX9_beside 39 = .ok (.goto 4, 3) := dk_167 0 4 (dk_at dksX9_beside_1 17 rfl rfl)
theorem dX9_beside_42 : decode cX9_beside 42 = .ok (.iconst (-1), 1) := dk_2 (dk_at dksX9_beside_1 20 rfl rfl)
theorem dX9_beside_43 : decode cX9_beside 43 = .ok (.ireturn, 1) := dk_172 (dk_at dksX9_beside_1 21 rfl rfl)
theorem dX9_beside_44 : decode cX9_beside 44 = .ok (.iload_n 1, 1) := dk_27 (dk_at dksX9_beside_1 22 rfl rfl)
theorem dX9_beside_45 : decode cX9_beside 45 = .ok (.iconst 2, 1) := dk_5 (dk_at dksX9_beside_1 23 rfl rfl)
theorem dX9_beside_46 : decode cX9_beside 46 = .ok (.if_icmp .ne 16, 3) := dk_160 0 16 (dk_at dksX9_beside_2 0 rfl rfl)
theorem dX9_beside_49 : decode cX9_beside 49 = .ok (.iload_n 3, 1) := dk_29 (dk_at dksX9_beside_2 3 rfl rfl)
theorem dX9_beside_50 : decode cX9_beside 50 = .ok (.iconst 5, 1) := dk_8 (dk_at dksX9_beside_2 4 rfl rfl)
theorem dX9_beside_51 : decode cX9_beside 51 = .ok (.if_icmp .ge 9, 3) := dk_162 0 9 (dk_at dksX9_beside_2 5 rfl rfl)
theorem dX9_beside_54 : decode cX9_beside 54 = .ok (.iload_n 0, 1) := dk_26 (dk_at dksX9_beside_2 8 rfl rfl)
theorem dX9_beside_55 : decode cX9_beside 55 = .ok (.iconst 1, 1) := dk_4 (dk_at dksX9_beside_2 9 rfl rfl)
theorem dX9_beside_56 : decode cX9_beside 56 = .ok (.iadd, 1) := dk_96 (dk_at dksX9_beside_2 10 rfl rfl)
theorem dX9_beside_57 : decode cX9_beside 57 = .ok (.goto 4, 3) := dk_167 0 4 (dk_at dksX9_beside_2 11 rfl rfl)
theorem dX9_beside_60 : decode cX9_beside 60 = .ok (.iconst (-1), 1) := dk_2 (dk_at dksX9_beside_2 14 rfl rfl)
theorem dX9_beside_61 : decode cX9_beside 61 = .ok (.ireturn, 1) := dk_172 (dk_at dksX9_beside_2 15 rfl rfl)
theorem dX9_beside_62 : decode cX9_beside 62 = .ok (.iload_n 2, 1) := dk_28 (dk_at dksX9_beside_2 16 rfl rfl)
theorem dX9_beside_63 : decode cX9_beside 63 = .ok (.iconst 4, 1) := dk_7 (dk_at dksX9_beside_2 17 rfl rfl)
theorem dX9_beside_64 : decode cX9_beside 64 = .ok (.if_icmp .ge 10, 3) := dk_162 0 10 (dk_at dksX9_beside_2 18 rfl rfl)
theorem dX9_beside_67 : decode cX9_beside 67 = .ok (.iload_n 0, 1) := dk_26 (dk_at dksX9_beside_2 21 rfl rfl)
theorem dX9_beside_68 : decode cX9_beside 68 = .ok (.bipush 6, 2) := dk_16 6 (dk_at dksX9_beside_2 22 rfl rfl)
theorem dX9_beside_70 : decode cX9_beside 70 = .ok (.iadd, 1) := dk_96 (dk_at dksX9_beside_3 0 rfl rfl)
theorem dX9_beside_71 : decode cX9_beside 71 = .ok (.goto 4, 3) := dk_167 0 4 (dk_at dksX9_beside_3 1 rfl rfl)
theorem dX9_beside_74 : decode cX9_beside 74 = .ok (.iconst (-1), 1) := dk_2 (dk_at dksX9_beside_3 4 rfl rfl)
theorem dX9_beside_75 : decode cX9_beside 75 = .ok (.ireturn, 1) := dk_172 (dk_at dksX9_beside_3 5 rfl rfl)
abbrev cX9_hasTime : ByteArray := prog_23_method_30_code
def yX9_hasTime : MethodName := ⟨RX9, "hasTime", "(II)Z"⟩
def dkwX9_hasTime_1 : List UInt8 := [182, 0, 60, 54, 4, 3, 172, 42, 180, 0, 13, 29, 92, 46, 28, 100, 79, 4, 172]
abbrev dktX9_hasTime_1 : List UInt8 := dkwX9_hasTime_1 ++ []
def dkwX9_hasTime_0 : List UInt8 := [27, 4, 184, 0, 91, 62, 42, 180, 0, 13, 29, 46, 28, 162, 0, 18, 42, 7, 42, 180, 0, 13, 29, 46]
abbrev dktX9_hasTime_0 : List UInt8 := dkwX9_hasTime_0 ++ dktX9_hasTime_1
theorem dksX9_hasTime_0 : cX9_hasTime.data.toList.drop 0 = dktX9_hasTime_0 := by decide +kernel
theorem dksX9_hasTime_1 : cX9_hasTime.data.toList.drop 24 = dktX9_hasTime_1 := dk_seg dksX9_hasTime_0 24 rfl rfl
theorem dX9_hasTime_0 : decode cX9_hasTime 0 = .ok (.iload_n 1, 1) := dk_27 (dk_at dksX9_hasTime_0 0 rfl rfl)
theorem dX9_hasTime_1 : decode cX9_hasTime 1 = .ok (.iconst 1, 1) := dk_4 (dk_at dksX9_hasTime_0 1 rfl rfl)
theorem dX9_hasTime_2 : decode cX9_hasTime 2 = .ok (.invokestatic 91, 3) := dk_184 0 91 (dk_at dksX9_hasTime_0 2 rfl rfl)
theorem dX9_hasTime_5 : decode cX9_hasTime 5 = .ok (.istore_n 3, 1) := dk_62 (dk_at dksX9_hasTime_0 5 rfl rfl)
theorem dX9_hasTime_6 : decode cX9_hasTime 6 = .ok (.aload_n 0, 1) := dk_42 (dk_at dksX9_hasTime_0 6 rfl rfl)
theorem dX9_hasTime_7 : decode cX9_hasTime 7 = .ok (.getfield 13, 3) := dk_180 0 13 (dk_at dksX9_hasTime_0 7 rfl rfl)
theorem dX9_hasTime_10 : decode cX9_hasTime 10 = .ok (.iload_n 3, 1) := dk_29 (dk_at dksX9_hasTime_0 10 rfl rfl)
theorem dX9_hasTime_11 : decode cX9_hasTime 11 = .ok (.iaload, 1) := dk_46 (dk_at dksX9_hasTime_0 11 rfl rfl)
theorem dX9_hasTime_12 : decode cX9_hasTime 12 = .ok (.iload_n 2, 1) := dk_28 (dk_at dksX9_hasTime_0 12 rfl rfl)
theorem dX9_hasTime_13 : decode cX9_hasTime 13 = .ok (.if_icmp .ge 18, 3) := dk_162 0 18 (dk_at dksX9_hasTime_0 13 rfl rfl)
theorem dX9_hasTime_16 : decode cX9_hasTime 16 = .ok (.aload_n 0, 1) := dk_42 (dk_at dksX9_hasTime_0 16 rfl rfl)
theorem dX9_hasTime_17 : decode cX9_hasTime 17 = .ok (.iconst 4, 1) := dk_7 (dk_at dksX9_hasTime_0 17 rfl rfl)
theorem dX9_hasTime_18 : decode cX9_hasTime 18 = .ok (.aload_n 0, 1) := dk_42 (dk_at dksX9_hasTime_0 18 rfl rfl)
theorem dX9_hasTime_19 : decode cX9_hasTime 19 = .ok (.getfield 13, 3) := dk_180 0 13 (dk_at dksX9_hasTime_0 19 rfl rfl)
theorem dX9_hasTime_22 : decode cX9_hasTime 22 = .ok (.iload_n 3, 1) := dk_29 (dk_at dksX9_hasTime_0 22 rfl rfl)
theorem dX9_hasTime_23 : decode cX9_hasTime 23 = .ok (.iaload, 1) := dk_46 (dk_at dksX9_hasTime_0 23 rfl rfl)
theorem dX9_hasTime_24 : decode cX9_hasTime 24 = .ok (.invokevirtual 60, 3) := dk_182 0 60 (dk_at dksX9_hasTime_1 0 rfl rfl)
theorem dX9_hasTime_27 : decode cX9_hasTime 27 = .ok (.istore 4, 2) := dk_54 4 (dk_at dksX9_hasTime_1 3 rfl rfl)
theorem dX9_hasTime_29 : decode cX9_hasTime 29 = .ok (.iconst 0, 1) := dk_3 (dk_at dksX9_hasTime_1 5 rfl rfl)
theorem dX9_hasTime_30 : decode cX9_hasTime 30 = .ok (.ireturn, 1) := dk_172 (dk_at dksX9_hasTime_1 6 rfl rfl)
theorem dX9_hasTime_31 : decode cX9_hasTime 31 = .ok (.aload_n 0, 1) := dk_42 (dk_at dksX9_hasTime_1 7 rfl rfl)
theorem dX9_hasTime_32 : decode cX9_hasTime 32 = .ok (.getfield 13, 3) := dk_180 0 13 (dk_at dksX9_hasTime_1 8 rfl rfl)
theorem dX9_hasTime_35 : decode cX9_hasTime 35 = .ok (.iload_n 3, 1) := dk_29 (dk_at dksX9_hasTime_1 11 rfl rfl)
theorem dX9_hasTime_36 : decode cX9_hasTime 36 = .ok (.dup2, 1) := dk_92 (dk_at dksX9_hasTime_1 12 rfl rfl)
theorem dX9_hasTime_37 : decode cX9_hasTime 37 = .ok (.iaload, 1) := dk_46 (dk_at dksX9_hasTime_1 13 rfl rfl)
theorem dX9_hasTime_38 : decode cX9_hasTime 38 = .ok (.iload_n 2, 1) := dk_28 (dk_at dksX9_hasTime_1 14 rfl rfl)
theorem dX9_hasTime_39 : decode cX9_hasTime 39 = .ok (.isub, 1) := dk_100 (dk_at dksX9_hasTime_1 15 rfl rfl)
theorem dX9_hasTime_40 : decode cX9_hasTime 40 = .ok (.iastore, 1) := dk_79 (dk_at dksX9_hasTime_1 16 rfl rfl)
theorem dX9_hasTime_41 : decode cX9_hasTime 41 = .ok (.iconst 1, 1) := dk_4 (dk_at dksX9_hasTime_1 17 rfl rfl)
theorem dX9_hasTime_42 : decode cX9_hasTime 42 = .ok (.ireturn, 1) := dk_172 (dk_at dksX9_hasTime_1 18 rfl rfl)
abbrev cX9_sweep : ByteArray := prog_23_method_34_code
def yX9_sweep : MethodName := ⟨RX9, "sweep", "(I)I"⟩
def dkwX9_sweep_0 : List UInt8 := [42, 182, 0, 82, 42, 42, 27, 182, 0, 137, 182, 0, 88, 172]
abbrev dktX9_sweep_0 : List UInt8 := dkwX9_sweep_0 ++ []
theorem dksX9_sweep_0 : cX9_sweep.data.toList.drop 0 = dktX9_sweep_0 := by decide +kernel
theorem dX9_sweep_0 : decode cX9_sweep 0 = .ok (.aload_n 0, 1) := dk_42 (dk_at dksX9_sweep_0 0 rfl rfl)
theorem dX9_sweep_1 : decode cX9_sweep 1 = .ok (.invokevirtual 82, 3) := dk_182 0 82 (dk_at dksX9_sweep_0 1 rfl rfl)
theorem dX9_sweep_4 : decode cX9_sweep 4 = .ok (.aload_n 0, 1) := dk_42 (dk_at dksX9_sweep_0 4 rfl rfl)
theorem dX9_sweep_5 : decode cX9_sweep 5 = .ok (.aload_n 0, 1) := dk_42 (dk_at dksX9_sweep_0 5 rfl rfl)
theorem dX9_sweep_6 : decode cX9_sweep 6 = .ok (.iload_n 1, 1) := dk_27 (dk_at dksX9_sweep_0 6 rfl rfl)
theorem dX9_sweep_7 : decode cX9_sweep 7 = .ok (.invokevirtual 137, 3) := dk_182 0 137 (dk_at dksX9_sweep_0 7 rfl rfl)
theorem dX9_sweep_10 : decode cX9_sweep 10 = .ok (.invokevirtual 88, 3) := dk_182 0 88 (dk_at dksX9_sweep_0 10 rfl rfl)
theorem dX9_sweep_13 : decode cX9_sweep 13 = .ok (.ireturn, 1) := dk_172 (dk_at dksX9_sweep_0 13 rfl rfl)
abbrev cX9_sweeps : ByteArray := prog_23_method_33_code
def yX9_sweeps : MethodName := ⟨RX9, "sweeps", "(I)I"⟩
def dkwX9_sweeps_6 : List UInt8 := [16, 7, 92, 46, 29, 96, 79, 29, 172]
abbrev dktX9_sweeps_6 : List UInt8 := dkwX9_sweeps_6 ++ []
def dkwX9_sweeps_5 : List UInt8 := [16, 72, 28, 96, 3, 79, 42, 180, 0, 13, 27, 6, 184, 0, 91, 92, 46, 29, 96, 79, 42, 180, 0, 13]
abbrev dktX9_sweeps_5 : List UInt8 := dkwX9_sweeps_5 ++ dktX9_sweeps_6
def dkwX9_sweeps_4 : List UInt8 := [21, 5, 46, 100, 182, 0, 60, 172, 42, 180, 0, 13, 21, 5, 92, 46, 21, 4, 100, 79, 42, 180, 0, 13]
abbrev dktX9_sweeps_4 : List UInt8 := dkwX9_sweeps_4 ++ dktX9_sweeps_5
def dkwX9_sweeps_3 : List UInt8 := [16, 253, 172, 42, 180, 0, 13, 21, 5, 46, 21, 4, 162, 0, 20, 42, 16, 7, 21, 4, 42, 180, 0, 13]
abbrev dktX9_sweeps_3 : List UInt8 := dkwX9_sweeps_3 ++ dktX9_sweeps_4
def dkwX9_sweeps_2 : List UInt8 := [54, 5, 29, 154, 0, 11, 42, 16, 6, 28, 182, 0, 60, 172, 42, 27, 4, 182, 0, 130, 154, 0, 6]
abbrev dktX9_sweeps_2 : List UInt8 := dkwX9_sweeps_2 ++ dktX9_sweeps_3
def dkwX9_sweeps_1 : List UInt8 := [61, 42, 180, 0, 13, 16, 72, 28, 96, 46, 62, 29, 5, 96, 6, 108, 54, 4, 27, 5, 184, 0, 91]
abbrev dktX9_sweeps_1 : List UInt8 := dkwX9_sweeps_1 ++ dktX9_sweeps_2
def dkwX9_sweeps_0 : List UInt8 := [42, 27, 182, 0, 121, 154, 0, 9, 42, 2, 182, 0, 56, 172, 42, 180, 0, 13, 27, 3, 184, 0, 91, 46]
abbrev dktX9_sweeps_0 : List UInt8 := dkwX9_sweeps_0 ++ dktX9_sweeps_1
theorem dksX9_sweeps_0 : cX9_sweeps.data.toList.drop 0 = dktX9_sweeps_0 := by decide +kernel
theorem dksX9_sweeps_1 : cX9_sweeps.data.toList.drop 24 = dktX9_sweeps_1 := dk_seg dksX9_sweeps_0 24 rfl rfl
theorem dksX9_sweeps_2 : cX9_sweeps.data.toList.drop 47 = dktX9_sweeps_2 := dk_seg dksX9_sweeps_1 23 rfl rfl
theorem dksX9_sweeps_3 : cX9_sweeps.data.toList.drop 70 = dktX9_sweeps_3 := dk_seg dksX9_sweeps_2 23 rfl rfl
theorem dksX9_sweeps_4 : cX9_sweeps.data.toList.drop 94 = dktX9_sweeps_4 := dk_seg dksX9_sweeps_3 24 rfl rfl
theorem dksX9_sweeps_5 : cX9_sweeps.data.toList.drop 118 = dktX9_sweeps_5 := dk_seg dksX9_sweeps_4 24 rfl rfl
theorem dksX9_sweeps_6 : cX9_sweeps.data.toList.drop 142 = dktX9_sweeps_6 := dk_seg dksX9_sweeps_5 24 rfl rfl
theorem dX9_sweeps_0 : decode cX9_sweeps 0 = .ok (.aload_n 0, 1) := dk_42 (dk_at dksX9_sweeps_0 0 rfl rfl)
theorem dX9_sweeps_1 : decode cX9_sweeps 1 = .ok (.iload_n 1, 1) := dk_27 (dk_at dksX9_sweeps_0 1 rfl rfl)
theorem dX9_sweeps_2 : decode cX9_sweeps 2 = .ok (.invokevirtual 121, 3) := dk_182 0 121 (dk_at dksX9_sweeps_0 2 rfl rfl)
theorem dX9_sweeps_5 : decode cX9_sweeps 5 = .ok (.ifCond .ne 9, 3) := dk_154 0 9 (dk_at dksX9_sweeps_0 5 rfl rfl)
theorem dX9_sweeps_8 : decode cX9_sweeps 8 = .ok (.aload_n 0, 1) := dk_42 (dk_at dksX9_sweeps_0 8 rfl rfl)
theorem dX9_sweeps_9 : decode cX9_sweeps 9 = .ok (.iconst (-1), 1) := dk_2 (dk_at dksX9_sweeps_0 9 rfl rfl)
theorem dX9_sweeps_10 : decode cX9_sweeps 10 = .ok (.invokevirtual 56, 3) := dk_182 0 56 (dk_at dksX9_sweeps_0 10 rfl rfl)
theorem dX9_sweeps_13 : decode cX9_sweeps 13 = .ok (.ireturn, 1) := dk_172 (dk_at dksX9_sweeps_0 13 rfl rfl)
theorem dX9_sweeps_14 : decode cX9_sweeps 14 = .ok (.aload_n 0, 1) := dk_42 (dk_at dksX9_sweeps_0 14 rfl rfl)
theorem dX9_sweeps_15 : decode cX9_sweeps 15 = .ok (.getfield 13, 3) := dk_180 0 13 (dk_at dksX9_sweeps_0 15 rfl rfl)
theorem dX9_sweeps_18 : decode cX9_sweeps 18 = .ok (.iload_n 1, 1) := dk_27 (dk_at dksX9_sweeps_0 18 rfl rfl)
theorem dX9_sweeps_19 : decode cX9_sweeps 19 = .ok (.iconst 0, 1) := dk_3 (dk_at dksX9_sweeps_0 19 rfl rfl)
theorem dX9_sweeps_20 : decode cX9_sweeps 20 = .ok (.invokestatic 91, 3) := dk_184 0 91 (dk_at dksX9_sweeps_0 20 rfl rfl)
theorem dX9_sweeps_23 : decode cX9_sweeps 23 = .ok (.iaload, 1) := dk_46 (dk_at dksX9_sweeps_0 23 rfl rfl)
theorem dX9_sweeps_24 : decode cX9_sweeps 24 = .ok (.istore_n 2, 1) := dk_61 (dk_at dksX9_sweeps_1 0 rfl rfl)
theorem dX9_sweeps_25 : decode cX9_sweeps 25 = .ok (.aload_n 0, 1) := dk_42 (dk_at dksX9_sweeps_1 1 rfl rfl)
theorem dX9_sweeps_26 : decode cX9_sweeps 26 = .ok (.getfield 13, 3) := dk_180 0 13 (dk_at dksX9_sweeps_1 2 rfl rfl)
theorem dX9_sweeps_29 : decode cX9_sweeps 29 = .ok (.bipush 72, 2) := dk_16 72 (dk_at dksX9_sweeps_1 5 rfl rfl)
theorem dX9_sweeps_31 : decode cX9_sweeps 31 = .ok (.iload_n 2, 1) := dk_28 (dk_at dksX9_sweeps_1 7 rfl rfl)
theorem dX9_sweeps_32 : decode cX9_sweeps 32 = .ok (.iadd, 1) := dk_96 (dk_at dksX9_sweeps_1 8 rfl rfl)
theorem dX9_sweeps_33 : decode cX9_sweeps 33 = .ok (.iaload, 1) := dk_46 (dk_at dksX9_sweeps_1 9 rfl rfl)
theorem dX9_sweeps_34 : decode cX9_sweeps 34 = .ok (.istore_n 3, 1) := dk_62 (dk_at dksX9_sweeps_1 10 rfl rfl)
theorem dX9_sweeps_35 : decode cX9_sweeps 35 = .ok (.iload_n 3, 1) := dk_29 (dk_at dksX9_sweeps_1 11 rfl rfl)
theorem dX9_sweeps_36 : decode cX9_sweeps 36 = .ok (.iconst 2, 1) := dk_5 (dk_at dksX9_sweeps_1 12 rfl rfl)
theorem dX9_sweeps_37 : decode cX9_sweeps 37 = .ok (.iadd, 1) := dk_96 (dk_at dksX9_sweeps_1 13 rfl rfl)
theorem dX9_sweeps_38 : decode cX9_sweeps 38 = .ok (.iconst 3, 1) := dk_6 (dk_at dksX9_sweeps_1 14 rfl rfl)
theorem dX9_sweeps_39 : decode cX9_sweeps 39 = .ok (.idiv, 1) := dk_108 (dk_at dksX9_sweeps_1 15 rfl rfl)
theorem dX9_sweeps_40 : decode cX9_sweeps 40 = .ok (.istore 4, 2) := dk_54 4 (dk_at dksX9_sweeps_1 16 rfl rfl)
theorem dX9_sweeps_42 : decode cX9_sweeps 42 = .ok (.iload_n 1, 1) := dk_27 (dk_at dksX9_sweeps_1 18 rfl rfl)
theorem dX9_sweeps_43 : decode cX9_sweeps 43 = .ok (.iconst 2, 1) := dk_5 (dk_at dksX9_sweeps_1 19 rfl rfl)
theorem dX9_sweeps_44 : decode cX9_sweeps 44 = .ok (.invokestatic 91, 3) := dk_184 0 91 (dk_at dksX9_sweeps_1 20 rfl rfl)
theorem dX9_sweeps_47 : decode cX9_sweeps 47 = .ok (.istore 5, 2) := dk_54 5 (dk_at dksX9_sweeps_2 0 rfl rfl)
theorem dX9_sweeps_49 : decode cX9_sweeps 49 = .ok (.iload_n 3, 1) := dk_29 (dk_at dksX9_sweeps_2 2 rfl rfl)
theorem dX9_sweeps_50 : decode cX9_sweeps 50 = .ok (.ifCond .ne 11, 3) := dk_154 0 11 (dk_at dksX9_sweeps_2 3 rfl rfl)
theorem dX9_sweeps_53 : decode cX9_sweeps 53 = .ok (.aload_n 0, 1) := dk_42 (dk_at dksX9_sweeps_2 6 rfl rfl)
theorem dX9_sweeps_54 : decode cX9_sweeps 54 = .ok (.bipush 6, 2) := dk_16 6 (dk_at dksX9_sweeps_2 7 rfl rfl)
theorem dX9_sweeps_56 : decode cX9_sweeps 56 = .ok (.iload_n 2, 1) := dk_28 (dk_at dksX9_sweeps_2 9 rfl rfl)
theorem dX9_sweeps_57 : decode cX9_sweeps 57 = .ok (.invokevirtual 60, 3) := dk_182 0 60 (dk_at dksX9_sweeps_2 10 rfl rfl)
theorem dX9_sweeps_60 : decode cX9_sweeps 60 = .ok (.ireturn, 1) := dk_172 (dk_at dksX9_sweeps_2 13 rfl rfl)
theorem dX9_sweeps_61 : decode cX9_sweeps 61 = .ok (.aload_n 0, 1) := dk_42 (dk_at dksX9_sweeps_2 14 rfl rfl)
theorem dX9_sweeps_62 : decode cX9_sweeps 62 = .ok (.iload_n 1, 1) := dk_27 (dk_at dksX9_sweeps_2 15 rfl rfl)
theorem dX9_sweeps_63 : decode cX9_sweeps 63 = .ok (.iconst 1, 1) := dk_4 (dk_at dksX9_sweeps_2 16 rfl rfl)
theorem dX9_sweeps_64 : decode cX9_sweeps 64 = .ok (.invokevirtual 130, 3) := dk_182 0 130 (dk_at dksX9_sweeps_2 17 rfl rfl)
theorem dX9_sweeps_67 : decode cX9_sweeps 67 = .ok (.ifCond .ne 6, 3) := dk_154 0 6 (dk_at dksX9_sweeps_2 20 rfl rfl)
theorem dX9_sweeps_70 : decode cX9_sweeps 70 = .ok (.bipush (-3), 2) := dk_16 253 (dk_at dksX9_sweeps_3 0 rfl rfl)
theorem dX9_sweeps_72 : decode cX9_sweeps 72 = .ok (.ireturn, 1) := dk_172 (dk_at dksX9_sweeps_3 2 rfl rfl)
theorem dX9_sweeps_73 : decode cX9_sweeps 73 = .ok (.aload_n 0, 1) := dk_42 (dk_at dksX9_sweeps_3 3 rfl rfl)
theorem dX9_sweeps_74 : decode cX9_sweeps 74 = .ok (.getfield 13, 3) := dk_180 0 13 (dk_at dksX9_sweeps_3 4 rfl rfl)
theorem dX9_sweeps_77 : decode cX9_sweeps 77 = .ok (.iload 5, 2) := dk_21 5 (dk_at dksX9_sweeps_3 7 rfl rfl)
theorem dX9_sweeps_79 : decode cX9_sweeps 79 = .ok (.iaload, 1) := dk_46 (dk_at dksX9_sweeps_3 9 rfl rfl)
theorem dX9_sweeps_80 : decode cX9_sweeps 80 = .ok (.iload 4, 2) := dk_21 4 (dk_at dksX9_sweeps_3 10 rfl rfl)
theorem dX9_sweeps_82 : decode cX9_sweeps 82 = .ok (.if_icmp .ge 20, 3) := dk_162 0 20 (dk_at dksX9_sweeps_3 12 rfl rfl)
theorem dX9_sweeps_85 : decode cX9_sweeps 85 = .ok (.aload_n 0, 1) := dk_42 (dk_at dksX9_sweeps_3 15 rfl rfl)
theorem dX9_sweeps_86 : decode cX9_sweeps 86 = .ok (.bipush 7, 2) := dk_16 7 (dk_at dksX9_sweeps_3 16 rfl rfl)
theorem dX9_sweeps_88 : decode cX9_sweeps 88 = .ok (.iload 4, 2) := dk_21 4 (dk_at dksX9_sweeps_3 18 rfl rfl)
theorem dX9_sweeps_90 : decode cX9_sweeps 90 = .ok (.aload_n 0, 1) := dk_42 (dk_at dksX9_sweeps_3 20 rfl rfl)
theorem dX9_sweeps_91 : decode cX9_sweeps 91 = .ok (.getfield 13, 3) := dk_180 0 13 (dk_at dksX9_sweeps_3 21 rfl rfl)
theorem dX9_sweeps_94 : decode cX9_sweeps 94 = .ok (.iload 5, 2) := dk_21 5 (dk_at dksX9_sweeps_4 0 rfl rfl)
theorem dX9_sweeps_96 : decode cX9_sweeps 96 = .ok (.iaload, 1) := dk_46 (dk_at dksX9_sweeps_4 2 rfl rfl)
theorem dX9_sweeps_97 : decode cX9_sweeps 97 = .ok (.isub, 1) := dk_100 (dk_at dksX9_sweeps_4 3 rfl rfl)
theorem dX9_sweeps_98 : decode cX9_sweeps 98 = .ok (.invokevirtual 60, 3) := dk_182 0 60 (dk_at dksX9_sweeps_4 4 rfl rfl)
theorem dX9_sweeps_101 : decode cX9_sweeps 101 = .ok (.ireturn, 1) := dk_172 (dk_at dksX9_sweeps_4 7 rfl rfl)
theorem dX9_sweeps_102 : decode cX9_sweeps 102 = .ok (.aload_n 0, 1) := dk_42 (dk_at dksX9_sweeps_4 8 rfl rfl)
theorem dX9_sweeps_103 : decode cX9_sweeps 103 = .ok (.getfield 13, 3) := dk_180 0 13 (dk_at dksX9_sweeps_4 9 rfl rfl)
theorem dX9_sweeps_106 : decode cX9_sweeps 106 = .ok (.iload 5, 2) := dk_21 5 (dk_at dksX9_sweeps_4 12 rfl rfl)
theorem dX9_sweeps_108 : decode cX9_sweeps 108 = .ok (.dup2, 1) := dk_92 (dk_at dksX9_sweeps_4 14 rfl rfl)
theorem dX9_sweeps_109 : decode cX9_sweeps 109 = .ok (.iaload, 1) := dk_46 (dk_at dksX9_sweeps_4 15 rfl rfl)
theorem dX9_sweeps_110 : decode cX9_sweeps 110 = .ok (.iload 4, 2) := dk_21 4 (dk_at dksX9_sweeps_4 16 rfl rfl)
theorem dX9_sweeps_112 : decode cX9_sweeps 112 = .ok (.isub, 1) := dk_100 (dk_at dksX9_sweeps_4 18 rfl rfl)
theorem dX9_sweeps_113 : decode cX9_sweeps 113 = .ok (.iastore, 1) := dk_79 (dk_at dksX9_sweeps_4 19 rfl rfl)
theorem dX9_sweeps_114 : decode cX9_sweeps 114 = .ok (.aload_n 0, 1) := dk_42 (dk_at dksX9_sweeps_4 20 rfl rfl)
theorem dX9_sweeps_115 : decode cX9_sweeps 115 = .ok (.getfield 13, 3) := dk_180 0 13 (dk_at dksX9_sweeps_4 21 rfl rfl)
theorem dX9_sweeps_118 : decode cX9_sweeps 118 = .ok (.bipush 72, 2) := dk_16 72 (dk_at dksX9_sweeps_5 0 rfl rfl)
theorem dX9_sweeps_120 : decode cX9_sweeps 120 = .ok (.iload_n 2, 1) := dk_28 (dk_at dksX9_sweeps_5 2 rfl rfl)
theorem dX9_sweeps_121 : decode cX9_sweeps 121 = .ok (.iadd, 1) := dk_96 (dk_at dksX9_sweeps_5 3 rfl rfl)
theorem dX9_sweeps_122 : decode cX9_sweeps 122 = .ok (.iconst 0, 1) := dk_3 (dk_at dksX9_sweeps_5 4 rfl rfl)
theorem dX9_sweeps_123 : decode cX9_sweeps 123 = .ok (.iastore, 1) := dk_79 (dk_at dksX9_sweeps_5 5 rfl rfl)
theorem dX9_sweeps_124 : decode cX9_sweeps 124 = .ok (.aload_n 0, 1) := dk_42 (dk_at dksX9_sweeps_5 6 rfl rfl)
theorem dX9_sweeps_125 : decode cX9_sweeps 125 = .ok (.getfield 13, 3) := dk_180 0 13 (dk_at dksX9_sweeps_5 7 rfl rfl)
theorem dX9_sweeps_128 : decode cX9_sweeps 128 = .ok (.iload_n 1, 1) := dk_27 (dk_at dksX9_sweeps_5 10 rfl rfl)
theorem dX9_sweeps_129 : decode cX9_sweeps 129 = .ok (.iconst 3, 1) := dk_6 (dk_at dksX9_sweeps_5 11 rfl rfl)
theorem dX9_sweeps_130 : decode cX9_sweeps 130 = .ok (.invokestatic 91, 3) := dk_184 0 91 (dk_at dksX9_sweeps_5 12 rfl rfl)
theorem dX9_sweeps_133 : decode cX9_sweeps 133 = .ok (.dup2, 1) := dk_92 (dk_at dksX9_sweeps_5 15 rfl rfl)
theorem dX9_sweeps_134 : decode cX9_sweeps 134 = .ok (.iaload, 1) := dk_46 (dk_at dksX9_sweeps_5 16 rfl rfl)
theorem dX9_sweeps_135 : decode cX9_sweeps 135 = .ok (.iload_n 3, 1) := dk_29 (dk_at dksX9_sweeps_5 17 rfl rfl)
theorem dX9_sweeps_136 : decode cX9_sweeps 136 = .ok (.iadd, 1) := dk_96 (dk_at dksX9_sweeps_5 18 rfl rfl)
theorem dX9_sweeps_137 : decode cX9_sweeps 137 = .ok (.iastore, 1) := dk_79 (dk_at dksX9_sweeps_5 19 rfl rfl)
theorem dX9_sweeps_138 : decode cX9_sweeps 138 = .ok (.aload_n 0, 1) := dk_42 (dk_at dksX9_sweeps_5 20 rfl rfl)
theorem dX9_sweeps_139 : decode cX9_sweeps 139 = .ok (.getfield 13, 3) := dk_180 0 13 (dk_at dksX9_sweeps_5 21 rfl rfl)
theorem dX9_sweeps_142 : decode cX9_sweeps 142 = .ok (.bipush 7, 2) := dk_16 7 (dk_at dksX9_sweeps_6 0 rfl rfl)
theorem dX9_sweeps_144 : decode cX9_sweeps 144 = .ok (.dup2, 1) := dk_92 (dk_at dksX9_sweeps_6 2 rfl rfl)
theorem dX9_sweeps_145 : decode cX9_sweeps 145 = .ok (.iaload, 1) := dk_46 (dk_at dksX9_sweeps_6 3 rfl rfl)
theorem dX9_sweeps_146 : decode cX9_sweeps 146 = .ok (.iload_n 3, 1) := dk_29 (dk_at dksX9_sweeps_6 4 rfl rfl)
theorem dX9_sweeps_147 : decode cX9_sweeps 147 = .ok (.iadd, 1) := dk_96 (dk_at dksX9_sweeps_6 5 rfl rfl)
theorem dX9_sweeps_148 : decode cX9_sweeps 148 = .ok (.iastore, 1) := dk_79 (dk_at dksX9_sweeps_6 6 rfl rfl)
theorem dX9_sweeps_149 : decode cX9_sweeps 149 = .ok (.iload_n 3, 1) := dk_29 (dk_at dksX9_sweeps_6 7 rfl rfl)
theorem dX9_sweeps_150 : decode cX9_sweeps 150 = .ok (.ireturn, 1) := dk_172 (dk_at dksX9_sweeps_6 8 rfl rfl)
abbrev cX9_bind : ByteArray := prog_23_method_36_code
def yX9_bind : MethodName := ⟨RX9, "bind", "(I)I"⟩
def dkwX9_bind_0 : List UInt8 := [42, 182, 0, 82, 42, 42, 27, 182, 0, 140, 182, 0, 88, 172]
abbrev dktX9_bind_0 : List UInt8 := dkwX9_bind_0 ++ []
theorem dksX9_bind_0 : cX9_bind.data.toList.drop 0 = dktX9_bind_0 := by decide +kernel
theorem dX9_bind_0 : decode cX9_bind 0 = .ok (.aload_n 0, 1) := dk_42 (dk_at dksX9_bind_0 0 rfl rfl)
theorem dX9_bind_1 : decode cX9_bind 1 = .ok (.invokevirtual 82, 3) := dk_182 0 82 (dk_at dksX9_bind_0 1 rfl rfl)
theorem dX9_bind_4 : decode cX9_bind 4 = .ok (.aload_n 0, 1) := dk_42 (dk_at dksX9_bind_0 4 rfl rfl)
theorem dX9_bind_5 : decode cX9_bind 5 = .ok (.aload_n 0, 1) := dk_42 (dk_at dksX9_bind_0 5 rfl rfl)
theorem dX9_bind_6 : decode cX9_bind 6 = .ok (.iload_n 1, 1) := dk_27 (dk_at dksX9_bind_0 6 rfl rfl)
theorem dX9_bind_7 : decode cX9_bind 7 = .ok (.invokevirtual 140, 3) := dk_182 0 140 (dk_at dksX9_bind_0 7 rfl rfl)
theorem dX9_bind_10 : decode cX9_bind 10 = .ok (.invokevirtual 88, 3) := dk_182 0 88 (dk_at dksX9_bind_0 10 rfl rfl)
theorem dX9_bind_13 : decode cX9_bind 13 = .ok (.ireturn, 1) := dk_172 (dk_at dksX9_bind_0 13 rfl rfl)
abbrev cX9_binds : ByteArray := prog_23_method_35_code
def yX9_binds : MethodName := ⟨RX9, "binds", "(I)I"⟩
def dkwX9_binds_2 : List UInt8 := [16, 12, 79, 28, 172]
abbrev dktX9_binds_2 : List UInt8 := dkwX9_binds_2 ++ []
def dkwX9_binds_1 : List UInt8 := [16, 253, 172, 42, 180, 0, 13, 27, 5, 184, 0, 91, 46, 61, 42, 180, 0, 13, 27, 5, 184, 0, 91]
abbrev dktX9_binds_1 : List UInt8 := dkwX9_binds_1 ++ dktX9_binds_2
def dkwX9_binds_0 : List UInt8 := [42, 27, 182, 0, 121, 154, 0, 9, 42, 2, 182, 0, 56, 172, 42, 27, 5, 182, 0, 130, 154, 0, 6]
abbrev dktX9_binds_0 : List UInt8 := dkwX9_binds_0 ++ dktX9_binds_1
theorem dksX9_binds_0 : cX9_binds.data.toList.drop 0 = dktX9_binds_0 := by decide +kernel
theorem dksX9_binds_1 : cX9_binds.data.toList.drop 23 = dktX9_binds_1 := dk_seg dksX9_binds_0 23 rfl rfl
theorem dksX9_binds_2 : cX9_binds.data.toList.drop 46 = dktX9_binds_2 := dk_seg dksX9_binds_1 23 rfl rfl
theorem dX9_binds_0 : decode cX9_binds 0 = .ok (.aload_n 0, 1) := dk_42 (dk_at dksX9_binds_0 0 rfl rfl)
theorem dX9_binds_1 : decode cX9_binds 1 = .ok (.iload_n 1, 1) := dk_27 (dk_at dksX9_binds_0 1 rfl rfl)
theorem dX9_binds_2 : decode cX9_binds 2 = .ok (.invokevirtual 121, 3) := dk_182 0 121 (dk_at dksX9_binds_0 2 rfl rfl)
theorem dX9_binds_5 : decode cX9_binds 5 = .ok (.ifCond .ne 9, 3) := dk_154 0 9 (dk_at dksX9_binds_0 5 rfl rfl)
theorem dX9_binds_8 : decode cX9_binds 8 = .ok (.aload_n 0, 1) := dk_42 (dk_at dksX9_binds_0 8 rfl rfl)
theorem dX9_binds_9 : decode cX9_binds 9 = .ok (.iconst (-1), 1) := dk_2 (dk_at dksX9_binds_0 9 rfl rfl)
theorem dX9_binds_10 : decode cX9_binds 10 = .ok (.invokevirtual 56, 3) := dk_182 0 56 (dk_at dksX9_binds_0 10 rfl rfl)
theorem dX9_binds_13 : decode cX9_binds 13 = .ok (.ireturn, 1) := dk_172 (dk_at dksX9_binds_0 13 rfl rfl)
theorem dX9_binds_14 : decode cX9_binds 14 = .ok (.aload_n 0, 1) := dk_42 (dk_at dksX9_binds_0 14 rfl rfl)
theorem dX9_binds_15 : decode cX9_binds 15 = .ok (.iload_n 1, 1) := dk_27 (dk_at dksX9_binds_0 15 rfl rfl)
theorem dX9_binds_16 : decode cX9_binds 16 = .ok (.iconst 2, 1) := dk_5 (dk_at dksX9_binds_0 16 rfl rfl)
theorem dX9_binds_17 : decode cX9_binds 17 = .ok (.invokevirtual 130, 3) := dk_182 0 130 (dk_at dksX9_binds_0 17 rfl rfl)
theorem dX9_binds_20 : decode cX9_binds 20 = .ok (.ifCond .ne 6, 3) := dk_154 0 6 (dk_at dksX9_binds_0 20 rfl rfl)
theorem dX9_binds_23 : decode cX9_binds 23 = .ok (.bipush (-3), 2) := dk_16 253 (dk_at dksX9_binds_1 0 rfl rfl)
theorem dX9_binds_25 : decode cX9_binds 25 = .ok (.ireturn, 1) := dk_172 (dk_at dksX9_binds_1 2 rfl rfl)
theorem dX9_binds_26 : decode cX9_binds 26 = .ok (.aload_n 0, 1) := dk_42 (dk_at dksX9_binds_1 3 rfl rfl)
theorem dX9_binds_27 : decode cX9_binds 27 = .ok (.getfield 13, 3) := dk_180 0 13 (dk_at dksX9_binds_1 4 rfl rfl)
theorem dX9_binds_30 : decode cX9_binds 30 = .ok (.iload_n 1, 1) := dk_27 (dk_at dksX9_binds_1 7 rfl rfl)
theorem dX9_binds_31 : decode cX9_binds 31 = .ok (.iconst 2, 1) := dk_5 (dk_at dksX9_binds_1 8 rfl rfl)
theorem dX9_binds_32 : decode cX9_binds 32 = .ok (.invokestatic 91, 3) := dk_184 0 91 (dk_at dksX9_binds_1 9 rfl rfl)
theorem dX9_binds_35 : decode cX9_binds 35 = .ok (.iaload, 1) := dk_46 (dk_at dksX9_binds_1 12 rfl rfl)
theorem dX9_binds_36 : decode cX9_binds 36 = .ok (.istore_n 2, 1) := dk_61 (dk_at dksX9_binds_1 13 rfl rfl)
theorem dX9_binds_37 : decode cX9_binds 37 = .ok (.aload_n 0, 1) := dk_42 (dk_at dksX9_binds_1 14 rfl rfl)
theorem dX9_binds_38 : decode cX9_binds 38 = .ok (.getfield 13, 3) := dk_180 0 13 (dk_at dksX9_binds_1 15 rfl rfl)
theorem dX9_binds_41 : decode cX9_binds 41 = .ok (.iload_n 1, 1) := dk_27 (dk_at dksX9_binds_1 18 rfl rfl)
theorem dX9_binds_42 : decode cX9_binds 42 = .ok (.iconst 2, 1) := dk_5 (dk_at dksX9_binds_1 19 rfl rfl)
theorem dX9_binds_43 : decode cX9_binds 43 = .ok (.invokestatic 91, 3) := dk_184 0 91 (dk_at dksX9_binds_1 20 rfl rfl)
theorem dX9_binds_46 : decode cX9_binds 46 = .ok (.bipush 12, 2) := dk_16 12 (dk_at dksX9_binds_2 0 rfl rfl)
theorem dX9_binds_48 : decode cX9_binds 48 = .ok (.iastore, 1) := dk_79 (dk_at dksX9_binds_2 2 rfl rfl)
theorem dX9_binds_49 : decode cX9_binds 49 = .ok (.iload_n 2, 1) := dk_28 (dk_at dksX9_binds_2 3 rfl rfl)
theorem dX9_binds_50 : decode cX9_binds 50 = .ok (.ireturn, 1) := dk_172 (dk_at dksX9_binds_2 4 rfl rfl)
abbrev cX9_trap : ByteArray := prog_23_method_38_code
def yX9_trap : MethodName := ⟨RX9, "trap", "(I)I"⟩
def dkwX9_trap_0 : List UInt8 := [42, 182, 0, 82, 42, 42, 27, 182, 0, 143, 182, 0, 88, 172]
abbrev dktX9_trap_0 : List UInt8 := dkwX9_trap_0 ++ []
theorem dksX9_trap_0 : cX9_trap.data.toList.drop 0 = dktX9_trap_0 := by decide +kernel
theorem dX9_trap_0 : decode cX9_trap 0 = .ok (.aload_n 0, 1) := dk_42 (dk_at dksX9_trap_0 0 rfl rfl)
theorem dX9_trap_1 : decode cX9_trap 1 = .ok (.invokevirtual 82, 3) := dk_182 0 82 (dk_at dksX9_trap_0 1 rfl rfl)
theorem dX9_trap_4 : decode cX9_trap 4 = .ok (.aload_n 0, 1) := dk_42 (dk_at dksX9_trap_0 4 rfl rfl)
theorem dX9_trap_5 : decode cX9_trap 5 = .ok (.aload_n 0, 1) := dk_42 (dk_at dksX9_trap_0 5 rfl rfl)
theorem dX9_trap_6 : decode cX9_trap 6 = .ok (.iload_n 1, 1) := dk_27 (dk_at dksX9_trap_0 6 rfl rfl)
theorem dX9_trap_7 : decode cX9_trap 7 = .ok (.invokevirtual 143, 3) := dk_182 0 143 (dk_at dksX9_trap_0 7 rfl rfl)
theorem dX9_trap_10 : decode cX9_trap 10 = .ok (.invokevirtual 88, 3) := dk_182 0 88 (dk_at dksX9_trap_0 10 rfl rfl)
theorem dX9_trap_13 : decode cX9_trap 13 = .ok (.ireturn, 1) := dk_172 (dk_at dksX9_trap_0 13 rfl rfl)
abbrev cX9_setsTrap : ByteArray := prog_23_method_37_code
def yX9_setsTrap : MethodName := ⟨RX9, "setsTrap", "(I)I"⟩
def dkwX9_setsTrap_4 : List UInt8 := [42, 180, 0, 13, 7, 92, 46, 4, 100, 79, 42, 180, 0, 13, 7, 46, 172]
abbrev dktX9_setsTrap_4 : List UInt8 := dkwX9_setsTrap_4 ++ []
def dkwX9_setsTrap_3 : List UInt8 := [172, 42, 27, 4, 182, 0, 130, 154, 0, 6, 16, 253, 172, 42, 180, 0, 13, 17, 0, 132, 28, 96, 4, 79]
abbrev dktX9_setsTrap_3 : List UInt8 := dkwX9_setsTrap_3 ++ dktX9_setsTrap_4
def dkwX9_setsTrap_2 : List UInt8 := [153, 0, 17, 42, 180, 0, 13, 17, 0, 132, 28, 96, 46, 4, 160, 0, 11, 42, 16, 9, 28, 182, 0, 60]
abbrev dktX9_setsTrap_2 : List UInt8 := dkwX9_setsTrap_2 ++ dktX9_setsTrap_3
def dkwX9_setsTrap_1 : List UInt8 := [61, 42, 28, 182, 0, 97, 153, 0, 10, 42, 5, 28, 182, 0, 60, 172, 42, 180, 0, 13, 7, 46]
abbrev dktX9_setsTrap_1 : List UInt8 := dkwX9_setsTrap_1 ++ dktX9_setsTrap_2
def dkwX9_setsTrap_0 : List UInt8 := [42, 27, 182, 0, 121, 154, 0, 9, 42, 2, 182, 0, 56, 172, 42, 180, 0, 13, 27, 3, 184, 0, 91, 46]
abbrev dktX9_setsTrap_0 : List UInt8 := dkwX9_setsTrap_0 ++ dktX9_setsTrap_1
theorem dksX9_setsTrap_0 : cX9_setsTrap.data.toList.drop 0 = dktX9_setsTrap_0 := by decide +kernel
theorem dksX9_setsTrap_1 : cX9_setsTrap.data.toList.drop 24 = dktX9_setsTrap_1 := dk_seg dksX9_setsTrap_0 24 rfl rfl
theorem dksX9_setsTrap_2 : cX9_setsTrap.data.toList.drop 46 = dktX9_setsTrap_2 := dk_seg dksX9_setsTrap_1 22 rfl rfl
theorem dksX9_setsTrap_3 : cX9_setsTrap.data.toList.drop 70 = dktX9_setsTrap_3 := dk_seg dksX9_setsTrap_2 24 rfl rfl
theorem dksX9_setsTrap_4 : cX9_setsTrap.data.toList.drop 94 = dktX9_setsTrap_4 := dk_seg dksX9_setsTrap_3 24 rfl rfl
theorem dX9_setsTrap_0 : decode cX9_setsTrap 0 = .ok (.aload_n 0, 1) := dk_42 (dk_at dksX9_setsTrap_0 0 rfl rfl)
theorem dX9_setsTrap_1 : decode cX9_setsTrap 1 = .ok (.iload_n 1, 1) := dk_27 (dk_at dksX9_setsTrap_0 1 rfl rfl)
theorem dX9_setsTrap_2 : decode cX9_setsTrap 2 = .ok (.invokevirtual 121, 3) := dk_182 0 121 (dk_at dksX9_setsTrap_0 2 rfl rfl)
theorem dX9_setsTrap_5 : decode cX9_setsTrap 5 = .ok (.ifCond .ne 9, 3) := dk_154 0 9 (dk_at dksX9_setsTrap_0 5 rfl rfl)
theorem dX9_setsTrap_8 : decode cX9_setsTrap 8 = .ok (.aload_n 0, 1) := dk_42 (dk_at dksX9_setsTrap_0 8 rfl rfl)
theorem dX9_setsTrap_9 : decode cX9_setsTrap 9 = .ok (.iconst (-1), 1) := dk_2 (dk_at dksX9_setsTrap_0 9 rfl rfl)
theorem dX9_setsTrap_10 : decode cX9_setsTrap 10 = .ok (.invokevirtual 56, 3) := dk_182 0 56 (dk_at dksX9_setsTrap_0 10 rfl rfl)
theorem dX9_setsTrap_13 : decode cX9_setsTrap 13 = .ok (.ireturn, 1) := dk_172 (dk_at dksX9_setsTrap_0 13 rfl rfl)
theorem dX9_setsTrap_14 : decode cX9_setsTrap 14 = .ok (.aload_n 0, 1) := dk_42 (dk_at dksX9_setsTrap_0 14 rfl rfl)
theorem dX9_setsTrap_15 : decode cX9_setsTrap 15 = .ok (.getfield 13, 3) := dk_180 0 13 (dk_at dksX9_setsTrap_0 15 rfl rfl)
theorem dX9_setsTrap_18 : decode cX9_setsTrap 18 = .ok (.iload_n 1, 1) := dk_27 (dk_at dksX9_setsTrap_0 18 rfl rfl)
theorem dX9_setsTrap_19 : decode cX9_setsTrap 19 = .ok (.iconst 0, 1) := dk_3 (dk_at dksX9_setsTrap_0 19 rfl rfl)
theorem dX9_setsTrap_20 : decode cX9_setsTrap 20 = .ok (.invokestatic 91, 3) := dk_184 0 91 (dk_at dksX9_setsTrap_0 20 rfl rfl)
theorem dX9_setsTrap_23 : decode cX9_setsTrap 23 = .ok (.iaload, 1) := dk_46 (dk_at dksX9_setsTrap_0 23 rfl rfl)
theorem dX9_setsTrap_24 : decode cX9_setsTrap 24 = .ok (.istore_n 2, 1) := dk_61 (dk_at dksX9_setsTrap_1 0 rfl rfl)
theorem dX9_setsTrap_25 : decode cX9_setsTrap 25 = .ok (.aload_n 0, 1) := dk_42 (dk_at dksX9_setsTrap_1 1 rfl rfl)
theorem dX9_setsTrap_26 : decode cX9_setsTrap 26 = .ok (.iload_n 2, 1) := dk_28 (dk_at dksX9_setsTrap_1 2 rfl rfl)
theorem dX9_setsTrap_27 : decode cX9_setsTrap 27 = .ok (.invokevirtual 97, 3) := dk_182 0 97 (dk_at dksX9_setsTrap_1 3 rfl rfl)
theorem dX9_setsTrap_30 : decode cX9_setsTrap 30 = .ok (.ifCond .eq 10, 3) := dk_153 0 10 (dk_at dksX9_setsTrap_1 6 rfl rfl)
theorem dX9_setsTrap_33 : decode cX9_setsTrap 33 = .ok (.aload_n 0, 1) := dk_42 (dk_at dksX9_setsTrap_1 9 rfl rfl)
theorem dX9_setsTrap_34 : decode cX9_setsTrap 34 = .ok (.iconst 2, 1) := dk_5 (dk_at dksX9_setsTrap_1 10 rfl rfl)
theorem dX9_setsTrap_35 : decode cX9_setsTrap 35 = .ok (.iload_n 2, 1) := dk_28 (dk_at dksX9_setsTrap_1 11 rfl rfl)
theorem dX9_setsTrap_36 : decode cX9_setsTrap 36 = .ok (.invokevirtual 60, 3) := dk_182 0 60 (dk_at dksX9_setsTrap_1 12 rfl rfl)
theorem dX9_setsTrap_39 : decode cX9_setsTrap 39 = .ok (.ireturn, 1) := dk_172 (dk_at dksX9_setsTrap_1 15 rfl rfl)
theorem dX9_setsTrap_40 : decode cX9_setsTrap 40 = .ok (.aload_n 0, 1) := dk_42 (dk_at dksX9_setsTrap_1 16 rfl rfl)
theorem dX9_setsTrap_41 : decode cX9_setsTrap 41 = .ok (.getfield 13, 3) := dk_180 0 13 (dk_at dksX9_setsTrap_1 17 rfl rfl)
theorem dX9_setsTrap_44 : decode cX9_setsTrap 44 = .ok (.iconst 4, 1) := dk_7 (dk_at dksX9_setsTrap_1 20 rfl rfl)
theorem dX9_setsTrap_45 : decode cX9_setsTrap 45 = .ok (.iaload, 1) := dk_46 (dk_at dksX9_setsTrap_1 21 rfl rfl)
theorem dX9_setsTrap_46 : decode cX9_setsTrap 46 = .ok (.ifCond .eq 17, 3) := dk_153 0 17 (dk_at dksX9_setsTrap_2 0 rfl rfl)
theorem dX9_setsTrap_49 : decode cX9_setsTrap 49 = .ok (.aload_n 0, 1) := dk_42 (dk_at dksX9_setsTrap_2 3 rfl rfl)
theorem dX9_setsTrap_50 : decode cX9_setsTrap 50 = .ok (.getfield 13, 3) := dk_180 0 13 (dk_at dksX9_setsTrap_2 4 rfl rfl)
theorem dX9_setsTrap_53 : decode cX9_setsTrap 53 = .ok (.sipush 132, 3) := dk_17 0 132 (dk_at dksX9_setsTrap_2 7 rfl rfl)
theorem dX9_setsTrap_56 : decode cX9_setsTrap 56 = .ok (.iload_n 2, 1) := dk_28 (dk_at dksX9_setsTrap_2 10 rfl rfl)
theorem dX9_setsTrap_57 : decode cX9_setsTrap 57 = .ok (.iadd, 1) := dk_96 (dk_at dksX9_setsTrap_2 11 rfl rfl)
theorem dX9_setsTrap_58 : decode cX9_setsTrap 58 = .ok (.iaload, 1) := dk_46 (dk_at dksX9_setsTrap_2 12 rfl rfl)
theorem dX9_setsTrap_59 : decode cX9_setsTrap 59 = .ok (.iconst 1, 1) := dk_4 (dk_at dksX9_setsTrap_2 13 rfl rfl)
theorem dX9_setsTrap_60 : decode cX9_setsTrap 60 = .ok (.if_icmp .ne 11, 3) := dk_160 0 11 (dk_at dksX9_setsTrap_2 14 rfl rfl)
theorem dX9_setsTrap_63 : decode cX9_setsTrap 63 = .ok (.aload_n 0, 1) := dk_42 (dk_at dksX9_setsTrap_2 17 rfl rfl)
theorem dX9_setsTrap_64 : decode cX9_setsTrap 64 = .ok (.bipush 9, 2) := dk_16 9 (dk_at dksX9_setsTrap_2 18 rfl rfl)
theorem dX9_setsTrap_66 : decode cX9_setsTrap 66 = .ok (.iload_n 2, 1) := dk_28 (dk_at dksX9_setsTrap_2 20 rfl rfl)
theorem dX9_setsTrap_67 : decode cX9_setsTrap 67 = .ok (.invokevirtual 60, 3) := dk_182 0 60 (dk_at dksX9_setsTrap_2 21 rfl rfl)
theorem dX9_setsTrap_70 : decode cX9_setsTrap 70 = .ok (.ireturn, 1) := dk_172 (dk_at dksX9_setsTrap_3 0 rfl rfl)
theorem dX9_setsTrap_71 : decode cX9_setsTrap 71 = .ok (.aload_n 0, 1) := dk_42 (dk_at dksX9_setsTrap_3 1 rfl rfl)
theorem dX9_setsTrap_72 : decode cX9_setsTrap 72 = .ok (.iload_n 1, 1) := dk_27 (dk_at dksX9_setsTrap_3 2 rfl rfl)
theorem dX9_setsTrap_73 : decode cX9_setsTrap 73 = .ok (.iconst 1, 1) := dk_4 (dk_at dksX9_setsTrap_3 3 rfl rfl)
theorem dX9_setsTrap_74 : decode cX9_setsTrap 74 = .ok (.invokevirtual 130, 3) := dk_182 0 130 (dk_at dksX9_setsTrap_3 4 rfl rfl)
theorem dX9_setsTrap_77 : decode cX9_setsTrap 77 = .ok (.ifCond .ne 6, 3) := dk_154 0 6 (dk_at dksX9_setsTrap_3 7 rfl rfl)
theorem dX9_setsTrap_80 : decode cX9_setsTrap 80 = .ok (.bipush (-3), 2) := dk_16 253 (dk_at dksX9_setsTrap_3 10 rfl rfl)
theorem dX9_setsTrap_82 : decode cX9_setsTrap 82 = .ok (.ireturn, 1) := dk_172 (dk_at dksX9_setsTrap_3 12 rfl rfl)
theorem dX9_setsTrap_83 : decode cX9_setsTrap 83 = .ok (.aload_n 0, 1) := dk_42 (dk_at dksX9_setsTrap_3 13 rfl rfl)
theorem dX9_setsTrap_84 : decode cX9_setsTrap 84 = .ok (.getfield 13, 3) := dk_180 0 13 (dk_at dksX9_setsTrap_3 14 rfl rfl)
theorem dX9_setsTrap_87 : decode cX9_setsTrap 87 = .ok (.sipush 132, 3) := dk_17 0 132 (dk_at dksX9_setsTrap_3 17 rfl rfl)
theorem dX9_setsTrap_90 : decode cX9_setsTrap 90 = .ok (.iload_n 2, 1) := dk_28 (dk_at dksX9_setsTrap_3 20 rfl rfl)
theorem dX9_setsTrap_91 : decode cX9_setsTrap 91 = .ok (.iadd, 1) := dk_96 (dk_at dksX9_setsTrap_3 21 rfl rfl)
theorem dX9_setsTrap_92 : decode cX9_setsTrap 92 = .ok (.iconst 1, 1) := dk_4 (dk_at dksX9_setsTrap_3 22 rfl rfl)
theorem dX9_setsTrap_93 : decode cX9_setsTrap 93 = .ok (.iastore, 1) := dk_79 (dk_at dksX9_setsTrap_3 23 rfl rfl)
theorem dX9_setsTrap_94 : decode cX9_setsTrap 94 = .ok (.aload_n 0, 1) := dk_42 (dk_at dksX9_setsTrap_4 0 rfl rfl)
theorem dX9_setsTrap_95 : decode cX9_setsTrap 95 = .ok (.getfield 13, 3) := dk_180 0 13 (dk_at dksX9_setsTrap_4 1 rfl rfl)
theorem dX9_setsTrap_98 : decode cX9_setsTrap 98 = .ok (.iconst 4, 1) := dk_7 (dk_at dksX9_setsTrap_4 4 rfl rfl)
theorem dX9_setsTrap_99 : decode cX9_setsTrap 99 = .ok (.dup2, 1) := dk_92 (dk_at dksX9_setsTrap_4 5 rfl rfl)
theorem dX9_setsTrap_100 : decode cX9_setsTrap 100 = .ok (.iaload, 1) := dk_46 (dk_at dksX9_setsTrap_4 6 rfl rfl)
theorem dX9_setsTrap_101 : decode cX9_setsTrap 101 = .ok (.iconst 1, 1) := dk_4 (dk_at dksX9_setsTrap_4 7 rfl rfl)
theorem dX9_setsTrap_102 : decode cX9_setsTrap 102 = .ok (.isub, 1) := dk_100 (dk_at dksX9_setsTrap_4 8 rfl rfl)
theorem dX9_setsTrap_103 : decode cX9_setsTrap 103 = .ok (.iastore, 1) := dk_79 (dk_at dksX9_setsTrap_4 9 rfl rfl)
theorem dX9_setsTrap_104 : decode cX9_setsTrap 104 = .ok (.aload_n 0, 1) := dk_42 (dk_at dksX9_setsTrap_4 10 rfl rfl)
theorem dX9_setsTrap_105 : decode cX9_setsTrap 105 = .ok (.getfield 13, 3) := dk_180 0 13 (dk_at dksX9_setsTrap_4 11 rfl rfl)
theorem dX9_setsTrap_108 : decode cX9_setsTrap 108 = .ok (.iconst 4, 1) := dk_7 (dk_at dksX9_setsTrap_4 14 rfl rfl)
theorem dX9_setsTrap_109 : decode cX9_setsTrap 109 = .ok (.iaload, 1) := dk_46 (dk_at dksX9_setsTrap_4 15 rfl rfl)
theorem dX9_setsTrap_110 : decode cX9_setsTrap 110 = .ok (.ireturn, 1) := dk_172 (dk_at dksX9_setsTrap_4 16 rfl rfl)
abbrev cX9_plant : ByteArray := prog_23_method_40_code
def yX9_plant : MethodName := ⟨RX9, "plant", "(IC)I"⟩
def dkwX9_plant_0 : List UInt8 := [42, 182, 0, 82, 42, 42, 27, 28, 182, 0, 146, 182, 0, 88, 172]
abbrev dktX9_plant_0 : List UInt8 := dkwX9_plant_0 ++ []
theorem dksX9_plant_0 : cX9_plant.data.toList.drop 0 = dktX9_plant_0 := by decide +kernel
theorem dX9_plant_0 : decode cX9_plant 0 = .ok (.aload_n 0, 1) := dk_42 (dk_at dksX9_plant_0 0 rfl rfl)
theorem dX9_plant_1 : decode cX9_plant 1 = .ok (.invokevirtual 82, 3) := dk_182 0 82 (dk_at dksX9_plant_0 1 rfl rfl)
theorem dX9_plant_4 : decode cX9_plant 4 = .ok (.aload_n 0, 1) := dk_42 (dk_at dksX9_plant_0 4 rfl rfl)
theorem dX9_plant_5 : decode cX9_plant 5 = .ok (.aload_n 0, 1) := dk_42 (dk_at dksX9_plant_0 5 rfl rfl)
theorem dX9_plant_6 : decode cX9_plant 6 = .ok (.iload_n 1, 1) := dk_27 (dk_at dksX9_plant_0 6 rfl rfl)
theorem dX9_plant_7 : decode cX9_plant 7 = .ok (.iload_n 2, 1) := dk_28 (dk_at dksX9_plant_0 7 rfl rfl)
theorem dX9_plant_8 : decode cX9_plant 8 = .ok (.invokevirtual 146, 3) := dk_182 0 146 (dk_at dksX9_plant_0 8 rfl rfl)
theorem dX9_plant_11 : decode cX9_plant 11 = .ok (.invokevirtual 88, 3) := dk_182 0 88 (dk_at dksX9_plant_0 11 rfl rfl)
theorem dX9_plant_14 : decode cX9_plant 14 = .ok (.ireturn, 1) := dk_172 (dk_at dksX9_plant_0 14 rfl rfl)
abbrev cX9_plants : ByteArray := prog_23_method_39_code
def yX9_plants : MethodName := ⟨RX9, "plants", "(II)I"⟩
def dkwX9_plants_6 : List UInt8 := [21, 5, 172]
abbrev dktX9_plants_6 : List UInt8 := dkwX9_plants_6 ++ []
def dkwX9_plants_5 : List UInt8 := [16, 253, 172, 42, 180, 0, 13, 16, 42, 21, 5, 96, 4, 79, 42, 180, 0, 13, 8, 92, 46, 4, 96, 79]
abbrev dktX9_plants_5 : List UInt8 := dkwX9_plants_5 ++ dktX9_plants_6
def dkwX9_plants_4 : List UInt8 := [42, 180, 0, 13, 16, 42, 21, 5, 96, 46, 182, 0, 60, 172, 42, 27, 6, 182, 0, 130, 154, 0, 6]
abbrev dktX9_plants_4 : List UInt8 := dkwX9_plants_4 ++ dktX9_plants_5
def dkwX9_plants_3 : List UInt8 := [42, 5, 21, 5, 182, 0, 60, 172, 42, 180, 0, 13, 16, 42, 21, 5, 96, 46, 158, 0, 20, 42, 16, 8]
abbrev dktX9_plants_3 : List UInt8 := dkwX9_plants_3 ++ dktX9_plants_4
def dkwX9_plants_2 : List UInt8 := [54, 5, 21, 5, 156, 0, 11, 42, 8, 21, 4, 182, 0, 60, 172, 42, 21, 5, 182, 0, 97, 153, 0, 11]
abbrev dktX9_plants_2 : List UInt8 := dkwX9_plants_2 ++ dktX9_plants_3
def dkwX9_plants_1 : List UInt8 := [3, 184, 0, 91, 46, 54, 4, 29, 156, 0, 10, 42, 16, 254, 182, 0, 56, 172, 21, 4, 29, 184, 0, 127]
abbrev dktX9_plants_1 : List UInt8 := dkwX9_plants_1 ++ dktX9_plants_2
def dkwX9_plants_0 : List UInt8 := [42, 27, 182, 0, 121, 154, 0, 9, 42, 2, 182, 0, 56, 172, 28, 184, 0, 124, 62, 42, 180, 0, 13, 27]
abbrev dktX9_plants_0 : List UInt8 := dkwX9_plants_0 ++ dktX9_plants_1
theorem dksX9_plants_0 : cX9_plants.data.toList.drop 0 = dktX9_plants_0 := by decide +kernel
theorem dksX9_plants_1 : cX9_plants.data.toList.drop 24 = dktX9_plants_1 := dk_seg dksX9_plants_0 24 rfl rfl
theorem dksX9_plants_2 : cX9_plants.data.toList.drop 48 = dktX9_plants_2 := dk_seg dksX9_plants_1 24 rfl rfl
theorem dksX9_plants_3 : cX9_plants.data.toList.drop 72 = dktX9_plants_3 := dk_seg dksX9_plants_2 24 rfl rfl
theorem dksX9_plants_4 : cX9_plants.data.toList.drop 96 = dktX9_plants_4 := dk_seg dksX9_plants_3 24 rfl rfl
theorem dksX9_plants_5 : cX9_plants.data.toList.drop 119 = dktX9_plants_5 := dk_seg dksX9_plants_4 23 rfl rfl
theorem dksX9_plants_6 : cX9_plants.data.toList.drop 143 = dktX9_plants_6 := dk_seg dksX9_plants_5 24 rfl rfl
theorem dX9_plants_0 : decode cX9_plants 0 = .ok (.aload_n 0, 1) := dk_42 (dk_at dksX9_plants_0 0 rfl rfl)
theorem dX9_plants_1 : decode cX9_plants 1 = .ok (.iload_n 1, 1) := dk_27 (dk_at dksX9_plants_0 1 rfl rfl)
theorem dX9_plants_2 : decode cX9_plants 2 = .ok (.invokevirtual 121, 3) := dk_182 0 121 (dk_at dksX9_plants_0 2 rfl rfl)
theorem dX9_plants_5 : decode cX9_plants 5 = .ok (.ifCond .ne 9, 3) := dk_154 0 9 (dk_at dksX9_plants_0 5 rfl rfl)
theorem dX9_plants_8 : decode cX9_plants 8 = .ok (.aload_n 0, 1) := dk_42 (dk_at dksX9_plants_0 8 rfl rfl)
theorem dX9_plants_9 : decode cX9_plants 9 = .ok (.iconst (-1), 1) := dk_2 (dk_at dksX9_plants_0 9 rfl rfl)
theorem dX9_plants_10 : decode cX9_plants 10 = .ok (.invokevirtual 56, 3) := dk_182 0 56 (dk_at dksX9_plants_0 10 rfl rfl)
theorem dX9_plants_13 : decode cX9_plants 13 = .ok (.ireturn, 1) := dk_172 (dk_at dksX9_plants_0 13 rfl rfl)
theorem dX9_plants_14 : decode cX9_plants 14 = .ok (.iload_n 2, 1) := dk_28 (dk_at dksX9_plants_0 14 rfl rfl)
theorem dX9_plants_15 : decode cX9_plants 15 = .ok (.invokestatic 124, 3) := dk_184 0 124 (dk_at dksX9_plants_0 15 rfl rfl)
theorem dX9_plants_18 : decode cX9_plants 18 = .ok (.istore_n 3, 1) := dk_62 (dk_at dksX9_plants_0 18 rfl rfl)
theorem dX9_plants_19 : decode cX9_plants 19 = .ok (.aload_n 0, 1) := dk_42 (dk_at dksX9_plants_0 19 rfl rfl)
theorem dX9_plants_20 : decode cX9_plants 20 = .ok (.getfield 13, 3) := dk_180 0 13 (dk_at dksX9_plants_0 20 rfl rfl)
theorem dX9_plants_23 : decode cX9_plants 23 = .ok (.iload_n 1, 1) := dk_27 (dk_at dksX9_plants_0 23 rfl rfl)
theorem dX9_plants_24 : decode cX9_plants 24 = .ok (.iconst 0, 1) := dk_3 (dk_at dksX9_plants_1 0 rfl rfl)
theorem dX9_plants_25 : decode cX9_plants 25 = .ok (.invokestatic 91, 3) := dk_184 0 91 (dk_at dksX9_plants_1 1 rfl rfl)
theorem dX9_plants_28 : decode cX9_plants 28 = .ok (.iaload, 1) := dk_46 (dk_at dksX9_plants_1 4 rfl rfl)
theorem dX9_plants_29 : decode cX9_plants 29 = .ok (.istore 4, 2) := dk_54 4 (dk_at dksX9_plants_1 5 rfl rfl)
theorem dX9_plants_31 : decode cX9_plants 31 = .ok (.iload_n 3, 1) := dk_29 (dk_at dksX9_plants_1 7 rfl rfl)
theorem dX9_plants_32 : decode cX9_plants 32 = .ok (.ifCond .ge 10, 3) := dk_156 0 10 (dk_at dksX9_plants_1 8 rfl rfl)
theorem dX9_plants_35 : decode cX9_plants 35 = .ok (.aload_n 0, 1) := dk_42 (dk_at dksX9_plants_1 11 rfl rfl)
theorem dX9_plants_36 : decode cX9_plants 36 = .ok (.bipush (-2), 2) := dk_16 254 (dk_at dksX9_plants_1 12 rfl rfl)
theorem dX9_plants_38 : decode cX9_plants 38 = .ok (.invokevirtual 56, 3) := dk_182 0 56 (dk_at dksX9_plants_1 14 rfl rfl)
theorem dX9_plants_41 : decode cX9_plants 41 = .ok (.ireturn, 1) := dk_172 (dk_at dksX9_plants_1 17 rfl rfl)
theorem dX9_plants_42 : decode cX9_plants 42 = .ok (.iload 4, 2) := dk_21 4 (dk_at dksX9_plants_1 18 rfl rfl)
theorem dX9_plants_44 : decode cX9_plants 44 = .ok (.iload_n 3, 1) := dk_29 (dk_at dksX9_plants_1 20 rfl rfl)
theorem dX9_plants_45 : decode cX9_plants 45 = .ok (.invokestatic 127, 3) := dk_184 0 127 (dk_at dksX9_plants_1 21 rfl rfl)
theorem dX9_plants_48 : decode cX9_plants 48 = .ok (.istore 5, 2) := dk_54 5 (dk_at dksX9_plants_2 0 rfl rfl)
theorem dX9_plants_50 : decode cX9_plants 50 = .ok (.iload 5, 2) := dk_21 5 (dk_at dksX9_plants_2 2 rfl rfl)
theorem dX9_plants_52 : decode cX9_plants 52 = .ok (.ifCond .ge 11, 3) := dk_156 0 11 (dk_at dksX9_plants_2 4 rfl rfl)
theorem dX9_plants_55 : decode cX9_plants 55 = .ok (.aload_n 0, 1) := dk_42 (dk_at dksX9_plants_2 7 rfl rfl)
theorem dX9_plants_56 : decode cX9_plants 56 = .ok (.iconst 5, 1) := dk_8 (dk_at dksX9_plants_2 8 rfl rfl)
theorem dX9_plants_57 : decode cX9_plants 57 = .ok (.iload 4, 2) := dk_21 4 (dk_at dksX9_plants_2 9 rfl rfl)
theorem dX9_plants_59 : decode cX9_plants 59 = .ok (.invokevirtual 60, 3) := dk_182 0 60 (dk_at dksX9_plants_2 11 rfl rfl)
theorem dX9_plants_62 : decode cX9_plants 62 = .ok (.ireturn, 1) := dk_172 (dk_at dksX9_plants_2 14 rfl rfl)
theorem dX9_plants_63 : decode cX9_plants 63 = .ok (.aload_n 0, 1) := dk_42 (dk_at dksX9_plants_2 15 rfl rfl)
theorem dX9_plants_64 : decode cX9_plants 64 = .ok (.iload 5, 2) := dk_21 5 (dk_at dksX9_plants_2 16 rfl rfl)
theorem dX9_plants_66 : decode cX9_plants 66 = .ok (.invokevirtual 97, 3) := dk_182 0 97 (dk_at dksX9_plants_2 18 rfl rfl)
theorem dX9_plants_69 : decode cX9_plants 69 = .ok (.ifCond .eq 11, 3) := dk_153 0 11 (dk_at dksX9_plants_2 21 rfl rfl)
theorem dX9_plants_72 : decode cX9_plants 72 = .ok (.aload_n 0, 1) := dk_42 (dk_at dksX9_plants_3 0 rfl rfl)
theorem dX9_plants_73 : decode cX9_plants 73 = .ok (.iconst 2, 1) := dk_5 (dk_at dksX9_plants_3 1 rfl rfl)
theorem dX9_plants_74 : decode cX9_plants 74 = .ok (.iload 5, 2) := dk_21 5 (dk_at dksX9_plants_3 2 rfl rfl)
theorem dX9_plants_76 : decode cX9_plants 76 = .ok (.invokevirtual 60, 3) := dk_182 0 60 (dk_at dksX9_plants_3 4 rfl rfl)
theorem dX9_plants_79 : decode cX9_plants 79 = .ok (.ireturn, 1) := dk_172 (dk_at dksX9_plants_3 7 rfl rfl)
theorem dX9_plants_80 : decode cX9_plants 80 = .ok (.aload_n 0, 1) := dk_42 (dk_at dksX9_plants_3 8 rfl rfl)
theorem dX9_plants_81 : decode cX9_plants 81 = .ok (.getfield 13, 3) := dk_180 0 13 (dk_at dksX9_plants_3 9 rfl rfl)
theorem dX9_plants_84 : decode cX9_plants 84 = .ok (.bipush 42, 2) := dk_16 42 (dk_at dksX9_plants_3 12 rfl rfl)
theorem dX9_plants_86 : decode cX9_plants 86 = .ok (.iload 5, 2) := dk_21 5 (dk_at dksX9_plants_3 14 rfl rfl)
theorem dX9_plants_88 : decode cX9_plants 88 = .ok (.iadd, 1) := dk_96 (dk_at dksX9_plants_3 16 rfl rfl)
theorem dX9_plants_89 : decode cX9_plants 89 = .ok (.iaload, 1) := dk_46 (dk_at dksX9_plants_3 17 rfl rfl)
theorem dX9_plants_90 : decode cX9_plants 90 = .ok (.ifCond .le 20, 3) := dk_158 0 20 (dk_at dksX9_plants_3 18 rfl rfl)
theorem dX9_plants_93 : decode cX9_plants 93 = .ok (.aload_n 0, 1) := dk_42 (dk_at dksX9_plants_3 21 rfl rfl)
theorem dX9_plants_94 : decode cX9_plants 94 = .ok (.bipush 8, 2) := dk_16 8 (dk_at dksX9_plants_3 22 rfl rfl)
theorem dX9_plants_96 : decode cX9_plants 96 = .ok (.aload_n 0, 1) := dk_42 (dk_at dksX9_plants_4 0 rfl rfl)
theorem dX9_plants_97 : decode cX9_plants 97 = .ok (.getfield 13, 3) := dk_180 0 13 (dk_at dksX9_plants_4 1 rfl rfl)
theorem dX9_plants_100 : decode cX9_plants 100 = .ok (.bipush 42, 2) := dk_16 42 (dk_at dksX9_plants_4 4 rfl rfl)
theorem dX9_plants_102 : decode cX9_plants 102 = .ok (.iload 5, 2) := dk_21 5 (dk_at dksX9_plants_4 6 rfl rfl)
theorem dX9_plants_104 : decode cX9_plants 104 = .ok (.iadd, 1) := dk_96 (dk_at dksX9_plants_4 8 rfl rfl)
theorem dX9_plants_105 : decode cX9_plants 105 = .ok (.iaload, 1) := dk_46 (dk_at dksX9_plants_4 9 rfl rfl)
theorem dX9_plants_106 : decode cX9_plants 106 = .ok (.invokevirtual 60, 3) := dk_182 0 60 (dk_at dksX9_plants_4 10 rfl rfl)
theorem dX9_plants_109 : decode cX9_plants 109 = .ok (.ireturn, 1) := dk_172 (dk_at dksX9_plants_4 13 rfl rfl)
theorem dX9_plants_110 : decode cX9_plants 110 = .ok (.aload_n 0, 1) := dk_42 (dk_at dksX9_plants_4 14 rfl rfl)
theorem dX9_plants_111 : decode cX9_plants 111 = .ok (.iload_n 1, 1) := dk_27 (dk_at dksX9_plants_4 15 rfl rfl)
theorem dX9_plants_112 : decode cX9_plants 112 = .ok (.iconst 3, 1) := dk_6 (dk_at dksX9_plants_4 16 rfl rfl)
theorem dX9_plants_113 : decode cX9_plants 113 = .ok (.invokevirtual 130, 3) := dk_182 0 130 (dk_at dksX9_plants_4 17 rfl rfl)
theorem dX9_plants_116 : decode cX9_plants 116 = .ok (.ifCond .ne 6, 3) := dk_154 0 6 (dk_at dksX9_plants_4 20 rfl rfl)
theorem dX9_plants_119 : decode cX9_plants 119 = .ok (.bipush (-3), 2) := dk_16 253 (dk_at dksX9_plants_5 0 rfl rfl)
theorem dX9_plants_121 : decode cX9_plants 121 = .ok (.ireturn, 1) := dk_172 (dk_at dksX9_plants_5 2 rfl rfl)
theorem dX9_plants_122 : decode cX9_plants 122 = .ok (.aload_n 0, 1) := dk_42 (dk_at dksX9_plants_5 3 rfl rfl)
theorem dX9_plants_123 : decode cX9_plants 123 = .ok (.getfield 13, 3) := dk_180 0 13 (dk_at dksX9_plants_5 4 rfl rfl)
theorem dX9_plants_126 : decode cX9_plants 126 = .ok (.bipush 42, 2) := dk_16 42 (dk_at dksX9_plants_5 7 rfl rfl)
theorem dX9_plants_128 : decode cX9_plants 128 = .ok (.iload 5, 2) := dk_21 5 (dk_at dksX9_plants_5 9 rfl rfl)
theorem dX9_plants_130 : decode cX9_plants 130 = .ok (.iadd, 1) := dk_96 (dk_at dksX9_plants_5 11 rfl rfl)
theorem dX9_plants_131 : decode cX9_plants 131 = .ok (.iconst 1, 1) := dk_4 (dk_at dksX9_plants_5 12 rfl rfl)
theorem dX9_plants_132 : decode cX9_plants 132 = .ok (.iastore, 1) := dk_79 (dk_at dksX9_plants_5 13 rfl rfl)
theorem dX9_plants_133 : decode cX9_plants 133 = .ok (.aload_n 0, 1) := dk_42 (dk_at dksX9_plants_5 14 rfl rfl)
theorem dX9_plants_134 : decode cX9_plants 134 = .ok (.getfield 13, 3) := dk_180 0 13 (dk_at dksX9_plants_5 15 rfl rfl)
theorem dX9_plants_137 : decode cX9_plants 137 = .ok (.iconst 5, 1) := dk_8 (dk_at dksX9_plants_5 18 rfl rfl)
theorem dX9_plants_138 : decode cX9_plants 138 = .ok (.dup2, 1) := dk_92 (dk_at dksX9_plants_5 19 rfl rfl)
theorem dX9_plants_139 : decode cX9_plants 139 = .ok (.iaload, 1) := dk_46 (dk_at dksX9_plants_5 20 rfl rfl)
theorem dX9_plants_140 : decode cX9_plants 140 = .ok (.iconst 1, 1) := dk_4 (dk_at dksX9_plants_5 21 rfl rfl)
theorem dX9_plants_141 : decode cX9_plants 141 = .ok (.iadd, 1) := dk_96 (dk_at dksX9_plants_5 22 rfl rfl)
theorem dX9_plants_142 : decode cX9_plants 142 = .ok (.iastore, 1) := dk_79 (dk_at dksX9_plants_5 23 rfl rfl)
theorem dX9_plants_143 : decode cX9_plants 143 = .ok (.iload 5, 2) := dk_21 5 (dk_at dksX9_plants_6 0 rfl rfl)
theorem dX9_plants_145 : decode cX9_plants 145 = .ok (.ireturn, 1) := dk_172 (dk_at dksX9_plants_6 2 rfl rfl)
abbrev cX9_mole : ByteArray := prog_23_method_42_code
def yX9_mole : MethodName := ⟨RX9, "mole", "(I)I"⟩
def dkwX9_mole_0 : List UInt8 := [42, 182, 0, 82, 42, 42, 27, 182, 0, 149, 182, 0, 88, 172]
abbrev dktX9_mole_0 : List UInt8 := dkwX9_mole_0 ++ []
theorem dksX9_mole_0 : cX9_mole.data.toList.drop 0 = dktX9_mole_0 := by decide +kernel
theorem dX9_mole_0 : decode cX9_mole 0 = .ok (.aload_n 0, 1) := dk_42 (dk_at dksX9_mole_0 0 rfl rfl)
theorem dX9_mole_1 : decode cX9_mole 1 = .ok (.invokevirtual 82, 3) := dk_182 0 82 (dk_at dksX9_mole_0 1 rfl rfl)
theorem dX9_mole_4 : decode cX9_mole 4 = .ok (.aload_n 0, 1) := dk_42 (dk_at dksX9_mole_0 4 rfl rfl)
theorem dX9_mole_5 : decode cX9_mole 5 = .ok (.aload_n 0, 1) := dk_42 (dk_at dksX9_mole_0 5 rfl rfl)
theorem dX9_mole_6 : decode cX9_mole 6 = .ok (.iload_n 1, 1) := dk_27 (dk_at dksX9_mole_0 6 rfl rfl)
theorem dX9_mole_7 : decode cX9_mole 7 = .ok (.invokevirtual 149, 3) := dk_182 0 149 (dk_at dksX9_mole_0 7 rfl rfl)
theorem dX9_mole_10 : decode cX9_mole 10 = .ok (.invokevirtual 88, 3) := dk_182 0 88 (dk_at dksX9_mole_0 10 rfl rfl)
theorem dX9_mole_13 : decode cX9_mole 13 = .ok (.ireturn, 1) := dk_172 (dk_at dksX9_mole_0 13 rfl rfl)
abbrev cX9_addsMole : ByteArray := prog_23_method_41_code
def yX9_addsMole : MethodName := ⟨RX9, "addsMole", "(I)I"⟩
def dkwX9_addsMole_4 : List UInt8 := [96, 79, 28, 172]
abbrev dktX9_addsMole_4 : List UInt8 := dkwX9_addsMole_4 ++ []
def dkwX9_addsMole_3 : List UInt8 := [184, 0, 94, 3, 79, 42, 180, 0, 13, 28, 5, 184, 0, 94, 3, 79, 42, 180, 0, 13, 6, 92, 46, 4]
abbrev dktX9_addsMole_3 : List UInt8 := dkwX9_addsMole_3 ++ dktX9_addsMole_4
def dkwX9_addsMole_2 : List UInt8 := [180, 0, 13, 6, 46, 61, 42, 180, 0, 13, 28, 3, 184, 0, 94, 27, 79, 42, 180, 0, 13, 28, 4]
abbrev dktX9_addsMole_2 : List UInt8 := dkwX9_addsMole_2 ++ dktX9_addsMole_3
def dkwX9_addsMole_1 : List UInt8 := [4, 6, 182, 0, 60, 172, 42, 27, 182, 0, 97, 153, 0, 10, 42, 5, 27, 182, 0, 60, 172, 42]
abbrev dktX9_addsMole_1 : List UInt8 := dkwX9_addsMole_1 ++ dktX9_addsMole_2
def dkwX9_addsMole_0 : List UInt8 := [27, 184, 0, 78, 154, 0, 9, 42, 2, 182, 0, 56, 172, 42, 180, 0, 13, 6, 46, 6, 160, 0, 10, 42]
abbrev dktX9_addsMole_0 : List UInt8 := dkwX9_addsMole_0 ++ dktX9_addsMole_1
theorem dksX9_addsMole_0 : cX9_addsMole.data.toList.drop 0 = dktX9_addsMole_0 := by decide +kernel
theorem dksX9_addsMole_1 : cX9_addsMole.data.toList.drop 24 = dktX9_addsMole_1 := dk_seg dksX9_addsMole_0 24 rfl rfl
theorem dksX9_addsMole_2 : cX9_addsMole.data.toList.drop 46 = dktX9_addsMole_2 := dk_seg dksX9_addsMole_1 22 rfl rfl
theorem dksX9_addsMole_3 : cX9_addsMole.data.toList.drop 69 = dktX9_addsMole_3 := dk_seg dksX9_addsMole_2 23 rfl rfl
theorem dksX9_addsMole_4 : cX9_addsMole.data.toList.drop 93 = dktX9_addsMole_4 := dk_seg dksX9_addsMole_3 24 rfl rfl
theorem dX9_addsMole_0 : decode cX9_addsMole 0 = .ok (.iload_n 1, 1) := dk_27 (dk_at dksX9_addsMole_0 0 rfl rfl)
theorem dX9_addsMole_1 : decode cX9_addsMole 1 = .ok (.invokestatic 78, 3) := dk_184 0 78 (dk_at dksX9_addsMole_0 1 rfl rfl)
theorem dX9_addsMole_4 : decode cX9_addsMole 4 = .ok (.ifCond .ne 9, 3) := dk_154 0 9 (dk_at dksX9_addsMole_0 4 rfl rfl)
theorem dX9_addsMole_7 : decode cX9_addsMole 7 = .ok (.aload_n 0, 1) := dk_42 (dk_at dksX9_addsMole_0 7 rfl rfl)
theorem dX9_addsMole_8 : decode cX9_addsMole 8 = .ok (.iconst (-1), 1) := dk_2 (dk_at dksX9_addsMole_0 8 rfl rfl)
theorem dX9_addsMole_9 : decode cX9_addsMole 9 = .ok (.invokevirtual 56, 3) := dk_182 0 56 (dk_at dksX9_addsMole_0 9 rfl rfl)
theorem dX9_addsMole_12 : decode cX9_addsMole 12 = .ok (.ireturn, 1) := dk_172 (dk_at dksX9_addsMole_0 12 rfl rfl)
theorem dX9_addsMole_13 : decode cX9_addsMole 13 = .ok (.aload_n 0, 1) := dk_42 (dk_at dksX9_addsMole_0 13 rfl rfl)
theorem dX9_addsMole_14 : decode cX9_addsMole 14 = .ok (.getfield 13, 3) := dk_180 0 13 (dk_at dksX9_addsMole_0 14 rfl rfl)
theorem dX9_addsMole_17 : decode cX9_addsMole 17 = .ok (.iconst 3, 1) := dk_6 (dk_at dksX9_addsMole_0 17 rfl rfl)
theorem dX9_addsMole_18 : decode cX9_addsMole 18 = .ok (.iaload, 1) := dk_46 (dk_at dksX9_addsMole_0 18 rfl rfl)
theorem dX9_addsMole_19 : decode cX9_addsMole 19 = .ok (.iconst 3, 1) := dk_6 (dk_at dksX9_addsMole_0 19 rfl rfl)
theorem dX9_addsMole_20 : decode cX9_addsMole 20 = .ok (.if_icmp .ne 10, 3) := dk_160 0 10 (dk_at dksX9_addsMole_0 20 rfl rfl)
theorem dX9_addsMole_23 : decode cX9_addsMole 23 = .ok (.aload_n 0, 1) := dk_42 (dk_at dksX9_addsMole_0 23 rfl rfl)
theorem dX9_addsMole_24 : decode cX9_addsMole 24 = .ok (.iconst 1, 1) := dk_4 (dk_at dksX9_addsMole_1 0 rfl rfl)
theorem dX9_addsMole_25 : decode cX9_addsMole 25 = .ok (.iconst 3, 1) := dk_6 (dk_at dksX9_addsMole_1 1 rfl rfl)
theorem dX9_addsMole_26 : decode cX9_addsMole 26 = .ok (.invokevirtual 60, 3) := dk_182 0 60 (dk_at dksX9_addsMole_1 2 rfl rfl)
theorem dX9_addsMole_29 : decode cX9_addsMole 29 = .ok (.ireturn, 1) := dk_172 (dk_at dksX9_addsMole_1 5 rfl rfl)
theorem dX9_addsMole_30 : decode cX9_addsMole 30 = .ok (.aload_n 0, 1) := dk_42 (dk_at dksX9_addsMole_1 6 rfl rfl)
theorem dX9_addsMole_31 : decode cX9_addsMole 31 = .ok (.iload_n 1, 1) := dk_27 (dk_at dksX9_addsMole_1 7 rfl rfl)
theorem dX9_addsMole_32 : decode cX9_addsMole 32 = .ok (.invokevirtual 97, 3) := dk_182 0 97 (dk_at dksX9_addsMole_1 8 rfl rfl)
theorem dX9_addsMole_35 : decode cX9_addsMole 35 = .ok (.ifCond .eq 10, 3) := dk_153 0 10 (dk_at dksX9_addsMole_1 11 rfl rfl)
theorem dX9_addsMole_38 : decode cX9_addsMole 38 = .ok (.aload_n 0, 1) := dk_42 (dk_at dksX9_addsMole_1 14 rfl rfl)
theorem dX9_addsMole_39 : decode cX9_addsMole 39 = .ok (.iconst 2, 1) := dk_5 (dk_at dksX9_addsMole_1 15 rfl rfl)
theorem dX9_addsMole_40 : decode cX9_addsMole 40 = .ok (.iload_n 1, 1) := dk_27 (dk_at dksX9_addsMole_1 16 rfl rfl)
theorem dX9_addsMole_41 : decode cX9_addsMole 41 = .ok (.invokevirtual 60, 3) := dk_182 0 60 (dk_at dksX9_addsMole_1 17 rfl rfl)
theorem dX9_addsMole_44 : decode cX9_addsMole 44 = .ok (.ireturn, 1) := dk_172 (dk_at dksX9_addsMole_1 20 rfl rfl)
theorem dX9_addsMole_45 : decode cX9_addsMole 45 = .ok (.aload_n 0, 1) := dk_42 (dk_at dksX9_addsMole_1 21 rfl rfl)
theorem dX9_addsMole_46 : decode cX9_addsMole 46 = .ok (.getfield 13, 3) := dk_180 0 13 (dk_at dksX9_addsMole_2 0 rfl rfl)
theorem dX9_addsMole_49 : decode cX9_addsMole 49 = .ok (.iconst 3, 1) := dk_6 (dk_at dksX9_addsMole_2 3 rfl rfl)
theorem dX9_addsMole_50 : decode cX9_addsMole 50 = .ok (.iaload, 1) := dk_46 (dk_at dksX9_addsMole_2 4 rfl rfl)
theorem dX9_addsMole_51 : decode cX9_addsMole 51 = .ok (.istore_n 2, 1) := dk_61 (dk_at dksX9_addsMole_2 5 rfl rfl)
theorem dX9_addsMole_52 : decode cX9_addsMole 52 = .ok (.aload_n 0, 1) := dk_42 (dk_at dksX9_addsMole_2 6 rfl rfl)
theorem dX9_addsMole_53 : decode cX9_addsMole 53 = .ok (.getfield 13, 3) := dk_180 0 13 (dk_at dksX9_addsMole_2 7 rfl rfl)
theorem dX9_addsMole_56 : decode cX9_addsMole 56 = .ok (.iload_n 2, 1) := dk_28 (dk_at dksX9_addsMole_2 10 rfl rfl)
theorem dX9_addsMole_57 : decode cX9_addsMole 57 = .ok (.iconst 0, 1) := dk_3 (dk_at dksX9_addsMole_2 11 rfl rfl)
theorem dX9_addsMole_58 : decode cX9_addsMole 58 = .ok (.invokestatic 94, 3) := dk_184 0 94 (dk_at dksX9_addsMole_2 12 rfl rfl)
theorem dX9_addsMole_61 : decode cX9_addsMole 61 = .ok (.iload_n 1, 1) := dk_27 (dk_at dksX9_addsMole_2 15 rfl rfl)
theorem dX9_addsMole_62 : decode cX9_addsMole 62 = .ok (.iastore, 1) := dk_79 (dk_at dksX9_addsMole_2 16 rfl rfl)
theorem dX9_addsMole_63 : decode cX9_addsMole 63 = .ok (.aload_n 0, 1) := dk_42 (dk_at dksX9_addsMole_2 17 rfl rfl)
theorem dX9_addsMole_64 : decode cX9_addsMole 64 = .ok (.getfield 13, 3) := dk_180 0 13 (dk_at dksX9_addsMole_2 18 rfl rfl)
theorem dX9_addsMole_67 : decode cX9_addsMole 67 = .ok (.iload_n 2, 1) := dk_28 (dk_at dksX9_addsMole_2 21 rfl rfl)
theorem dX9_addsMole_68 : decode cX9_addsMole 68 = .ok (.iconst 1, 1) := dk_4 (dk_at dksX9_addsMole_2 22 rfl rfl)
theorem dX9_addsMole_69 : decode cX9_addsMole 69 = .ok (.invokestatic 94, 3) := dk_184 0 94 (dk_at dksX9_addsMole_3 0 rfl rfl)
theorem dX9_addsMole_72 : decode cX9_addsMole 72 = .ok (.iconst 0, 1) := dk_3 (dk_at dksX9_addsMole_3 3 rfl rfl)
theorem dX9_addsMole_73 : decode cX9_addsMole 73 = .ok (.iastore, 1) := dk_79 (dk_at dksX9_addsMole_3 4 rfl rfl)
theorem dX9_addsMole_74 : decode cX9_addsMole 74 = .ok (.aload_n 0, 1) := dk_42 (dk_at dksX9_addsMole_3 5 rfl rfl)
theorem dX9_addsMole_75 : decode cX9_addsMole 75 = .ok (.getfield 13, 3) := dk_180 0 13 (dk_at dksX9_addsMole_3 6 rfl rfl)
theorem dX9_addsMole_78 : decode cX9_addsMole 78 = .ok (.iload_n 2, 1) := dk_28 (dk_at dksX9_addsMole_3 9 rfl rfl)
theorem dX9_addsMole_79 : decode cX9_addsMole 79 = .ok (.iconst 2, 1) := dk_5 (dk_at dksX9_addsMole_3 10 rfl rfl)
theorem dX9_addsMole_80 : decode cX9_addsMole 80 = .ok (.invokestatic 94, 3) := dk_184 0 94 (dk_at dksX9_addsMole_3 11 rfl rfl)
theorem dX9_addsMole_83 : decode cX9_addsMole 83 = .ok (.iconst 0, 1) := dk_3 (dk_at dksX9_addsMole_3 14 rfl rfl)
theorem dX9_addsMole_84 : decode cX9_addsMole 84 = .ok (.iastore, 1) := dk_79 (dk_at dksX9_addsMole_3 15 rfl rfl)
theorem dX9_addsMole_85 : decode cX9_addsMole 85 = .ok (.aload_n 0, 1) := dk_42 (dk_at dksX9_addsMole_3 16 rfl rfl)
theorem dX9_addsMole_86 : decode cX9_addsMole 86 = .ok (.getfield 13, 3) := dk_180 0 13 (dk_at dksX9_addsMole_3 17 rfl rfl)
theorem dX9_addsMole_89 : decode cX9_addsMole 89 = .ok (.iconst 3, 1) := dk_6 (dk_at dksX9_addsMole_3 20 rfl rfl)
theorem dX9_addsMole_90 : decode cX9_addsMole 90 = .ok (.dup2, 1) := dk_92 (dk_at dksX9_addsMole_3 21 rfl rfl)
theorem dX9_addsMole_91 : decode cX9_addsMole 91 = .ok (.iaload, 1) := dk_46 (dk_at dksX9_addsMole_3 22 rfl rfl)
theorem dX9_addsMole_92 : decode cX9_addsMole 92 = .ok (.iconst 1, 1) := dk_4 (dk_at dksX9_addsMole_3 23 rfl rfl)
theorem dX9_addsMole_93 : decode cX9_addsMole 93 = .ok (.iadd, 1) := dk_96 (dk_at dksX9_addsMole_4 0 rfl rfl)
theorem dX9_addsMole_94 : decode cX9_addsMole 94 = .ok (.iastore, 1) := dk_79 (dk_at dksX9_addsMole_4 1 rfl rfl)
theorem dX9_addsMole_95 : decode cX9_addsMole 95 = .ok (.iload_n 2, 1) := dk_28 (dk_at dksX9_addsMole_4 2 rfl rfl)
theorem dX9_addsMole_96 : decode cX9_addsMole 96 = .ok (.ireturn, 1) := dk_172 (dk_at dksX9_addsMole_4 3 rfl rfl)
abbrev cX9_slippers : ByteArray := prog_23_method_44_code
def yX9_slippers : MethodName := ⟨RX9, "slippers", "(II)I"⟩
def dkwX9_slippers_0 : List UInt8 := [42, 182, 0, 82, 42, 42, 27, 28, 182, 0, 155, 182, 0, 88, 172]
abbrev dktX9_slippers_0 : List UInt8 := dkwX9_slippers_0 ++ []
theorem dksX9_slippers_0 : cX9_slippers.data.toList.drop 0 = dktX9_slippers_0 := by decide +kernel
theorem dX9_slippers_0 : decode cX9_slippers 0 = .ok (.aload_n 0, 1) := dk_42 (dk_at dksX9_slippers_0 0 rfl rfl)
theorem dX9_slippers_1 : decode cX9_slippers 1 = .ok (.invokevirtual 82, 3) := dk_182 0 82 (dk_at dksX9_slippers_0 1 rfl rfl)
theorem dX9_slippers_4 : decode cX9_slippers 4 = .ok (.aload_n 0, 1) := dk_42 (dk_at dksX9_slippers_0 4 rfl rfl)
theorem dX9_slippers_5 : decode cX9_slippers 5 = .ok (.aload_n 0, 1) := dk_42 (dk_at dksX9_slippers_0 5 rfl rfl)
theorem dX9_slippers_6 : decode cX9_slippers 6 = .ok (.iload_n 1, 1) := dk_27 (dk_at dksX9_slippers_0 6 rfl rfl)
theorem dX9_slippers_7 : decode cX9_slippers 7 = .ok (.iload_n 2, 1) := dk_28 (dk_at dksX9_slippers_0 7 rfl rfl)
theorem dX9_slippers_8 : decode cX9_slippers 8 = .ok (.invokevirtual 155, 3) := dk_182 0 155 (dk_at dksX9_slippers_0 8 rfl rfl)
theorem dX9_slippers_11 : decode cX9_slippers 11 = .ok (.invokevirtual 88, 3) := dk_182 0 88 (dk_at dksX9_slippers_0 11 rfl rfl)
theorem dX9_slippers_14 : decode cX9_slippers 14 = .ok (.ireturn, 1) := dk_172 (dk_at dksX9_slippers_0 14 rfl rfl)
abbrev cX9_bringsPairs : ByteArray := prog_23_method_43_code
def yX9_bringsPairs : MethodName := ⟨RX9, "bringsPairs", "(II)I"⟩
def dkwX9_bringsPairs_3 : List UInt8 := [46, 172]
abbrev dktX9_bringsPairs_3 : List UInt8 := dkwX9_bringsPairs_3 ++ []
def dkwX9_bringsPairs_2 : List UInt8 := [180, 0, 13, 17, 0, 191, 27, 96, 46, 28, 96, 184, 0, 152, 79, 42, 180, 0, 13, 17, 0, 191, 27, 96]
abbrev dktX9_bringsPairs_2 : List UInt8 := dkwX9_bringsPairs_2 ++ dktX9_bringsPairs_3
def dkwX9_bringsPairs_1 : List UInt8 := [154, 0, 10, 42, 16, 254, 182, 0, 56, 172, 42, 180, 0, 13, 17, 0, 191, 27, 96, 16, 9, 42]
abbrev dktX9_bringsPairs_1 : List UInt8 := dkwX9_bringsPairs_1 ++ dktX9_bringsPairs_2
def dkwX9_bringsPairs_0 : List UInt8 := [27, 3, 7, 184, 0, 74, 154, 0, 9, 42, 2, 182, 0, 56, 172, 28, 4, 16, 9, 184, 0, 74]
abbrev dktX9_bringsPairs_0 : List UInt8 := dkwX9_bringsPairs_0 ++ dktX9_bringsPairs_1
theorem dksX9_bringsPairs_0 : cX9_bringsPairs.data.toList.drop 0 = dktX9_bringsPairs_0 := by decide +kernel
theorem dksX9_bringsPairs_1 : cX9_bringsPairs.data.toList.drop 22 = dktX9_bringsPairs_1 := dk_seg dksX9_bringsPairs_0 22 rfl rfl
theorem dksX9_bringsPairs_2 : cX9_bringsPairs.data.toList.drop 44 = dktX9_bringsPairs_2 := dk_seg dksX9_bringsPairs_1 22 rfl rfl
theorem dksX9_bringsPairs_3 : cX9_bringsPairs.data.toList.drop 68 = dktX9_bringsPairs_3 := dk_seg dksX9_bringsPairs_2 24 rfl rfl
theorem dX9_bringsPairs_0 : decode cX9_bringsPairs 0 = .ok (.iload_n 1, 1) := dk_27 (dk_at dksX9_bringsPairs_0 0 rfl rfl)
theorem dX9_bringsPairs_1 : decode cX9_bringsPairs 1 = .ok (.iconst 0, 1) := dk_3 (dk_at dksX9_bringsPairs_0 1 rfl rfl)
theorem dX9_bringsPairs_2 : decode cX9_bringsPairs 2 = .ok (.iconst 4, 1) := dk_7 (dk_at dksX9_bringsPairs_0 2 rfl rfl)
theorem dX9_bringsPairs_3 : decode cX9_bringsPairs 3 = .ok (.invokestatic 74, 3) := dk_184 0 74 (dk_at dksX9_bringsPairs_0 3 rfl rfl)
theorem dX9_bringsPairs_6 : decode cX9_bringsPairs 6 = .ok (.ifCond .ne 9, 3) := dk_154 0 9 (dk_at dksX9_bringsPairs_0 6 rfl rfl)
theorem dX9_bringsPairs_9 : decode cX9_bringsPairs 9 = .ok (.aload_n 0, 1) := dk_42 (dk_at dksX9_bringsPairs_0 9 rfl rfl)
theorem dX9_bringsPairs_10 : decode cX9_bringsPairs 10 = .ok (.iconst (-1), 1) := dk_2 (dk_at dksX9_bringsPairs_0 10 rfl rfl)
theorem dX9_bringsPairs_11 : decode cX9_bringsPairs 11 = .ok (.invokevirtual 56, 3) := dk_182 0 56 (dk_at dksX9_bringsPairs_0 11 rfl rfl)
theorem dX9_bringsPairs_14 : decode cX9_bringsPairs 14 = .ok (.ireturn, 1) := dk_172 (dk_at dksX9_bringsPairs_0 14 rfl rfl)
theorem dX9_bringsPairs_15 : decode cX9_bringsPairs 15 = .ok (.iload_n 2, 1) := dk_28 (dk_at dksX9_bringsPairs_0 15 rfl rfl)
theorem dX9_bringsPairs_16 : decode cX9_bringsPairs 16 = .ok (.iconst 1, 1) := dk_4 (dk_at dksX9_bringsPairs_0 16 rfl rfl)
theorem dX9_bringsPairs_17 : decode cX9_bringsPairs 17 = .ok (.bipush 9, 2) := dk_16 9 (dk_at dksX9_bringsPairs_0 17 rfl rfl)
theorem dX9_bringsPairs_19 : decode cX9_bringsPairs 19 = .ok (.invokestatic 74, 3) := dk_184 0 74 (dk_at dksX9_bringsPairs_0 19 rfl rfl)
theorem dX9_bringsPairs_22 : decode cX9_bringsPairs 22 = .ok (.ifCond .ne 10, 3) := dk_154 0 10 (dk_at dksX9_bringsPairs_1 0 rfl rfl)
theorem dX9_bringsPairs_25 : decode cX9_bringsPairs 25 = .ok (.aload_n 0, 1) := dk_42 (dk_at dksX9_bringsPairs_1 3 rfl rfl)
theorem dX9_bringsPairs_26 : decode cX9_bringsPairs 26 = .ok (.bipush (-2), 2) := dk_16 254 (dk_at dksX9_bringsPairs_1 4 rfl rfl)
theorem dX9_bringsPairs_28 : decode cX9_bringsPairs 28 = .ok (.invokevirtual 56, 3) := dk_182 0 56 (dk_at dksX9_bringsPairs_1 6 rfl rfl)
theorem dX9_bringsPairs_31 : decode cX9_bringsPairs 31 = .ok (.ireturn, 1) := dk_172 (dk_at dksX9_bringsPairs_1 9 rfl rfl)
theorem dX9_bringsPairs_32 : decode cX9_bringsPairs 32 = .ok (.aload_n 0, 1) := dk_42 (dk_at dksX9_bringsPairs_1 10 rfl rfl)
theorem dX9_bringsPairs_33 : decode cX9_bringsPairs 33 = .ok (.getfield 13, 3) := dk_180 0 13 (dk_at dksX9_bringsPairs_1 11 rfl rfl)
theorem dX9_bringsPairs_36 : decode cX9_bringsPairs 36 = .ok (.sipush 191, 3) := dk_17 0 191 (dk_at dksX9_bringsPairs_1 14 rfl rfl)
theorem dX9_bringsPairs_39 : decode cX9_bringsPairs 39 = .ok (.iload_n 1, 1) := dk_27 (dk_at dksX9_bringsPairs_1 17 rfl rfl)
theorem dX9_bringsPairs_40 : decode cX9_bringsPairs 40 = .ok (.iadd, 1) := dk_96 (dk_at dksX9_bringsPairs_1 18 rfl rfl)
theorem dX9_bringsPairs_41 : decode cX9_bringsPairs 41 = .ok (.bipush 9, 2) := dk_16 9 (dk_at dksX9_bringsPairs_1 19 rfl rfl)
theorem dX9_bringsPairs_43 : decode cX9_bringsPairs 43 = .ok (.aload_n 0, 1) := dk_42 (dk_at dksX9_bringsPairs_1 21 rfl rfl)
theorem dX9_bringsPairs_44 : decode cX9_bringsPairs 44 = .ok (.getfield 13, 3) := dk_180 0 13 (dk_at dksX9_bringsPairs_2 0 rfl rfl)
theorem dX9_bringsPairs_47 : decode cX9_bringsPairs 47 = .ok (.sipush 191, 3) := dk_17 0 191 (dk_at dksX9_bringsPairs_2 3 rfl rfl)
theorem dX9_bringsPairs_50 : decode cX9_bringsPairs 50 = .ok (.iload_n 1, 1) := dk_27 (dk_at dksX9_bringsPairs_2 6 rfl rfl)
theorem dX9_bringsPairs_51 : decode cX9_bringsPairs 51 = .ok (.iadd, 1) := dk_96 (dk_at dksX9_bringsPairs_2 7 rfl rfl)
theorem dX9_bringsPairs_52 : decode cX9_bringsPairs 52 = .ok (.iaload, 1) := dk_46 (dk_at dksX9_bringsPairs_2 8 rfl rfl)
theorem dX9_bringsPairs_53 : decode cX9_bringsPairs 53 = .ok (.iload_n 2, 1) := dk_28 (dk_at dksX9_bringsPairs_2 9 rfl rfl)
theorem dX9_bringsPairs_54 : decode cX9_bringsPairs 54 = .ok (.iadd, 1) := dk_96 (dk_at dksX9_bringsPairs_2 10 rfl rfl)
theorem dX9_bringsPairs_55 : decode cX9_bringsPairs 55 = .ok (.invokestatic 152, 3) := dk_184 0 152 (dk_at dksX9_bringsPairs_2 11 rfl rfl)
theorem dX9_bringsPairs_58 : decode cX9_bringsPairs 58 = .ok (.iastore, 1) := dk_79 (dk_at dksX9_bringsPairs_2 14 rfl rfl)
theorem dX9_bringsPairs_59 : decode cX9_bringsPairs 59 = .ok (.aload_n 0, 1) := dk_42 (dk_at dksX9_bringsPairs_2 15 rfl rfl)
theorem dX9_bringsPairs_60 : decode cX9_bringsPairs 60 = .ok (.getfield 13, 3) := dk_180 0 13 (dk_at dksX9_bringsPairs_2 16 rfl rfl)
theorem dX9_bringsPairs_63 : decode cX9_bringsPairs 63 = .ok (.sipush 191, 3) := dk_17 0 191 (dk_at dksX9_bringsPairs_2 19 rfl rfl)
theorem dX9_bringsPairs_66 : decode cX9_bringsPairs 66 = .ok (.iload_n 1, 1) := dk_27 (dk_at dksX9_bringsPairs_2 22 rfl rfl)
theorem dX9_bringsPairs_67 : decode cX9_bringsPairs 67 = .ok (.iadd, 1) := dk_96 (dk_at dksX9_bringsPairs_2 23 rfl rfl)
theorem dX9_bringsPairs_68 : decode cX9_bringsPairs 68 = .ok (.iaload, 1) := dk_46 (dk_at dksX9_bringsPairs_3 0 rfl rfl)
theorem dX9_bringsPairs_69 : decode cX9_bringsPairs 69 = .ok (.ireturn, 1) := dk_172 (dk_at dksX9_bringsPairs_3 1 rfl rfl)
abbrev cX9_lesser : ByteArray := prog_23_method_7_code
def yX9_lesser : MethodName := ⟨RX9, "lesser", "(II)I"⟩
def dkwX9_lesser_0 : List UInt8 := [26, 27, 162, 0, 7, 26, 167, 0, 4, 27, 172]
abbrev dktX9_lesser_0 : List UInt8 := dkwX9_lesser_0 ++ []
theorem dksX9_lesser_0 : cX9_lesser.data.toList.drop 0 = dktX9_lesser_0 := by decide +kernel
theorem dX9_lesser_0 : decode cX9_lesser 0 = .ok (.iload_n 0, 1) := dk_26 (dk_at dksX9_lesser_0 0 rfl rfl)
theorem dX9_lesser_1 : decode cX9_lesser 1 = .ok (.iload_n 1, 1) := dk_27 (dk_at dksX9_lesser_0 1 rfl rfl)
theorem dX9_lesser_2 : decode cX9_lesser 2 = .ok (.if_icmp .ge 7, 3) := dk_162 0 7 (dk_at dksX9_lesser_0 2 rfl rfl)
theorem dX9_lesser_5 : decode cX9_lesser 5 = .ok (.iload_n 0, 1) := dk_26 (dk_at dksX9_lesser_0 5 rfl rfl)
theorem dX9_lesser_6 : decode cX9_lesser 6 = .ok (.goto 4, 3) := dk_167 0 4 (dk_at dksX9_lesser_0 6 rfl rfl)
theorem dX9_lesser_9 : decode cX9_lesser 9 = .ok (.iload_n 1, 1) := dk_27 (dk_at dksX9_lesser_0 9 rfl rfl)
theorem dX9_lesser_10 : decode cX9_lesser 10 = .ok (.ireturn, 1) := dk_172 (dk_at dksX9_lesser_0 10 rfl rfl)
abbrev cX9_pilgrim : ByteArray := prog_23_method_51_code
def yX9_pilgrim : MethodName := ⟨RX9, "pilgrim", "(III)I"⟩
def dkwX9_pilgrim_0 : List UInt8 := [42, 182, 0, 82, 42, 42, 27, 28, 29, 182, 0, 175, 182, 0, 88, 172]
abbrev dktX9_pilgrim_0 : List UInt8 := dkwX9_pilgrim_0 ++ []
theorem dksX9_pilgrim_0 : cX9_pilgrim.data.toList.drop 0 = dktX9_pilgrim_0 := by decide +kernel
theorem dX9_pilgrim_0 : decode cX9_pilgrim 0 = .ok (.aload_n 0, 1) := dk_42 (dk_at dksX9_pilgrim_0 0 rfl rfl)
theorem dX9_pilgrim_1 : decode cX9_pilgrim 1 = .ok (.invokevirtual 82, 3) := dk_182 0 82 (dk_at dksX9_pilgrim_0 1 rfl rfl)
theorem dX9_pilgrim_4 : decode cX9_pilgrim 4 = .ok (.aload_n 0, 1) := dk_42 (dk_at dksX9_pilgrim_0 4 rfl rfl)
theorem dX9_pilgrim_5 : decode cX9_pilgrim 5 = .ok (.aload_n 0, 1) := dk_42 (dk_at dksX9_pilgrim_0 5 rfl rfl)
theorem dX9_pilgrim_6 : decode cX9_pilgrim 6 = .ok (.iload_n 1, 1) := dk_27 (dk_at dksX9_pilgrim_0 6 rfl rfl)
theorem dX9_pilgrim_7 : decode cX9_pilgrim 7 = .ok (.iload_n 2, 1) := dk_28 (dk_at dksX9_pilgrim_0 7 rfl rfl)
theorem dX9_pilgrim_8 : decode cX9_pilgrim 8 = .ok (.iload_n 3, 1) := dk_29 (dk_at dksX9_pilgrim_0 8 rfl rfl)
theorem dX9_pilgrim_9 : decode cX9_pilgrim 9 = .ok (.invokevirtual 175, 3) := dk_182 0 175 (dk_at dksX9_pilgrim_0 9 rfl rfl)
theorem dX9_pilgrim_12 : decode cX9_pilgrim 12 = .ok (.invokevirtual 88, 3) := dk_182 0 88 (dk_at dksX9_pilgrim_0 12 rfl rfl)
theorem dX9_pilgrim_15 : decode cX9_pilgrim 15 = .ok (.ireturn, 1) := dk_172 (dk_at dksX9_pilgrim_0 15 rfl rfl)
abbrev cX9_visits : ByteArray := prog_23_method_50_code
def yX9_visits : MethodName := ⟨RX9, "visits", "(III)I"⟩
def dkwX9_visits_8 : List UInt8 := [21, 5, 96, 96, 79, 5, 21, 5, 96, 172]
abbrev dktX9_visits_8 : List UInt8 := dkwX9_visits_8 ++ []
def dkwX9_visits_7 : List UInt8 := [182, 0, 171, 42, 180, 0, 13, 16, 8, 92, 46, 4, 96, 79, 42, 180, 0, 13, 16, 9, 92, 46, 5]
abbrev dktX9_visits_7 : List UInt8 := dkwX9_visits_7 ++ dktX9_visits_8
def dkwX9_visits_6 : List UInt8 := [42, 180, 0, 13, 17, 0, 191, 21, 4, 96, 92, 46, 4, 100, 79, 42, 21, 4, 28, 29, 21, 5]
abbrev dktX9_visits_6 : List UInt8 := dkwX9_visits_6 ++ dktX9_visits_7
def dkwX9_visits_5 : List UInt8 := [180, 0, 35, 21, 6, 46, 154, 0, 7, 2, 167, 0, 9, 42, 21, 6, 182, 0, 168, 54, 6, 167, 255, 223]
abbrev dktX9_visits_5 : List UInt8 := dkwX9_visits_5 ++ dktX9_visits_6
def dkwX9_visits_4 : List UInt8 := [16, 11, 29, 182, 0, 60, 172, 28, 54, 6, 21, 6, 155, 0, 34, 42, 21, 6, 182, 0, 165, 42]
abbrev dktX9_visits_4 : List UInt8 := dkwX9_visits_4 ++ dktX9_visits_5
def dkwX9_visits_3 : List UInt8 := [29, 182, 0, 115, 172, 42, 29, 182, 0, 161, 42, 180, 0, 35, 28, 46, 54, 5, 21, 5, 156, 0, 11, 42]
abbrev dktX9_visits_3 : List UInt8 := dkwX9_visits_3 ++ dktX9_visits_4
def dkwX9_visits_2 : List UInt8 := [172, 42, 28, 182, 0, 112, 154, 0, 9, 42, 28, 182, 0, 115, 172, 42, 29, 182, 0, 112, 154, 0, 9, 42]
abbrev dktX9_visits_2 : List UInt8 := dkwX9_visits_2 ++ dktX9_visits_3
def dkwX9_visits_1 : List UInt8 := [2, 182, 0, 56, 172, 42, 27, 182, 0, 158, 54, 4, 21, 4, 156, 0, 11, 42, 16, 10, 27, 182, 0, 60]
abbrev dktX9_visits_1 : List UInt8 := dkwX9_visits_1 ++ dktX9_visits_2
def dkwX9_visits_0 : List UInt8 := [27, 3, 7, 184, 0, 74, 153, 0, 17, 28, 184, 0, 78, 153, 0, 10, 29, 184, 0, 78, 154, 0, 9, 42]
abbrev dktX9_visits_0 : List UInt8 := dkwX9_visits_0 ++ dktX9_visits_1
theorem dksX9_visits_0 : cX9_visits.data.toList.drop 0 = dktX9_visits_0 := by decide +kernel
theorem dksX9_visits_1 : cX9_visits.data.toList.drop 24 = dktX9_visits_1 := dk_seg dksX9_visits_0 24 rfl rfl
theorem dksX9_visits_2 : cX9_visits.data.toList.drop 48 = dktX9_visits_2 := dk_seg dksX9_visits_1 24 rfl rfl
theorem dksX9_visits_3 : cX9_visits.data.toList.drop 72 = dktX9_visits_3 := dk_seg dksX9_visits_2 24 rfl rfl
theorem dksX9_visits_4 : cX9_visits.data.toList.drop 96 = dktX9_visits_4 := dk_seg dksX9_visits_3 24 rfl rfl
theorem dksX9_visits_5 : cX9_visits.data.toList.drop 118 = dktX9_visits_5 := dk_seg dksX9_visits_4 22 rfl rfl
theorem dksX9_visits_6 : cX9_visits.data.toList.drop 142 = dktX9_visits_6 := dk_seg dksX9_visits_5 24 rfl rfl
theorem dksX9_visits_7 : cX9_visits.data.toList.drop 164 = dktX9_visits_7 := dk_seg dksX9_visits_6 22 rfl rfl
theorem dksX9_visits_8 : cX9_visits.data.toList.drop 187 = dktX9_visits_8 := dk_seg dksX9_visits_7 23 rfl rfl
theorem dX9_visits_0 : decode cX9_visits 0 = .ok (.iload_n 1, 1) := dk_27 (dk_at dksX9_visits_0 0 rfl rfl)
theorem dX9_visits_1 : decode cX9_visits 1 = .ok (.iconst 0, 1) := dk_3 (dk_at dksX9_visits_0 1 rfl rfl)
theorem dX9_visits_2 : decode cX9_visits 2 = .ok (.iconst 4, 1) := dk_7 (dk_at dksX9_visits_0 2 rfl rfl)
theorem dX9_visits_3 : decode cX9_visits 3 = .ok (.invokestatic 74, 3) := dk_184 0 74 (dk_at dksX9_visits_0 3 rfl rfl)
theorem dX9_visits_6 : decode cX9_visits 6 = .ok (.ifCond .eq 17, 3) := dk_153 0 17 (dk_at dksX9_visits_0 6 rfl rfl)
theorem dX9_visits_9 : decode cX9_visits 9 = .ok (.iload_n 2, 1) := dk_28 (dk_at dksX9_visits_0 9 rfl rfl)
theorem dX9_visits_10 : decode cX9_visits 10 = .ok (.invokestatic 78, 3) := dk_184 0 78 (dk_at dksX9_visits_0 10 rfl rfl)
theorem dX9_visits_13 : decode cX9_visits 13 = .ok (.ifCond .eq 10, 3) := dk_153 0 10 (dk_at dksX9_visits_0 13 rfl rfl)
theorem dX9_visits_16 : decode cX9_visits 16 = .ok (.iload_n 3, 1) := dk_29 (dk_at dksX9_visits_0 16 rfl rfl)
theorem dX9_visits_17 : decode cX9_visits 17 = .ok (.invokestatic 78, 3) := dk_184 0 78 (dk_at dksX9_visits_0 17 rfl rfl)
theorem dX9_visits_20 : decode cX9_visits 20 = .ok (.ifCond .ne 9, 3) := dk_154 0 9 (dk_at dksX9_visits_0 20 rfl rfl)
theorem dX9_visits_23 : decode cX9_visits 23 = .ok (.aload_n 0, 1) := dk_42 (dk_at dksX9_visits_0 23 rfl rfl)
theorem dX9_visits_24 : decode cX9_visits 24 = .ok (.iconst (-1), 1) := dk_2 (dk_at dksX9_visits_1 0 rfl rfl)
theorem dX9_visits_25 : decode cX9_visits 25 = .ok (.invokevirtual 56, 3) := dk_182 0 56 (dk_at dksX9_visits_1 1 rfl rfl)
theorem dX9_visits_28 : decode cX9_visits 28 = .ok (.ireturn, 1) := dk_172 (dk_at dksX9_visits_1 4 rfl rfl)
theorem dX9_visits_29 : decode cX9_visits 29 = .ok (.aload_n 0, 1) := dk_42 (dk_at dksX9_visits_1 5 rfl rfl)
theorem dX9_visits_30 : decode cX9_visits 30 = .ok (.iload_n 1, 1) := dk_27 (dk_at dksX9_visits_1 6 rfl rfl)
theorem dX9_visits_31 : decode cX9_visits 31 = .ok (.invokevirtual 158, 3) := dk_182 0 158 (dk_at dksX9_visits_1 7 rfl rfl)
theorem dX9_visits_34 : decode cX9_visits 34 = .ok (.istore 4, 2) := dk_54 4 (dk_at dksX9_visits_1 10 rfl rfl)
theorem dX9_visits_36 : decode cX9_visits 36 = .ok (.iload 4, 2) := dk_21 4 (dk_at dksX9_visits_1 12 rfl rfl)
theorem dX9_visits_38 : decode cX9_visits 38 = .ok (.ifCond .ge 11, 3) := dk_156 0 11 (dk_at dksX9_visits_1 14 rfl rfl)
theorem dX9_visits_41 : decode cX9_visits 41 = .ok (.aload_n 0, 1) := dk_42 (dk_at dksX9_visits_1 17 rfl rfl)
theorem dX9_visits_42 : decode cX9_visits 42 = .ok (.bipush 10, 2) := dk_16 10 (dk_at dksX9_visits_1 18 rfl rfl)
theorem dX9_visits_44 : decode cX9_visits 44 = .ok (.iload_n 1, 1) := dk_27 (dk_at dksX9_visits_1 20 rfl rfl)
theorem dX9_visits_45 : decode cX9_visits 45 = .ok (.invokevirtual 60, 3) := dk_182 0 60 (dk_at dksX9_visits_1 21 rfl rfl)
theorem dX9_visits_48 : decode cX9_visits 48 = .ok (.ireturn, 1) := dk_172 (dk_at dksX9_visits_2 0 rfl rfl)
theorem dX9_visits_49 : decode cX9_visits 49 = .ok (.aload_n 0, 1) := dk_42 (dk_at dksX9_visits_2 1 rfl rfl)
theorem dX9_visits_50 : decode cX9_visits 50 = .ok (.iload_n 2, 1) := dk_28 (dk_at dksX9_visits_2 2 rfl rfl)
theorem dX9_visits_51 : decode cX9_visits 51 = .ok (.invokevirtual 112, 3) := dk_182 0 112 (dk_at dksX9_visits_2 3 rfl rfl)
theorem dX9_visits_54 : decode cX9_visits 54 = .ok (.ifCond .ne 9, 3) := dk_154 0 9 (dk_at dksX9_visits_2 6 rfl rfl)
theorem dX9_visits_57 : decode cX9_visits 57 = .ok (.aload_n 0, 1) := dk_42 (dk_at dksX9_visits_2 9 rfl rfl)
theorem dX9_visits_58 : decode cX9_visits 58 = .ok (.iload_n 2, 1) := dk_28 (dk_at dksX9_visits_2 10 rfl rfl)
theorem dX9_visits_59 : decode cX9_visits 59 = .ok (.invokevirtual 115, 3) := dk_182 0 115 (dk_at dksX9_visits_2 11 rfl rfl)
theorem dX9_visits_62 : decode cX9_visits 62 = .ok (.ireturn, 1) := dk_172 (dk_at dksX9_visits_2 14 rfl rfl)
theorem dX9_visits_63 : decode cX9_visits 63 = .ok (.aload_n 0, 1) := dk_42 (dk_at dksX9_visits_2 15 rfl rfl)
theorem dX9_visits_64 : decode cX9_visits 64 = .ok (.iload_n 3, 1) := dk_29 (dk_at dksX9_visits_2 16 rfl rfl)
theorem dX9_visits_65 : decode cX9_visits 65 = .ok (.invokevirtual 112, 3) := dk_182 0 112 (dk_at dksX9_visits_2 17 rfl rfl)
theorem dX9_visits_68 : decode cX9_visits 68 = .ok (.ifCond .ne 9, 3) := dk_154 0 9 (dk_at dksX9_visits_2 20 rfl rfl)
theorem dX9_visits_71 : decode cX9_visits 71 = .ok (.aload_n 0, 1) := dk_42 (dk_at dksX9_visits_2 23 rfl rfl)
theorem dX9_visits_72 : decode cX9_visits 72 = .ok (.iload_n 3, 1) := dk_29 (dk_at dksX9_visits_3 0 rfl rfl)
theorem dX9_visits_73 : decode cX9_visits 73 = .ok (.invokevirtual 115, 3) := dk_182 0 115 (dk_at dksX9_visits_3 1 rfl rfl)
theorem dX9_visits_76 : decode cX9_visits 76 = .ok (.ireturn, 1) := dk_172 (dk_at dksX9_visits_3 4 rfl rfl)
theorem dX9_visits_77 : decode cX9_visits 77 = .ok (.aload_n 0, 1) := dk_42 (dk_at dksX9_visits_3 5 rfl rfl)
theorem dX9_visits_78 : decode cX9_visits 78 = .ok (.iload_n 3, 1) := dk_29 (dk_at dksX9_visits_3 6 rfl rfl)
theorem dX9_visits_79 : decode cX9_visits 79 = .ok (.invokevirtual 161, 3) := dk_182 0 161 (dk_at dksX9_visits_3 7 rfl rfl)
theorem dX9_visits_82 : decode cX9_visits 82 = .ok (.aload_n 0, 1) := dk_42 (dk_at dksX9_visits_3 10 rfl rfl)
theorem dX9_visits_83 : decode cX9_visits 83 = .ok (.getfield 35, 3) := dk_180 0 35 (dk_at dksX9_visits_3 11 rfl rfl)
theorem dX9_visits_86 : decode cX9_visits 86 = .ok (.iload_n 2, 1) := dk_28 (dk_at dksX9_visits_3 14 rfl rfl)
theorem dX9_visits_87 : decode cX9_visits 87 = .ok (.iaload, 1) := dk_46 (dk_at dksX9_visits_3 15 rfl rfl)
theorem dX9_visits_88 : decode cX9_visits 88 = .ok (.istore 5, 2) := dk_54 5 (dk_at dksX9_visits_3 16 rfl rfl)
theorem dX9_visits_90 : decode cX9_visits 90 = .ok (.iload 5, 2) := dk_21 5 (dk_at dksX9_visits_3 18 rfl rfl)
theorem dX9_visits_92 : decode cX9_visits 92 = .ok (.ifCond .ge 11, 3) := dk_156 0 11 (dk_at dksX9_visits_3 20 rfl rfl)
theorem dX9_visits_95 : decode cX9_visits 95 = .ok (.aload_n 0, 1) := dk_42 (dk_at dksX9_visits_3 23 rfl rfl)
theorem dX9_visits_96 : decode cX9_visits 96 = .ok (.bipush 11, 2) := dk_16 11 (dk_at dksX9_visits_4 0 rfl rfl)
theorem dX9_visits_98 : decode cX9_visits 98 = .ok (.iload_n 3, 1) := dk_29 (dk_at dksX9_visits_4 2 rfl rfl)
theorem dX9_visits_99 : decode cX9_visits 99 = .ok (.invokevirtual 60, 3) := dk_182 0 60 (dk_at dksX9_visits_4 3 rfl rfl)
theorem dX9_visits_102 : decode cX9_visits 102 = .ok (.ireturn, 1) := dk_172 (dk_at dksX9_visits_4 6 rfl rfl)
theorem dX9_visits_103 : decode cX9_visits 103 = .ok (.iload_n 2, 1) := dk_28 (dk_at dksX9_visits_4 7 rfl rfl)
theorem dX9_visits_104 : decode cX9_visits 104 = .ok (.istore 6, 2) := dk_54 6 (dk_at dksX9_visits_4 8 rfl rfl)
theorem dX9_visits_106 : decode cX9_visits 106 = .ok (.iload 6, 2) := dk_21 6 (dk_at dksX9_visits_4 10 rfl rfl)
theorem dX9_visits_108 : decode cX9_visits 108 = .ok (.ifCond .lt 34, 3) := dk_155 0 34 (dk_at dksX9_visits_4 12 rfl rfl)
theorem dX9_visits_111 : decode cX9_visits 111 = .ok (.aload_n 0, 1) := dk_42 (dk_at dksX9_visits_4 15 rfl rfl)
theorem dX9_visits_112 : decode cX9_visits 112 = .ok (.iload 6, 2) := dk_21 6 (dk_at dksX9_visits_4 16 rfl rfl)
theorem dX9_visits_114 : decode cX9_visits 114 = .ok (.invokevirtual 165, 3) := dk_182 0 165 (dk_at dksX9_visits_4 18 rfl rfl)
theorem dX9_visits_117 : decode cX9_visits 117 = .ok (.aload_n 0, 1) := dk_42 (dk_at dksX9_visits_4 21 rfl rfl)
theorem dX9_visits_118 : decode cX9_visits 118 = .ok (.getfield 35, 3) := dk_180 0 35 (dk_at dksX9_visits_5 0 rfl rfl)
theorem dX9_visits_121 : decode cX9_visits 121 = .ok (.iload 6, 2) := dk_21 6 (dk_at dksX9_visits_5 3 rfl rfl)
theorem dX9_visits_123 : decode cX9_visits 123 = .ok (.iaload, 1) := dk_46 (dk_at dksX9_visits_5 5 rfl rfl)
theorem dX9_visits_124 : decode cX9_visits 124 = .ok (.ifCond .ne 7, 3) := dk_154 0 7 (dk_at dksX9_visits_5 6 rfl rfl)
theorem dX9_visits_127 : decode cX9_visits 127 = .ok (.iconst (-1), 1) := dk_2 (dk_at dksX9_visits_5 9 rfl rfl)
theorem dX9_visits_128 : decode cX9_visits 128 = .ok (.goto 9, 3) := dk_167 0 9 (dk_at dksX9_visits_5 10 rfl rfl)
theorem dX9_visits_131 : decode cX9_visits 131 = .ok (.aload_n 0, 1) := dk_42 (dk_at dksX9_visits_5 13 rfl rfl)
theorem dX9_visits_132 : decode cX9_visits 132 = .ok (.iload 6, 2) := dk_21 6 (dk_at dksX9_visits_5 14 rfl rfl)
theorem dX9_visits_134 : decode cX9_visits 134 = .ok (.invokevirtual 168, 3) := dk_182 0 168 (dk_at dksX9_visits_5 16 rfl rfl)
theorem dX9_visits_137 : decode cX9_visits 137 = .ok (.istore 6, 2) := dk_54 6 (dk_at dksX9_visits_5 19 rfl rfl)
theorem dX9_visits_139 : decode cX9_visits 139 = .ok (.goto (-33), 3) := dk_167 255 223 (dk_at dksX9_visits_5 21 rfl rfl)
theorem dX9_visits_142 : decode cX9_visits 142 = .ok (.aload_n 0, 1) := dk_42 (dk_at dksX9_visits_6 0 rfl rfl)
theorem dX9_visits_143 : decode cX9_visits 143 = .ok (.getfield 13, 3) := dk_180 0 13 (dk_at dksX9_visits_6 1 rfl rfl)
theorem dX9_visits_146 : decode cX9_visits 146 = .ok (.sipush 191, 3) := dk_17 0 191 (dk_at dksX9_visits_6 4 rfl rfl)
theorem dX9_visits_149 : decode cX9_visits 149 = .ok (.iload 4, 2) := dk_21 4 (dk_at dksX9_visits_6 7 rfl rfl)
theorem dX9_visits_151 : decode cX9_visits 151 = .ok (.iadd, 1) := dk_96 (dk_at dksX9_visits_6 9 rfl rfl)
theorem dX9_visits_152 : decode cX9_visits 152 = .ok (.dup2, 1) := dk_92 (dk_at dksX9_visits_6 10 rfl rfl)
theorem dX9_visits_153 : decode cX9_visits 153 = .ok (.iaload, 1) := dk_46 (dk_at dksX9_visits_6 11 rfl rfl)
theorem dX9_visits_154 : decode cX9_visits 154 = .ok (.iconst 1, 1) := dk_4 (dk_at dksX9_visits_6 12 rfl rfl)
theorem dX9_visits_155 : decode cX9_visits 155 = .ok (.isub, 1) := dk_100 (dk_at dksX9_visits_6 13 rfl rfl)
theorem dX9_visits_156 : decode cX9_visits 156 = .ok (.iastore, 1) := dk_79 (dk_at dksX9_visits_6 14 rfl rfl)
theorem dX9_visits_157 : decode cX9_visits 157 = .ok (.aload_n 0, 1) := dk_42 (dk_at dksX9_visits_6 15 rfl rfl)
theorem dX9_visits_158 : decode cX9_visits 158 = .ok (.iload 4, 2) := dk_21 4 (dk_at dksX9_visits_6 16 rfl rfl)
theorem dX9_visits_160 : decode cX9_visits 160 = .ok (.iload_n 2, 1) := dk_28 (dk_at dksX9_visits_6 18 rfl rfl)
theorem dX9_visits_161 : decode cX9_visits 161 = .ok (.iload_n 3, 1) := dk_29 (dk_at dksX9_visits_6 19 rfl rfl)
theorem dX9_visits_162 : decode cX9_visits 162 = .ok (.iload 5, 2) := dk_21 5 (dk_at dksX9_visits_6 20 rfl rfl)
theorem dX9_visits_164 : decode cX9_visits 164 = .ok (.invokevirtual 171, 3) := dk_182 0 171 (dk_at dksX9_visits_7 0 rfl rfl)
theorem dX9_visits_167 : decode cX9_visits 167 = .ok (.aload_n 0, 1) := dk_42 (dk_at dksX9_visits_7 3 rfl rfl)
theorem dX9_visits_168 : decode cX9_visits 168 = .ok (.getfield 13, 3) := dk_180 0 13 (dk_at dksX9_visits_7 4 rfl rfl)
theorem dX9_visits_171 : decode cX9_visits 171 = .ok (.bipush 8, 2) := dk_16 8 (dk_at dksX9_visits_7 7 rfl rfl)
theorem dX9_visits_173 : decode cX9_visits 173 = .ok (.dup2, 1) := dk_92 (dk_at dksX9_visits_7 9 rfl rfl)
theorem dX9_visits_174 : decode cX9_visits 174 = .ok (.iaload, 1) := dk_46 (dk_at dksX9_visits_7 10 rfl rfl)
theorem dX9_visits_175 : decode cX9_visits 175 = .ok (.iconst 1, 1) := dk_4 (dk_at dksX9_visits_7 11 rfl rfl)
theorem dX9_visits_176 : decode cX9_visits 176 = .ok (.iadd, 1) := dk_96 (dk_at dksX9_visits_7 12 rfl rfl)
theorem dX9_visits_177 : decode cX9_visits 177 = .ok (.iastore, 1) := dk_79 (dk_at dksX9_visits_7 13 rfl rfl)
theorem dX9_visits_178 : decode cX9_visits 178 = .ok (.aload_n 0, 1) := dk_42 (dk_at dksX9_visits_7 14 rfl rfl)
theorem dX9_visits_179 : decode cX9_visits 179 = .ok (.getfield 13, 3) := dk_180 0 13 (dk_at dksX9_visits_7 15 rfl rfl)
theorem dX9_visits_182 : decode cX9_visits 182 = .ok (.bipush 9, 2) := dk_16 9 (dk_at dksX9_visits_7 18 rfl rfl)
theorem dX9_visits_184 : decode cX9_visits 184 = .ok (.dup2, 1) := dk_92 (dk_at dksX9_visits_7 20 rfl rfl)
theorem dX9_visits_185 : decode cX9_visits 185 = .ok (.iaload, 1) := dk_46 (dk_at dksX9_visits_7 21 rfl rfl)
theorem dX9_visits_186 : decode cX9_visits 186 = .ok (.iconst 2, 1) := dk_5 (dk_at dksX9_visits_7 22 rfl rfl)
theorem dX9_visits_187 : decode cX9_visits 187 = .ok (.iload 5, 2) := dk_21 5 (dk_at dksX9_visits_8 0 rfl rfl)
theorem dX9_visits_189 : decode cX9_visits 189 = .ok (.iadd, 1) := dk_96 (dk_at dksX9_visits_8 2 rfl rfl)
theorem dX9_visits_190 : decode cX9_visits 190 = .ok (.iadd, 1) := dk_96 (dk_at dksX9_visits_8 3 rfl rfl)
theorem dX9_visits_191 : decode cX9_visits 191 = .ok (.iastore, 1) := dk_79 (dk_at dksX9_visits_8 4 rfl rfl)
theorem dX9_visits_192 : decode cX9_visits 192 = .ok (.iconst 2, 1) := dk_5 (dk_at dksX9_visits_8 5 rfl rfl)
theorem dX9_visits_193 : decode cX9_visits 193 = .ok (.iload 5, 2) := dk_21 5 (dk_at dksX9_visits_8 6 rfl rfl)
theorem dX9_visits_195 : decode cX9_visits 195 = .ok (.iadd, 1) := dk_96 (dk_at dksX9_visits_8 8 rfl rfl)
theorem dX9_visits_196 : decode cX9_visits 196 = .ok (.ireturn, 1) := dk_172 (dk_at dksX9_visits_8 9 rfl rfl)
abbrev cX9_pairFor : ByteArray := prog_23_method_47_code
def yX9_pairFor : MethodName := ⟨RX9, "pairFor", "(I)I"⟩
def dkwX9_pairFor_1 : List UInt8 := [132, 2, 1, 167, 255, 233, 2, 172]
abbrev dktX9_pairFor_1 : List UInt8 := dkwX9_pairFor_1 ++ []
def dkwX9_pairFor_0 : List UInt8 := [27, 61, 28, 8, 162, 0, 24, 42, 180, 0, 13, 17, 0, 191, 28, 96, 46, 158, 0, 5, 28, 172]
abbrev dktX9_pairFor_0 : List UInt8 := dkwX9_pairFor_0 ++ dktX9_pairFor_1
theorem dksX9_pairFor_0 : cX9_pairFor.data.toList.drop 0 = dktX9_pairFor_0 := by decide +kernel
theorem dksX9_pairFor_1 : cX9_pairFor.data.toList.drop 22 = dktX9_pairFor_1 := dk_seg dksX9_pairFor_0 22 rfl rfl
theorem dX9_pairFor_0 : decode cX9_pairFor 0 = .ok (.iload_n 1, 1) := dk_27 (dk_at dksX9_pairFor_0 0 rfl rfl)
theorem dX9_pairFor_1 : decode cX9_pairFor 1 = .ok (.istore_n 2, 1) := dk_61 (dk_at dksX9_pairFor_0 1 rfl rfl)
theorem dX9_pairFor_2 : decode cX9_pairFor 2 = .ok (.iload_n 2, 1) := dk_28 (dk_at dksX9_pairFor_0 2 rfl rfl)
theorem dX9_pairFor_3 : decode cX9_pairFor 3 = .ok (.iconst 5, 1) := dk_8 (dk_at dksX9_pairFor_0 3 rfl rfl)
theorem dX9_pairFor_4 : decode cX9_pairFor 4 = .ok (.if_icmp .ge 24, 3) := dk_162 0 24 (dk_at dksX9_pairFor_0 4 rfl rfl)
theorem dX9_pairFor_7 : decode cX9_pairFor 7 = .ok (.aload_n 0, 1) := dk_42 (dk_at dksX9_pairFor_0 7 rfl rfl)
theorem dX9_pairFor_8 : decode cX9_pairFor 8 = .ok (.getfield 13, 3) := dk_180 0 13 (dk_at dksX9_pairFor_0 8 rfl rfl)
theorem dX9_pairFor_11 : decode cX9_pairFor 11 = .ok (.sipush 191, 3) := dk_17 0 191 (dk_at dksX9_pairFor_0 11 rfl rfl)
theorem dX9_pairFor_14 : decode cX9_pairFor 14 = .ok (.iload_n 2, 1) := dk_28 (dk_at dksX9_pairFor_0 14 rfl rfl)
theorem dX9_pairFor_15 : decode cX9_pairFor 15 = .ok (.iadd, 1) := dk_96 (dk_at dksX9_pairFor_0 15 rfl rfl)
theorem dX9_pairFor_16 : decode cX9_pairFor 16 = .ok (.iaload, 1) := dk_46 (dk_at dksX9_pairFor_0 16 rfl rfl)
theorem dX9_pairFor_17 : decode cX9_pairFor 17 = .ok (.ifCond .le 5, 3) := dk_158 0 5 (dk_at dksX9_pairFor_0 17 rfl rfl)
theorem dX9_pairFor_20 : decode cX9_pairFor 20 = .ok (.iload_n 2, 1) := dk_28 (dk_at dksX9_pairFor_0 20 rfl rfl)
theorem dX9_pairFor_21 : decode cX9_pairFor 21 = .ok (.ireturn, 1) := dk_172 (dk_at dksX9_pairFor_0 21 rfl rfl)
theorem dX9_pairFor_22 : decode cX9_pairFor 22 = .ok (.iinc 2 1, 3) := dk_132 2 1 (dk_at dksX9_pairFor_1 0 rfl rfl)
theorem dX9_pairFor_25 : decode cX9_pairFor 25 = .ok (.goto (-23), 3) := dk_167 255 233 (dk_at dksX9_pairFor_1 3 rfl rfl)
theorem dX9_pairFor_28 : decode cX9_pairFor 28 = .ok (.iconst (-1), 1) := dk_2 (dk_at dksX9_pairFor_1 6 rfl rfl)
theorem dX9_pairFor_29 : decode cX9_pairFor 29 = .ok (.ireturn, 1) := dk_172 (dk_at dksX9_pairFor_1 7 rfl rfl)
abbrev cX9_measures : ByteArray := prog_23_method_45_code
def yX9_measures : MethodName := ⟨RX9, "measures", "(I)V"⟩
def dkwX9_measures_6 : List UInt8 := [167, 255, 184, 167, 255, 162, 177]
abbrev dktX9_measures_6 : List UInt8 := dkwX9_measures_6 ++ []
def dkwX9_measures_5 : List UInt8 := [180, 0, 35, 21, 4, 46, 4, 96, 79, 42, 180, 0, 38, 29, 21, 6, 79, 132, 3, 1, 132, 5, 1]
abbrev dktX9_measures_5 : List UInt8 := dkwX9_measures_5 ++ dktX9_measures_6
def dkwX9_measures_4 : List UInt8 := [156, 0, 42, 42, 21, 6, 182, 0, 112, 154, 0, 6, 167, 0, 30, 42, 180, 0, 35, 21, 6, 42]
abbrev dktX9_measures_4 : List UInt8 := dkwX9_measures_4 ++ dktX9_measures_5
def dkwX9_measures_3 : List UInt8 := [162, 0, 72, 21, 4, 21, 5, 184, 0, 127, 54, 6, 21, 6, 155, 0, 52, 42, 180, 0, 35, 21, 6, 46]
abbrev dktX9_measures_3 : List UInt8 := dkwX9_measures_3 ++ dktX9_measures_4
def dkwX9_measures_2 : List UInt8 := [79, 28, 29, 162, 0, 95, 42, 180, 0, 38, 28, 46, 54, 4, 132, 2, 1, 3, 54, 5, 21, 5, 7]
abbrev dktX9_measures_2 : List UInt8 := dkwX9_measures_2 ++ dktX9_measures_3
def dkwX9_measures_1 : List UInt8 := [182, 0, 112, 154, 0, 4, 177, 3, 61, 4, 62, 42, 180, 0, 38, 3, 27, 79, 42, 180, 0, 35, 27, 3]
abbrev dktX9_measures_1 : List UInt8 := dkwX9_measures_1 ++ dktX9_measures_2
def dkwX9_measures_0 : List UInt8 := [3, 61, 28, 16, 30, 162, 0, 16, 42, 180, 0, 35, 28, 2, 79, 132, 2, 1, 167, 255, 240, 42, 27]
abbrev dktX9_measures_0 : List UInt8 := dkwX9_measures_0 ++ dktX9_measures_1
theorem dksX9_measures_0 : cX9_measures.data.toList.drop 0 = dktX9_measures_0 := by decide +kernel
theorem dksX9_measures_1 : cX9_measures.data.toList.drop 23 = dktX9_measures_1 := dk_seg dksX9_measures_0 23 rfl rfl
theorem dksX9_measures_2 : cX9_measures.data.toList.drop 47 = dktX9_measures_2 := dk_seg dksX9_measures_1 24 rfl rfl
theorem dksX9_measures_3 : cX9_measures.data.toList.drop 70 = dktX9_measures_3 := dk_seg dksX9_measures_2 23 rfl rfl
theorem dksX9_measures_4 : cX9_measures.data.toList.drop 94 = dktX9_measures_4 := dk_seg dksX9_measures_3 24 rfl rfl
theorem dksX9_measures_5 : cX9_measures.data.toList.drop 116 = dktX9_measures_5 := dk_seg dksX9_measures_4 22 rfl rfl
theorem dksX9_measures_6 : cX9_measures.data.toList.drop 139 = dktX9_measures_6 := dk_seg dksX9_measures_5 23 rfl rfl
theorem dX9_measures_0 : decode cX9_measures 0 = .ok (.iconst 0, 1) := dk_3 (dk_at dksX9_measures_0 0 rfl rfl)
theorem dX9_measures_1 : decode cX9_measures 1 = .ok (.istore_n 2, 1) := dk_61 (dk_at dksX9_measures_0 1 rfl rfl)
theorem dX9_measures_2 : decode cX9_measures 2 = .ok (.iload_n 2, 1) := dk_28 (dk_at dksX9_measures_0 2 rfl rfl)
theorem dX9_measures_3 : decode cX9_measures 3 = .ok (.bipush 30, 2) := dk_16 30 (dk_at dksX9_measures_0 3 rfl rfl)
theorem dX9_measures_5 : decode cX9_measures 5 = .ok (.if_icmp .ge 16, 3) := dk_162 0 16 (dk_at dksX9_measures_0 5 rfl rfl)
theorem dX9_measures_8 : decode cX9_measures 8 = .ok (.aload_n 0, 1) := dk_42 (dk_at dksX9_measures_0 8 rfl rfl)
theorem dX9_measures_9 : decode cX9_measures 9 = .ok (.getfield 35, 3) := dk_180 0 35 (dk_at dksX9_measures_0 9 rfl rfl)
theorem dX9_measures_12 : decode cX9_measures 12 = .ok (.iload_n 2, 1) := dk_28 (dk_at dksX9_measures_0 12 rfl rfl)
theorem dX9_measures_13 : decode cX9_measures 13 = .ok (.iconst (-1), 1) := dk_2 (dk_at dksX9_measures_0 13 rfl rfl)
theorem dX9_measures_14 : decode cX9_measures 14 = .ok (.iastore, 1) := dk_79 (dk_at dksX9_measures_0 14 rfl rfl)
theorem dX9_measures_15 : decode cX9_measures 15 = .ok (.iinc 2 1, 3) := dk_132 2 1 (dk_at dksX9_measures_0 15 rfl rfl)
theorem dX9_measures_18 : decode cX9_measures 18 = .ok (.goto (-16), 3) := dk_167 255 240 (dk_at dksX9_measures_0 18 rfl rfl)
theorem dX9_measures_21 : decode cX9_measures 21 = .ok (.aload_n 0, 1) := dk_42 (dk_at dksX9_measures_0 21 rfl rfl)
theorem dX9_measures_22 : decode cX9_measures 22 = .ok (.iload_n 1, 1) := dk_27 (dk_at dksX9_measures_0 22 rfl rfl)
theorem dX9_measures_23 : decode cX9_measures 23 = .ok (.invokevirtual 112, 3) := dk_182 0 112 (dk_at dksX9_measures_1 0 rfl rfl)
theorem dX9_measures_26 : decode cX9_measures 26 = .ok (.ifCond .ne 4, 3) := dk_154 0 4 (dk_at dksX9_measures_1 3 rfl rfl)
theorem dX9_measures_29 : decode cX9_measures 29 = .ok (.return_, 1) := dk_177 (dk_at dksX9_measures_1 6 rfl rfl)
theorem dX9_measures_30 : decode cX9_measures 30 = .ok (.iconst 0, 1) := dk_3 (dk_at dksX9_measures_1 7 rfl rfl)
theorem dX9_measures_31 : decode cX9_measures 31 = .ok (.istore_n 2, 1) := dk_61 (dk_at dksX9_measures_1 8 rfl rfl)
theorem dX9_measures_32 : decode cX9_measures 32 = .ok (.iconst 1, 1) := dk_4 (dk_at dksX9_measures_1 9 rfl rfl)
theorem dX9_measures_33 : decode cX9_measures 33 = .ok (.istore_n 3, 1) := dk_62 (dk_at dksX9_measures_1 10 rfl rfl)
theorem dX9_measures_34 : decode cX9_measures 34 = .ok (.aload_n 0, 1) := dk_42 (dk_at dksX9_measures_1 11 rfl rfl)
theorem dX9_measures_35 : decode cX9_measures 35 = .ok (.getfield 38, 3) := dk_180 0 38 (dk_at dksX9_measures_1 12 rfl rfl)
theorem dX9_measures_38 : decode cX9_measures 38 = .ok (.iconst 0, 1) := dk_3 (dk_at dksX9_measures_1 15 rfl rfl)
theorem dX9_measures_39 : decode cX9_measures 39 = .ok (.iload_n 1, 1) := dk_27 (dk_at dksX9_measures_1 16 rfl rfl)
theorem dX9_measures_40 : decode cX9_measures 40 = .ok (.iastore, 1) := dk_79 (dk_at dksX9_measures_1 17 rfl rfl)
theorem dX9_measures_41 : decode cX9_measures 41 = .ok (.aload_n 0, 1) := dk_42 (dk_at dksX9_measures_1 18 rfl rfl)
theorem dX9_measures_42 : decode cX9_measures 42 = .ok (.getfield 35, 3) := dk_180 0 35 (dk_at dksX9_measures_1 19 rfl rfl)
theorem dX9_measures_45 : decode cX9_measures 45 = .ok (.iload_n 1, 1) := dk_27 (dk_at dksX9_measures_1 22 rfl rfl)
theorem dX9_measures_46 : decode cX9_measures 46 = .ok (.iconst 0, 1) := dk_3 (dk_at dksX9_measures_1 23 rfl rfl)
theorem dX9_measures_47 : decode cX9_measures 47 = .ok (.iastore, 1) := dk_79 (dk_at dksX9_measures_2 0 rfl rfl)
theorem dX9_measures_48 : decode cX9_measures 48 = .ok (.iload_n 2, 1) := dk_28 (dk_at dksX9_measures_2 1 rfl rfl)
theorem dX9_measures_49 : decode cX9_measures 49 = .ok (.iload_n 3, 1) := dk_29 (dk_at dksX9_measures_2 2 rfl rfl)
theorem dX9_measures_50 : decode cX9_measures 50 = .ok (.if_icmp .ge 95, 3) := dk_162 0 95 (dk_at dksX9_measures_2 3 rfl rfl)
theorem dX9_measures_53 : decode cX9_measures 53 = .ok (.aload_n 0, 1) := dk_42 (dk_at dksX9_measures_2 6 rfl rfl)
theorem dX9_measures_54 : decode cX9_measures 54 = .ok (.getfield 38, 3) := dk_180 0 38 (dk_at dksX9_measures_2 7 rfl rfl)
theorem dX9_measures_57 : decode cX9_measures 57 = .ok (.iload_n 2, 1) := dk_28 (dk_at dksX9_measures_2 10 rfl rfl)
theorem dX9_measures_58 : decode cX9_measures 58 = .ok (.iaload, 1) := dk_46 (dk_at dksX9_measures_2 11 rfl rfl)
theorem dX9_measures_59 : decode cX9_measures 59 = .ok (.istore 4, 2) := dk_54 4 (dk_at dksX9_measures_2 12 rfl rfl)
theorem dX9_measures_61 : decode cX9_measures 61 = .ok (.iinc 2 1, 3) := dk_132 2 1 (dk_at dksX9_measures_2 14 rfl rfl)
theorem dX9_measures_64 : decode cX9_measures 64 = .ok (.iconst 0, 1) := dk_3 (dk_at dksX9_measures_2 17 rfl rfl)
theorem dX9_measures_65 : decode cX9_measures 65 = .ok (.istore 5, 2) := dk_54 5 (dk_at dksX9_measures_2 18 rfl rfl)
theorem dX9_measures_67 : decode cX9_measures 67 = .ok (.iload 5, 2) := dk_21 5 (dk_at dksX9_measures_2 20 rfl rfl)
theorem dX9_measures_69 : decode cX9_measures 69 = .ok (.iconst 4, 1) := dk_7 (dk_at dksX9_measures_2 22 rfl rfl)
theorem dX9_measures_70 : decode cX9_measures 70 = .ok (.if_icmp .ge 72, 3) := dk_162 0 72 (dk_at dksX9_measures_3 0 rfl rfl)
theorem dX9_measures_73 : decode cX9_measures 73 = .ok (.iload 4, 2) := dk_21 4 (dk_at dksX9_measures_3 3 rfl rfl)
theorem dX9_measures_75 : decode cX9_measures 75 = .ok (.iload 5, 2) := dk_21 5 (dk_at dksX9_measures_3 5 rfl rfl)
theorem dX9_measures_77 : decode cX9_measures 77 = .ok (.invokestatic 127, 3) := dk_184 0 127 (dk_at dksX9_measures_3 7 rfl rfl)
theorem dX9_measures_80 : decode cX9_measures 80 = .ok (.istore 6, 2) := dk_54 6 (dk_at dksX9_measures_3 10 rfl rfl)
theorem dX9_measures_82 : decode cX9_measures 82 = .ok (.iload 6, 2) := dk_21 6 (dk_at dksX9_measures_3 12 rfl rfl)
theorem dX9_measures_84 : decode cX9_measures 84 = .ok (.ifCond .lt 52, 3) := dk_155 0 52 (dk_at dksX9_measures_3 14 rfl rfl)
theorem dX9_measures_87 : decode cX9_measures 87 = .ok (.aload_n 0, 1) := dk_42 (dk_at dksX9_measures_3 17 rfl rfl)
theorem dX9_measures_88 : decode cX9_measures 88 = .ok (.getfield 35, 3) := dk_180 0 35 (dk_at dksX9_measures_3 18 rfl rfl)
theorem dX9_measures_91 : decode cX9_measures 91 = .ok (.iload 6, 2) := dk_21 6 (dk_at dksX9_measures_3 21 rfl rfl)
theorem dX9_measures_93 : decode cX9_measures 93 = .ok (.iaload, 1) := dk_46 (dk_at dksX9_measures_3 23 rfl rfl)
theorem dX9_measures_94 : decode cX9_measures 94 = .ok (.ifCond .ge 42, 3) := dk_156 0 42 (dk_at dksX9_measures_4 0 rfl rfl)
theorem dX9_measures_97 : decode cX9_measures 97 = .ok (.aload_n 0, 1) := dk_42 (dk_at dksX9_measures_4 3 rfl rfl)
theorem dX9_measures_98 : decode cX9_measures 98 = .ok (.iload 6, 2) := dk_21 6 (dk_at dksX9_measures_4 4 rfl rfl)
theorem dX9_measures_100 : decode cX9_measures 100 = .ok (.invokevirtual 112, 3) := dk_182 0 112 (dk_at dksX9_measures_4 6 rfl rfl)
theorem dX9_measures_103 : decode cX9_measures 103 = .ok (.ifCond .ne 6, 3) := dk_154 0 6 (dk_at dksX9_measures_4 9 rfl rfl)
theorem dX9_measures_106 : decode cX9_measures 106 = .ok (.goto 30, 3) := dk_167 0 30 (dk_at dksX9_measures_4 12 rfl rfl)
theorem dX9_measures_109 : decode cX9_measures 109 = .ok (.aload_n 0, 1) := dk_42 (dk_at dksX9_measures_4 15 rfl rfl)
theorem dX9_measures_110 : decode cX9_measures 110 = .ok (.getfield 35, 3) := dk_180 0 35 (dk_at dksX9_measures_4 16 rfl rfl)
theorem dX9_measures_113 : decode cX9_measures 113 = .ok (.iload 6, 2) := dk_21 6 (dk_at dksX9_measures_4 19 rfl rfl)
theorem dX9_measures_115 : decode cX9_measures 115 = .ok (.aload_n 0, 1) := dk_42 (dk_at dksX9_measures_4 21 rfl rfl)
theorem dX9_measures_116 : decode cX9_measures 116 = .ok (.getfield 35, 3) := dk_180 0 35 (dk_at dksX9_measures_5 0 rfl rfl)
theorem dX9_measures_119 : decode cX9_measures 119 = .ok (.iload 4, 2) := dk_21 4 (dk_at dksX9_measures_5 3 rfl rfl)
theorem dX9_measures_121 : decode cX9_measures 121 = .ok (.iaload, 1) := dk_46 (dk_at dksX9_measures_5 5 rfl rfl)
theorem dX9_measures_122 : decode cX9_measures 122 = .ok (.iconst 1, 1) := dk_4 (dk_at dksX9_measures_5 6 rfl rfl)
theorem dX9_measures_123 : decode cX9_measures 123 = .ok (.iadd, 1) := dk_96 (dk_at dksX9_measures_5 7 rfl rfl)
theorem dX9_measures_124 : decode cX9_measures 124 = .ok (.iastore, 1) := dk_79 (dk_at dksX9_measures_5 8 rfl rfl)
theorem dX9_measures_125 : decode cX9_measures 125 = .ok (.aload_n 0, 1) := dk_42 (dk_at dksX9_measures_5 9 rfl rfl)
theorem dX9_measures_126 : decode cX9_measures 126 = .ok (.getfield 38, 3) := dk_180 0 38 (dk_at dksX9_measures_5 10 rfl rfl)
theorem dX9_measures_129 : decode cX9_measures 129 = .ok (.iload_n 3, 1) := dk_29 (dk_at dksX9_measures_5 13 rfl rfl)
theorem dX9_measures_130 : decode cX9_measures 130 = .ok (.iload 6, 2) := dk_21 6 (dk_at dksX9_measures_5 14 rfl rfl)
theorem dX9_measures_132 : decode cX9_measures 132 = .ok (.iastore, 1) := dk_79 (dk_at dksX9_measures_5 16 rfl rfl)
theorem dX9_measures_133 : decode cX9_measures 133 = .ok (.iinc 3 1, 3) := dk_132 3 1 (dk_at dksX9_measures_5 17 rfl rfl)
theorem dX9_measures_136 : decode cX9_measures 136 = .ok (.iinc 5 1, 3) := dk_132 5 1 (dk_at dksX9_measures_5 20 rfl rfl)
theorem dX9_measures_139 : decode cX9_measures 139 = .ok (.goto (-72), 3) := dk_167 255 184 (dk_at dksX9_measures_6 0 rfl rfl)
theorem dX9_measures_142 : decode cX9_measures 142 = .ok (.goto (-94), 3) := dk_167 255 162 (dk_at dksX9_measures_6 3 rfl rfl)
theorem dX9_measures_145 : decode cX9_measures 145 = .ok (.return_, 1) := dk_177 (dk_at dksX9_measures_6 6 rfl rfl)
abbrev cX9_treads : ByteArray := prog_23_method_48_code
def yX9_treads : MethodName := ⟨RX9, "treads", "(I)V"⟩
def dkwX9_treads_1 : List UInt8 := [46, 4, 100, 79, 42, 180, 0, 13, 16, 6, 92, 46, 4, 96, 79, 177]
abbrev dktX9_treads_1 : List UInt8 := dkwX9_treads_1 ++ []
def dkwX9_treads_0 : List UInt8 := [42, 180, 0, 13, 16, 42, 27, 96, 46, 16, 7, 162, 0, 4, 177, 42, 180, 0, 13, 16, 42, 27, 96, 92]
abbrev dktX9_treads_0 : List UInt8 := dkwX9_treads_0 ++ dktX9_treads_1
theorem dksX9_treads_0 : cX9_treads.data.toList.drop 0 = dktX9_treads_0 := by decide +kernel
theorem dksX9_treads_1 : cX9_treads.data.toList.drop 24 = dktX9_treads_1 := dk_seg dksX9_treads_0 24 rfl rfl
theorem dX9_treads_0 : decode cX9_treads 0 = .ok (.aload_n 0, 1) := dk_42 (dk_at dksX9_treads_0 0 rfl rfl)
theorem dX9_treads_1 : decode cX9_treads 1 = .ok (.getfield 13, 3) := dk_180 0 13 (dk_at dksX9_treads_0 1 rfl rfl)
theorem dX9_treads_4 : decode cX9_treads 4 = .ok (.bipush 42, 2) := dk_16 42 (dk_at dksX9_treads_0 4 rfl rfl)
theorem dX9_treads_6 : decode cX9_treads 6 = .ok (.iload_n 1, 1) := dk_27 (dk_at dksX9_treads_0 6 rfl rfl)
theorem dX9_treads_7 : decode cX9_treads 7 = .ok (.iadd, 1) := dk_96 (dk_at dksX9_treads_0 7 rfl rfl)
theorem dX9_treads_8 : decode cX9_treads 8 = .ok (.iaload, 1) := dk_46 (dk_at dksX9_treads_0 8 rfl rfl)
theorem dX9_treads_9 : decode cX9_treads 9 = .ok (.bipush 7, 2) := dk_16 7 (dk_at dksX9_treads_0 9 rfl rfl)
theorem dX9_treads_11 : decode cX9_treads 11 = .ok (.if_icmp .ge 4, 3) := dk_162 0 4 (dk_at dksX9_treads_0 11 rfl rfl)
theorem dX9_treads_14 : decode cX9_treads 14 = .ok (.return_, 1) := dk_177 (dk_at dksX9_treads_0 14 rfl rfl)
theorem dX9_treads_15 : decode cX9_treads 15 = .ok (.aload_n 0, 1) := dk_42 (dk_at dksX9_treads_0 15 rfl rfl)
theorem dX9_treads_16 : decode cX9_treads 16 = .ok (.getfield 13, 3) := dk_180 0 13 (dk_at dksX9_treads_0 16 rfl rfl)
theorem dX9_treads_19 : decode cX9_treads 19 = .ok (.bipush 42, 2) := dk_16 42 (dk_at dksX9_treads_0 19 rfl rfl)
theorem dX9_treads_21 : decode cX9_treads 21 = .ok (.iload_n 1, 1) := dk_27 (dk_at dksX9_treads_0 21 rfl rfl)
theorem dX9_treads_22 : decode cX9_treads 22 = .ok (.iadd, 1) := dk_96 (dk_at dksX9_treads_0 22 rfl rfl)
theorem dX9_treads_23 : decode cX9_treads 23 = .ok (.dup2, 1) := dk_92 (dk_at dksX9_treads_0 23 rfl rfl)
theorem dX9_treads_24 : decode cX9_treads 24 = .ok (.iaload, 1) := dk_46 (dk_at dksX9_treads_1 0 rfl rfl)
theorem dX9_treads_25 : decode cX9_treads 25 = .ok (.iconst 1, 1) := dk_4 (dk_at dksX9_treads_1 1 rfl rfl)
theorem dX9_treads_26 : decode cX9_treads 26 = .ok (.isub, 1) := dk_100 (dk_at dksX9_treads_1 2 rfl rfl)
theorem dX9_treads_27 : decode cX9_treads 27 = .ok (.iastore, 1) := dk_79 (dk_at dksX9_treads_1 3 rfl rfl)
theorem dX9_treads_28 : decode cX9_treads 28 = .ok (.aload_n 0, 1) := dk_42 (dk_at dksX9_treads_1 4 rfl rfl)
theorem dX9_treads_29 : decode cX9_treads 29 = .ok (.getfield 13, 3) := dk_180 0 13 (dk_at dksX9_treads_1 5 rfl rfl)
theorem dX9_treads_32 : decode cX9_treads 32 = .ok (.bipush 6, 2) := dk_16 6 (dk_at dksX9_treads_1 8 rfl rfl)
theorem dX9_treads_34 : decode cX9_treads 34 = .ok (.dup2, 1) := dk_92 (dk_at dksX9_treads_1 10 rfl rfl)
theorem dX9_treads_35 : decode cX9_treads 35 = .ok (.iaload, 1) := dk_46 (dk_at dksX9_treads_1 11 rfl rfl)
theorem dX9_treads_36 : decode cX9_treads 36 = .ok (.iconst 1, 1) := dk_4 (dk_at dksX9_treads_1 12 rfl rfl)
theorem dX9_treads_37 : decode cX9_treads 37 = .ok (.iadd, 1) := dk_96 (dk_at dksX9_treads_1 13 rfl rfl)
theorem dX9_treads_38 : decode cX9_treads 38 = .ok (.iastore, 1) := dk_79 (dk_at dksX9_treads_1 14 rfl rfl)
theorem dX9_treads_39 : decode cX9_treads 39 = .ok (.return_, 1) := dk_177 (dk_at dksX9_treads_1 15 rfl rfl)
abbrev cX9_next : ByteArray := prog_23_method_46_code
def yX9_next : MethodName := ⟨RX9, "next", "(I)I"⟩
def dkwX9_next_1 : List UInt8 := [180, 0, 35, 27, 46, 4, 100, 160, 0, 5, 29, 172, 132, 2, 1, 167, 255, 219, 2, 172]
abbrev dktX9_next_1 : List UInt8 := dkwX9_next_1 ++ []
def dkwX9_next_0 : List UInt8 := [3, 61, 28, 7, 162, 0, 38, 27, 28, 184, 0, 127, 62, 29, 155, 0, 22, 42, 180, 0, 35, 29, 46, 42]
abbrev dktX9_next_0 : List UInt8 := dkwX9_next_0 ++ dktX9_next_1
theorem dksX9_next_0 : cX9_next.data.toList.drop 0 = dktX9_next_0 := by decide +kernel
theorem dksX9_next_1 : cX9_next.data.toList.drop 24 = dktX9_next_1 := dk_seg dksX9_next_0 24 rfl rfl
theorem dX9_next_0 : decode cX9_next 0 = .ok (.iconst 0, 1) := dk_3 (dk_at dksX9_next_0 0 rfl rfl)
theorem dX9_next_1 : decode cX9_next 1 = .ok (.istore_n 2, 1) := dk_61 (dk_at dksX9_next_0 1 rfl rfl)
theorem dX9_next_2 : decode cX9_next 2 = .ok (.iload_n 2, 1) := dk_28 (dk_at dksX9_next_0 2 rfl rfl)
theorem dX9_next_3 : decode cX9_next 3 = .ok (.iconst 4, 1) := dk_7 (dk_at dksX9_next_0 3 rfl rfl)
theorem dX9_next_4 : decode cX9_next 4 = .ok (.if_icmp .ge 38, 3) := dk_162 0 38 (dk_at dksX9_next_0 4 rfl rfl)
theorem dX9_next_7 : decode cX9_next 7 = .ok (.iload_n 1, 1) := dk_27 (dk_at dksX9_next_0 7 rfl rfl)
theorem dX9_next_8 : decode cX9_next 8 = .ok (.iload_n 2, 1) := dk_28 (dk_at dksX9_next_0 8 rfl rfl)
theorem dX9_next_9 : decode cX9_next 9 = .ok (.invokestatic 127, 3) := dk_184 0 127 (dk_at dksX9_next_0 9 rfl rfl)
theorem dX9_next_12 : decode cX9_next 12 = .ok (.istore_n 3, 1) := dk_62 (dk_at dksX9_next_0 12 rfl rfl)
theorem dX9_next_13 : decode cX9_next 13 = .ok (.iload_n 3, 1) := dk_29 (dk_at dksX9_next_0 13 rfl rfl)
theorem dX9_next_14 : decode cX9_next 14 = .ok (.ifCond .lt 22, 3) := dk_155 0 22 (dk_at dksX9_next_0 14 rfl rfl)
theorem dX9_next_17 : decode cX9_next 17 = .ok (.aload_n 0, 1) := dk_42 (dk_at dksX9_next_0 17 rfl rfl)
theorem dX9_next_18 : decode cX9_next 18 = .ok (.getfield 35, 3) := dk_180 0 35 (dk_at dksX9_next_0 18 rfl rfl)
theorem dX9_next_21 : decode cX9_next 21 = .ok (.iload_n 3, 1) := dk_29 (dk_at dksX9_next_0 21 rfl rfl)
theorem dX9_next_22 : decode cX9_next 22 = .ok (.iaload, 1) := dk_46 (dk_at dksX9_next_0 22 rfl rfl)
theorem dX9_next_23 : decode cX9_next 23 = .ok (.aload_n 0, 1) := dk_42 (dk_at dksX9_next_0 23 rfl rfl)
theorem dX9_next_24 : decode cX9_next 24 = .ok (.getfield 35, 3) := dk_180 0 35 (dk_at dksX9_next_1 0 rfl rfl)
theorem dX9_next_27 : decode cX9_next 27 = .ok (.iload_n 1, 1) := dk_27 (dk_at dksX9_next_1 3 rfl rfl)
theorem dX9_next_28 : decode cX9_next 28 = .ok (.iaload, 1) := dk_46 (dk_at dksX9_next_1 4 rfl rfl)
theorem dX9_next_29 : decode cX9_next 29 = .ok (.iconst 1, 1) := dk_4 (dk_at dksX9_next_1 5 rfl rfl)
theorem dX9_next_30 : decode cX9_next 30 = .ok (.isub, 1) := dk_100 (dk_at dksX9_next_1 6 rfl rfl)
theorem dX9_next_31 : decode cX9_next 31 = .ok (.if_icmp .ne 5, 3) := dk_160 0 5 (dk_at dksX9_next_1 7 rfl rfl)
theorem dX9_next_34 : decode cX9_next 34 = .ok (.iload_n 3, 1) := dk_29 (dk_at dksX9_next_1 10 rfl rfl)
theorem dX9_next_35 : decode cX9_next 35 = .ok (.ireturn, 1) := dk_172 (dk_at dksX9_next_1 11 rfl rfl)
theorem dX9_next_36 : decode cX9_next 36 = .ok (.iinc 2 1, 3) := dk_132 2 1 (dk_at dksX9_next_1 12 rfl rfl)
theorem dX9_next_39 : decode cX9_next 39 = .ok (.goto (-37), 3) := dk_167 255 219 (dk_at dksX9_next_1 15 rfl rfl)
theorem dX9_next_42 : decode cX9_next 42 = .ok (.iconst (-1), 1) := dk_2 (dk_at dksX9_next_1 18 rfl rfl)
theorem dX9_next_43 : decode cX9_next 43 = .ok (.ireturn, 1) := dk_172 (dk_at dksX9_next_1 19 rfl rfl)
abbrev cX9_notes : ByteArray := prog_23_method_49_code
def yX9_notes : MethodName := ⟨RX9, "notes", "(IIII)V"⟩
def dkwX9_notes_4 : List UInt8 := [184, 0, 152, 79, 177]
abbrev dktX9_notes_4 : List UInt8 := dkwX9_notes_4 ++ []
def dkwX9_notes_3 : List UInt8 := [17, 0, 199, 21, 4, 79, 42, 180, 0, 13, 16, 11, 8, 42, 180, 0, 13, 16, 11, 46, 4, 96]
abbrev dktX9_notes_3 : List UInt8 := dkwX9_notes_3 ++ dktX9_notes_4
def dkwX9_notes_2 : List UInt8 := [79, 42, 180, 0, 13, 17, 0, 197, 28, 79, 42, 180, 0, 13, 17, 0, 198, 29, 79, 42, 180, 0, 13]
abbrev dktX9_notes_2 : List UInt8 := dkwX9_notes_2 ++ dktX9_notes_3
def dkwX9_notes_1 : List UInt8 := [17, 0, 196, 21, 5, 96, 7, 100, 46, 79, 132, 5, 255, 167, 255, 223, 42, 180, 0, 13, 17, 0, 196, 27]
abbrev dktX9_notes_1 : List UInt8 := dkwX9_notes_1 ++ dktX9_notes_2
def dkwX9_notes_0 : List UInt8 := [16, 19, 54, 5, 21, 5, 7, 161, 0, 33, 42, 180, 0, 13, 17, 0, 196, 21, 5, 96, 42, 180, 0, 13]
abbrev dktX9_notes_0 : List UInt8 := dkwX9_notes_0 ++ dktX9_notes_1
theorem dksX9_notes_0 : cX9_notes.data.toList.drop 0 = dktX9_notes_0 := by decide +kernel
theorem dksX9_notes_1 : cX9_notes.data.toList.drop 24 = dktX9_notes_1 := dk_seg dksX9_notes_0 24 rfl rfl
theorem dksX9_notes_2 : cX9_notes.data.toList.drop 48 = dktX9_notes_2 := dk_seg dksX9_notes_1 24 rfl rfl
theorem dksX9_notes_3 : cX9_notes.data.toList.drop 71 = dktX9_notes_3 := dk_seg dksX9_notes_2 23 rfl rfl
theorem dksX9_notes_4 : cX9_notes.data.toList.drop 93 = dktX9_notes_4 := dk_seg dksX9_notes_3 22 rfl rfl
theorem dX9_notes_0 : decode cX9_notes 0 = .ok (.bipush 19, 2) := dk_16 19 (dk_at dksX9_notes_0 0 rfl rfl)
theorem dX9_notes_2 : decode cX9_notes 2 = .ok (.istore 5, 2) := dk_54 5 (dk_at dksX9_notes_0 2 rfl rfl)
theorem dX9_notes_4 : decode cX9_notes 4 = .ok (.iload 5, 2) := dk_21 5 (dk_at dksX9_notes_0 4 rfl rfl)
theorem dX9_notes_6 : decode cX9_notes 6 = .ok (.iconst 4, 1) := dk_7 (dk_at dksX9_notes_0 6 rfl rfl)
theorem dX9_notes_7 : decode cX9_notes 7 = .ok (.if_icmp .lt 33, 3) := dk_161 0 33 (dk_at dksX9_notes_0 7 rfl rfl)
theorem dX9_notes_10 : decode cX9_notes 10 = .ok (.aload_n 0, 1) := dk_42 (dk_at dksX9_notes_0 10 rfl rfl)
theorem dX9_notes_11 : decode cX9_notes 11 = .ok (.getfield 13, 3) := dk_180 0 13 (dk_at dksX9_notes_0 11 rfl rfl)
theorem dX9_notes_14 : decode cX9_notes 14 = .ok (.sipush 196, 3) := dk_17 0 196 (dk_at dksX9_notes_0 14 rfl rfl)
theorem dX9_notes_17 : decode cX9_notes 17 = .ok (.iload 5, 2) := dk_21 5 (dk_at dksX9_notes_0 17 rfl rfl)
theorem dX9_notes_19 : decode cX9_notes 19 = .ok (.iadd, 1) := dk_96 (dk_at dksX9_notes_0 19 rfl rfl)
theorem dX9_notes_20 : decode cX9_notes 20 = .ok (.aload_n 0, 1) := dk_42 (dk_at dksX9_notes_0 20 rfl rfl)
theorem dX9_notes_21 : decode cX9_notes 21 = .ok (.getfield 13, 3) := dk_180 0 13 (dk_at dksX9_notes_0 21 rfl rfl)
theorem dX9_notes_24 : decode cX9_notes 24 = .ok (.sipush 196, 3) := dk_17 0 196 (dk_at dksX9_notes_1 0 rfl rfl)
theorem dX9_notes_27 : decode cX9_notes 27 = .ok (.iload 5, 2) := dk_21 5 (dk_at dksX9_notes_1 3 rfl rfl)
theorem dX9_notes_29 : decode cX9_notes 29 = .ok (.iadd, 1) := dk_96 (dk_at dksX9_notes_1 5 rfl rfl)
theorem dX9_notes_30 : decode cX9_notes 30 = .ok (.iconst 4, 1) := dk_7 (dk_at dksX9_notes_1 6 rfl rfl)
theorem dX9_notes_31 : decode cX9_notes 31 = .ok (.isub, 1) := dk_100 (dk_at dksX9_notes_1 7 rfl rfl)
theorem dX9_notes_32 : decode cX9_notes 32 = .ok (.iaload, 1) := dk_46 (dk_at dksX9_notes_1 8 rfl rfl)
theorem dX9_notes_33 : decode cX9_notes 33 = .ok (.iastore, 1) := dk_79 (dk_at dksX9_notes_1 9 rfl rfl)
theorem dX9_notes_34 : decode cX9_notes 34 = .ok (.iinc 5 (-1), 3) := dk_132 5 255 (dk_at dksX9_notes_1 10 rfl rfl)
theorem dX9_notes_37 : decode cX9_notes 37 = .ok (.goto (-33), 3) := dk_167 255 223 (dk_at dksX9_notes_1 13 rfl rfl)
theorem dX9_notes_40 : decode cX9_notes 40 = .ok (.aload_n 0, 1) := dk_42 (dk_at dksX9_notes_1 16 rfl rfl)
theorem dX9_notes_41 : decode cX9_notes 41 = .ok (.getfield 13, 3) := dk_180 0 13 (dk_at dksX9_notes_1 17 rfl rfl)
theorem dX9_notes_44 : decode cX9_notes 44 = .ok (.sipush 196, 3) := dk_17 0 196 (dk_at dksX9_notes_1 20 rfl rfl)
theorem dX9_notes_47 : decode cX9_notes 47 = .ok (.iload_n 1, 1) := dk_27 (dk_at dksX9_notes_1 23 rfl rfl)
theorem dX9_notes_48 : decode cX9_notes 48 = .ok (.iastore, 1) := dk_79 (dk_at dksX9_notes_2 0 rfl rfl)
theorem dX9_notes_49 : decode cX9_notes 49 = .ok (.aload_n 0, 1) := dk_42 (dk_at dksX9_notes_2 1 rfl rfl)
theorem dX9_notes_50 : decode cX9_notes 50 = .ok (.getfield 13, 3) := dk_180 0 13 (dk_at dksX9_notes_2 2 rfl rfl)
theorem dX9_notes_53 : decode cX9_notes 53 = .ok (.sipush 197, 3) := dk_17 0 197 (dk_at dksX9_notes_2 5 rfl rfl)
theorem dX9_notes_56 : decode cX9_notes 56 = .ok (.iload_n 2, 1) := dk_28 (dk_at dksX9_notes_2 8 rfl rfl)
theorem dX9_notes_57 : decode cX9_notes 57 = .ok (.iastore, 1) := dk_79 (dk_at dksX9_notes_2 9 rfl rfl)
theorem dX9_notes_58 : decode cX9_notes 58 = .ok (.aload_n 0, 1) := dk_42 (dk_at dksX9_notes_2 10 rfl rfl)
theorem dX9_notes_59 : decode cX9_notes 59 = .ok (.getfield 13, 3) := dk_180 0 13 (dk_at dksX9_notes_2 11 rfl rfl)
theorem dX9_notes_62 : decode cX9_notes 62 = .ok (.sipush 198, 3) := dk_17 0 198 (dk_at dksX9_notes_2 14 rfl rfl)
theorem dX9_notes_65 : decode cX9_notes 65 = .ok (.iload_n 3, 1) := dk_29 (dk_at dksX9_notes_2 17 rfl rfl)
theorem dX9_notes_66 : decode cX9_notes 66 = .ok (.iastore, 1) := dk_79 (dk_at dksX9_notes_2 18 rfl rfl)
theorem dX9_notes_67 : decode cX9_notes 67 = .ok (.aload_n 0, 1) := dk_42 (dk_at dksX9_notes_2 19 rfl rfl)
theorem dX9_notes_68 : decode cX9_notes 68 = .ok (.getfield 13, 3) := dk_180 0 13 (dk_at dksX9_notes_2 20 rfl rfl)
theorem dX9_notes_71 : decode cX9_notes 71 = .ok (.sipush 199, 3) := dk_17 0 199 (dk_at dksX9_notes_3 0 rfl rfl)
theorem dX9_notes_74 : decode cX9_notes 74 = .ok (.iload 4, 2) := dk_21 4 (dk_at dksX9_notes_3 3 rfl rfl)
theorem dX9_notes_76 : decode cX9_notes 76 = .ok (.iastore, 1) := dk_79 (dk_at dksX9_notes_3 5 rfl rfl)
theorem dX9_notes_77 : decode cX9_notes 77 = .ok (.aload_n 0, 1) := dk_42 (dk_at dksX9_notes_3 6 rfl rfl)
theorem dX9_notes_78 : decode cX9_notes 78 = .ok (.getfield 13, 3) := dk_180 0 13 (dk_at dksX9_notes_3 7 rfl rfl)
theorem dX9_notes_81 : decode cX9_notes 81 = .ok (.bipush 11, 2) := dk_16 11 (dk_at dksX9_notes_3 10 rfl rfl)
theorem dX9_notes_83 : decode cX9_notes 83 = .ok (.iconst 5, 1) := dk_8 (dk_at dksX9_notes_3 12 rfl rfl)
theorem dX9_notes_84 : decode cX9_notes 84 = .ok (.aload_n 0, 1) := dk_42 (dk_at dksX9_notes_3 13 rfl rfl)
theorem dX9_notes_85 : decode cX9_notes 85 = .ok (.getfield 13, 3) := dk_180 0 13 (dk_at dksX9_notes_3 14 rfl rfl)
theorem dX9_notes_88 : decode cX9_notes 88 = .ok (.bipush 11, 2) := dk_16 11 (dk_at dksX9_notes_3 17 rfl rfl)
theorem dX9_notes_90 : decode cX9_notes 90 = .ok (.iaload, 1) := dk_46 (dk_at dksX9_notes_3 19 rfl rfl)
theorem dX9_notes_91 : decode cX9_notes 91 = .ok (.iconst 1, 1) := dk_4 (dk_at dksX9_notes_3 20 rfl rfl)
theorem dX9_notes_92 : decode cX9_notes 92 = .ok (.iadd, 1) := dk_96 (dk_at dksX9_notes_3 21 rfl rfl)
theorem dX9_notes_93 : decode cX9_notes 93 = .ok (.invokestatic 152, 3) := dk_184 0 152 (dk_at dksX9_notes_4 0 rfl rfl)
theorem dX9_notes_96 : decode cX9_notes 96 = .ok (.iastore, 1) := dk_79 (dk_at dksX9_notes_4 3 rfl rfl)
theorem dX9_notes_97 : decode cX9_notes 97 = .ok (.return_, 1) := dk_177 (dk_at dksX9_notes_4 4 rfl rfl)
abbrev cX9_day : ByteArray := prog_23_method_57_code
def yX9_day : MethodName := ⟨RX9, "day", "(I)I"⟩
def dkwX9_day_0 : List UInt8 := [42, 182, 0, 82, 42, 42, 27, 182, 0, 192, 182, 0, 88, 172]
abbrev dktX9_day_0 : List UInt8 := dkwX9_day_0 ++ []
theorem dksX9_day_0 : cX9_day.data.toList.drop 0 = dktX9_day_0 := by decide +kernel
theorem dX9_day_0 : decode cX9_day 0 = .ok (.aload_n 0, 1) := dk_42 (dk_at dksX9_day_0 0 rfl rfl)
theorem dX9_day_1 : decode cX9_day 1 = .ok (.invokevirtual 82, 3) := dk_182 0 82 (dk_at dksX9_day_0 1 rfl rfl)
theorem dX9_day_4 : decode cX9_day 4 = .ok (.aload_n 0, 1) := dk_42 (dk_at dksX9_day_0 4 rfl rfl)
theorem dX9_day_5 : decode cX9_day 5 = .ok (.aload_n 0, 1) := dk_42 (dk_at dksX9_day_0 5 rfl rfl)
theorem dX9_day_6 : decode cX9_day 6 = .ok (.iload_n 1, 1) := dk_27 (dk_at dksX9_day_0 6 rfl rfl)
theorem dX9_day_7 : decode cX9_day 7 = .ok (.invokevirtual 192, 3) := dk_182 0 192 (dk_at dksX9_day_0 7 rfl rfl)
theorem dX9_day_10 : decode cX9_day 10 = .ok (.invokevirtual 88, 3) := dk_182 0 88 (dk_at dksX9_day_0 10 rfl rfl)
theorem dX9_day_13 : decode cX9_day 13 = .ok (.ireturn, 1) := dk_172 (dk_at dksX9_day_0 13 rfl rfl)
abbrev cX9_passes : ByteArray := prog_23_method_56_code
def yX9_passes : MethodName := ⟨RX9, "passes", "(I)I"⟩
def dkwX9_passes_1 : List UInt8 := [162, 0, 16, 28, 42, 182, 0, 188, 96, 61, 132, 3, 1, 167, 255, 241, 28, 172]
abbrev dktX9_passes_1 : List UInt8 := dkwX9_passes_1 ++ []
def dkwX9_passes_0 : List UInt8 := [27, 4, 16, 20, 184, 0, 74, 154, 0, 10, 42, 16, 254, 182, 0, 56, 172, 3, 61, 3, 62, 29, 27]
abbrev dktX9_passes_0 : List UInt8 := dkwX9_passes_0 ++ dktX9_passes_1
theorem dksX9_passes_0 : cX9_passes.data.toList.drop 0 = dktX9_passes_0 := by decide +kernel
theorem dksX9_passes_1 : cX9_passes.data.toList.drop 23 = dktX9_passes_1 := dk_seg dksX9_passes_0 23 rfl rfl
theorem dX9_passes_0 : decode cX9_passes 0 = .ok (.iload_n 1, 1) := dk_27 (dk_at dksX9_passes_0 0 rfl rfl)
theorem dX9_passes_1 : decode cX9_passes 1 = .ok (.iconst 1, 1) := dk_4 (dk_at dksX9_passes_0 1 rfl rfl)
theorem dX9_passes_2 : decode cX9_passes 2 = .ok (.bipush 20, 2) := dk_16 20 (dk_at dksX9_passes_0 2 rfl rfl)
theorem dX9_passes_4 : decode cX9_passes 4 = .ok (.invokestatic 74, 3) := dk_184 0 74 (dk_at dksX9_passes_0 4 rfl rfl)
theorem dX9_passes_7 : decode cX9_passes 7 = .ok (.ifCond .ne 10, 3) := dk_154 0 10 (dk_at dksX9_passes_0 7 rfl rfl)
theorem dX9_passes_10 : decode cX9_passes 10 = .ok (.aload_n 0, 1) := dk_42 (dk_at dksX9_passes_0 10 rfl rfl)
theorem dX9_passes_11 : decode cX9_passes 11 = .ok (.bipush (-2), 2) := dk_16 254 (dk_at dksX9_passes_0 11 rfl rfl)
theorem dX9_passes_13 : decode cX9_passes 13 = .ok (.invokevirtual 56, 3) := dk_182 0 56 (dk_at dksX9_passes_0 13 rfl rfl)
theorem dX9_passes_16 : decode cX9_passes 16 = .ok (.ireturn, 1) := dk_172 (dk_at dksX9_passes_0 16 rfl rfl)
theorem dX9_passes_17 : decode cX9_passes 17 = .ok (.iconst 0, 1) := dk_3 (dk_at dksX9_passes_0 17 rfl rfl)
theorem dX9_passes_18 : decode cX9_passes 18 = .ok (.istore_n 2, 1) := dk_61 (dk_at dksX9_passes_0 18 rfl rfl)
theorem dX9_passes_19 : decode cX9_passes 19 = .ok (.iconst 0, 1) := dk_3 (dk_at dksX9_passes_0 19 rfl rfl)
theorem dX9_passes_20 : decode cX9_passes 20 = .ok (.istore_n 3, 1) := dk_62 (dk_at dksX9_passes_0 20 rfl rfl)
theorem dX9_passes_21 : decode cX9_passes 21 = .ok (.iload_n 3, 1) := dk_29 (dk_at dksX9_passes_0 21 rfl rfl)
theorem dX9_passes_22 : decode cX9_passes 22 = .ok (.iload_n 1, 1) := dk_27 (dk_at dksX9_passes_0 22 rfl rfl)
theorem dX9_passes_23 : decode cX9_passes 23 = .ok (.if_icmp .ge 16, 3) := dk_162 0 16 (dk_at dksX9_passes_1 0 rfl rfl)
theorem dX9_passes_26 : decode cX9_passes 26 = .ok (.iload_n 2, 1) := dk_28 (dk_at dksX9_passes_1 3 rfl rfl)
theorem dX9_passes_27 : decode cX9_passes 27 = .ok (.aload_n 0, 1) := dk_42 (dk_at dksX9_passes_1 4 rfl rfl)
theorem dX9_passes_28 : decode cX9_passes 28 = .ok (.invokevirtual 188, 3) := dk_182 0 188 (dk_at dksX9_passes_1 5 rfl rfl)
theorem dX9_passes_31 : decode cX9_passes 31 = .ok (.iadd, 1) := dk_96 (dk_at dksX9_passes_1 8 rfl rfl)
theorem dX9_passes_32 : decode cX9_passes 32 = .ok (.istore_n 2, 1) := dk_61 (dk_at dksX9_passes_1 9 rfl rfl)
theorem dX9_passes_33 : decode cX9_passes 33 = .ok (.iinc 3 1, 3) := dk_132 3 1 (dk_at dksX9_passes_1 10 rfl rfl)
theorem dX9_passes_36 : decode cX9_passes 36 = .ok (.goto (-15), 3) := dk_167 255 241 (dk_at dksX9_passes_1 13 rfl rfl)
theorem dX9_passes_39 : decode cX9_passes 39 = .ok (.iload_n 2, 1) := dk_28 (dk_at dksX9_passes_1 16 rfl rfl)
theorem dX9_passes_40 : decode cX9_passes 40 = .ok (.ireturn, 1) := dk_172 (dk_at dksX9_passes_1 17 rfl rfl)
abbrev cX9_bell : ByteArray := prog_23_method_55_code
def yX9_bell : MethodName := ⟨RX9, "bell", "()I"⟩
def dkwX9_bell_8 : List UInt8 := [172]
abbrev dktX9_bell_8 : List UInt8 := dkwX9_bell_8 ++ []
def dkwX9_bell_7 : List UInt8 := [4, 46, 6, 161, 0, 7, 8, 167, 0, 4, 6, 96, 79, 42, 180, 0, 13, 3, 92, 46, 4, 96, 79, 27]
abbrev dktX9_bell_7 : List UInt8 := dkwX9_bell_7 ++ dktX9_bell_8
def dkwX9_bell_6 : List UInt8 := [184, 0, 91, 16, 6, 79, 132, 2, 1, 167, 255, 231, 42, 180, 0, 13, 16, 10, 92, 46, 42, 180, 0, 13]
abbrev dktX9_bell_6 : List UInt8 := dkwX9_bell_6 ++ dktX9_bell_7
def dkwX9_bell_5 : List UInt8 := [132, 2, 1, 167, 255, 214, 3, 61, 28, 42, 180, 0, 13, 5, 46, 162, 0, 21, 42, 180, 0, 13, 28, 4]
abbrev dktX9_bell_5 : List UInt8 := dkwX9_bell_5 ++ dktX9_bell_6
def dkwX9_bell_4 : List UInt8 := [184, 0, 94, 46, 154, 0, 19, 27, 42, 28, 182, 0, 185, 153, 0, 7, 4, 167, 0, 4, 3, 96, 60]
abbrev dktX9_bell_4 : List UInt8 := dkwX9_bell_4 ++ dktX9_bell_5
def dkwX9_bell_3 : List UInt8 := [132, 2, 1, 167, 255, 204, 3, 61, 28, 42, 180, 0, 13, 6, 46, 162, 0, 38, 42, 180, 0, 13, 28, 4]
abbrev dktX9_bell_3 : List UInt8 := dkwX9_bell_3 ++ dktX9_bell_4
def dkwX9_bell_2 : List UInt8 := [180, 0, 13, 16, 72, 28, 96, 46, 42, 180, 0, 13, 16, 12, 28, 96, 46, 5, 108, 96, 184, 0, 152, 79]
abbrev dktX9_bell_2 : List UInt8 := dkwX9_bell_2 ++ dktX9_bell_3
def dkwX9_bell_1 : List UInt8 := [16, 30, 162, 0, 52, 42, 28, 182, 0, 97, 154, 0, 38, 42, 180, 0, 13, 16, 72, 28, 96, 16, 9, 42]
abbrev dktX9_bell_1 : List UInt8 := dkwX9_bell_1 ++ dktX9_bell_2
def dkwX9_bell_0 : List UInt8 := [3, 60, 3, 61, 28, 16, 30, 162, 0, 14, 42, 28, 182, 0, 182, 132, 2, 1, 167, 255, 242, 3, 61, 28]
abbrev dktX9_bell_0 : List UInt8 := dkwX9_bell_0 ++ dktX9_bell_1
theorem dksX9_bell_0 : cX9_bell.data.toList.drop 0 = dktX9_bell_0 := by decide +kernel
theorem dksX9_bell_1 : cX9_bell.data.toList.drop 24 = dktX9_bell_1 := dk_seg dksX9_bell_0 24 rfl rfl
theorem dksX9_bell_2 : cX9_bell.data.toList.drop 48 = dktX9_bell_2 := dk_seg dksX9_bell_1 24 rfl rfl
theorem dksX9_bell_3 : cX9_bell.data.toList.drop 72 = dktX9_bell_3 := dk_seg dksX9_bell_2 24 rfl rfl
theorem dksX9_bell_4 : cX9_bell.data.toList.drop 96 = dktX9_bell_4 := dk_seg dksX9_bell_3 24 rfl rfl
theorem dksX9_bell_5 : cX9_bell.data.toList.drop 119 = dktX9_bell_5 := dk_seg dksX9_bell_4 23 rfl rfl
theorem dksX9_bell_6 : cX9_bell.data.toList.drop 143 = dktX9_bell_6 := dk_seg dksX9_bell_5 24 rfl rfl
theorem dksX9_bell_7 : cX9_bell.data.toList.drop 167 = dktX9_bell_7 := dk_seg dksX9_bell_6 24 rfl rfl
theorem dksX9_bell_8 : cX9_bell.data.toList.drop 191 = dktX9_bell_8 := dk_seg dksX9_bell_7 24 rfl rfl
theorem dX9_bell_0 : decode cX9_bell 0 = .ok (.iconst 0, 1) := dk_3 (dk_at dksX9_bell_0 0 rfl rfl)
theorem dX9_bell_1 : decode cX9_bell 1 = .ok (.istore_n 1, 1) := dk_60 (dk_at dksX9_bell_0 1 rfl rfl)
theorem dX9_bell_2 : decode cX9_bell 2 = .ok (.iconst 0, 1) := dk_3 (dk_at dksX9_bell_0 2 rfl rfl)
theorem dX9_bell_3 : decode cX9_bell 3 = .ok (.istore_n 2, 1) := dk_61 (dk_at dksX9_bell_0 3 rfl rfl)
theorem dX9_bell_4 : decode cX9_bell 4 = .ok (.iload_n 2, 1) := dk_28 (dk_at dksX9_bell_0 4 rfl rfl)
theorem dX9_bell_5 : decode cX9_bell 5 = .ok (.bipush 30, 2) := dk_16 30 (dk_at dksX9_bell_0 5 rfl rfl)
theorem dX9_bell_7 : decode cX9_bell 7 = .ok (.if_icmp .ge 14, 3) := dk_162 0 14 (dk_at dksX9_bell_0 7 rfl rfl)
theorem dX9_bell_10 : decode cX9_bell 10 = .ok (.aload_n 0, 1) := dk_42 (dk_at dksX9_bell_0 10 rfl rfl)
theorem dX9_bell_11 : decode cX9_bell 11 = .ok (.iload_n 2, 1) := dk_28 (dk_at dksX9_bell_0 11 rfl rfl)
theorem dX9_bell_12 : decode cX9_bell 12 = .ok (.invokevirtual 182, 3) := dk_182 0 182 (dk_at dksX9_bell_0 12 rfl rfl)
theorem dX9_bell_15 : decode cX9_bell 15 = .ok (.iinc 2 1, 3) := dk_132 2 1 (dk_at dksX9_bell_0 15 rfl rfl)
theorem dX9_bell_18 : decode cX9_bell 18 = .ok (.goto (-14), 3) := dk_167 255 242 (dk_at dksX9_bell_0 18 rfl rfl)
theorem dX9_bell_21 : decode cX9_bell 21 = .ok (.iconst 0, 1) := dk_3 (dk_at dksX9_bell_0 21 rfl rfl)
theorem dX9_bell_22 : decode cX9_bell 22 = .ok (.istore_n 2, 1) := dk_61 (dk_at dksX9_bell_0 22 rfl rfl)
theorem dX9_bell_23 : decode cX9_bell 23 = .ok (.iload_n 2, 1) := dk_28 (dk_at dksX9_bell_0 23 rfl rfl)
theorem dX9_bell_24 : decode cX9_bell 24 = .ok (.bipush 30, 2) := dk_16 30 (dk_at dksX9_bell_1 0 rfl rfl)
theorem dX9_bell_26 : decode cX9_bell 26 = .ok (.if_icmp .ge 52, 3) := dk_162 0 52 (dk_at dksX9_bell_1 2 rfl rfl)
theorem dX9_bell_29 : decode cX9_bell 29 = .ok (.aload_n 0, 1) := dk_42 (dk_at dksX9_bell_1 5 rfl rfl)
theorem dX9_bell_30 : decode cX9_bell 30 = .ok (.iload_n 2, 1) := dk_28 (dk_at dksX9_bell_1 6 rfl rfl)
theorem dX9_bell_31 : decode cX9_bell 31 = .ok (.invokevirtual 97, 3) := dk_182 0 97 (dk_at dksX9_bell_1 7 rfl rfl)
theorem dX9_bell_34 : decode cX9_bell 34 = .ok (.ifCond .ne 38, 3) := dk_154 0 38 (dk_at dksX9_bell_1 10 rfl rfl)
theorem dX9_bell_37 : decode cX9_bell 37 = .ok (.aload_n 0, 1) := dk_42 (dk_at dksX9_bell_1 13 rfl rfl)
theorem dX9_bell_38 : decode cX9_bell 38 = .ok (.getfield 13, 3) := dk_180 0 13 (dk_at dksX9_bell_1 14 rfl rfl)
theorem dX9_bell_41 : decode cX9_bell 41 = .ok (.bipush 72, 2) := dk_16 72 (dk_at dksX9_bell_1 17 rfl rfl)
theorem dX9_bell_43 : decode cX9_bell 43 = .ok (.iload_n 2, 1) := dk_28 (dk_at dksX9_bell_1 19 rfl rfl)
theorem dX9_bell_44 : decode cX9_bell 44 = .ok (.iadd, 1) := dk_96 (dk_at dksX9_bell_1 20 rfl rfl)
theorem dX9_bell_45 : decode cX9_bell 45 = .ok (.bipush 9, 2) := dk_16 9 (dk_at dksX9_bell_1 21 rfl rfl)
theorem dX9_bell_47 : decode cX9_bell 47 = .ok (.aload_n 0, 1) := dk_42 (dk_at dksX9_bell_1 23 rfl rfl)
theorem dX9_bell_48 : decode cX9_bell 48 = .ok (.getfield 13, 3) := dk_180 0 13 (dk_at dksX9_bell_2 0 rfl rfl)
theorem dX9_bell_51 : decode cX9_bell 51 = .ok (.bipush 72, 2) := dk_16 72 (dk_at dksX9_bell_2 3 rfl rfl)
theorem dX9_bell_53 : decode cX9_bell 53 = .ok (.iload_n 2, 1) := dk_28 (dk_at dksX9_bell_2 5 rfl rfl)
theorem dX9_bell_54 : decode cX9_bell 54 = .ok (.iadd, 1) := dk_96 (dk_at dksX9_bell_2 6 rfl rfl)
theorem dX9_bell_55 : decode cX9_bell 55 = .ok (.iaload, 1) := dk_46 (dk_at dksX9_bell_2 7 rfl rfl)
theorem dX9_bell_56 : decode cX9_bell 56 = .ok (.aload_n 0, 1) := dk_42 (dk_at dksX9_bell_2 8 rfl rfl)
theorem dX9_bell_57 : decode cX9_bell 57 = .ok (.getfield 13, 3) := dk_180 0 13 (dk_at dksX9_bell_2 9 rfl rfl)
theorem dX9_bell_60 : decode cX9_bell 60 = .ok (.bipush 12, 2) := dk_16 12 (dk_at dksX9_bell_2 12 rfl rfl)
theorem dX9_bell_62 : decode cX9_bell 62 = .ok (.iload_n 2, 1) := dk_28 (dk_at dksX9_bell_2 14 rfl rfl)
theorem dX9_bell_63 : decode cX9_bell 63 = .ok (.iadd, 1) := dk_96 (dk_at dksX9_bell_2 15 rfl rfl)
theorem dX9_bell_64 : decode cX9_bell 64 = .ok (.iaload, 1) := dk_46 (dk_at dksX9_bell_2 16 rfl rfl)
theorem dX9_bell_65 : decode cX9_bell 65 = .ok (.iconst 2, 1) := dk_5 (dk_at dksX9_bell_2 17 rfl rfl)
theorem dX9_bell_66 : decode cX9_bell 66 = .ok (.idiv, 1) := dk_108 (dk_at dksX9_bell_2 18 rfl rfl)
theorem dX9_bell_67 : decode cX9_bell 67 = .ok (.iadd, 1) := dk_96 (dk_at dksX9_bell_2 19 rfl rfl)
theorem dX9_bell_68 : decode cX9_bell 68 = .ok (.invokestatic 152, 3) := dk_184 0 152 (dk_at dksX9_bell_2 20 rfl rfl)
theorem dX9_bell_71 : decode cX9_bell 71 = .ok (.iastore, 1) := dk_79 (dk_at dksX9_bell_2 23 rfl rfl)
theorem dX9_bell_72 : decode cX9_bell 72 = .ok (.iinc 2 1, 3) := dk_132 2 1 (dk_at dksX9_bell_3 0 rfl rfl)
theorem dX9_bell_75 : decode cX9_bell 75 = .ok (.goto (-52), 3) := dk_167 255 204 (dk_at dksX9_bell_3 3 rfl rfl)
theorem dX9_bell_78 : decode cX9_bell 78 = .ok (.iconst 0, 1) := dk_3 (dk_at dksX9_bell_3 6 rfl rfl)
theorem dX9_bell_79 : decode cX9_bell 79 = .ok (.istore_n 2, 1) := dk_61 (dk_at dksX9_bell_3 7 rfl rfl)
theorem dX9_bell_80 : decode cX9_bell 80 = .ok (.iload_n 2, 1) := dk_28 (dk_at dksX9_bell_3 8 rfl rfl)
theorem dX9_bell_81 : decode cX9_bell 81 = .ok (.aload_n 0, 1) := dk_42 (dk_at dksX9_bell_3 9 rfl rfl)
theorem dX9_bell_82 : decode cX9_bell 82 = .ok (.getfield 13, 3) := dk_180 0 13 (dk_at dksX9_bell_3 10 rfl rfl)
theorem dX9_bell_85 : decode cX9_bell 85 = .ok (.iconst 3, 1) := dk_6 (dk_at dksX9_bell_3 13 rfl rfl)
theorem dX9_bell_86 : decode cX9_bell 86 = .ok (.iaload, 1) := dk_46 (dk_at dksX9_bell_3 14 rfl rfl)
theorem dX9_bell_87 : decode cX9_bell 87 = .ok (.if_icmp .ge 38, 3) := dk_162 0 38 (dk_at dksX9_bell_3 15 rfl rfl)
theorem dX9_bell_90 : decode cX9_bell 90 = .ok (.aload_n 0, 1) := dk_42 (dk_at dksX9_bell_3 18 rfl rfl)
theorem dX9_bell_91 : decode cX9_bell 91 = .ok (.getfield 13, 3) := dk_180 0 13 (dk_at dksX9_bell_3 19 rfl rfl)
theorem dX9_bell_94 : decode cX9_bell 94 = .ok (.iload_n 2, 1) := dk_28 (dk_at dksX9_bell_3 22 rfl rfl)
theorem dX9_bell_95 : decode cX9_bell 95 = .ok (.iconst 1, 1) := dk_4 (dk_at dksX9_bell_3 23 rfl rfl)
theorem dX9_bell_96 : decode cX9_bell 96 = .ok (.invokestatic 94, 3) := dk_184 0 94 (dk_at dksX9_bell_4 0 rfl rfl)
theorem dX9_bell_99 : decode cX9_bell 99 = .ok (.iaload, 1) := dk_46 (dk_at dksX9_bell_4 3 rfl rfl)
theorem dX9_bell_100 : decode cX9_bell 100 = .ok (.ifCond .ne 19, 3) := dk_154 0 19 (dk_at dksX9_bell_4 4 rfl rfl)
theorem dX9_bell_103 : decode cX9_bell 103 = .ok (.iload_n 1, 1) := dk_27 (dk_at dksX9_bell_4 7 rfl rfl)
theorem dX9_bell_104 : decode cX9_bell 104 = .ok (.aload_n 0, 1) := dk_42 (dk_at dksX9_bell_4 8 rfl rfl)
theorem dX9_bell_105 : decode cX9_bell 105 = .ok (.iload_n 2, 1) := dk_28 (dk_at dksX9_bell_4 9 rfl rfl)
theorem dX9_bell_106 : decode cX9_bell 106 = .ok (.invokevirtual 185, 3) := dk_182 0 185 (dk_at dksX9_bell_4 10 rfl rfl)
theorem dX9_bell_109 : decode cX9_bell 109 = .ok (.ifCond .eq 7, 3) := dk_153 0 7 (dk_at dksX9_bell_4 13 rfl rfl)
theorem dX9_bell_112 : decode cX9_bell 112 = .ok (.iconst 1, 1) := dk_4 (dk_at dksX9_bell_4 16 rfl rfl)
theorem dX9_bell_113 : decode cX9_bell 113 = .ok (.goto 4, 3) := dk_167 0 4 (dk_at dksX9_bell_4 17 rfl rfl)
theorem dX9_bell_116 : decode cX9_bell 116 = .ok (.iconst 0, 1) := dk_3 (dk_at dksX9_bell_4 20 rfl rfl)
theorem dX9_bell_117 : decode cX9_bell 117 = .ok (.iadd, 1) := dk_96 (dk_at dksX9_bell_4 21 rfl rfl)
theorem dX9_bell_118 : decode cX9_bell 118 = .ok (.istore_n 1, 1) := dk_60 (dk_at dksX9_bell_4 22 rfl rfl)
theorem dX9_bell_119 : decode cX9_bell 119 = .ok (.iinc 2 1, 3) := dk_132 2 1 (dk_at dksX9_bell_5 0 rfl rfl)
theorem dX9_bell_122 : decode cX9_bell 122 = .ok (.goto (-42), 3) := dk_167 255 214 (dk_at dksX9_bell_5 3 rfl rfl)
theorem dX9_bell_125 : decode cX9_bell 125 = .ok (.iconst 0, 1) := dk_3 (dk_at dksX9_bell_5 6 rfl rfl)
theorem dX9_bell_126 : decode cX9_bell 126 = .ok (.istore_n 2, 1) := dk_61 (dk_at dksX9_bell_5 7 rfl rfl)
theorem dX9_bell_127 : decode cX9_bell 127 = .ok (.iload_n 2, 1) := dk_28 (dk_at dksX9_bell_5 8 rfl rfl)
theorem dX9_bell_128 : decode cX9_bell 128 = .ok (.aload_n 0, 1) := dk_42 (dk_at dksX9_bell_5 9 rfl rfl)
theorem dX9_bell_129 : decode cX9_bell 129 = .ok (.getfield 13, 3) := dk_180 0 13 (dk_at dksX9_bell_5 10 rfl rfl)
theorem dX9_bell_132 : decode cX9_bell 132 = .ok (.iconst 2, 1) := dk_5 (dk_at dksX9_bell_5 13 rfl rfl)
theorem dX9_bell_133 : decode cX9_bell 133 = .ok (.iaload, 1) := dk_46 (dk_at dksX9_bell_5 14 rfl rfl)
theorem dX9_bell_134 : decode cX9_bell 134 = .ok (.if_icmp .ge 21, 3) := dk_162 0 21 (dk_at dksX9_bell_5 15 rfl rfl)
theorem dX9_bell_137 : decode cX9_bell 137 = .ok (.aload_n 0, 1) := dk_42 (dk_at dksX9_bell_5 18 rfl rfl)
theorem dX9_bell_138 : decode cX9_bell 138 = .ok (.getfield 13, 3) := dk_180 0 13 (dk_at dksX9_bell_5 19 rfl rfl)
theorem dX9_bell_141 : decode cX9_bell 141 = .ok (.iload_n 2, 1) := dk_28 (dk_at dksX9_bell_5 22 rfl rfl)
theorem dX9_bell_142 : decode cX9_bell 142 = .ok (.iconst 1, 1) := dk_4 (dk_at dksX9_bell_5 23 rfl rfl)
theorem dX9_bell_143 : decode cX9_bell 143 = .ok (.invokestatic 91, 3) := dk_184 0 91 (dk_at dksX9_bell_6 0 rfl rfl)
theorem dX9_bell_146 : decode cX9_bell 146 = .ok (.bipush 6, 2) := dk_16 6 (dk_at dksX9_bell_6 3 rfl rfl)
theorem dX9_bell_148 : decode cX9_bell 148 = .ok (.iastore, 1) := dk_79 (dk_at dksX9_bell_6 5 rfl rfl)
theorem dX9_bell_149 : decode cX9_bell 149 = .ok (.iinc 2 1, 3) := dk_132 2 1 (dk_at dksX9_bell_6 6 rfl rfl)
theorem dX9_bell_152 : decode cX9_bell 152 = .ok (.goto (-25), 3) := dk_167 255 231 (dk_at dksX9_bell_6 9 rfl rfl)
theorem dX9_bell_155 : decode cX9_bell 155 = .ok (.aload_n 0, 1) := dk_42 (dk_at dksX9_bell_6 12 rfl rfl)
theorem dX9_bell_156 : decode cX9_bell 156 = .ok (.getfield 13, 3) := dk_180 0 13 (dk_at dksX9_bell_6 13 rfl rfl)
theorem dX9_bell_159 : decode cX9_bell 159 = .ok (.bipush 10, 2) := dk_16 10 (dk_at dksX9_bell_6 16 rfl rfl)
theorem dX9_bell_161 : decode cX9_bell 161 = .ok (.dup2, 1) := dk_92 (dk_at dksX9_bell_6 18 rfl rfl)
theorem dX9_bell_162 : decode cX9_bell 162 = .ok (.iaload, 1) := dk_46 (dk_at dksX9_bell_6 19 rfl rfl)
theorem dX9_bell_163 : decode cX9_bell 163 = .ok (.aload_n 0, 1) := dk_42 (dk_at dksX9_bell_6 20 rfl rfl)
theorem dX9_bell_164 : decode cX9_bell 164 = .ok (.getfield 13, 3) := dk_180 0 13 (dk_at dksX9_bell_6 21 rfl rfl)
theorem dX9_bell_167 : decode cX9_bell 167 = .ok (.iconst 1, 1) := dk_4 (dk_at dksX9_bell_7 0 rfl rfl)
theorem dX9_bell_168 : decode cX9_bell 168 = .ok (.iaload, 1) := dk_46 (dk_at dksX9_bell_7 1 rfl rfl)
theorem dX9_bell_169 : decode cX9_bell 169 = .ok (.iconst 3, 1) := dk_6 (dk_at dksX9_bell_7 2 rfl rfl)
theorem dX9_bell_170 : decode cX9_bell 170 = .ok (.if_icmp .lt 7, 3) := dk_161 0 7 (dk_at dksX9_bell_7 3 rfl rfl)
theorem dX9_bell_173 : decode cX9_bell 173 = .ok (.iconst 5, 1) := dk_8 (dk_at dksX9_bell_7 6 rfl rfl)
theorem dX9_bell_174 : decode cX9_bell 174 = .ok (.goto 4, 3) := dk_167 0 4 (dk_at dksX9_bell_7 7 rfl rfl)
theorem dX9_bell_177 : decode cX9_bell 177 = .ok (.iconst 3, 1) := dk_6 (dk_at dksX9_bell_7 10 rfl rfl)
theorem dX9_bell_178 : decode cX9_bell 178 = .ok (.iadd, 1) := dk_96 (dk_at dksX9_bell_7 11 rfl rfl)
theorem dX9_bell_179 : decode cX9_bell 179 = .ok (.iastore, 1) := dk_79 (dk_at dksX9_bell_7 12 rfl rfl)
theorem dX9_bell_180 : decode cX9_bell 180 = .ok (.aload_n 0, 1) := dk_42 (dk_at dksX9_bell_7 13 rfl rfl)
theorem dX9_bell_181 : decode cX9_bell 181 = .ok (.getfield 13, 3) := dk_180 0 13 (dk_at dksX9_bell_7 14 rfl rfl)
theorem dX9_bell_184 : decode cX9_bell 184 = .ok (.iconst 0, 1) := dk_3 (dk_at dksX9_bell_7 17 rfl rfl)
theorem dX9_bell_185 : decode cX9_bell 185 = .ok (.dup2, 1) := dk_92 (dk_at dksX9_bell_7 18 rfl rfl)
theorem dX9_bell_186 : decode cX9_bell 186 = .ok (.iaload, 1) := dk_46 (dk_at dksX9_bell_7 19 rfl rfl)
theorem dX9_bell_187 : decode cX9_bell 187 = .ok (.iconst 1, 1) := dk_4 (dk_at dksX9_bell_7 20 rfl rfl)
theorem dX9_bell_188 : decode cX9_bell 188 = .ok (.iadd, 1) := dk_96 (dk_at dksX9_bell_7 21 rfl rfl)
theorem dX9_bell_189 : decode cX9_bell 189 = .ok (.iastore, 1) := dk_79 (dk_at dksX9_bell_7 22 rfl rfl)
theorem dX9_bell_190 : decode cX9_bell 190 = .ok (.iload_n 1, 1) := dk_27 (dk_at dksX9_bell_7 23 rfl rfl)
theorem dX9_bell_191 : decode cX9_bell 191 = .ok (.ireturn, 1) := dk_172 (dk_at dksX9_bell_8 0 rfl rfl)
abbrev cX9_grows : ByteArray := prog_23_method_52_code
def yX9_grows : MethodName := ⟨RX9, "grows", "(I)V"⟩
def dkwX9_grows_5 : List UInt8 := [42, 180, 0, 13, 8, 92, 46, 21, 4, 96, 79, 177]
abbrev dktX9_grows_5 : List UInt8 := dkwX9_grows_5 ++ []
def dkwX9_grows_4 : List UInt8 := [5, 167, 0, 4, 4, 184, 0, 152, 54, 4, 42, 180, 0, 13, 16, 42, 27, 96, 92, 46, 21, 4, 96, 79]
abbrev dktX9_grows_4 : List UInt8 := dkwX9_grows_4 ++ dktX9_grows_5
def dkwX9_grows_3 : List UInt8 := [29, 154, 0, 14, 42, 180, 0, 13, 4, 46, 6, 162, 0, 4, 177, 16, 20, 28, 100, 29, 6, 161, 0, 7]
abbrev dktX9_grows_3 : List UInt8 := dkwX9_grows_3 ++ dktX9_grows_4
def dkwX9_grows_2 : List UInt8 := [4, 100, 79, 42, 180, 0, 13, 16, 6, 92, 46, 4, 96, 79, 177, 42, 180, 0, 13, 4, 46, 153, 0, 17]
abbrev dktX9_grows_2 : List UInt8 := dkwX9_grows_2 ++ dktX9_grows_3
def dkwX9_grows_1 : List UInt8 := [177, 42, 180, 0, 13, 16, 72, 27, 96, 46, 6, 161, 0, 28, 42, 180, 0, 13, 16, 42, 27, 96, 92, 46]
abbrev dktX9_grows_1 : List UInt8 := dkwX9_grows_1 ++ dktX9_grows_2
def dkwX9_grows_0 : List UInt8 := [42, 180, 0, 13, 16, 42, 27, 96, 46, 61, 42, 180, 0, 13, 16, 12, 27, 96, 46, 62, 28, 154, 0, 4]
abbrev dktX9_grows_0 : List UInt8 := dkwX9_grows_0 ++ dktX9_grows_1
theorem dksX9_grows_0 : cX9_grows.data.toList.drop 0 = dktX9_grows_0 := by decide +kernel
theorem dksX9_grows_1 : cX9_grows.data.toList.drop 24 = dktX9_grows_1 := dk_seg dksX9_grows_0 24 rfl rfl
theorem dksX9_grows_2 : cX9_grows.data.toList.drop 48 = dktX9_grows_2 := dk_seg dksX9_grows_1 24 rfl rfl
theorem dksX9_grows_3 : cX9_grows.data.toList.drop 72 = dktX9_grows_3 := dk_seg dksX9_grows_2 24 rfl rfl
theorem dksX9_grows_4 : cX9_grows.data.toList.drop 96 = dktX9_grows_4 := dk_seg dksX9_grows_3 24 rfl rfl
theorem dksX9_grows_5 : cX9_grows.data.toList.drop 120 = dktX9_grows_5 := dk_seg dksX9_grows_4 24 rfl rfl
theorem dX9_grows_0 : decode cX9_grows 0 = .ok (.aload_n 0, 1) := dk_42 (dk_at dksX9_grows_0 0 rfl rfl)
theorem dX9_grows_1 : decode cX9_grows 1 = .ok (.getfield 13, 3) := dk_180 0 13 (dk_at dksX9_grows_0 1 rfl rfl)
theorem dX9_grows_4 : decode cX9_grows 4 = .ok (.bipush 42, 2) := dk_16 42 (dk_at dksX9_grows_0 4 rfl rfl)
theorem dX9_grows_6 : decode cX9_grows 6 = .ok (.iload_n 1, 1) := dk_27 (dk_at dksX9_grows_0 6 rfl rfl)
theorem dX9_grows_7 : decode cX9_grows 7 = .ok (.iadd, 1) := dk_96 (dk_at dksX9_grows_0 7 rfl rfl)
theorem dX9_grows_8 : decode cX9_grows 8 = .ok (.iaload, 1) := dk_46 (dk_at dksX9_grows_0 8 rfl rfl)
theorem dX9_grows_9 : decode cX9_grows 9 = .ok (.istore_n 2, 1) := dk_61 (dk_at dksX9_grows_0 9 rfl rfl)
theorem dX9_grows_10 : decode cX9_grows 10 = .ok (.aload_n 0, 1) := dk_42 (dk_at dksX9_grows_0 10 rfl rfl)
theorem dX9_grows_11 : decode cX9_grows 11 = .ok (.getfield 13, 3) := dk_180 0 13 (dk_at dksX9_grows_0 11 rfl rfl)
theorem dX9_grows_14 : decode cX9_grows 14 = .ok (.bipush 12, 2) := dk_16 12 (dk_at dksX9_grows_0 14 rfl rfl)
theorem dX9_grows_16 : decode cX9_grows 16 = .ok (.iload_n 1, 1) := dk_27 (dk_at dksX9_grows_0 16 rfl rfl)
theorem dX9_grows_17 : decode cX9_grows 17 = .ok (.iadd, 1) := dk_96 (dk_at dksX9_grows_0 17 rfl rfl)
theorem dX9_grows_18 : decode cX9_grows 18 = .ok (.iaload, 1) := dk_46 (dk_at dksX9_grows_0 18 rfl rfl)
theorem dX9_grows_19 : decode cX9_grows 19 = .ok (.istore_n 3, 1) := dk_62 (dk_at dksX9_grows_0 19 rfl rfl)
theorem dX9_grows_20 : decode cX9_grows 20 = .ok (.iload_n 2, 1) := dk_28 (dk_at dksX9_grows_0 20 rfl rfl)
theorem dX9_grows_21 : decode cX9_grows 21 = .ok (.ifCond .ne 4, 3) := dk_154 0 4 (dk_at dksX9_grows_0 21 rfl rfl)
theorem dX9_grows_24 : decode cX9_grows 24 = .ok (.return_, 1) := dk_177 (dk_at dksX9_grows_1 0 rfl rfl)
theorem dX9_grows_25 : decode cX9_grows 25 = .ok (.aload_n 0, 1) := dk_42 (dk_at dksX9_grows_1 1 rfl rfl)
theorem dX9_grows_26 : decode cX9_grows 26 = .ok (.getfield 13, 3) := dk_180 0 13 (dk_at dksX9_grows_1 2 rfl rfl)
theorem dX9_grows_29 : decode cX9_grows 29 = .ok (.bipush 72, 2) := dk_16 72 (dk_at dksX9_grows_1 5 rfl rfl)
theorem dX9_grows_31 : decode cX9_grows 31 = .ok (.iload_n 1, 1) := dk_27 (dk_at dksX9_grows_1 7 rfl rfl)
theorem dX9_grows_32 : decode cX9_grows 32 = .ok (.iadd, 1) := dk_96 (dk_at dksX9_grows_1 8 rfl rfl)
theorem dX9_grows_33 : decode cX9_grows 33 = .ok (.iaload, 1) := dk_46 (dk_at dksX9_grows_1 9 rfl rfl)
theorem dX9_grows_34 : decode cX9_grows 34 = .ok (.iconst 3, 1) := dk_6 (dk_at dksX9_grows_1 10 rfl rfl)
theorem dX9_grows_35 : decode cX9_grows 35 = .ok (.if_icmp .lt 28, 3) := dk_161 0 28 (dk_at dksX9_grows_1 11 rfl rfl)
theorem dX9_grows_38 : decode cX9_grows 38 = .ok (.aload_n 0, 1) := dk_42 (dk_at dksX9_grows_1 14 rfl rfl)
theorem dX9_grows_39 : decode cX9_grows 39 = .ok (.getfield 13, 3) := dk_180 0 13 (dk_at dksX9_grows_1 15 rfl rfl)
theorem dX9_grows_42 : decode cX9_grows 42 = .ok (.bipush 42, 2) := dk_16 42 (dk_at dksX9_grows_1 18 rfl rfl)
theorem dX9_grows_44 : decode cX9_grows 44 = .ok (.iload_n 1, 1) := dk_27 (dk_at dksX9_grows_1 20 rfl rfl)
theorem dX9_grows_45 : decode cX9_grows 45 = .ok (.iadd, 1) := dk_96 (dk_at dksX9_grows_1 21 rfl rfl)
theorem dX9_grows_46 : decode cX9_grows 46 = .ok (.dup2, 1) := dk_92 (dk_at dksX9_grows_1 22 rfl rfl)
theorem dX9_grows_47 : decode cX9_grows 47 = .ok (.iaload, 1) := dk_46 (dk_at dksX9_grows_1 23 rfl rfl)
theorem dX9_grows_48 : decode cX9_grows 48 = .ok (.iconst 1, 1) := dk_4 (dk_at dksX9_grows_2 0 rfl rfl)
theorem dX9_grows_49 : decode cX9_grows 49 = .ok (.isub, 1) := dk_100 (dk_at dksX9_grows_2 1 rfl rfl)
theorem dX9_grows_50 : decode cX9_grows 50 = .ok (.iastore, 1) := dk_79 (dk_at dksX9_grows_2 2 rfl rfl)
theorem dX9_grows_51 : decode cX9_grows 51 = .ok (.aload_n 0, 1) := dk_42 (dk_at dksX9_grows_2 3 rfl rfl)
theorem dX9_grows_52 : decode cX9_grows 52 = .ok (.getfield 13, 3) := dk_180 0 13 (dk_at dksX9_grows_2 4 rfl rfl)
theorem dX9_grows_55 : decode cX9_grows 55 = .ok (.bipush 6, 2) := dk_16 6 (dk_at dksX9_grows_2 7 rfl rfl)
theorem dX9_grows_57 : decode cX9_grows 57 = .ok (.dup2, 1) := dk_92 (dk_at dksX9_grows_2 9 rfl rfl)
theorem dX9_grows_58 : decode cX9_grows 58 = .ok (.iaload, 1) := dk_46 (dk_at dksX9_grows_2 10 rfl rfl)
theorem dX9_grows_59 : decode cX9_grows 59 = .ok (.iconst 1, 1) := dk_4 (dk_at dksX9_grows_2 11 rfl rfl)
theorem dX9_grows_60 : decode cX9_grows 60 = .ok (.iadd, 1) := dk_96 (dk_at dksX9_grows_2 12 rfl rfl)
theorem dX9_grows_61 : decode cX9_grows 61 = .ok (.iastore, 1) := dk_79 (dk_at dksX9_grows_2 13 rfl rfl)
theorem dX9_grows_62 : decode cX9_grows 62 = .ok (.return_, 1) := dk_177 (dk_at dksX9_grows_2 14 rfl rfl)
theorem dX9_grows_63 : decode cX9_grows 63 = .ok (.aload_n 0, 1) := dk_42 (dk_at dksX9_grows_2 15 rfl rfl)
theorem dX9_grows_64 : decode cX9_grows 64 = .ok (.getfield 13, 3) := dk_180 0 13 (dk_at dksX9_grows_2 16 rfl rfl)
theorem dX9_grows_67 : decode cX9_grows 67 = .ok (.iconst 1, 1) := dk_4 (dk_at dksX9_grows_2 19 rfl rfl)
theorem dX9_grows_68 : decode cX9_grows 68 = .ok (.iaload, 1) := dk_46 (dk_at dksX9_grows_2 20 rfl rfl)
theorem dX9_grows_69 : decode cX9_grows 69 = .ok (.ifCond .eq 17, 3) := dk_153 0 17 (dk_at dksX9_grows_2 21 rfl rfl)
theorem dX9_grows_72 : decode cX9_grows 72 = .ok (.iload_n 3, 1) := dk_29 (dk_at dksX9_grows_3 0 rfl rfl)
theorem dX9_grows_73 : decode cX9_grows 73 = .ok (.ifCond .ne 14, 3) := dk_154 0 14 (dk_at dksX9_grows_3 1 rfl rfl)
theorem dX9_grows_76 : decode cX9_grows 76 = .ok (.aload_n 0, 1) := dk_42 (dk_at dksX9_grows_3 4 rfl rfl)
theorem dX9_grows_77 : decode cX9_grows 77 = .ok (.getfield 13, 3) := dk_180 0 13 (dk_at dksX9_grows_3 5 rfl rfl)
theorem dX9_grows_80 : decode cX9_grows 80 = .ok (.iconst 1, 1) := dk_4 (dk_at dksX9_grows_3 8 rfl rfl)
theorem dX9_grows_81 : decode cX9_grows 81 = .ok (.iaload, 1) := dk_46 (dk_at dksX9_grows_3 9 rfl rfl)
theorem dX9_grows_82 : decode cX9_grows 82 = .ok (.iconst 3, 1) := dk_6 (dk_at dksX9_grows_3 10 rfl rfl)
theorem dX9_grows_83 : decode cX9_grows 83 = .ok (.if_icmp .ge 4, 3) := dk_162 0 4 (dk_at dksX9_grows_3 11 rfl rfl)
theorem dX9_grows_86 : decode cX9_grows 86 = .ok (.return_, 1) := dk_177 (dk_at dksX9_grows_3 14 rfl rfl)
theorem dX9_grows_87 : decode cX9_grows 87 = .ok (.bipush 20, 2) := dk_16 20 (dk_at dksX9_grows_3 15 rfl rfl)
theorem dX9_grows_89 : decode cX9_grows 89 = .ok (.iload_n 2, 1) := dk_28 (dk_at dksX9_grows_3 17 rfl rfl)
theorem dX9_grows_90 : decode cX9_grows 90 = .ok (.isub, 1) := dk_100 (dk_at dksX9_grows_3 18 rfl rfl)
theorem dX9_grows_91 : decode cX9_grows 91 = .ok (.iload_n 3, 1) := dk_29 (dk_at dksX9_grows_3 19 rfl rfl)
theorem dX9_grows_92 : decode cX9_grows 92 = .ok (.iconst 3, 1) := dk_6 (dk_at dksX9_grows_3 20 rfl rfl)
theorem dX9_grows_93 : decode cX9_grows 93 = .ok (.if_icmp .lt 7, 3) := dk_161 0 7 (dk_at dksX9_grows_3 21 rfl rfl)
theorem dX9_grows_96 : decode cX9_grows 96 = .ok (.iconst 2, 1) := dk_5 (dk_at dksX9_grows_4 0 rfl rfl)
theorem dX9_grows_97 : decode cX9_grows 97 = .ok (.goto 4, 3) := dk_167 0 4 (dk_at dksX9_grows_4 1 rfl rfl)
theorem dX9_grows_100 : decode cX9_grows 100 = .ok (.iconst 1, 1) := dk_4 (dk_at dksX9_grows_4 4 rfl rfl)
theorem dX9_grows_101 : decode cX9_grows 101 = .ok (.invokestatic 152, 3) := dk_184 0 152 (dk_at dksX9_grows_4 5 rfl rfl)
theorem dX9_grows_104 : decode cX9_grows 104 = .ok (.istore 4, 2) := dk_54 4 (dk_at dksX9_grows_4 8 rfl rfl)
theorem dX9_grows_106 : decode cX9_grows 106 = .ok (.aload_n 0, 1) := dk_42 (dk_at dksX9_grows_4 10 rfl rfl)
theorem dX9_grows_107 : decode cX9_grows 107 = .ok (.getfield 13, 3) := dk_180 0 13 (dk_at dksX9_grows_4 11 rfl rfl)
theorem dX9_grows_110 : decode cX9_grows 110 = .ok (.bipush 42, 2) := dk_16 42 (dk_at dksX9_grows_4 14 rfl rfl)
theorem dX9_grows_112 : decode cX9_grows 112 = .ok (.iload_n 1, 1) := dk_27 (dk_at dksX9_grows_4 16 rfl rfl)
theorem dX9_grows_113 : decode cX9_grows 113 = .ok (.iadd, 1) := dk_96 (dk_at dksX9_grows_4 17 rfl rfl)
theorem dX9_grows_114 : decode cX9_grows 114 = .ok (.dup2, 1) := dk_92 (dk_at dksX9_grows_4 18 rfl rfl)
theorem dX9_grows_115 : decode cX9_grows 115 = .ok (.iaload, 1) := dk_46 (dk_at dksX9_grows_4 19 rfl rfl)
theorem dX9_grows_116 : decode cX9_grows 116 = .ok (.iload 4, 2) := dk_21 4 (dk_at dksX9_grows_4 20 rfl rfl)
theorem dX9_grows_118 : decode cX9_grows 118 = .ok (.iadd, 1) := dk_96 (dk_at dksX9_grows_4 22 rfl rfl)
theorem dX9_grows_119 : decode cX9_grows 119 = .ok (.iastore, 1) := dk_79 (dk_at dksX9_grows_4 23 rfl rfl)
theorem dX9_grows_120 : decode cX9_grows 120 = .ok (.aload_n 0, 1) := dk_42 (dk_at dksX9_grows_5 0 rfl rfl)
theorem dX9_grows_121 : decode cX9_grows 121 = .ok (.getfield 13, 3) := dk_180 0 13 (dk_at dksX9_grows_5 1 rfl rfl)
theorem dX9_grows_124 : decode cX9_grows 124 = .ok (.iconst 5, 1) := dk_8 (dk_at dksX9_grows_5 4 rfl rfl)
theorem dX9_grows_125 : decode cX9_grows 125 = .ok (.dup2, 1) := dk_92 (dk_at dksX9_grows_5 5 rfl rfl)
theorem dX9_grows_126 : decode cX9_grows 126 = .ok (.iaload, 1) := dk_46 (dk_at dksX9_grows_5 6 rfl rfl)
theorem dX9_grows_127 : decode cX9_grows 127 = .ok (.iload 4, 2) := dk_21 4 (dk_at dksX9_grows_5 7 rfl rfl)
theorem dX9_grows_129 : decode cX9_grows 129 = .ok (.iadd, 1) := dk_96 (dk_at dksX9_grows_5 9 rfl rfl)
theorem dX9_grows_130 : decode cX9_grows 130 = .ok (.iastore, 1) := dk_79 (dk_at dksX9_grows_5 10 rfl rfl)
theorem dX9_grows_131 : decode cX9_grows 131 = .ok (.return_, 1) := dk_177 (dk_at dksX9_grows_5 11 rfl rfl)
abbrev cX9_digs : ByteArray := prog_23_method_54_code
def yX9_digs : MethodName := ⟨RX9, "digs", "(I)Z"⟩
def dkwX9_digs_5 : List UInt8 := [17, 0, 132, 21, 4, 96, 3, 79, 42, 180, 0, 13, 27, 4, 184, 0, 94, 4, 79, 4, 172]
abbrev dktX9_digs_5 : List UInt8 := dkwX9_digs_5 ++ []
def dkwX9_digs_4 : List UInt8 := [21, 4, 79, 42, 180, 0, 13, 17, 0, 132, 21, 4, 96, 46, 154, 0, 5, 3, 172, 42, 180, 0, 13]
abbrev dktX9_digs_4 : List UInt8 := dkwX9_digs_4 ++ dktX9_digs_5
def dkwX9_digs_3 : List UInt8 := [184, 0, 94, 92, 46, 29, 96, 79, 21, 4, 156, 0, 5, 3, 172, 42, 180, 0, 13, 27, 3, 184, 0, 94]
abbrev dktX9_digs_3 : List UInt8 := dkwX9_digs_3 ++ dktX9_digs_4
def dkwX9_digs_2 : List UInt8 := [92, 46, 29, 100, 79, 42, 180, 0, 13, 16, 6, 92, 46, 29, 96, 79, 42, 180, 0, 13, 27, 5]
abbrev dktX9_digs_2 : List UInt8 := dkwX9_digs_2 ++ dktX9_digs_3
def dkwX9_digs_1 : List UInt8 := [16, 42, 28, 96, 46, 5, 108, 100, 62, 42, 28, 182, 0, 179, 54, 4, 42, 180, 0, 13, 16, 42, 28, 96]
abbrev dktX9_digs_1 : List UInt8 := dkwX9_digs_1 ++ dktX9_digs_2
def dkwX9_digs_0 : List UInt8 := [42, 180, 0, 13, 27, 3, 184, 0, 94, 46, 61, 42, 180, 0, 13, 16, 42, 28, 96, 46, 42, 180, 0, 13]
abbrev dktX9_digs_0 : List UInt8 := dkwX9_digs_0 ++ dktX9_digs_1
theorem dksX9_digs_0 : cX9_digs.data.toList.drop 0 = dktX9_digs_0 := by decide +kernel
theorem dksX9_digs_1 : cX9_digs.data.toList.drop 24 = dktX9_digs_1 := dk_seg dksX9_digs_0 24 rfl rfl
theorem dksX9_digs_2 : cX9_digs.data.toList.drop 48 = dktX9_digs_2 := dk_seg dksX9_digs_1 24 rfl rfl
theorem dksX9_digs_3 : cX9_digs.data.toList.drop 70 = dktX9_digs_3 := dk_seg dksX9_digs_2 22 rfl rfl
theorem dksX9_digs_4 : cX9_digs.data.toList.drop 94 = dktX9_digs_4 := dk_seg dksX9_digs_3 24 rfl rfl
theorem dksX9_digs_5 : cX9_digs.data.toList.drop 117 = dktX9_digs_5 := dk_seg dksX9_digs_4 23 rfl rfl
theorem dX9_digs_0 : decode cX9_digs 0 = .ok (.aload_n 0, 1) := dk_42 (dk_at dksX9_digs_0 0 rfl rfl)
theorem dX9_digs_1 : decode cX9_digs 1 = .ok (.getfield 13, 3) := dk_180 0 13 (dk_at dksX9_digs_0 1 rfl rfl)
theorem dX9_digs_4 : decode cX9_digs 4 = .ok (.iload_n 1, 1) := dk_27 (dk_at dksX9_digs_0 4 rfl rfl)
theorem dX9_digs_5 : decode cX9_digs 5 = .ok (.iconst 0, 1) := dk_3 (dk_at dksX9_digs_0 5 rfl rfl)
theorem dX9_digs_6 : decode cX9_digs 6 = .ok (.invokestatic 94, 3) := dk_184 0 94 (dk_at dksX9_digs_0 6 rfl rfl)
theorem dX9_digs_9 : decode cX9_digs 9 = .ok (.iaload, 1) := dk_46 (dk_at dksX9_digs_0 9 rfl rfl)
theorem dX9_digs_10 : decode cX9_digs 10 = .ok (.istore_n 2, 1) := dk_61 (dk_at dksX9_digs_0 10 rfl rfl)
theorem dX9_digs_11 : decode cX9_digs 11 = .ok (.aload_n 0, 1) := dk_42 (dk_at dksX9_digs_0 11 rfl rfl)
theorem dX9_digs_12 : decode cX9_digs 12 = .ok (.getfield 13, 3) := dk_180 0 13 (dk_at dksX9_digs_0 12 rfl rfl)
theorem dX9_digs_15 : decode cX9_digs 15 = .ok (.bipush 42, 2) := dk_16 42 (dk_at dksX9_digs_0 15 rfl rfl)
theorem dX9_digs_17 : decode cX9_digs 17 = .ok (.iload_n 2, 1) := dk_28 (dk_at dksX9_digs_0 17 rfl rfl)
theorem dX9_digs_18 : decode cX9_digs 18 = .ok (.iadd, 1) := dk_96 (dk_at dksX9_digs_0 18 rfl rfl)
theorem dX9_digs_19 : decode cX9_digs 19 = .ok (.iaload, 1) := dk_46 (dk_at dksX9_digs_0 19 rfl rfl)
theorem dX9_digs_20 : decode cX9_digs 20 = .ok (.aload_n 0, 1) := dk_42 (dk_at dksX9_digs_0 20 rfl rfl)
theorem dX9_digs_21 : decode cX9_digs 21 = .ok (.getfield 13, 3) := dk_180 0 13 (dk_at dksX9_digs_0 21 rfl rfl)
theorem dX9_digs_24 : decode cX9_digs 24 = .ok (.bipush 42, 2) := dk_16 42 (dk_at dksX9_digs_1 0 rfl rfl)
theorem dX9_digs_26 : decode cX9_digs 26 = .ok (.iload_n 2, 1) := dk_28 (dk_at dksX9_digs_1 2 rfl rfl)
theorem dX9_digs_27 : decode cX9_digs 27 = .ok (.iadd, 1) := dk_96 (dk_at dksX9_digs_1 3 rfl rfl)
theorem dX9_digs_28 : decode cX9_digs 28 = .ok (.iaload, 1) := dk_46 (dk_at dksX9_digs_1 4 rfl rfl)
theorem dX9_digs_29 : decode cX9_digs 29 = .ok (.iconst 2, 1) := dk_5 (dk_at dksX9_digs_1 5 rfl rfl)
theorem dX9_digs_30 : decode cX9_digs 30 = .ok (.idiv, 1) := dk_108 (dk_at dksX9_digs_1 6 rfl rfl)
theorem dX9_digs_31 : decode cX9_digs 31 = .ok (.isub, 1) := dk_100 (dk_at dksX9_digs_1 7 rfl rfl)
theorem dX9_digs_32 : decode cX9_digs 32 = .ok (.istore_n 3, 1) := dk_62 (dk_at dksX9_digs_1 8 rfl rfl)
theorem dX9_digs_33 : decode cX9_digs 33 = .ok (.aload_n 0, 1) := dk_42 (dk_at dksX9_digs_1 9 rfl rfl)
theorem dX9_digs_34 : decode cX9_digs 34 = .ok (.iload_n 2, 1) := dk_28 (dk_at dksX9_digs_1 10 rfl rfl)
theorem dX9_digs_35 : decode cX9_digs 35 = .ok (.invokevirtual 179, 3) := dk_182 0 179 (dk_at dksX9_digs_1 11 rfl rfl)
theorem dX9_digs_38 : decode cX9_digs 38 = .ok (.istore 4, 2) := dk_54 4 (dk_at dksX9_digs_1 14 rfl rfl)
theorem dX9_digs_40 : decode cX9_digs 40 = .ok (.aload_n 0, 1) := dk_42 (dk_at dksX9_digs_1 16 rfl rfl)
theorem dX9_digs_41 : decode cX9_digs 41 = .ok (.getfield 13, 3) := dk_180 0 13 (dk_at dksX9_digs_1 17 rfl rfl)
theorem dX9_digs_44 : decode cX9_digs 44 = .ok (.bipush 42, 2) := dk_16 42 (dk_at dksX9_digs_1 20 rfl rfl)
theorem dX9_digs_46 : decode cX9_digs 46 = .ok (.iload_n 2, 1) := dk_28 (dk_at dksX9_digs_1 22 rfl rfl)
theorem dX9_digs_47 : decode cX9_digs 47 = .ok (.iadd, 1) := dk_96 (dk_at dksX9_digs_1 23 rfl rfl)
theorem dX9_digs_48 : decode cX9_digs 48 = .ok (.dup2, 1) := dk_92 (dk_at dksX9_digs_2 0 rfl rfl)
theorem dX9_digs_49 : decode cX9_digs 49 = .ok (.iaload, 1) := dk_46 (dk_at dksX9_digs_2 1 rfl rfl)
theorem dX9_digs_50 : decode cX9_digs 50 = .ok (.iload_n 3, 1) := dk_29 (dk_at dksX9_digs_2 2 rfl rfl)
theorem dX9_digs_51 : decode cX9_digs 51 = .ok (.isub, 1) := dk_100 (dk_at dksX9_digs_2 3 rfl rfl)
theorem dX9_digs_52 : decode cX9_digs 52 = .ok (.iastore, 1) := dk_79 (dk_at dksX9_digs_2 4 rfl rfl)
theorem dX9_digs_53 : decode cX9_digs 53 = .ok (.aload_n 0, 1) := dk_42 (dk_at dksX9_digs_2 5 rfl rfl)
theorem dX9_digs_54 : decode cX9_digs 54 = .ok (.getfield 13, 3) := dk_180 0 13 (dk_at dksX9_digs_2 6 rfl rfl)
theorem dX9_digs_57 : decode cX9_digs 57 = .ok (.bipush 6, 2) := dk_16 6 (dk_at dksX9_digs_2 9 rfl rfl)
theorem dX9_digs_59 : decode cX9_digs 59 = .ok (.dup2, 1) := dk_92 (dk_at dksX9_digs_2 11 rfl rfl)
theorem dX9_digs_60 : decode cX9_digs 60 = .ok (.iaload, 1) := dk_46 (dk_at dksX9_digs_2 12 rfl rfl)
theorem dX9_digs_61 : decode cX9_digs 61 = .ok (.iload_n 3, 1) := dk_29 (dk_at dksX9_digs_2 13 rfl rfl)
theorem dX9_digs_62 : decode cX9_digs 62 = .ok (.iadd, 1) := dk_96 (dk_at dksX9_digs_2 14 rfl rfl)
theorem dX9_digs_63 : decode cX9_digs 63 = .ok (.iastore, 1) := dk_79 (dk_at dksX9_digs_2 15 rfl rfl)
theorem dX9_digs_64 : decode cX9_digs 64 = .ok (.aload_n 0, 1) := dk_42 (dk_at dksX9_digs_2 16 rfl rfl)
theorem dX9_digs_65 : decode cX9_digs 65 = .ok (.getfield 13, 3) := dk_180 0 13 (dk_at dksX9_digs_2 17 rfl rfl)
theorem dX9_digs_68 : decode cX9_digs 68 = .ok (.iload_n 1, 1) := dk_27 (dk_at dksX9_digs_2 20 rfl rfl)
theorem dX9_digs_69 : decode cX9_digs 69 = .ok (.iconst 2, 1) := dk_5 (dk_at dksX9_digs_2 21 rfl rfl)
theorem dX9_digs_70 : decode cX9_digs 70 = .ok (.invokestatic 94, 3) := dk_184 0 94 (dk_at dksX9_digs_3 0 rfl rfl)
theorem dX9_digs_73 : decode cX9_digs 73 = .ok (.dup2, 1) := dk_92 (dk_at dksX9_digs_3 3 rfl rfl)
theorem dX9_digs_74 : decode cX9_digs 74 = .ok (.iaload, 1) := dk_46 (dk_at dksX9_digs_3 4 rfl rfl)
theorem dX9_digs_75 : decode cX9_digs 75 = .ok (.iload_n 3, 1) := dk_29 (dk_at dksX9_digs_3 5 rfl rfl)
theorem dX9_digs_76 : decode cX9_digs 76 = .ok (.iadd, 1) := dk_96 (dk_at dksX9_digs_3 6 rfl rfl)
theorem dX9_digs_77 : decode cX9_digs 77 = .ok (.iastore, 1) := dk_79 (dk_at dksX9_digs_3 7 rfl rfl)
theorem dX9_digs_78 : decode cX9_digs 78 = .ok (.iload 4, 2) := dk_21 4 (dk_at dksX9_digs_3 8 rfl rfl)
theorem dX9_digs_80 : decode cX9_digs 80 = .ok (.ifCond .ge 5, 3) := dk_156 0 5 (dk_at dksX9_digs_3 10 rfl rfl)
theorem dX9_digs_83 : decode cX9_digs 83 = .ok (.iconst 0, 1) := dk_3 (dk_at dksX9_digs_3 13 rfl rfl)
theorem dX9_digs_84 : decode cX9_digs 84 = .ok (.ireturn, 1) := dk_172 (dk_at dksX9_digs_3 14 rfl rfl)
theorem dX9_digs_85 : decode cX9_digs 85 = .ok (.aload_n 0, 1) := dk_42 (dk_at dksX9_digs_3 15 rfl rfl)
theorem dX9_digs_86 : decode cX9_digs 86 = .ok (.getfield 13, 3) := dk_180 0 13 (dk_at dksX9_digs_3 16 rfl rfl)
theorem dX9_digs_89 : decode cX9_digs 89 = .ok (.iload_n 1, 1) := dk_27 (dk_at dksX9_digs_3 19 rfl rfl)
theorem dX9_digs_90 : decode cX9_digs 90 = .ok (.iconst 0, 1) := dk_3 (dk_at dksX9_digs_3 20 rfl rfl)
theorem dX9_digs_91 : decode cX9_digs 91 = .ok (.invokestatic 94, 3) := dk_184 0 94 (dk_at dksX9_digs_3 21 rfl rfl)
theorem dX9_digs_94 : decode cX9_digs 94 = .ok (.iload 4, 2) := dk_21 4 (dk_at dksX9_digs_4 0 rfl rfl)
theorem dX9_digs_96 : decode cX9_digs 96 = .ok (.iastore, 1) := dk_79 (dk_at dksX9_digs_4 2 rfl rfl)
theorem dX9_digs_97 : decode cX9_digs 97 = .ok (.aload_n 0, 1) := dk_42 (dk_at dksX9_digs_4 3 rfl rfl)
theorem dX9_digs_98 : decode cX9_digs 98 = .ok (.getfield 13, 3) := dk_180 0 13 (dk_at dksX9_digs_4 4 rfl rfl)
theorem dX9_digs_101 : decode cX9_digs 101 = .ok (.sipush 132, 3) := dk_17 0 132 (dk_at dksX9_digs_4 7 rfl rfl)
theorem dX9_digs_104 : decode cX9_digs 104 = .ok (.iload 4, 2) := dk_21 4 (dk_at dksX9_digs_4 10 rfl rfl)
theorem dX9_digs_106 : decode cX9_digs 106 = .ok (.iadd, 1) := dk_96 (dk_at dksX9_digs_4 12 rfl rfl)
theorem dX9_digs_107 : decode cX9_digs 107 = .ok (.iaload, 1) := dk_46 (dk_at dksX9_digs_4 13 rfl rfl)
theorem dX9_digs_108 : decode cX9_digs 108 = .ok (.ifCond .ne 5, 3) := dk_154 0 5 (dk_at dksX9_digs_4 14 rfl rfl)
theorem dX9_digs_111 : decode cX9_digs 111 = .ok (.iconst 0, 1) := dk_3 (dk_at dksX9_digs_4 17 rfl rfl)
theorem dX9_digs_112 : decode cX9_digs 112 = .ok (.ireturn, 1) := dk_172 (dk_at dksX9_digs_4 18 rfl rfl)
theorem dX9_digs_113 : decode cX9_digs 113 = .ok (.aload_n 0, 1) := dk_42 (dk_at dksX9_digs_4 19 rfl rfl)
theorem dX9_digs_114 : decode cX9_digs 114 = .ok (.getfield 13, 3) := dk_180 0 13 (dk_at dksX9_digs_4 20 rfl rfl)
theorem dX9_digs_117 : decode cX9_digs 117 = .ok (.sipush 132, 3) := dk_17 0 132 (dk_at dksX9_digs_5 0 rfl rfl)
theorem dX9_digs_120 : decode cX9_digs 120 = .ok (.iload 4, 2) := dk_21 4 (dk_at dksX9_digs_5 3 rfl rfl)
theorem dX9_digs_122 : decode cX9_digs 122 = .ok (.iadd, 1) := dk_96 (dk_at dksX9_digs_5 5 rfl rfl)
theorem dX9_digs_123 : decode cX9_digs 123 = .ok (.iconst 0, 1) := dk_3 (dk_at dksX9_digs_5 6 rfl rfl)
theorem dX9_digs_124 : decode cX9_digs 124 = .ok (.iastore, 1) := dk_79 (dk_at dksX9_digs_5 7 rfl rfl)
theorem dX9_digs_125 : decode cX9_digs 125 = .ok (.aload_n 0, 1) := dk_42 (dk_at dksX9_digs_5 8 rfl rfl)
theorem dX9_digs_126 : decode cX9_digs 126 = .ok (.getfield 13, 3) := dk_180 0 13 (dk_at dksX9_digs_5 9 rfl rfl)
theorem dX9_digs_129 : decode cX9_digs 129 = .ok (.iload_n 1, 1) := dk_27 (dk_at dksX9_digs_5 12 rfl rfl)
theorem dX9_digs_130 : decode cX9_digs 130 = .ok (.iconst 1, 1) := dk_4 (dk_at dksX9_digs_5 13 rfl rfl)
theorem dX9_digs_131 : decode cX9_digs 131 = .ok (.invokestatic 94, 3) := dk_184 0 94 (dk_at dksX9_digs_5 14 rfl rfl)
theorem dX9_digs_134 : decode cX9_digs 134 = .ok (.iconst 1, 1) := dk_4 (dk_at dksX9_digs_5 17 rfl rfl)
theorem dX9_digs_135 : decode cX9_digs 135 = .ok (.iastore, 1) := dk_79 (dk_at dksX9_digs_5 18 rfl rfl)
theorem dX9_digs_136 : decode cX9_digs 136 = .ok (.iconst 1, 1) := dk_4 (dk_at dksX9_digs_5 19 rfl rfl)
theorem dX9_digs_137 : decode cX9_digs 137 = .ok (.ireturn, 1) := dk_172 (dk_at dksX9_digs_5 20 rfl rfl)
abbrev cX9_richest : ByteArray := prog_23_method_53_code
def yX9_richest : MethodName := ⟨RX9, "richest", "(I)I"⟩
def dkwX9_richest_2 : List UInt8 := [180, 0, 13, 16, 42, 28, 96, 46, 164, 0, 6, 21, 4, 61, 132, 3, 1, 167, 255, 195, 28, 172]
abbrev dktX9_richest_2 : List UInt8 := dkwX9_richest_2 ++ []
def dkwX9_richest_1 : List UInt8 := [182, 0, 97, 153, 0, 6, 167, 0, 32, 28, 155, 0, 25, 42, 180, 0, 13, 16, 42, 21, 4, 96, 46, 42]
abbrev dktX9_richest_1 : List UInt8 := dkwX9_richest_1 ++ dktX9_richest_2
def dkwX9_richest_0 : List UInt8 := [2, 61, 3, 62, 29, 7, 162, 0, 62, 27, 29, 184, 0, 127, 54, 4, 21, 4, 155, 0, 44, 42, 21, 4]
abbrev dktX9_richest_0 : List UInt8 := dkwX9_richest_0 ++ dktX9_richest_1
theorem dksX9_richest_0 : cX9_richest.data.toList.drop 0 = dktX9_richest_0 := by decide +kernel
theorem dksX9_richest_1 : cX9_richest.data.toList.drop 24 = dktX9_richest_1 := dk_seg dksX9_richest_0 24 rfl rfl
theorem dksX9_richest_2 : cX9_richest.data.toList.drop 48 = dktX9_richest_2 := dk_seg dksX9_richest_1 24 rfl rfl
theorem dX9_richest_0 : decode cX9_richest 0 = .ok (.iconst (-1), 1) := dk_2 (dk_at dksX9_richest_0 0 rfl rfl)
theorem dX9_richest_1 : decode cX9_richest 1 = .ok (.istore_n 2, 1) := dk_61 (dk_at dksX9_richest_0 1 rfl rfl)
theorem dX9_richest_2 : decode cX9_richest 2 = .ok (.iconst 0, 1) := dk_3 (dk_at dksX9_richest_0 2 rfl rfl)
theorem dX9_richest_3 : decode cX9_richest 3 = .ok (.istore_n 3, 1) := dk_62 (dk_at dksX9_richest_0 3 rfl rfl)
theorem dX9_richest_4 : decode cX9_richest 4 = .ok (.iload_n 3, 1) := dk_29 (dk_at dksX9_richest_0 4 rfl rfl)
theorem dX9_richest_5 : decode cX9_richest 5 = .ok (.iconst 4, 1) := dk_7 (dk_at dksX9_richest_0 5 rfl rfl)
theorem dX9_richest_6 : decode cX9_richest 6 = .ok (.if_icmp .ge 62, 3) := dk_162 0 62 (dk_at dksX9_richest_0 6 rfl rfl)
theorem dX9_richest_9 : decode cX9_richest 9 = .ok (.iload_n 1, 1) := dk_27 (dk_at dksX9_richest_0 9 rfl rfl)
theorem dX9_richest_10 : decode cX9_richest 10 = .ok (.iload_n 3, 1) := dk_29 (dk_at dksX9_richest_0 10 rfl rfl)
theorem dX9_richest_11 : decode cX9_richest 11 = .ok (.invokestatic 127, 3) := dk_184 0 127 (dk_at dksX9_richest_0 11 rfl rfl)
theorem dX9_richest_14 : decode cX9_richest 14 = .ok (.istore 4, 2) := dk_54 4 (dk_at dksX9_richest_0 14 rfl rfl)
theorem dX9_richest_16 : decode cX9_richest 16 = .ok (.iload 4, 2) := dk_21 4 (dk_at dksX9_richest_0 16 rfl rfl)
theorem dX9_richest_18 : decode cX9_richest 18 = .ok (.ifCond .lt 44, 3) := dk_155 0 44 (dk_at dksX9_richest_0 18 rfl rfl)
theorem dX9_richest_21 : decode cX9_richest 21 = .ok (.aload_n 0, 1) := dk_42 (dk_at dksX9_richest_0 21 rfl rfl)
theorem dX9_richest_22 : decode cX9_richest 22 = .ok (.iload 4, 2) := dk_21 4 (dk_at dksX9_richest_0 22 rfl rfl)
theorem dX9_richest_24 : decode cX9_richest 24 = .ok (.invokevirtual 97, 3) := dk_182 0 97 (dk_at dksX9_richest_1 0 rfl rfl)
theorem dX9_richest_27 : decode cX9_richest 27 = .ok (.ifCond .eq 6, 3) := dk_153 0 6 (dk_at dksX9_richest_1 3 rfl rfl)
theorem dX9_richest_30 : decode cX9_richest 30 = .ok (.goto 32, 3) := dk_167 0 32 (dk_at dksX9_richest_1 6 rfl rfl)
theorem dX9_richest_33 : decode cX9_richest 33 = .ok (.iload_n 2, 1) := dk_28 (dk_at dksX9_richest_1 9 rfl rfl)
theorem dX9_richest_34 : decode cX9_richest 34 = .ok (.ifCond .lt 25, 3) := dk_155 0 25 (dk_at dksX9_richest_1 10 rfl rfl)
theorem dX9_richest_37 : decode cX9_richest 37 = .ok (.aload_n 0, 1) := dk_42 (dk_at dksX9_richest_1 13 rfl rfl)
theorem dX9_richest_38 : decode cX9_richest 38 = .ok (.getfield 13, 3) := dk_180 0 13 (dk_at dksX9_richest_1 14 rfl rfl)
theorem dX9_richest_41 : decode cX9_richest 41 = .ok (.bipush 42, 2) := dk_16 42 (dk_at dksX9_richest_1 17 rfl rfl)
theorem dX9_richest_43 : decode cX9_richest 43 = .ok (.iload 4, 2) := dk_21 4 (dk_at dksX9_richest_1 19 rfl rfl)
theorem dX9_richest_45 : decode cX9_richest 45 = .ok (.iadd, 1) := dk_96 (dk_at dksX9_richest_1 21 rfl rfl)
theorem dX9_richest_46 : decode cX9_richest 46 = .ok (.iaload, 1) := dk_46 (dk_at dksX9_richest_1 22 rfl rfl)
theorem dX9_richest_47 : decode cX9_richest 47 = .ok (.aload_n 0, 1) := dk_42 (dk_at dksX9_richest_1 23 rfl rfl)
theorem dX9_richest_48 : decode cX9_richest 48 = .ok (.getfield 13, 3) := dk_180 0 13 (dk_at dksX9_richest_2 0 rfl rfl)
theorem dX9_richest_51 : decode cX9_richest 51 = .ok (.bipush 42, 2) := dk_16 42 (dk_at dksX9_richest_2 3 rfl rfl)
theorem dX9_richest_53 : decode cX9_richest 53 = .ok (.iload_n 2, 1) := dk_28 (dk_at dksX9_richest_2 5 rfl rfl)
theorem dX9_richest_54 : decode cX9_richest 54 = .ok (.iadd, 1) := dk_96 (dk_at dksX9_richest_2 6 rfl rfl)
theorem dX9_richest_55 : decode cX9_richest 55 = .ok (.iaload, 1) := dk_46 (dk_at dksX9_richest_2 7 rfl rfl)
theorem dX9_richest_56 : decode cX9_richest 56 = .ok (.if_icmp .le 6, 3) := dk_164 0 6 (dk_at dksX9_richest_2 8 rfl rfl)
theorem dX9_richest_59 : decode cX9_richest 59 = .ok (.iload 4, 2) := dk_21 4 (dk_at dksX9_richest_2 11 rfl rfl)
theorem dX9_richest_61 : decode cX9_richest 61 = .ok (.istore_n 2, 1) := dk_61 (dk_at dksX9_richest_2 13 rfl rfl)
theorem dX9_richest_62 : decode cX9_richest 62 = .ok (.iinc 3 1, 3) := dk_132 3 1 (dk_at dksX9_richest_2 14 rfl rfl)
theorem dX9_richest_65 : decode cX9_richest 65 = .ok (.goto (-61), 3) := dk_167 255 195 (dk_at dksX9_richest_2 17 rfl rfl)
theorem dX9_richest_68 : decode cX9_richest 68 = .ok (.iload_n 2, 1) := dk_28 (dk_at dksX9_richest_2 20 rfl rfl)
theorem dX9_richest_69 : decode cX9_richest 69 = .ok (.ireturn, 1) := dk_172 (dk_at dksX9_richest_2 21 rfl rfl)
abbrev cX9_append : ByteArray := prog_23_method_58_code
def yX9_append : MethodName := ⟨RX9, "append", "(C)I"⟩
def dkwX9_append_1 : List UInt8 := [180, 0, 41, 42, 180, 0, 195, 27, 79, 42, 89, 180, 0, 195, 4, 96, 181, 0, 195, 42, 180, 0, 195, 172]
abbrev dktX9_append_1 : List UInt8 := dkwX9_append_1 ++ []
def dkwX9_append_0 : List UInt8 := [27, 16, 32, 16, 126, 184, 0, 74, 153, 0, 12, 42, 180, 0, 195, 16, 60, 160, 0, 6, 16, 254, 172, 42]
abbrev dktX9_append_0 : List UInt8 := dkwX9_append_0 ++ dktX9_append_1
theorem dksX9_append_0 : cX9_append.data.toList.drop 0 = dktX9_append_0 := by decide +kernel
theorem dksX9_append_1 : cX9_append.data.toList.drop 24 = dktX9_append_1 := dk_seg dksX9_append_0 24 rfl rfl
theorem dX9_append_0 : decode cX9_append 0 = .ok (.iload_n 1, 1) := dk_27 (dk_at dksX9_append_0 0 rfl rfl)
theorem dX9_append_1 : decode cX9_append 1 = .ok (.bipush 32, 2) := dk_16 32 (dk_at dksX9_append_0 1 rfl rfl)
theorem dX9_append_3 : decode cX9_append 3 = .ok (.bipush 126, 2) := dk_16 126 (dk_at dksX9_append_0 3 rfl rfl)
theorem dX9_append_5 : decode cX9_append 5 = .ok (.invokestatic 74, 3) := dk_184 0 74 (dk_at dksX9_append_0 5 rfl rfl)
theorem dX9_append_8 : decode cX9_append 8 = .ok (.ifCond .eq 12, 3) := dk_153 0 12 (dk_at dksX9_append_0 8 rfl rfl)
theorem dX9_append_11 : decode cX9_append 11 = .ok (.aload_n 0, 1) := dk_42 (dk_at dksX9_append_0 11 rfl rfl)
theorem dX9_append_12 : decode cX9_append 12 = .ok (.getfield 195, 3) := dk_180 0 195 (dk_at dksX9_append_0 12 rfl rfl)
theorem dX9_append_15 : decode cX9_append 15 = .ok (.bipush 60, 2) := dk_16 60 (dk_at dksX9_append_0 15 rfl rfl)
theorem dX9_append_17 : decode cX9_append 17 = .ok (.if_icmp .ne 6, 3) := dk_160 0 6 (dk_at dksX9_append_0 17 rfl rfl)
theorem dX9_append_20 : decode cX9_append 20 = .ok (.bipush (-2), 2) := dk_16 254 (dk_at dksX9_append_0 20 rfl rfl)
theorem dX9_append_22 : decode cX9_append 22 = .ok (.ireturn, 1) := dk_172 (dk_at dksX9_append_0 22 rfl rfl)
theorem dX9_append_23 : decode cX9_append 23 = .ok (.aload_n 0, 1) := dk_42 (dk_at dksX9_append_0 23 rfl rfl)
theorem dX9_append_24 : decode cX9_append 24 = .ok (.getfield 41, 3) := dk_180 0 41 (dk_at dksX9_append_1 0 rfl rfl)
theorem dX9_append_27 : decode cX9_append 27 = .ok (.aload_n 0, 1) := dk_42 (dk_at dksX9_append_1 3 rfl rfl)
theorem dX9_append_28 : decode cX9_append 28 = .ok (.getfield 195, 3) := dk_180 0 195 (dk_at dksX9_append_1 4 rfl rfl)
theorem dX9_append_31 : decode cX9_append 31 = .ok (.iload_n 1, 1) := dk_27 (dk_at dksX9_append_1 7 rfl rfl)
theorem dX9_append_32 : decode cX9_append 32 = .ok (.iastore, 1) := dk_79 (dk_at dksX9_append_1 8 rfl rfl)
theorem dX9_append_33 : decode cX9_append 33 = .ok (.aload_n 0, 1) := dk_42 (dk_at dksX9_append_1 9 rfl rfl)
theorem dX9_append_34 : decode cX9_append 34 = .ok (.dup, 1) := dk_89 (dk_at dksX9_append_1 10 rfl rfl)
theorem dX9_append_35 : decode cX9_append 35 = .ok (.getfield 195, 3) := dk_180 0 195 (dk_at dksX9_append_1 11 rfl rfl)
theorem dX9_append_38 : decode cX9_append 38 = .ok (.iconst 1, 1) := dk_4 (dk_at dksX9_append_1 14 rfl rfl)
theorem dX9_append_39 : decode cX9_append 39 = .ok (.iadd, 1) := dk_96 (dk_at dksX9_append_1 15 rfl rfl)
theorem dX9_append_40 : decode cX9_append 40 = .ok (.putfield 195, 3) := dk_181 0 195 (dk_at dksX9_append_1 16 rfl rfl)
theorem dX9_append_43 : decode cX9_append 43 = .ok (.aload_n 0, 1) := dk_42 (dk_at dksX9_append_1 19 rfl rfl)
theorem dX9_append_44 : decode cX9_append 44 = .ok (.getfield 195, 3) := dk_180 0 195 (dk_at dksX9_append_1 20 rfl rfl)
theorem dX9_append_47 : decode cX9_append 47 = .ok (.ireturn, 1) := dk_172 (dk_at dksX9_append_1 23 rfl rfl)
abbrev cX9_script : ByteArray := prog_23_method_66_code
def yX9_script : MethodName := ⟨RX9, "script", "()I"⟩
def dkwX9_script_6 : List UInt8 := [16, 253, 181, 0, 50, 42, 27, 182, 0, 88, 172]
abbrev dktX9_script_6 : List UInt8 := dkwX9_script_6 ++ []
def dkwX9_script_5 : List UInt8 := [16, 12, 79, 42, 180, 0, 29, 4, 27, 4, 100, 79, 42, 89, 180, 0, 53, 4, 96, 181, 0, 53, 42]
abbrev dktX9_script_5 : List UInt8 := dkwX9_script_5 ++ dktX9_script_6
def dkwX9_script_4 : List UInt8 := [180, 0, 29, 28, 5, 96, 42, 180, 0, 29, 28, 46, 79, 132, 2, 255, 167, 255, 235, 42, 180, 0, 29, 3]
abbrev dktX9_script_4 : List UInt8 := dkwX9_script_4 ++ dktX9_script_5
def dkwX9_script_3 : List UInt8 := [180, 0, 53, 167, 0, 4, 3, 181, 0, 53, 5, 42, 180, 0, 53, 104, 4, 100, 61, 28, 155, 0, 23, 42]
abbrev dktX9_script_3 : List UInt8 := dkwX9_script_3 ++ dktX9_script_4
def dkwX9_script_2 : List UInt8 := [42, 3, 181, 0, 195, 42, 180, 0, 50, 153, 0, 90, 42, 42, 180, 0, 50, 16, 253, 160, 0, 10, 42]
abbrev dktX9_script_2 : List UInt8 := dkwX9_script_2 ++ dktX9_script_3
def dkwX9_script_1 : List UInt8 := [180, 0, 198, 181, 0, 9, 42, 3, 181, 0, 195, 16, 254, 172, 42, 4, 181, 0, 217, 42, 182, 0, 227, 60]
abbrev dktX9_script_1 : List UInt8 := dkwX9_script_1 ++ dktX9_script_2
def dkwX9_script_0 : List UInt8 := [42, 182, 0, 82, 42, 3, 181, 0, 217, 42, 182, 0, 227, 60, 42, 180, 0, 201, 153, 0, 19, 42, 42]
abbrev dktX9_script_0 : List UInt8 := dkwX9_script_0 ++ dktX9_script_1
theorem dksX9_script_0 : cX9_script.data.toList.drop 0 = dktX9_script_0 := by decide +kernel
theorem dksX9_script_1 : cX9_script.data.toList.drop 23 = dktX9_script_1 := dk_seg dksX9_script_0 23 rfl rfl
theorem dksX9_script_2 : cX9_script.data.toList.drop 47 = dktX9_script_2 := dk_seg dksX9_script_1 24 rfl rfl
theorem dksX9_script_3 : cX9_script.data.toList.drop 70 = dktX9_script_3 := dk_seg dksX9_script_2 23 rfl rfl
theorem dksX9_script_4 : cX9_script.data.toList.drop 94 = dktX9_script_4 := dk_seg dksX9_script_3 24 rfl rfl
theorem dksX9_script_5 : cX9_script.data.toList.drop 118 = dktX9_script_5 := dk_seg dksX9_script_4 24 rfl rfl
theorem dksX9_script_6 : cX9_script.data.toList.drop 141 = dktX9_script_6 := dk_seg dksX9_script_5 23 rfl rfl
theorem dX9_script_0 : decode cX9_script 0 = .ok (.aload_n 0, 1) := dk_42 (dk_at dksX9_script_0 0 rfl rfl)
theorem dX9_script_1 : decode cX9_script 1 = .ok (.invokevirtual 82, 3) := dk_182 0 82 (dk_at dksX9_script_0 1 rfl rfl)
theorem dX9_script_4 : decode cX9_script 4 = .ok (.aload_n 0, 1) := dk_42 (dk_at dksX9_script_0 4 rfl rfl)
theorem dX9_script_5 : decode cX9_script 5 = .ok (.iconst 0, 1) := dk_3 (dk_at dksX9_script_0 5 rfl rfl)
theorem dX9_script_6 : decode cX9_script 6 = .ok (.putfield 217, 3) := dk_181 0 217 (dk_at dksX9_script_0 6 rfl rfl)
theorem dX9_script_9 : decode cX9_script 9 = .ok (.aload_n 0, 1) := dk_42 (dk_at dksX9_script_0 9 rfl rfl)
theorem dX9_script_10 : decode cX9_script 10 = .ok (.invokevirtual 227, 3) := dk_182 0 227 (dk_at dksX9_script_0 10 rfl rfl)
theorem dX9_script_13 : decode cX9_script 13 = .ok (.istore_n 1, 1) := dk_60 (dk_at dksX9_script_0 13 rfl rfl)
theorem dX9_script_14 : decode cX9_script 14 = .ok (.aload_n 0, 1) := dk_42 (dk_at dksX9_script_0 14 rfl rfl)
theorem dX9_script_15 : decode cX9_script 15 = .ok (.getfield 201, 3) := dk_180 0 201 (dk_at dksX9_script_0 15 rfl rfl)
theorem dX9_script_18 : decode cX9_script 18 = .ok (.ifCond .eq 19, 3) := dk_153 0 19 (dk_at dksX9_script_0 18 rfl rfl)
theorem dX9_script_21 : decode cX9_script 21 = .ok (.aload_n 0, 1) := dk_42 (dk_at dksX9_script_0 21 rfl rfl)
theorem dX9_script_22 : decode cX9_script 22 = .ok (.aload_n 0, 1) := dk_42 (dk_at dksX9_script_0 22 rfl rfl)
theorem dX9_script_23 : decode cX9_script 23 = .ok (.getfield 198, 3) := dk_180 0 198 (dk_at dksX9_script_1 0 rfl rfl)
theorem dX9_script_26 : decode cX9_script 26 = .ok (.putfield 9, 3) := dk_181 0 9 (dk_at dksX9_script_1 3 rfl rfl)
theorem dX9_script_29 : decode cX9_script 29 = .ok (.aload_n 0, 1) := dk_42 (dk_at dksX9_script_1 6 rfl rfl)
theorem dX9_script_30 : decode cX9_script 30 = .ok (.iconst 0, 1) := dk_3 (dk_at dksX9_script_1 7 rfl rfl)
theorem dX9_script_31 : decode cX9_script 31 = .ok (.putfield 195, 3) := dk_181 0 195 (dk_at dksX9_script_1 8 rfl rfl)
theorem dX9_script_34 : decode cX9_script 34 = .ok (.bipush (-2), 2) := dk_16 254 (dk_at dksX9_script_1 11 rfl rfl)
theorem dX9_script_36 : decode cX9_script 36 = .ok (.ireturn, 1) := dk_172 (dk_at dksX9_script_1 13 rfl rfl)
theorem dX9_script_37 : decode cX9_script 37 = .ok (.aload_n 0, 1) := dk_42 (dk_at dksX9_script_1 14 rfl rfl)
theorem dX9_script_38 : decode cX9_script 38 = .ok (.iconst 1, 1) := dk_4 (dk_at dksX9_script_1 15 rfl rfl)
theorem dX9_script_39 : decode cX9_script 39 = .ok (.putfield 217, 3) := dk_181 0 217 (dk_at dksX9_script_1 16 rfl rfl)
theorem dX9_script_42 : decode cX9_script 42 = .ok (.aload_n 0, 1) := dk_42 (dk_at dksX9_script_1 19 rfl rfl)
theorem dX9_script_43 : decode cX9_script 43 = .ok (.invokevirtual 227, 3) := dk_182 0 227 (dk_at dksX9_script_1 20 rfl rfl)
theorem dX9_script_46 : decode cX9_script 46 = .ok (.istore_n 1, 1) := dk_60 (dk_at dksX9_script_1 23 rfl rfl)
theorem dX9_script_47 : decode cX9_script 47 = .ok (.aload_n 0, 1) := dk_42 (dk_at dksX9_script_2 0 rfl rfl)
theorem dX9_script_48 : decode cX9_script 48 = .ok (.iconst 0, 1) := dk_3 (dk_at dksX9_script_2 1 rfl rfl)
theorem dX9_script_49 : decode cX9_script 49 = .ok (.putfield 195, 3) := dk_181 0 195 (dk_at dksX9_script_2 2 rfl rfl)
theorem dX9_script_52 : decode cX9_script 52 = .ok (.aload_n 0, 1) := dk_42 (dk_at dksX9_script_2 5 rfl rfl)
theorem dX9_script_53 : decode cX9_script 53 = .ok (.getfield 50, 3) := dk_180 0 50 (dk_at dksX9_script_2 6 rfl rfl)
theorem dX9_script_56 : decode cX9_script 56 = .ok (.ifCond .eq 90, 3) := dk_153 0 90 (dk_at dksX9_script_2 9 rfl rfl)
theorem dX9_script_59 : decode cX9_script 59 = .ok (.aload_n 0, 1) := dk_42 (dk_at dksX9_script_2 12 rfl rfl)
theorem dX9_script_60 : decode cX9_script 60 = .ok (.aload_n 0, 1) := dk_42 (dk_at dksX9_script_2 13 rfl rfl)
theorem dX9_script_61 : decode cX9_script 61 = .ok (.getfield 50, 3) := dk_180 0 50 (dk_at dksX9_script_2 14 rfl rfl)
theorem dX9_script_64 : decode cX9_script 64 = .ok (.bipush (-3), 2) := dk_16 253 (dk_at dksX9_script_2 17 rfl rfl)
theorem dX9_script_66 : decode cX9_script 66 = .ok (.if_icmp .ne 10, 3) := dk_160 0 10 (dk_at dksX9_script_2 19 rfl rfl)
theorem dX9_script_69 : decode cX9_script 69 = .ok (.aload_n 0, 1) := dk_42 (dk_at dksX9_script_2 22 rfl rfl)
theorem dX9_script_70 : decode cX9_script 70 = .ok (.getfield 53, 3) := dk_180 0 53 (dk_at dksX9_script_3 0 rfl rfl)
theorem dX9_script_73 : decode cX9_script 73 = .ok (.goto 4, 3) := dk_167 0 4 (dk_at dksX9_script_3 3 rfl rfl)
theorem dX9_script_76 : decode cX9_script 76 = .ok (.iconst 0, 1) := dk_3 (dk_at dksX9_script_3 6 rfl rfl)
theorem dX9_script_77 : decode cX9_script 77 = .ok (.putfield 53, 3) := dk_181 0 53 (dk_at dksX9_script_3 7 rfl rfl)
theorem dX9_script_80 : decode cX9_script 80 = .ok (.iconst 2, 1) := dk_5 (dk_at dksX9_script_3 10 rfl rfl)
theorem dX9_script_81 : decode cX9_script 81 = .ok (.aload_n 0, 1) := dk_42 (dk_at dksX9_script_3 11 rfl rfl)
theorem dX9_script_82 : decode cX9_script 82 = .ok (.getfield 53, 3) := dk_180 0 53 (dk_at dksX9_script_3 12 rfl rfl)
theorem dX9_script_85 : decode cX9_script 85 = .ok (.imul, 1) := dk_104 (dk_at dksX9_script_3 15 rfl rfl)
theorem dX9_script_86 : decode cX9_script 86 = .ok (.iconst 1, 1) := dk_4 (dk_at dksX9_script_3 16 rfl rfl)
theorem dX9_script_87 : decode cX9_script 87 = .ok (.isub, 1) := dk_100 (dk_at dksX9_script_3 17 rfl rfl)
theorem dX9_script_88 : decode cX9_script 88 = .ok (.istore_n 2, 1) := dk_61 (dk_at dksX9_script_3 18 rfl rfl)
theorem dX9_script_89 : decode cX9_script 89 = .ok (.iload_n 2, 1) := dk_28 (dk_at dksX9_script_3 19 rfl rfl)
theorem dX9_script_90 : decode cX9_script 90 = .ok (.ifCond .lt 23, 3) := dk_155 0 23 (dk_at dksX9_script_3 20 rfl rfl)
theorem dX9_script_93 : decode cX9_script 93 = .ok (.aload_n 0, 1) := dk_42 (dk_at dksX9_script_3 23 rfl rfl)
theorem dX9_script_94 : decode cX9_script 94 = .ok (.getfield 29, 3) := dk_180 0 29 (dk_at dksX9_script_4 0 rfl rfl)
theorem dX9_script_97 : decode cX9_script 97 = .ok (.iload_n 2, 1) := dk_28 (dk_at dksX9_script_4 3 rfl rfl)
theorem dX9_script_98 : decode cX9_script 98 = .ok (.iconst 2, 1) := dk_5 (dk_at dksX9_script_4 4 rfl rfl)
theorem dX9_script_99 : decode cX9_script 99 = .ok (.iadd, 1) := dk_96 (dk_at dksX9_script_4 5 rfl rfl)
theorem dX9_script_100 : decode cX9_script 100 = .ok (.aload_n 0, 1) := dk_42 (dk_at dksX9_script_4 6 rfl rfl)
theorem dX9_script_101 : decode cX9_script 101 = .ok (.getfield 29, 3) := dk_180 0 29 (dk_at dksX9_script_4 7 rfl rfl)
theorem dX9_script_104 : decode cX9_script 104 = .ok (.iload_n 2, 1) := dk_28 (dk_at dksX9_script_4 10 rfl rfl)
theorem dX9_script_105 : decode cX9_script 105 = .ok (.iaload, 1) := dk_46 (dk_at dksX9_script_4 11 rfl rfl)
theorem dX9_script_106 : decode cX9_script 106 = .ok (.iastore, 1) := dk_79 (dk_at dksX9_script_4 12 rfl rfl)
theorem dX9_script_107 : decode cX9_script 107 = .ok (.iinc 2 (-1), 3) := dk_132 2 255 (dk_at dksX9_script_4 13 rfl rfl)
theorem dX9_script_110 : decode cX9_script 110 = .ok (.goto (-21), 3) := dk_167 255 235 (dk_at dksX9_script_4 16 rfl rfl)
theorem dX9_script_113 : decode cX9_script 113 = .ok (.aload_n 0, 1) := dk_42 (dk_at dksX9_script_4 19 rfl rfl)
theorem dX9_script_114 : decode cX9_script 114 = .ok (.getfield 29, 3) := dk_180 0 29 (dk_at dksX9_script_4 20 rfl rfl)
theorem dX9_script_117 : decode cX9_script 117 = .ok (.iconst 0, 1) := dk_3 (dk_at dksX9_script_4 23 rfl rfl)
theorem dX9_script_118 : decode cX9_script 118 = .ok (.bipush 12, 2) := dk_16 12 (dk_at dksX9_script_5 0 rfl rfl)
theorem dX9_script_120 : decode cX9_script 120 = .ok (.iastore, 1) := dk_79 (dk_at dksX9_script_5 2 rfl rfl)
theorem dX9_script_121 : decode cX9_script 121 = .ok (.aload_n 0, 1) := dk_42 (dk_at dksX9_script_5 3 rfl rfl)
theorem dX9_script_122 : decode cX9_script 122 = .ok (.getfield 29, 3) := dk_180 0 29 (dk_at dksX9_script_5 4 rfl rfl)
theorem dX9_script_125 : decode cX9_script 125 = .ok (.iconst 1, 1) := dk_4 (dk_at dksX9_script_5 7 rfl rfl)
theorem dX9_script_126 : decode cX9_script 126 = .ok (.iload_n 1, 1) := dk_27 (dk_at dksX9_script_5 8 rfl rfl)
theorem dX9_script_127 : decode cX9_script 127 = .ok (.iconst 1, 1) := dk_4 (dk_at dksX9_script_5 9 rfl rfl)
theorem dX9_script_128 : decode cX9_script 128 = .ok (.isub, 1) := dk_100 (dk_at dksX9_script_5 10 rfl rfl)
theorem dX9_script_129 : decode cX9_script 129 = .ok (.iastore, 1) := dk_79 (dk_at dksX9_script_5 11 rfl rfl)
theorem dX9_script_130 : decode cX9_script 130 = .ok (.aload_n 0, 1) := dk_42 (dk_at dksX9_script_5 12 rfl rfl)
theorem dX9_script_131 : decode cX9_script 131 = .ok (.dup, 1) := dk_89 (dk_at dksX9_script_5 13 rfl rfl)
theorem dX9_script_132 : decode cX9_script 132 = .ok (.getfield 53, 3) := dk_180 0 53 (dk_at dksX9_script_5 14 rfl rfl)
theorem dX9_script_135 : decode cX9_script 135 = .ok (.iconst 1, 1) := dk_4 (dk_at dksX9_script_5 17 rfl rfl)
theorem dX9_script_136 : decode cX9_script 136 = .ok (.iadd, 1) := dk_96 (dk_at dksX9_script_5 18 rfl rfl)
theorem dX9_script_137 : decode cX9_script 137 = .ok (.putfield 53, 3) := dk_181 0 53 (dk_at dksX9_script_5 19 rfl rfl)
theorem dX9_script_140 : decode cX9_script 140 = .ok (.aload_n 0, 1) := dk_42 (dk_at dksX9_script_5 22 rfl rfl)
theorem dX9_script_141 : decode cX9_script 141 = .ok (.bipush (-3), 2) := dk_16 253 (dk_at dksX9_script_6 0 rfl rfl)
theorem dX9_script_143 : decode cX9_script 143 = .ok (.putfield 50, 3) := dk_181 0 50 (dk_at dksX9_script_6 2 rfl rfl)
theorem dX9_script_146 : decode cX9_script 146 = .ok (.aload_n 0, 1) := dk_42 (dk_at dksX9_script_6 5 rfl rfl)
theorem dX9_script_147 : decode cX9_script 147 = .ok (.iload_n 1, 1) := dk_27 (dk_at dksX9_script_6 6 rfl rfl)
theorem dX9_script_148 : decode cX9_script 148 = .ok (.invokevirtual 88, 3) := dk_182 0 88 (dk_at dksX9_script_6 7 rfl rfl)
theorem dX9_script_151 : decode cX9_script 151 = .ok (.ireturn, 1) := dk_172 (dk_at dksX9_script_6 10 rfl rfl)
abbrev cX9_orders : ByteArray := prog_23_method_65_code
def yX9_orders : MethodName := ⟨RX9, "orders", "()I"⟩
def dkwX9_orders_2 : List UInt8 := [180, 0, 201, 154, 0, 7, 42, 182, 0, 224, 132, 1, 1, 167, 255, 211, 27, 172]
abbrev dktX9_orders_2 : List UInt8 := dkwX9_orders_2 ++ []
def dkwX9_orders_1 : List UInt8 := [180, 0, 50, 154, 0, 37, 42, 180, 0, 198, 42, 180, 0, 195, 162, 0, 26, 42, 16, 59, 182, 0, 214, 42]
abbrev dktX9_orders_1 : List UInt8 := dkwX9_orders_1 ++ dktX9_orders_2
def dkwX9_orders_0 : List UInt8 := [42, 3, 181, 0, 198, 42, 3, 181, 0, 201, 4, 60, 42, 182, 0, 224, 42, 180, 0, 201, 154, 0, 44, 42]
abbrev dktX9_orders_0 : List UInt8 := dkwX9_orders_0 ++ dktX9_orders_1
theorem dksX9_orders_0 : cX9_orders.data.toList.drop 0 = dktX9_orders_0 := by decide +kernel
theorem dksX9_orders_1 : cX9_orders.data.toList.drop 24 = dktX9_orders_1 := dk_seg dksX9_orders_0 24 rfl rfl
theorem dksX9_orders_2 : cX9_orders.data.toList.drop 48 = dktX9_orders_2 := dk_seg dksX9_orders_1 24 rfl rfl
theorem dX9_orders_0 : decode cX9_orders 0 = .ok (.aload_n 0, 1) := dk_42 (dk_at dksX9_orders_0 0 rfl rfl)
theorem dX9_orders_1 : decode cX9_orders 1 = .ok (.iconst 0, 1) := dk_3 (dk_at dksX9_orders_0 1 rfl rfl)
theorem dX9_orders_2 : decode cX9_orders 2 = .ok (.putfield 198, 3) := dk_181 0 198 (dk_at dksX9_orders_0 2 rfl rfl)
theorem dX9_orders_5 : decode cX9_orders 5 = .ok (.aload_n 0, 1) := dk_42 (dk_at dksX9_orders_0 5 rfl rfl)
theorem dX9_orders_6 : decode cX9_orders 6 = .ok (.iconst 0, 1) := dk_3 (dk_at dksX9_orders_0 6 rfl rfl)
theorem dX9_orders_7 : decode cX9_orders 7 = .ok (.putfield 201, 3) := dk_181 0 201 (dk_at dksX9_orders_0 7 rfl rfl)
theorem dX9_orders_10 : decode cX9_orders 10 = .ok (.iconst 1, 1) := dk_4 (dk_at dksX9_orders_0 10 rfl rfl)
theorem dX9_orders_11 : decode cX9_orders 11 = .ok (.istore_n 1, 1) := dk_60 (dk_at dksX9_orders_0 11 rfl rfl)
theorem dX9_orders_12 : decode cX9_orders 12 = .ok (.aload_n 0, 1) := dk_42 (dk_at dksX9_orders_0 12 rfl rfl)
theorem dX9_orders_13 : decode cX9_orders 13 = .ok (.invokevirtual 224, 3) := dk_182 0 224 (dk_at dksX9_orders_0 13 rfl rfl)
theorem dX9_orders_16 : decode cX9_orders 16 = .ok (.aload_n 0, 1) := dk_42 (dk_at dksX9_orders_0 16 rfl rfl)
theorem dX9_orders_17 : decode cX9_orders 17 = .ok (.getfield 201, 3) := dk_180 0 201 (dk_at dksX9_orders_0 17 rfl rfl)
theorem dX9_orders_20 : decode cX9_orders 20 = .ok (.ifCond .ne 44, 3) := dk_154 0 44 (dk_at dksX9_orders_0 20 rfl rfl)
theorem dX9_orders_23 : decode cX9_orders 23 = .ok (.aload_n 0, 1) := dk_42 (dk_at dksX9_orders_0 23 rfl rfl)
theorem dX9_orders_24 : decode cX9_orders 24 = .ok (.getfield 50, 3) := dk_180 0 50 (dk_at dksX9_orders_1 0 rfl rfl)
theorem dX9_orders_27 : decode cX9_orders 27 = .ok (.ifCond .ne 37, 3) := dk_154 0 37 (dk_at dksX9_orders_1 3 rfl rfl)
theorem dX9_orders_30 : decode cX9_orders 30 = .ok (.aload_n 0, 1) := dk_42 (dk_at dksX9_orders_1 6 rfl rfl)
theorem dX9_orders_31 : decode cX9_orders 31 = .ok (.getfield 198, 3) := dk_180 0 198 (dk_at dksX9_orders_1 7 rfl rfl)
theorem dX9_orders_34 : decode cX9_orders 34 = .ok (.aload_n 0, 1) := dk_42 (dk_at dksX9_orders_1 10 rfl rfl)
theorem dX9_orders_35 : decode cX9_orders 35 = .ok (.getfield 195, 3) := dk_180 0 195 (dk_at dksX9_orders_1 11 rfl rfl)
theorem dX9_orders_38 : decode cX9_orders 38 = .ok (.if_icmp .ge 26, 3) := dk_162 0 26 (dk_at dksX9_orders_1 14 rfl rfl)
theorem dX9_orders_41 : decode cX9_orders 41 = .ok (.aload_n 0, 1) := dk_42 (dk_at dksX9_orders_1 17 rfl rfl)
theorem dX9_orders_42 : decode cX9_orders 42 = .ok (.bipush 59, 2) := dk_16 59 (dk_at dksX9_orders_1 18 rfl rfl)
theorem dX9_orders_44 : decode cX9_orders 44 = .ok (.invokevirtual 214, 3) := dk_182 0 214 (dk_at dksX9_orders_1 20 rfl rfl)
theorem dX9_orders_47 : decode cX9_orders 47 = .ok (.aload_n 0, 1) := dk_42 (dk_at dksX9_orders_1 23 rfl rfl)
theorem dX9_orders_48 : decode cX9_orders 48 = .ok (.getfield 201, 3) := dk_180 0 201 (dk_at dksX9_orders_2 0 rfl rfl)
theorem dX9_orders_51 : decode cX9_orders 51 = .ok (.ifCond .ne 7, 3) := dk_154 0 7 (dk_at dksX9_orders_2 3 rfl rfl)
theorem dX9_orders_54 : decode cX9_orders 54 = .ok (.aload_n 0, 1) := dk_42 (dk_at dksX9_orders_2 6 rfl rfl)
theorem dX9_orders_55 : decode cX9_orders 55 = .ok (.invokevirtual 224, 3) := dk_182 0 224 (dk_at dksX9_orders_2 7 rfl rfl)
theorem dX9_orders_58 : decode cX9_orders 58 = .ok (.iinc 1 1, 3) := dk_132 1 1 (dk_at dksX9_orders_2 10 rfl rfl)
theorem dX9_orders_61 : decode cX9_orders 61 = .ok (.goto (-45), 3) := dk_167 255 211 (dk_at dksX9_orders_2 13 rfl rfl)
theorem dX9_orders_64 : decode cX9_orders 64 = .ok (.iload_n 1, 1) := dk_27 (dk_at dksX9_orders_2 16 rfl rfl)
theorem dX9_orders_65 : decode cX9_orders 65 = .ok (.ireturn, 1) := dk_172 (dk_at dksX9_orders_2 17 rfl rfl)
abbrev cX9_order : ByteArray := prog_23_method_64_code
def yX9_order : MethodName := ⟨RX9, "order", "()V"⟩
def dkwX9_order_7 : List UInt8 := [154, 0, 4, 177, 42, 27, 21, 4, 28, 29, 182, 0, 220, 54, 5, 177]
abbrev dktX9_order_7 : List UInt8 := dkwX9_order_7 ++ []
def dkwX9_order_6 : List UInt8 := [16, 62, 182, 0, 214, 42, 5, 182, 0, 208, 62, 42, 180, 0, 201, 154, 0, 10, 42, 180, 0, 217]
abbrev dktX9_order_6 : List UInt8 := dkwX9_order_6 ++ dktX9_order_7
def dkwX9_order_5 : List UInt8 := [182, 0, 211, 61, 27, 16, 118, 160, 0, 27, 42, 16, 58, 182, 0, 214, 42, 5, 182, 0, 208, 61, 42]
abbrev dktX9_order_5 : List UInt8 := dkwX9_order_5 ++ dktX9_order_6
def dkwX9_order_4 : List UInt8 := [167, 0, 4, 4, 182, 0, 208, 54, 4, 27, 16, 119, 159, 0, 9, 27, 16, 112, 160, 0, 8, 42]
abbrev dktX9_order_4 : List UInt8 := dkwX9_order_4 ++ dktX9_order_5
def dkwX9_order_3 : List UInt8 := [42, 180, 0, 201, 153, 0, 7, 3, 167, 0, 4, 4, 96, 181, 0, 198, 42, 27, 16, 100, 160, 0, 7, 5]
abbrev dktX9_order_3 : List UInt8 := dkwX9_order_3 ++ dktX9_order_4
def dkwX9_order_2 : List UInt8 := [16, 114, 159, 0, 13, 27, 16, 100, 159, 0, 7, 4, 167, 0, 4, 3, 181, 0, 201, 42, 89, 180, 0, 198]
abbrev dktX9_order_2 : List UInt8 := dkwX9_order_2 ++ dktX9_order_3
def dkwX9_order_1 : List UInt8 := [16, 98, 159, 0, 37, 27, 16, 116, 159, 0, 31, 27, 16, 112, 159, 0, 25, 27, 16, 118, 159, 0, 19, 27]
abbrev dktX9_order_1 : List UInt8 := dkwX9_order_1 ++ dktX9_order_2
def dkwX9_order_0 : List UInt8 := [42, 182, 0, 205, 60, 3, 61, 3, 62, 42, 27, 16, 119, 159, 0, 49, 27, 16, 115, 159, 0, 43, 27]
abbrev dktX9_order_0 : List UInt8 := dkwX9_order_0 ++ dktX9_order_1
theorem dksX9_order_0 : cX9_order.data.toList.drop 0 = dktX9_order_0 := by decide +kernel
theorem dksX9_order_1 : cX9_order.data.toList.drop 23 = dktX9_order_1 := dk_seg dksX9_order_0 23 rfl rfl
theorem dksX9_order_2 : cX9_order.data.toList.drop 47 = dktX9_order_2 := dk_seg dksX9_order_1 24 rfl rfl
theorem dksX9_order_3 : cX9_order.data.toList.drop 71 = dktX9_order_3 := dk_seg dksX9_order_2 24 rfl rfl
theorem dksX9_order_4 : cX9_order.data.toList.drop 95 = dktX9_order_4 := dk_seg dksX9_order_3 24 rfl rfl
theorem dksX9_order_5 : cX9_order.data.toList.drop 117 = dktX9_order_5 := dk_seg dksX9_order_4 22 rfl rfl
theorem dksX9_order_6 : cX9_order.data.toList.drop 140 = dktX9_order_6 := dk_seg dksX9_order_5 23 rfl rfl
theorem dksX9_order_7 : cX9_order.data.toList.drop 162 = dktX9_order_7 := dk_seg dksX9_order_6 22 rfl rfl
theorem dX9_order_0 : decode cX9_order 0 = .ok (.aload_n 0, 1) := dk_42 (dk_at dksX9_order_0 0 rfl rfl)
theorem dX9_order_1 : decode cX9_order 1 = .ok (.invokevirtual 205, 3) := dk_182 0 205 (dk_at dksX9_order_0 1 rfl rfl)
theorem dX9_order_4 : decode cX9_order 4 = .ok (.istore_n 1, 1) := dk_60 (dk_at dksX9_order_0 4 rfl rfl)
theorem dX9_order_5 : decode cX9_order 5 = .ok (.iconst 0, 1) := dk_3 (dk_at dksX9_order_0 5 rfl rfl)
theorem dX9_order_6 : decode cX9_order 6 = .ok (.istore_n 2, 1) := dk_61 (dk_at dksX9_order_0 6 rfl rfl)
theorem dX9_order_7 : decode cX9_order 7 = .ok (.iconst 0, 1) := dk_3 (dk_at dksX9_order_0 7 rfl rfl)
theorem dX9_order_8 : decode cX9_order 8 = .ok (.istore_n 3, 1) := dk_62 (dk_at dksX9_order_0 8 rfl rfl)
theorem dX9_order_9 : decode cX9_order 9 = .ok (.aload_n 0, 1) := dk_42 (dk_at dksX9_order_0 9 rfl rfl)
theorem dX9_order_10 : decode cX9_order 10 = .ok (.iload_n 1, 1) := dk_27 (dk_at dksX9_order_0 10 rfl rfl)
theorem dX9_order_11 : decode cX9_order 11 = .ok (.bipush 119, 2) := dk_16 119 (dk_at dksX9_order_0 11 rfl rfl)
theorem dX9_order_13 : decode cX9_order 13 = .ok (.if_icmp .eq 49, 3) := dk_159 0 49 (dk_at dksX9_order_0 13 rfl rfl)
theorem dX9_order_16 : decode cX9_order 16 = .ok (.iload_n 1, 1) := dk_27 (dk_at dksX9_order_0 16 rfl rfl)
theorem dX9_order_17 : decode cX9_order 17 = .ok (.bipush 115, 2) := dk_16 115 (dk_at dksX9_order_0 17 rfl rfl)
theorem dX9_order_19 : decode cX9_order 19 = .ok (.if_icmp .eq 43, 3) := dk_159 0 43 (dk_at dksX9_order_0 19 rfl rfl)
theorem dX9_order_22 : decode cX9_order 22 = .ok (.iload_n 1, 1) := dk_27 (dk_at dksX9_order_0 22 rfl rfl)
theorem dX9_order_23 : decode cX9_order 23 = .ok (.bipush 98, 2) := dk_16 98 (dk_at dksX9_order_1 0 rfl rfl)
theorem dX9_order_25 : decode cX9_order 25 = .ok (.if_icmp .eq 37, 3) := dk_159 0 37 (dk_at dksX9_order_1 2 rfl rfl)
theorem dX9_order_28 : decode cX9_order 28 = .ok (.iload_n 1, 1) := dk_27 (dk_at dksX9_order_1 5 rfl rfl)
theorem dX9_order_29 : decode cX9_order 29 = .ok (.bipush 116, 2) := dk_16 116 (dk_at dksX9_order_1 6 rfl rfl)
theorem dX9_order_31 : decode cX9_order 31 = .ok (.if_icmp .eq 31, 3) := dk_159 0 31 (dk_at dksX9_order_1 8 rfl rfl)
theorem dX9_order_34 : decode cX9_order 34 = .ok (.iload_n 1, 1) := dk_27 (dk_at dksX9_order_1 11 rfl rfl)
theorem dX9_order_35 : decode cX9_order 35 = .ok (.bipush 112, 2) := dk_16 112 (dk_at dksX9_order_1 12 rfl rfl)
theorem dX9_order_37 : decode cX9_order 37 = .ok (.if_icmp .eq 25, 3) := dk_159 0 25 (dk_at dksX9_order_1 14 rfl rfl)
theorem dX9_order_40 : decode cX9_order 40 = .ok (.iload_n 1, 1) := dk_27 (dk_at dksX9_order_1 17 rfl rfl)
theorem dX9_order_41 : decode cX9_order 41 = .ok (.bipush 118, 2) := dk_16 118 (dk_at dksX9_order_1 18 rfl rfl)
theorem dX9_order_43 : decode cX9_order 43 = .ok (.if_icmp .eq 19, 3) := dk_159 0 19 (dk_at dksX9_order_1 20 rfl rfl)
theorem dX9_order_46 : decode cX9_order 46 = .ok (.iload_n 1, 1) := dk_27 (dk_at dksX9_order_1 23 rfl rfl)
theorem dX9_order_47 : decode cX9_order 47 = .ok (.bipush 114, 2) := dk_16 114 (dk_at dksX9_order_2 0 rfl rfl)
theorem dX9_order_49 : decode cX9_order 49 = .ok (.if_icmp .eq 13, 3) := dk_159 0 13 (dk_at dksX9_order_2 2 rfl rfl)
theorem dX9_order_52 : decode cX9_order 52 = .ok (.iload_n 1, 1) := dk_27 (dk_at dksX9_order_2 5 rfl rfl)
theorem dX9_order_53 : decode cX9_order 53 = .ok (.bipush 100, 2) := dk_16 100 (dk_at dksX9_order_2 6 rfl rfl)
theorem dX9_order_55 : decode cX9_order 55 = .ok (.if_icmp .eq 7, 3) := dk_159 0 7 (dk_at dksX9_order_2 8 rfl rfl)
theorem dX9_order_58 : decode cX9_order 58 = .ok (.iconst 1, 1) := dk_4 (dk_at dksX9_order_2 11 rfl rfl)
theorem dX9_order_59 : decode cX9_order 59 = .ok (.goto 4, 3) := dk_167 0 4 (dk_at dksX9_order_2 12 rfl rfl)
theorem dX9_order_62 : decode cX9_order 62 = .ok (.iconst 0, 1) := dk_3 (dk_at dksX9_order_2 15 rfl rfl)
theorem dX9_order_63 : decode cX9_order 63 = .ok (.putfield 201, 3) := dk_181 0 201 (dk_at dksX9_order_2 16 rfl rfl)
theorem dX9_order_66 : decode cX9_order 66 = .ok (.aload_n 0, 1) := dk_42 (dk_at dksX9_order_2 19 rfl rfl)
theorem dX9_order_67 : decode cX9_order 67 = .ok (.dup, 1) := dk_89 (dk_at dksX9_order_2 20 rfl rfl)
theorem dX9_order_68 : decode cX9_order 68 = .ok (.getfield 198, 3) := dk_180 0 198 (dk_at dksX9_order_2 21 rfl rfl)
theorem dX9_order_71 : decode cX9_order 71 = .ok (.aload_n 0, 1) := dk_42 (dk_at dksX9_order_3 0 rfl rfl)
theorem dX9_order_72 : decode cX9_order 72 = .ok (.getfield 201, 3) := dk_180 0 201 (dk_at dksX9_order_3 1 rfl rfl)
theorem dX9_order_75 : decode cX9_order 75 = .ok (.ifCond .eq 7, 3) := dk_153 0 7 (dk_at dksX9_order_3 4 rfl rfl)
theorem dX9_order_78 : decode cX9_order 78 = .ok (.iconst 0, 1) := dk_3 (dk_at dksX9_order_3 7 rfl rfl)
theorem dX9_order_79 : decode cX9_order 79 = .ok (.goto 4, 3) := dk_167 0 4 (dk_at dksX9_order_3 8 rfl rfl)
theorem dX9_order_82 : decode cX9_order 82 = .ok (.iconst 1, 1) := dk_4 (dk_at dksX9_order_3 11 rfl rfl)
theorem dX9_order_83 : decode cX9_order 83 = .ok (.iadd, 1) := dk_96 (dk_at dksX9_order_3 12 rfl rfl)
theorem dX9_order_84 : decode cX9_order 84 = .ok (.putfield 198, 3) := dk_181 0 198 (dk_at dksX9_order_3 13 rfl rfl)
theorem dX9_order_87 : decode cX9_order 87 = .ok (.aload_n 0, 1) := dk_42 (dk_at dksX9_order_3 16 rfl rfl)
theorem dX9_order_88 : decode cX9_order 88 = .ok (.iload_n 1, 1) := dk_27 (dk_at dksX9_order_3 17 rfl rfl)
theorem dX9_order_89 : decode cX9_order 89 = .ok (.bipush 100, 2) := dk_16 100 (dk_at dksX9_order_3 18 rfl rfl)
theorem dX9_order_91 : decode cX9_order 91 = .ok (.if_icmp .ne 7, 3) := dk_160 0 7 (dk_at dksX9_order_3 20 rfl rfl)
theorem dX9_order_94 : decode cX9_order 94 = .ok (.iconst 2, 1) := dk_5 (dk_at dksX9_order_3 23 rfl rfl)
theorem dX9_order_95 : decode cX9_order 95 = .ok (.goto 4, 3) := dk_167 0 4 (dk_at dksX9_order_4 0 rfl rfl)
theorem dX9_order_98 : decode cX9_order 98 = .ok (.iconst 1, 1) := dk_4 (dk_at dksX9_order_4 3 rfl rfl)
theorem dX9_order_99 : decode cX9_order 99 = .ok (.invokevirtual 208, 3) := dk_182 0 208 (dk_at dksX9_order_4 4 rfl rfl)
theorem dX9_order_102 : decode cX9_order 102 = .ok (.istore 4, 2) := dk_54 4 (dk_at dksX9_order_4 7 rfl rfl)
theorem dX9_order_104 : decode cX9_order 104 = .ok (.iload_n 1, 1) := dk_27 (dk_at dksX9_order_4 9 rfl rfl)
theorem dX9_order_105 : decode cX9_order 105 = .ok (.bipush 119, 2) := dk_16 119 (dk_at dksX9_order_4 10 rfl rfl)
theorem dX9_order_107 : decode cX9_order 107 = .ok (.if_icmp .eq 9, 3) := dk_159 0 9 (dk_at dksX9_order_4 12 rfl rfl)
theorem dX9_order_110 : decode cX9_order 110 = .ok (.iload_n 1, 1) := dk_27 (dk_at dksX9_order_4 15 rfl rfl)
theorem dX9_order_111 : decode cX9_order 111 = .ok (.bipush 112, 2) := dk_16 112 (dk_at dksX9_order_4 16 rfl rfl)
theorem dX9_order_113 : decode cX9_order 113 = .ok (.if_icmp .ne 8, 3) := dk_160 0 8 (dk_at dksX9_order_4 18 rfl rfl)
theorem dX9_order_116 : decode cX9_order 116 = .ok (.aload_n 0, 1) := dk_42 (dk_at dksX9_order_4 21 rfl rfl)
theorem dX9_order_117 : decode cX9_order 117 = .ok (.invokevirtual 211, 3) := dk_182 0 211 (dk_at dksX9_order_5 0 rfl rfl)
theorem dX9_order_120 : decode cX9_order 120 = .ok (.istore_n 2, 1) := dk_61 (dk_at dksX9_order_5 3 rfl rfl)
theorem dX9_order_121 : decode cX9_order 121 = .ok (.iload_n 1, 1) := dk_27 (dk_at dksX9_order_5 4 rfl rfl)
theorem dX9_order_122 : decode cX9_order 122 = .ok (.bipush 118, 2) := dk_16 118 (dk_at dksX9_order_5 5 rfl rfl)
theorem dX9_order_124 : decode cX9_order 124 = .ok (.if_icmp .ne 27, 3) := dk_160 0 27 (dk_at dksX9_order_5 7 rfl rfl)
theorem dX9_order_127 : decode cX9_order 127 = .ok (.aload_n 0, 1) := dk_42 (dk_at dksX9_order_5 10 rfl rfl)
theorem dX9_order_128 : decode cX9_order 128 = .ok (.bipush 58, 2) := dk_16 58 (dk_at dksX9_order_5 11 rfl rfl)
theorem dX9_order_130 : decode cX9_order 130 = .ok (.invokevirtual 214, 3) := dk_182 0 214 (dk_at dksX9_order_5 13 rfl rfl)
theorem dX9_order_133 : decode cX9_order 133 = .ok (.aload_n 0, 1) := dk_42 (dk_at dksX9_order_5 16 rfl rfl)
theorem dX9_order_134 : decode cX9_order 134 = .ok (.iconst 2, 1) := dk_5 (dk_at dksX9_order_5 17 rfl rfl)
theorem dX9_order_135 : decode cX9_order 135 = .ok (.invokevirtual 208, 3) := dk_182 0 208 (dk_at dksX9_order_5 18 rfl rfl)
theorem dX9_order_138 : decode cX9_order 138 = .ok (.istore_n 2, 1) := dk_61 (dk_at dksX9_order_5 21 rfl rfl)
theorem dX9_order_139 : decode cX9_order 139 = .ok (.aload_n 0, 1) := dk_42 (dk_at dksX9_order_5 22 rfl rfl)
theorem dX9_order_140 : decode cX9_order 140 = .ok (.bipush 62, 2) := dk_16 62 (dk_at dksX9_order_6 0 rfl rfl)
theorem dX9_order_142 : decode cX9_order 142 = .ok (.invokevirtual 214, 3) := dk_182 0 214 (dk_at dksX9_order_6 2 rfl rfl)
theorem dX9_order_145 : decode cX9_order 145 = .ok (.aload_n 0, 1) := dk_42 (dk_at dksX9_order_6 5 rfl rfl)
theorem dX9_order_146 : decode cX9_order 146 = .ok (.iconst 2, 1) := dk_5 (dk_at dksX9_order_6 6 rfl rfl)
theorem dX9_order_147 : decode cX9_order 147 = .ok (.invokevirtual 208, 3) := dk_182 0 208 (dk_at dksX9_order_6 7 rfl rfl)
theorem dX9_order_150 : decode cX9_order 150 = .ok (.istore_n 3, 1) := dk_62 (dk_at dksX9_order_6 10 rfl rfl)
theorem dX9_order_151 : decode cX9_order 151 = .ok (.aload_n 0, 1) := dk_42 (dk_at dksX9_order_6 11 rfl rfl)
theorem dX9_order_152 : decode cX9_order 152 = .ok (.getfield 201, 3) := dk_180 0 201 (dk_at dksX9_order_6 12 rfl rfl)
theorem dX9_order_155 : decode cX9_order 155 = .ok (.ifCond .ne 10, 3) := dk_154 0 10 (dk_at dksX9_order_6 15 rfl rfl)
theorem dX9_order_158 : decode cX9_order 158 = .ok (.aload_n 0, 1) := dk_42 (dk_at dksX9_order_6 18 rfl rfl)
theorem dX9_order_159 : decode cX9_order 159 = .ok (.getfield 217, 3) := dk_180 0 217 (dk_at dksX9_order_6 19 rfl rfl)
theorem dX9_order_162 : decode cX9_order 162 = .ok (.ifCond .ne 4, 3) := dk_154 0 4 (dk_at dksX9_order_7 0 rfl rfl)
theorem dX9_order_165 : decode cX9_order 165 = .ok (.return_, 1) := dk_177 (dk_at dksX9_order_7 3 rfl rfl)
theorem dX9_order_166 : decode cX9_order 166 = .ok (.aload_n 0, 1) := dk_42 (dk_at dksX9_order_7 4 rfl rfl)
theorem dX9_order_167 : decode cX9_order 167 = .ok (.iload_n 1, 1) := dk_27 (dk_at dksX9_order_7 5 rfl rfl)
theorem dX9_order_168 : decode cX9_order 168 = .ok (.iload 4, 2) := dk_21 4 (dk_at dksX9_order_7 6 rfl rfl)
theorem dX9_order_170 : decode cX9_order 170 = .ok (.iload_n 2, 1) := dk_28 (dk_at dksX9_order_7 8 rfl rfl)
theorem dX9_order_171 : decode cX9_order 171 = .ok (.iload_n 3, 1) := dk_29 (dk_at dksX9_order_7 9 rfl rfl)
theorem dX9_order_172 : decode cX9_order 172 = .ok (.invokevirtual 220, 3) := dk_182 0 220 (dk_at dksX9_order_7 10 rfl rfl)
theorem dX9_order_175 : decode cX9_order 175 = .ok (.istore 5, 2) := dk_54 5 (dk_at dksX9_order_7 13 rfl rfl)
theorem dX9_order_177 : decode cX9_order 177 = .ok (.return_, 1) := dk_177 (dk_at dksX9_order_7 15 rfl rfl)
abbrev cX9_sign : ByteArray := prog_23_method_59_code
def yX9_sign : MethodName := ⟨RX9, "sign", "()I"⟩
def dkwX9_sign_1 : List UInt8 := [172]
abbrev dktX9_sign_1 : List UInt8 := dkwX9_sign_1 ++ []
def dkwX9_sign_0 : List UInt8 := [42, 180, 0, 198, 42, 180, 0, 195, 162, 0, 15, 42, 180, 0, 41, 42, 180, 0, 198, 46, 167, 0, 4, 2]
abbrev dktX9_sign_0 : List UInt8 := dkwX9_sign_0 ++ dktX9_sign_1
theorem dksX9_sign_0 : cX9_sign.data.toList.drop 0 = dktX9_sign_0 := by decide +kernel
theorem dksX9_sign_1 : cX9_sign.data.toList.drop 24 = dktX9_sign_1 := dk_seg dksX9_sign_0 24 rfl rfl
theorem dX9_sign_0 : decode cX9_sign 0 = .ok (.aload_n 0, 1) := dk_42 (dk_at dksX9_sign_0 0 rfl rfl)
theorem dX9_sign_1 : decode cX9_sign 1 = .ok (.getfield 198, 3) := dk_180 0 198 (dk_at dksX9_sign_0 1 rfl rfl)
theorem dX9_sign_4 : decode cX9_sign 4 = .ok (.aload_n 0, 1) := dk_42 (dk_at dksX9_sign_0 4 rfl rfl)
theorem dX9_sign_5 : decode cX9_sign 5 = .ok (.getfield 195, 3) := dk_180 0 195 (dk_at dksX9_sign_0 5 rfl rfl)
theorem dX9_sign_8 : decode cX9_sign 8 = .ok (.if_icmp .ge 15, 3) := dk_162 0 15 (dk_at dksX9_sign_0 8 rfl rfl)
theorem dX9_sign_11 : decode cX9_sign 11 = .ok (.aload_n 0, 1) := dk_42 (dk_at dksX9_sign_0 11 rfl rfl)
theorem dX9_sign_12 : decode cX9_sign 12 = .ok (.getfield 41, 3) := dk_180 0 41 (dk_at dksX9_sign_0 12 rfl rfl)
theorem dX9_sign_15 : decode cX9_sign 15 = .ok (.aload_n 0, 1) := dk_42 (dk_at dksX9_sign_0 15 rfl rfl)
theorem dX9_sign_16 : decode cX9_sign 16 = .ok (.getfield 198, 3) := dk_180 0 198 (dk_at dksX9_sign_0 16 rfl rfl)
theorem dX9_sign_19 : decode cX9_sign 19 = .ok (.iaload, 1) := dk_46 (dk_at dksX9_sign_0 19 rfl rfl)
theorem dX9_sign_20 : decode cX9_sign 20 = .ok (.goto 4, 3) := dk_167 0 4 (dk_at dksX9_sign_0 20 rfl rfl)
theorem dX9_sign_23 : decode cX9_sign 23 = .ok (.iconst (-1), 1) := dk_2 (dk_at dksX9_sign_0 23 rfl rfl)
theorem dX9_sign_24 : decode cX9_sign 24 = .ok (.ireturn, 1) := dk_172 (dk_at dksX9_sign_1 0 rfl rfl)
abbrev cX9_number : ByteArray := prog_23_method_60_code
def yX9_number : MethodName := ⟨RX9, "number", "(I)I"⟩
def dkwX9_number_3 : List UInt8 := [16, 48, 100, 61, 42, 89, 180, 0, 198, 4, 96, 181, 0, 198, 132, 3, 1, 167, 255, 204, 28, 172]
abbrev dktX9_number_3 : List UInt8 := dkwX9_number_3 ++ []
def dkwX9_number_2 : List UInt8 := [42, 182, 0, 205, 16, 48, 16, 57, 184, 0, 74, 153, 0, 32, 16, 10, 28, 104, 42, 182, 0, 205, 96]
abbrev dktX9_number_2 : List UInt8 := dkwX9_number_2 ++ dktX9_number_3
def dkwX9_number_1 : List UInt8 := [4, 167, 0, 4, 3, 181, 0, 201, 3, 61, 3, 62, 29, 27, 162, 0, 53, 42, 180, 0, 201, 154, 0, 46]
abbrev dktX9_number_1 : List UInt8 := dkwX9_number_1 ++ dktX9_number_2
def dkwX9_number_0 : List UInt8 := [42, 180, 0, 201, 153, 0, 5, 3, 172, 42, 42, 182, 0, 205, 16, 48, 16, 57, 184, 0, 74, 154, 0, 7]
abbrev dktX9_number_0 : List UInt8 := dkwX9_number_0 ++ dktX9_number_1
theorem dksX9_number_0 : cX9_number.data.toList.drop 0 = dktX9_number_0 := by decide +kernel
theorem dksX9_number_1 : cX9_number.data.toList.drop 24 = dktX9_number_1 := dk_seg dksX9_number_0 24 rfl rfl
theorem dksX9_number_2 : cX9_number.data.toList.drop 48 = dktX9_number_2 := dk_seg dksX9_number_1 24 rfl rfl
theorem dksX9_number_3 : cX9_number.data.toList.drop 71 = dktX9_number_3 := dk_seg dksX9_number_2 23 rfl rfl
theorem dX9_number_0 : decode cX9_number 0 = .ok (.aload_n 0, 1) := dk_42 (dk_at dksX9_number_0 0 rfl rfl)
theorem dX9_number_1 : decode cX9_number 1 = .ok (.getfield 201, 3) := dk_180 0 201 (dk_at dksX9_number_0 1 rfl rfl)
theorem dX9_number_4 : decode cX9_number 4 = .ok (.ifCond .eq 5, 3) := dk_153 0 5 (dk_at dksX9_number_0 4 rfl rfl)
theorem dX9_number_7 : decode cX9_number 7 = .ok (.iconst 0, 1) := dk_3 (dk_at dksX9_number_0 7 rfl rfl)
theorem dX9_number_8 : decode cX9_number 8 = .ok (.ireturn, 1) := dk_172 (dk_at dksX9_number_0 8 rfl rfl)
theorem dX9_number_9 : decode cX9_number 9 = .ok (.aload_n 0, 1) := dk_42 (dk_at dksX9_number_0 9 rfl rfl)
theorem dX9_number_10 : decode cX9_number 10 = .ok (.aload_n 0, 1) := dk_42 (dk_at dksX9_number_0 10 rfl rfl)
theorem dX9_number_11 : decode cX9_number 11 = .ok (.invokevirtual 205, 3) := dk_182 0 205 (dk_at dksX9_number_0 11 rfl rfl)
theorem dX9_number_14 : decode cX9_number 14 = .ok (.bipush 48, 2) := dk_16 48 (dk_at dksX9_number_0 14 rfl rfl)
theorem dX9_number_16 : decode cX9_number 16 = .ok (.bipush 57, 2) := dk_16 57 (dk_at dksX9_number_0 16 rfl rfl)
theorem dX9_number_18 : decode cX9_number 18 = .ok (.invokestatic 74, 3) := dk_184 0 74 (dk_at dksX9_number_0 18 rfl rfl)
theorem dX9_number_21 : decode cX9_number 21 = .ok (.ifCond .ne 7, 3) := dk_154 0 7 (dk_at dksX9_number_0 21 rfl rfl)
theorem dX9_number_24 : decode cX9_number 24 = .ok (.iconst 1, 1) := dk_4 (dk_at dksX9_number_1 0 rfl rfl)
theorem dX9_number_25 : decode cX9_number 25 = .ok (.goto 4, 3) := dk_167 0 4 (dk_at dksX9_number_1 1 rfl rfl)
theorem dX9_number_28 : decode cX9_number 28 = .ok (.iconst 0, 1) := dk_3 (dk_at dksX9_number_1 4 rfl rfl)
theorem dX9_number_29 : decode cX9_number 29 = .ok (.putfield 201, 3) := dk_181 0 201 (dk_at dksX9_number_1 5 rfl rfl)
theorem dX9_number_32 : decode cX9_number 32 = .ok (.iconst 0, 1) := dk_3 (dk_at dksX9_number_1 8 rfl rfl)
theorem dX9_number_33 : decode cX9_number 33 = .ok (.istore_n 2, 1) := dk_61 (dk_at dksX9_number_1 9 rfl rfl)
theorem dX9_number_34 : decode cX9_number 34 = .ok (.iconst 0, 1) := dk_3 (dk_at dksX9_number_1 10 rfl rfl)
theorem dX9_number_35 : decode cX9_number 35 = .ok (.istore_n 3, 1) := dk_62 (dk_at dksX9_number_1 11 rfl rfl)
theorem dX9_number_36 : decode cX9_number 36 = .ok (.iload_n 3, 1) := dk_29 (dk_at dksX9_number_1 12 rfl rfl)
theorem dX9_number_37 : decode cX9_number 37 = .ok (.iload_n 1, 1) := dk_27 (dk_at dksX9_number_1 13 rfl rfl)
theorem dX9_number_38 : decode cX9_number 38 = .ok (.if_icmp .ge 53, 3) := dk_162 0 53 (dk_at dksX9_number_1 14 rfl rfl)
theorem dX9_number_41 : decode cX9_number 41 = .ok (.aload_n 0, 1) := dk_42 (dk_at dksX9_number_1 17 rfl rfl)
theorem dX9_number_42 : decode cX9_number 42 = .ok (.getfield 201, 3) := dk_180 0 201 (dk_at dksX9_number_1 18 rfl rfl)
theorem dX9_number_45 : decode cX9_number 45 = .ok (.ifCond .ne 46, 3) := dk_154 0 46 (dk_at dksX9_number_1 21 rfl rfl)
theorem dX9_number_48 : decode cX9_number 48 = .ok (.aload_n 0, 1) := dk_42 (dk_at dksX9_number_2 0 rfl rfl)
theorem dX9_number_49 : decode cX9_number 49 = .ok (.invokevirtual 205, 3) := dk_182 0 205 (dk_at dksX9_number_2 1 rfl rfl)
theorem dX9_number_52 : decode cX9_number 52 = .ok (.bipush 48, 2) := dk_16 48 (dk_at dksX9_number_2 4 rfl rfl)
theorem dX9_number_54 : decode cX9_number 54 = .ok (.bipush 57, 2) := dk_16 57 (dk_at dksX9_number_2 6 rfl rfl)
theorem dX9_number_56 : decode cX9_number 56 = .ok (.invokestatic 74, 3) := dk_184 0 74 (dk_at dksX9_number_2 8 rfl rfl)
theorem dX9_number_59 : decode cX9_number 59 = .ok (.ifCond .eq 32, 3) := dk_153 0 32 (dk_at dksX9_number_2 11 rfl rfl)
theorem dX9_number_62 : decode cX9_number 62 = .ok (.bipush 10, 2) := dk_16 10 (dk_at dksX9_number_2 14 rfl rfl)
theorem dX9_number_64 : decode cX9_number 64 = .ok (.iload_n 2, 1) := dk_28 (dk_at dksX9_number_2 16 rfl rfl)
theorem dX9_number_65 : decode cX9_number 65 = .ok (.imul, 1) := dk_104 (dk_at dksX9_number_2 17 rfl rfl)
theorem dX9_number_66 : decode cX9_number 66 = .ok (.aload_n 0, 1) := dk_42 (dk_at dksX9_number_2 18 rfl rfl)
theorem dX9_number_67 : decode cX9_number 67 = .ok (.invokevirtual 205, 3) := dk_182 0 205 (dk_at dksX9_number_2 19 rfl rfl)
theorem dX9_number_70 : decode cX9_number 70 = .ok (.iadd, 1) := dk_96 (dk_at dksX9_number_2 22 rfl rfl)
theorem dX9_number_71 : decode cX9_number 71 = .ok (.bipush 48, 2) := dk_16 48 (dk_at dksX9_number_3 0 rfl rfl)
theorem dX9_number_73 : decode cX9_number 73 = .ok (.isub, 1) := dk_100 (dk_at dksX9_number_3 2 rfl rfl)
theorem dX9_number_74 : decode cX9_number 74 = .ok (.istore_n 2, 1) := dk_61 (dk_at dksX9_number_3 3 rfl rfl)
theorem dX9_number_75 : decode cX9_number 75 = .ok (.aload_n 0, 1) := dk_42 (dk_at dksX9_number_3 4 rfl rfl)
theorem dX9_number_76 : decode cX9_number 76 = .ok (.dup, 1) := dk_89 (dk_at dksX9_number_3 5 rfl rfl)
theorem dX9_number_77 : decode cX9_number 77 = .ok (.getfield 198, 3) := dk_180 0 198 (dk_at dksX9_number_3 6 rfl rfl)
theorem dX9_number_80 : decode cX9_number 80 = .ok (.iconst 1, 1) := dk_4 (dk_at dksX9_number_3 9 rfl rfl)
theorem dX9_number_81 : decode cX9_number 81 = .ok (.iadd, 1) := dk_96 (dk_at dksX9_number_3 10 rfl rfl)
theorem dX9_number_82 : decode cX9_number 82 = .ok (.putfield 198, 3) := dk_181 0 198 (dk_at dksX9_number_3 11 rfl rfl)
theorem dX9_number_85 : decode cX9_number 85 = .ok (.iinc 3 1, 3) := dk_132 3 1 (dk_at dksX9_number_3 14 rfl rfl)
theorem dX9_number_88 : decode cX9_number 88 = .ok (.goto (-52), 3) := dk_167 255 204 (dk_at dksX9_number_3 17 rfl rfl)
theorem dX9_number_91 : decode cX9_number 91 = .ok (.iload_n 2, 1) := dk_28 (dk_at dksX9_number_3 20 rfl rfl)
theorem dX9_number_92 : decode cX9_number 92 = .ok (.ireturn, 1) := dk_172 (dk_at dksX9_number_3 21 rfl rfl)
abbrev cX9_letter : ByteArray := prog_23_method_61_code
def yX9_letter : MethodName := ⟨RX9, "letter", "()I"⟩
def dkwX9_letter_2 : List UInt8 := [96, 181, 0, 198, 27, 172]
abbrev dktX9_letter_2 : List UInt8 := dkwX9_letter_2 ++ []
def dkwX9_letter_1 : List UInt8 := [167, 0, 4, 3, 181, 0, 201, 42, 89, 180, 0, 198, 42, 180, 0, 201, 153, 0, 7, 3, 167, 0, 4, 4]
abbrev dktX9_letter_1 : List UInt8 := dkwX9_letter_1 ++ dktX9_letter_2
def dkwX9_letter_0 : List UInt8 := [42, 180, 0, 201, 153, 0, 5, 3, 172, 42, 182, 0, 205, 60, 42, 27, 184, 0, 124, 156, 0, 7, 4]
abbrev dktX9_letter_0 : List UInt8 := dkwX9_letter_0 ++ dktX9_letter_1
theorem dksX9_letter_0 : cX9_letter.data.toList.drop 0 = dktX9_letter_0 := by decide +kernel
theorem dksX9_letter_1 : cX9_letter.data.toList.drop 23 = dktX9_letter_1 := dk_seg dksX9_letter_0 23 rfl rfl
theorem dksX9_letter_2 : cX9_letter.data.toList.drop 47 = dktX9_letter_2 := dk_seg dksX9_letter_1 24 rfl rfl
theorem dX9_letter_0 : decode cX9_letter 0 = .ok (.aload_n 0, 1) := dk_42 (dk_at dksX9_letter_0 0 rfl rfl)
theorem dX9_letter_1 : decode cX9_letter 1 = .ok (.getfield 201, 3) := dk_180 0 201 (dk_at dksX9_letter_0 1 rfl rfl)
theorem dX9_letter_4 : decode cX9_letter 4 = .ok (.ifCond .eq 5, 3) := dk_153 0 5 (dk_at dksX9_letter_0 4 rfl rfl)
theorem dX9_letter_7 : decode cX9_letter 7 = .ok (.iconst 0, 1) := dk_3 (dk_at dksX9_letter_0 7 rfl rfl)
theorem dX9_letter_8 : decode cX9_letter 8 = .ok (.ireturn, 1) := dk_172 (dk_at dksX9_letter_0 8 rfl rfl)
theorem dX9_letter_9 : decode cX9_letter 9 = .ok (.aload_n 0, 1) := dk_42 (dk_at dksX9_letter_0 9 rfl rfl)
theorem dX9_letter_10 : decode cX9_letter 10 = .ok (.invokevirtual 205, 3) := dk_182 0 205 (dk_at dksX9_letter_0 10 rfl rfl)
theorem dX9_letter_13 : decode cX9_letter 13 = .ok (.istore_n 1, 1) := dk_60 (dk_at dksX9_letter_0 13 rfl rfl)
theorem dX9_letter_14 : decode cX9_letter 14 = .ok (.aload_n 0, 1) := dk_42 (dk_at dksX9_letter_0 14 rfl rfl)
theorem dX9_letter_15 : decode cX9_letter 15 = .ok (.iload_n 1, 1) := dk_27 (dk_at dksX9_letter_0 15 rfl rfl)
theorem dX9_letter_16 : decode cX9_letter 16 = .ok (.invokestatic 124, 3) := dk_184 0 124 (dk_at dksX9_letter_0 16 rfl rfl)
theorem dX9_letter_19 : decode cX9_letter 19 = .ok (.ifCond .ge 7, 3) := dk_156 0 7 (dk_at dksX9_letter_0 19 rfl rfl)
theorem dX9_letter_22 : decode cX9_letter 22 = .ok (.iconst 1, 1) := dk_4 (dk_at dksX9_letter_0 22 rfl rfl)
theorem dX9_letter_23 : decode cX9_letter 23 = .ok (.goto 4, 3) := dk_167 0 4 (dk_at dksX9_letter_1 0 rfl rfl)
theorem dX9_letter_26 : decode cX9_letter 26 = .ok (.iconst 0, 1) := dk_3 (dk_at dksX9_letter_1 3 rfl rfl)
theorem dX9_letter_27 : decode cX9_letter 27 = .ok (.putfield 201, 3) := dk_181 0 201 (dk_at dksX9_letter_1 4 rfl rfl)
theorem dX9_letter_30 : decode cX9_letter 30 = .ok (.aload_n 0, 1) := dk_42 (dk_at dksX9_letter_1 7 rfl rfl)
theorem dX9_letter_31 : decode cX9_letter 31 = .ok (.dup, 1) := dk_89 (dk_at dksX9_letter_1 8 rfl rfl)
theorem dX9_letter_32 : decode cX9_letter 32 = .ok (.getfield 198, 3) := dk_180 0 198 (dk_at dksX9_letter_1 9 rfl rfl)
theorem dX9_letter_35 : decode cX9_letter 35 = .ok (.aload_n 0, 1) := dk_42 (dk_at dksX9_letter_1 12 rfl rfl)
theorem dX9_letter_36 : decode cX9_letter 36 = .ok (.getfield 201, 3) := dk_180 0 201 (dk_at dksX9_letter_1 13 rfl rfl)
theorem dX9_letter_39 : decode cX9_letter 39 = .ok (.ifCond .eq 7, 3) := dk_153 0 7 (dk_at dksX9_letter_1 16 rfl rfl)
theorem dX9_letter_42 : decode cX9_letter 42 = .ok (.iconst 0, 1) := dk_3 (dk_at dksX9_letter_1 19 rfl rfl)
theorem dX9_letter_43 : decode cX9_letter 43 = .ok (.goto 4, 3) := dk_167 0 4 (dk_at dksX9_letter_1 20 rfl rfl)
theorem dX9_letter_46 : decode cX9_letter 46 = .ok (.iconst 1, 1) := dk_4 (dk_at dksX9_letter_1 23 rfl rfl)
theorem dX9_letter_47 : decode cX9_letter 47 = .ok (.iadd, 1) := dk_96 (dk_at dksX9_letter_2 0 rfl rfl)
theorem dX9_letter_48 : decode cX9_letter 48 = .ok (.putfield 198, 3) := dk_181 0 198 (dk_at dksX9_letter_2 1 rfl rfl)
theorem dX9_letter_51 : decode cX9_letter 51 = .ok (.iload_n 1, 1) := dk_27 (dk_at dksX9_letter_2 4 rfl rfl)
theorem dX9_letter_52 : decode cX9_letter 52 = .ok (.ireturn, 1) := dk_172 (dk_at dksX9_letter_2 5 rfl rfl)
abbrev cX9_mark : ByteArray := prog_23_method_62_code
def yX9_mark : MethodName := ⟨RX9, "mark", "(I)V"⟩
def dkwX9_mark_2 : List UInt8 := [177]
abbrev dktX9_mark_2 : List UInt8 := dkwX9_mark_2 ++ []
def dkwX9_mark_1 : List UInt8 := [181, 0, 201, 42, 89, 180, 0, 198, 42, 180, 0, 201, 153, 0, 7, 3, 167, 0, 4, 4, 96, 181, 0, 198]
abbrev dktX9_mark_1 : List UInt8 := dkwX9_mark_1 ++ dktX9_mark_2
def dkwX9_mark_0 : List UInt8 := [42, 180, 0, 201, 153, 0, 4, 177, 42, 42, 182, 0, 205, 27, 159, 0, 7, 4, 167, 0, 4, 3]
abbrev dktX9_mark_0 : List UInt8 := dkwX9_mark_0 ++ dktX9_mark_1
theorem dksX9_mark_0 : cX9_mark.data.toList.drop 0 = dktX9_mark_0 := by decide +kernel
theorem dksX9_mark_1 : cX9_mark.data.toList.drop 22 = dktX9_mark_1 := dk_seg dksX9_mark_0 22 rfl rfl
theorem dksX9_mark_2 : cX9_mark.data.toList.drop 46 = dktX9_mark_2 := dk_seg dksX9_mark_1 24 rfl rfl
theorem dX9_mark_0 : decode cX9_mark 0 = .ok (.aload_n 0, 1) := dk_42 (dk_at dksX9_mark_0 0 rfl rfl)
theorem dX9_mark_1 : decode cX9_mark 1 = .ok (.getfield 201, 3) := dk_180 0 201 (dk_at dksX9_mark_0 1 rfl rfl)
theorem dX9_mark_4 : decode cX9_mark 4 = .ok (.ifCond .eq 4, 3) := dk_153 0 4 (dk_at dksX9_mark_0 4 rfl rfl)
theorem dX9_mark_7 : decode cX9_mark 7 = .ok (.return_, 1) := dk_177 (dk_at dksX9_mark_0 7 rfl rfl)
theorem dX9_mark_8 : decode cX9_mark 8 = .ok (.aload_n 0, 1) := dk_42 (dk_at dksX9_mark_0 8 rfl rfl)
theorem dX9_mark_9 : decode cX9_mark 9 = .ok (.aload_n 0, 1) := dk_42 (dk_at dksX9_mark_0 9 rfl rfl)
theorem dX9_mark_10 : decode cX9_mark 10 = .ok (.invokevirtual 205, 3) := dk_182 0 205 (dk_at dksX9_mark_0 10 rfl rfl)
theorem dX9_mark_13 : decode cX9_mark 13 = .ok (.iload_n 1, 1) := dk_27 (dk_at dksX9_mark_0 13 rfl rfl)
theorem dX9_mark_14 : decode cX9_mark 14 = .ok (.if_icmp .eq 7, 3) := dk_159 0 7 (dk_at dksX9_mark_0 14 rfl rfl)
theorem dX9_mark_17 : decode cX9_mark 17 = .ok (.iconst 1, 1) := dk_4 (dk_at dksX9_mark_0 17 rfl rfl)
theorem dX9_mark_18 : decode cX9_mark 18 = .ok (.goto 4, 3) := dk_167 0 4 (dk_at dksX9_mark_0 18 rfl rfl)
theorem dX9_mark_21 : decode cX9_mark 21 = .ok (.iconst 0, 1) := dk_3 (dk_at dksX9_mark_0 21 rfl rfl)
theorem dX9_mark_22 : decode cX9_mark 22 = .ok (.putfield 201, 3) := dk_181 0 201 (dk_at dksX9_mark_1 0 rfl rfl)
theorem dX9_mark_25 : decode cX9_mark 25 = .ok (.aload_n 0, 1) := dk_42 (dk_at dksX9_mark_1 3 rfl rfl)
theorem dX9_mark_26 : decode cX9_mark 26 = .ok (.dup, 1) := dk_89 (dk_at dksX9_mark_1 4 rfl rfl)
theorem dX9_mark_27 : decode cX9_mark 27 = .ok (.getfield 198, 3) := dk_180 0 198 (dk_at dksX9_mark_1 5 rfl rfl)
theorem dX9_mark_30 : decode cX9_mark 30 = .ok (.aload_n 0, 1) := dk_42 (dk_at dksX9_mark_1 8 rfl rfl)
theorem dX9_mark_31 : decode cX9_mark 31 = .ok (.getfield 201, 3) := dk_180 0 201 (dk_at dksX9_mark_1 9 rfl rfl)
theorem dX9_mark_34 : decode cX9_mark 34 = .ok (.ifCond .eq 7, 3) := dk_153 0 7 (dk_at dksX9_mark_1 12 rfl rfl)
theorem dX9_mark_37 : decode cX9_mark 37 = .ok (.iconst 0, 1) := dk_3 (dk_at dksX9_mark_1 15 rfl rfl)
theorem dX9_mark_38 : decode cX9_mark 38 = .ok (.goto 4, 3) := dk_167 0 4 (dk_at dksX9_mark_1 16 rfl rfl)
theorem dX9_mark_41 : decode cX9_mark 41 = .ok (.iconst 1, 1) := dk_4 (dk_at dksX9_mark_1 19 rfl rfl)
theorem dX9_mark_42 : decode cX9_mark 42 = .ok (.iadd, 1) := dk_96 (dk_at dksX9_mark_1 20 rfl rfl)
theorem dX9_mark_43 : decode cX9_mark 43 = .ok (.putfield 198, 3) := dk_181 0 198 (dk_at dksX9_mark_1 21 rfl rfl)
theorem dX9_mark_46 : decode cX9_mark 46 = .ok (.return_, 1) := dk_177 (dk_at dksX9_mark_2 0 rfl rfl)
abbrev cX9_does : ByteArray := prog_23_method_63_code
def yX9_does : MethodName := ⟨RX9, "does", "(IIII)I"⟩
def dkwX9_does_4 : List UInt8 := [28, 182, 0, 192, 172]
abbrev dktX9_does_4 : List UInt8 := dkwX9_does_4 ++ []
def dkwX9_does_3 : List UInt8 := [172, 42, 28, 29, 182, 0, 146, 172, 42, 28, 29, 21, 4, 182, 0, 175, 172, 42, 28, 182, 0, 109, 172, 42]
abbrev dktX9_does_3 : List UInt8 := dkwX9_does_3 ++ dktX9_does_4
def dkwX9_does_2 : List UInt8 := [42, 28, 29, 182, 0, 134, 172, 42, 28, 182, 0, 137, 172, 42, 28, 182, 0, 140, 172, 42, 28, 182, 0, 143]
abbrev dktX9_does_2 : List UInt8 := dkwX9_does_2 ++ dktX9_does_3
def dkwX9_does_1 : List UInt8 := [170, 0, 0, 0, 0, 0, 150, 0, 0, 0, 98, 0, 0, 0, 119, 0, 0, 0, 116, 0, 0, 0, 150, 0, 0, 0, 150, 0, 0, 0, 150, 0, 0, 0, 150, 0, 0, 0, 150, 0, 0, 0, 150, 0, 0, 0, 150, 0, 0, 0, 150, 0, 0, 0, 150, 0, 0, 0, 150, 0, 0, 0, 150, 0, 0, 0, 150, 0, 0, 0, 150, 0, 0, 0, 128, 0, 0, 0, 150, 0, 0, 0, 144, 0, 0, 0, 110, 0, 0, 0, 122, 0, 0, 0, 150, 0, 0, 0, 135, 0, 0, 0, 103]
abbrev dktX9_does_1 : List UInt8 := dkwX9_does_1 ++ dktX9_does_2
def dkwX9_does_0 : List UInt8 := [27]
abbrev dktX9_does_0 : List UInt8 := dkwX9_does_0 ++ dktX9_does_1
theorem dksX9_does_0 : cX9_does.data.toList.drop 0 = dktX9_does_0 := by decide +kernel
theorem dksX9_does_1 : cX9_does.data.toList.drop 1 = dktX9_does_1 := dk_seg dksX9_does_0 1 rfl rfl
theorem dksX9_does_2 : cX9_does.data.toList.drop 104 = dktX9_does_2 := dk_seg dksX9_does_1 103 rfl rfl
theorem dksX9_does_3 : cX9_does.data.toList.drop 128 = dktX9_does_3 := dk_seg dksX9_does_2 24 rfl rfl
theorem dksX9_does_4 : cX9_does.data.toList.drop 152 = dktX9_does_4 := dk_seg dksX9_does_3 24 rfl rfl
theorem dX9_does_0 : decode cX9_does 0 = .ok (.iload_n 1, 1) := dk_27 (dk_at dksX9_does_0 0 rfl rfl)
theorem dX9_does_1 : decode cX9_does 1 = .ok (.tableswitch 150 98 119 #[116, 150, 150, 150, 150, 150, 150, 150, 150, 150, 150, 150, 150, 150, 128, 150, 144, 110, 122, 150, 135, 103], 103) := by decide +kernel
theorem dX9_does_104 : decode cX9_does 104 = .ok (.aload_n 0, 1) := dk_42 (dk_at dksX9_does_2 0 rfl rfl)
theorem dX9_does_105 : decode cX9_does 105 = .ok (.iload_n 2, 1) := dk_28 (dk_at dksX9_does_2 1 rfl rfl)
theorem dX9_does_106 : decode cX9_does 106 = .ok (.iload_n 3, 1) := dk_29 (dk_at dksX9_does_2 2 rfl rfl)
theorem dX9_does_107 : decode cX9_does 107 = .ok (.invokevirtual 134, 3) := dk_182 0 134 (dk_at dksX9_does_2 3 rfl rfl)
theorem dX9_does_110 : decode cX9_does 110 = .ok (.ireturn, 1) := dk_172 (dk_at dksX9_does_2 6 rfl rfl)
theorem dX9_does_111 : decode cX9_does 111 = .ok (.aload_n 0, 1) := dk_42 (dk_at dksX9_does_2 7 rfl rfl)
theorem dX9_does_112 : decode cX9_does 112 = .ok (.iload_n 2, 1) := dk_28 (dk_at dksX9_does_2 8 rfl rfl)
theorem dX9_does_113 : decode cX9_does 113 = .ok (.invokevirtual 137, 3) := dk_182 0 137 (dk_at dksX9_does_2 9 rfl rfl)
theorem dX9_does_116 : decode cX9_does 116 = .ok (.ireturn, 1) := dk_172 (dk_at dksX9_does_2 12 rfl rfl)
theorem dX9_does_117 : decode cX9_does 117 = .ok (.aload_n 0, 1) := dk_42 (dk_at dksX9_does_2 13 rfl rfl)
theorem dX9_does_118 : decode cX9_does 118 = .ok (.iload_n 2, 1) := dk_28 (dk_at dksX9_does_2 14 rfl rfl)
theorem dX9_does_119 : decode cX9_does 119 = .ok (.invokevirtual 140, 3) := dk_182 0 140 (dk_at dksX9_does_2 15 rfl rfl)
theorem dX9_does_122 : decode cX9_does 122 = .ok (.ireturn, 1) := dk_172 (dk_at dksX9_does_2 18 rfl rfl)
theorem dX9_does_123 : decode cX9_does 123 = .ok (.aload_n 0, 1) := dk_42 (dk_at dksX9_does_2 19 rfl rfl)
theorem dX9_does_124 : decode cX9_does 124 = .ok (.iload_n 2, 1) := dk_28 (dk_at dksX9_does_2 20 rfl rfl)
theorem dX9_does_125 : decode cX9_does 125 = .ok (.invokevirtual 143, 3) := dk_182 0 143 (dk_at dksX9_does_2 21 rfl rfl)
theorem dX9_does_128 : decode cX9_does 128 = .ok (.ireturn, 1) := dk_172 (dk_at dksX9_does_3 0 rfl rfl)
theorem dX9_does_129 : decode cX9_does 129 = .ok (.aload_n 0, 1) := dk_42 (dk_at dksX9_does_3 1 rfl rfl)
theorem dX9_does_130 : decode cX9_does 130 = .ok (.iload_n 2, 1) := dk_28 (dk_at dksX9_does_3 2 rfl rfl)
theorem dX9_does_131 : decode cX9_does 131 = .ok (.iload_n 3, 1) := dk_29 (dk_at dksX9_does_3 3 rfl rfl)
theorem dX9_does_132 : decode cX9_does 132 = .ok (.invokevirtual 146, 3) := dk_182 0 146 (dk_at dksX9_does_3 4 rfl rfl)
theorem dX9_does_135 : decode cX9_does 135 = .ok (.ireturn, 1) := dk_172 (dk_at dksX9_does_3 7 rfl rfl)
theorem dX9_does_136 : decode cX9_does 136 = .ok (.aload_n 0, 1) := dk_42 (dk_at dksX9_does_3 8 rfl rfl)
theorem dX9_does_137 : decode cX9_does 137 = .ok (.iload_n 2, 1) := dk_28 (dk_at dksX9_does_3 9 rfl rfl)
theorem dX9_does_138 : decode cX9_does 138 = .ok (.iload_n 3, 1) := dk_29 (dk_at dksX9_does_3 10 rfl rfl)
theorem dX9_does_139 : decode cX9_does 139 = .ok (.iload 4, 2) := dk_21 4 (dk_at dksX9_does_3 11 rfl rfl)
theorem dX9_does_141 : decode cX9_does 141 = .ok (.invokevirtual 175, 3) := dk_182 0 175 (dk_at dksX9_does_3 13 rfl rfl)
theorem dX9_does_144 : decode cX9_does 144 = .ok (.ireturn, 1) := dk_172 (dk_at dksX9_does_3 16 rfl rfl)
theorem dX9_does_145 : decode cX9_does 145 = .ok (.aload_n 0, 1) := dk_42 (dk_at dksX9_does_3 17 rfl rfl)
theorem dX9_does_146 : decode cX9_does 146 = .ok (.iload_n 2, 1) := dk_28 (dk_at dksX9_does_3 18 rfl rfl)
theorem dX9_does_147 : decode cX9_does 147 = .ok (.invokevirtual 109, 3) := dk_182 0 109 (dk_at dksX9_does_3 19 rfl rfl)
theorem dX9_does_150 : decode cX9_does 150 = .ok (.ireturn, 1) := dk_172 (dk_at dksX9_does_3 22 rfl rfl)
theorem dX9_does_151 : decode cX9_does 151 = .ok (.aload_n 0, 1) := dk_42 (dk_at dksX9_does_3 23 rfl rfl)
theorem dX9_does_152 : decode cX9_does 152 = .ok (.iload_n 2, 1) := dk_28 (dk_at dksX9_does_4 0 rfl rfl)
theorem dX9_does_153 : decode cX9_does 153 = .ok (.invokevirtual 192, 3) := dk_182 0 192 (dk_at dksX9_does_4 1 rfl rfl)
theorem dX9_does_156 : decode cX9_does 156 = .ok (.ireturn, 1) := dk_172 (dk_at dksX9_does_4 4 rfl rfl)
abbrev cX9_fault : ByteArray := prog_23_method_67_code
def yX9_fault : MethodName := ⟨RX9, "fault", "()I"⟩
def dkwX9_fault_0 : List UInt8 := [42, 180, 0, 9, 2, 160, 0, 8, 16, 252, 167, 0, 7, 42, 180, 0, 9, 172]
abbrev dktX9_fault_0 : List UInt8 := dkwX9_fault_0 ++ []
theorem dksX9_fault_0 : cX9_fault.data.toList.drop 0 = dktX9_fault_0 := by decide +kernel
theorem dX9_fault_0 : decode cX9_fault 0 = .ok (.aload_n 0, 1) := dk_42 (dk_at dksX9_fault_0 0 rfl rfl)
theorem dX9_fault_1 : decode cX9_fault 1 = .ok (.getfield 9, 3) := dk_180 0 9 (dk_at dksX9_fault_0 1 rfl rfl)
theorem dX9_fault_4 : decode cX9_fault 4 = .ok (.iconst (-1), 1) := dk_2 (dk_at dksX9_fault_0 4 rfl rfl)
theorem dX9_fault_5 : decode cX9_fault 5 = .ok (.if_icmp .ne 8, 3) := dk_160 0 8 (dk_at dksX9_fault_0 5 rfl rfl)
theorem dX9_fault_8 : decode cX9_fault 8 = .ok (.bipush (-4), 2) := dk_16 252 (dk_at dksX9_fault_0 8 rfl rfl)
theorem dX9_fault_10 : decode cX9_fault 10 = .ok (.goto 7, 3) := dk_167 0 7 (dk_at dksX9_fault_0 10 rfl rfl)
theorem dX9_fault_13 : decode cX9_fault 13 = .ok (.aload_n 0, 1) := dk_42 (dk_at dksX9_fault_0 13 rfl rfl)
theorem dX9_fault_14 : decode cX9_fault 14 = .ok (.getfield 9, 3) := dk_180 0 9 (dk_at dksX9_fault_0 14 rfl rfl)
theorem dX9_fault_17 : decode cX9_fault 17 = .ok (.ireturn, 1) := dk_172 (dk_at dksX9_fault_0 17 rfl rfl)
abbrev cX9_reason : ByteArray := prog_23_method_68_code
def yX9_reason : MethodName := ⟨RX9, "reason", "(IZ)I"⟩
def dkwX9_reason_1 : List UInt8 := [42, 180, 0, 32, 5, 27, 104, 4, 96, 46, 167, 0, 11, 42, 180, 0, 32, 5, 27, 104, 46, 172]
abbrev dktX9_reason_1 : List UInt8 := dkwX9_reason_1 ++ []
def dkwX9_reason_0 : List UInt8 := [27, 156, 0, 6, 16, 254, 172, 27, 42, 180, 0, 68, 161, 0, 8, 16, 252, 167, 0, 28, 28, 153, 0, 16]
abbrev dktX9_reason_0 : List UInt8 := dkwX9_reason_0 ++ dktX9_reason_1
theorem dksX9_reason_0 : cX9_reason.data.toList.drop 0 = dktX9_reason_0 := by decide +kernel
theorem dksX9_reason_1 : cX9_reason.data.toList.drop 24 = dktX9_reason_1 := dk_seg dksX9_reason_0 24 rfl rfl
theorem dX9_reason_0 : decode cX9_reason 0 = .ok (.iload_n 1, 1) := dk_27 (dk_at dksX9_reason_0 0 rfl rfl)
theorem dX9_reason_1 : decode cX9_reason 1 = .ok (.ifCond .ge 6, 3) := dk_156 0 6 (dk_at dksX9_reason_0 1 rfl rfl)
theorem dX9_reason_4 : decode cX9_reason 4 = .ok (.bipush (-2), 2) := dk_16 254 (dk_at dksX9_reason_0 4 rfl rfl)
theorem dX9_reason_6 : decode cX9_reason 6 = .ok (.ireturn, 1) := dk_172 (dk_at dksX9_reason_0 6 rfl rfl)
theorem dX9_reason_7 : decode cX9_reason 7 = .ok (.iload_n 1, 1) := dk_27 (dk_at dksX9_reason_0 7 rfl rfl)
theorem dX9_reason_8 : decode cX9_reason 8 = .ok (.aload_n 0, 1) := dk_42 (dk_at dksX9_reason_0 8 rfl rfl)
theorem dX9_reason_9 : decode cX9_reason 9 = .ok (.getfield 68, 3) := dk_180 0 68 (dk_at dksX9_reason_0 9 rfl rfl)
theorem dX9_reason_12 : decode cX9_reason 12 = .ok (.if_icmp .lt 8, 3) := dk_161 0 8 (dk_at dksX9_reason_0 12 rfl rfl)
theorem dX9_reason_15 : decode cX9_reason 15 = .ok (.bipush (-4), 2) := dk_16 252 (dk_at dksX9_reason_0 15 rfl rfl)
theorem dX9_reason_17 : decode cX9_reason 17 = .ok (.goto 28, 3) := dk_167 0 28 (dk_at dksX9_reason_0 17 rfl rfl)
theorem dX9_reason_20 : decode cX9_reason 20 = .ok (.iload_n 2, 1) := dk_28 (dk_at dksX9_reason_0 20 rfl rfl)
theorem dX9_reason_21 : decode cX9_reason 21 = .ok (.ifCond .eq 16, 3) := dk_153 0 16 (dk_at dksX9_reason_0 21 rfl rfl)
theorem dX9_reason_24 : decode cX9_reason 24 = .ok (.aload_n 0, 1) := dk_42 (dk_at dksX9_reason_1 0 rfl rfl)
theorem dX9_reason_25 : decode cX9_reason 25 = .ok (.getfield 32, 3) := dk_180 0 32 (dk_at dksX9_reason_1 1 rfl rfl)
theorem dX9_reason_28 : decode cX9_reason 28 = .ok (.iconst 2, 1) := dk_5 (dk_at dksX9_reason_1 4 rfl rfl)
theorem dX9_reason_29 : decode cX9_reason 29 = .ok (.iload_n 1, 1) := dk_27 (dk_at dksX9_reason_1 5 rfl rfl)
theorem dX9_reason_30 : decode cX9_reason 30 = .ok (.imul, 1) := dk_104 (dk_at dksX9_reason_1 6 rfl rfl)
theorem dX9_reason_31 : decode cX9_reason 31 = .ok (.iconst 1, 1) := dk_4 (dk_at dksX9_reason_1 7 rfl rfl)
theorem dX9_reason_32 : decode cX9_reason 32 = .ok (.iadd, 1) := dk_96 (dk_at dksX9_reason_1 8 rfl rfl)
theorem dX9_reason_33 : decode cX9_reason 33 = .ok (.iaload, 1) := dk_46 (dk_at dksX9_reason_1 9 rfl rfl)
theorem dX9_reason_34 : decode cX9_reason 34 = .ok (.goto 11, 3) := dk_167 0 11 (dk_at dksX9_reason_1 10 rfl rfl)
theorem dX9_reason_37 : decode cX9_reason 37 = .ok (.aload_n 0, 1) := dk_42 (dk_at dksX9_reason_1 13 rfl rfl)
theorem dX9_reason_38 : decode cX9_reason 38 = .ok (.getfield 32, 3) := dk_180 0 32 (dk_at dksX9_reason_1 14 rfl rfl)
theorem dX9_reason_41 : decode cX9_reason 41 = .ok (.iconst 2, 1) := dk_5 (dk_at dksX9_reason_1 17 rfl rfl)
theorem dX9_reason_42 : decode cX9_reason 42 = .ok (.iload_n 1, 1) := dk_27 (dk_at dksX9_reason_1 18 rfl rfl)
theorem dX9_reason_43 : decode cX9_reason 43 = .ok (.imul, 1) := dk_104 (dk_at dksX9_reason_1 19 rfl rfl)
theorem dX9_reason_44 : decode cX9_reason 44 = .ok (.iaload, 1) := dk_46 (dk_at dksX9_reason_1 20 rfl rfl)
theorem dX9_reason_45 : decode cX9_reason 45 = .ok (.ireturn, 1) := dk_172 (dk_at dksX9_reason_1 21 rfl rfl)
abbrev cX9_squareOf : ByteArray := prog_23_method_69_code
def yX9_squareOf : MethodName := ⟨RX9, "squareOf", "(II)I"⟩
def dkwX9_squareOf_5 : List UInt8 := [27, 182, 0, 103, 172, 16, 254, 172]
abbrev dktX9_squareOf_5 : List UInt8 := dkwX9_squareOf_5 ++ []
def dkwX9_squareOf_4 : List UInt8 := [4, 167, 0, 4, 3, 172, 42, 180, 0, 13, 17, 0, 132, 27, 96, 46, 172, 42, 27, 182, 0, 100, 172, 42]
abbrev dktX9_squareOf_4 : List UInt8 := dkwX9_squareOf_4 ++ dktX9_squareOf_5
def dkwX9_squareOf_3 : List UInt8 := [16, 72, 27, 96, 46, 172, 42, 180, 0, 13, 16, 102, 27, 96, 46, 172, 42, 27, 182, 0, 112, 153, 0, 7]
abbrev dktX9_squareOf_3 : List UInt8 := dkwX9_squareOf_3 ++ dktX9_squareOf_4
def dkwX9_squareOf_2 : List UInt8 := [42, 180, 0, 13, 16, 12, 27, 96, 46, 172, 42, 180, 0, 13, 16, 42, 27, 96, 46, 172, 42, 180, 0, 13]
abbrev dktX9_squareOf_2 : List UInt8 := dkwX9_squareOf_2 ++ dktX9_squareOf_3
def dkwX9_squareOf_1 : List UInt8 := [170, 0, 0, 0, 0, 123, 0, 0, 0, 0, 0, 0, 0, 7, 0, 0, 0, 46, 0, 0, 0, 56, 0, 0, 0, 66, 0, 0, 0, 76, 0, 0, 0, 86, 0, 0, 0, 100, 0, 0, 0, 111, 0, 0, 0, 117]
abbrev dktX9_squareOf_1 : List UInt8 := dkwX9_squareOf_1 ++ dktX9_squareOf_2
def dkwX9_squareOf_0 : List UInt8 := [27, 184, 0, 78, 154, 0, 5, 2, 172, 28]
abbrev dktX9_squareOf_0 : List UInt8 := dkwX9_squareOf_0 ++ dktX9_squareOf_1
theorem dksX9_squareOf_0 : cX9_squareOf.data.toList.drop 0 = dktX9_squareOf_0 := by decide +kernel
theorem dksX9_squareOf_1 : cX9_squareOf.data.toList.drop 10 = dktX9_squareOf_1 := dk_seg dksX9_squareOf_0 10 rfl rfl
theorem dksX9_squareOf_2 : cX9_squareOf.data.toList.drop 56 = dktX9_squareOf_2 := dk_seg dksX9_squareOf_1 46 rfl rfl
theorem dksX9_squareOf_3 : cX9_squareOf.data.toList.drop 80 = dktX9_squareOf_3 := dk_seg dksX9_squareOf_2 24 rfl rfl
theorem dksX9_squareOf_4 : cX9_squareOf.data.toList.drop 104 = dktX9_squareOf_4 := dk_seg dksX9_squareOf_3 24 rfl rfl
theorem dksX9_squareOf_5 : cX9_squareOf.data.toList.drop 128 = dktX9_squareOf_5 := dk_seg dksX9_squareOf_4 24 rfl rfl
theorem dX9_squareOf_0 : decode cX9_squareOf 0 = .ok (.iload_n 1, 1) := dk_27 (dk_at dksX9_squareOf_0 0 rfl rfl)
theorem dX9_squareOf_1 : decode cX9_squareOf 1 = .ok (.invokestatic 78, 3) := dk_184 0 78 (dk_at dksX9_squareOf_0 1 rfl rfl)
theorem dX9_squareOf_4 : decode cX9_squareOf 4 = .ok (.ifCond .ne 5, 3) := dk_154 0 5 (dk_at dksX9_squareOf_0 4 rfl rfl)
theorem dX9_squareOf_7 : decode cX9_squareOf 7 = .ok (.iconst (-1), 1) := dk_2 (dk_at dksX9_squareOf_0 7 rfl rfl)
theorem dX9_squareOf_8 : decode cX9_squareOf 8 = .ok (.ireturn, 1) := dk_172 (dk_at dksX9_squareOf_0 8 rfl rfl)
theorem dX9_squareOf_9 : decode cX9_squareOf 9 = .ok (.iload_n 2, 1) := dk_28 (dk_at dksX9_squareOf_0 9 rfl rfl)
theorem dX9_squareOf_10 : decode cX9_squareOf 10 = .ok (.tableswitch 123 0 7 #[46, 56, 66, 76, 86, 100, 111, 117], 46) := by decide +kernel
theorem dX9_squareOf_56 : decode cX9_squareOf 56 = .ok (.aload_n 0, 1) := dk_42 (dk_at dksX9_squareOf_2 0 rfl rfl)
theorem dX9_squareOf_57 : decode cX9_squareOf 57 = .ok (.getfield 13, 3) := dk_180 0 13 (dk_at dksX9_squareOf_2 1 rfl rfl)
theorem dX9_squareOf_60 : decode cX9_squareOf 60 = .ok (.bipush 12, 2) := dk_16 12 (dk_at dksX9_squareOf_2 4 rfl rfl)
theorem dX9_squareOf_62 : decode cX9_squareOf 62 = .ok (.iload_n 1, 1) := dk_27 (dk_at dksX9_squareOf_2 6 rfl rfl)
theorem dX9_squareOf_63 : decode cX9_squareOf 63 = .ok (.iadd, 1) := dk_96 (dk_at dksX9_squareOf_2 7 rfl rfl)
theorem dX9_squareOf_64 : decode cX9_squareOf 64 = .ok (.iaload, 1) := dk_46 (dk_at dksX9_squareOf_2 8 rfl rfl)
theorem dX9_squareOf_65 : decode cX9_squareOf 65 = .ok (.ireturn, 1) := dk_172 (dk_at dksX9_squareOf_2 9 rfl rfl)
theorem dX9_squareOf_66 : decode cX9_squareOf 66 = .ok (.aload_n 0, 1) := dk_42 (dk_at dksX9_squareOf_2 10 rfl rfl)
theorem dX9_squareOf_67 : decode cX9_squareOf 67 = .ok (.getfield 13, 3) := dk_180 0 13 (dk_at dksX9_squareOf_2 11 rfl rfl)
theorem dX9_squareOf_70 : decode cX9_squareOf 70 = .ok (.bipush 42, 2) := dk_16 42 (dk_at dksX9_squareOf_2 14 rfl rfl)
theorem dX9_squareOf_72 : decode cX9_squareOf 72 = .ok (.iload_n 1, 1) := dk_27 (dk_at dksX9_squareOf_2 16 rfl rfl)
theorem dX9_squareOf_73 : decode cX9_squareOf 73 = .ok (.iadd, 1) := dk_96 (dk_at dksX9_squareOf_2 17 rfl rfl)
theorem dX9_squareOf_74 : decode cX9_squareOf 74 = .ok (.iaload, 1) := dk_46 (dk_at dksX9_squareOf_2 18 rfl rfl)
theorem dX9_squareOf_75 : decode cX9_squareOf 75 = .ok (.ireturn, 1) := dk_172 (dk_at dksX9_squareOf_2 19 rfl rfl)
theorem dX9_squareOf_76 : decode cX9_squareOf 76 = .ok (.aload_n 0, 1) := dk_42 (dk_at dksX9_squareOf_2 20 rfl rfl)
theorem dX9_squareOf_77 : decode cX9_squareOf 77 = .ok (.getfield 13, 3) := dk_180 0 13 (dk_at dksX9_squareOf_2 21 rfl rfl)
theorem dX9_squareOf_80 : decode cX9_squareOf 80 = .ok (.bipush 72, 2) := dk_16 72 (dk_at dksX9_squareOf_3 0 rfl rfl)
theorem dX9_squareOf_82 : decode cX9_squareOf 82 = .ok (.iload_n 1, 1) := dk_27 (dk_at dksX9_squareOf_3 2 rfl rfl)
theorem dX9_squareOf_83 : decode cX9_squareOf 83 = .ok (.iadd, 1) := dk_96 (dk_at dksX9_squareOf_3 3 rfl rfl)
theorem dX9_squareOf_84 : decode cX9_squareOf 84 = .ok (.iaload, 1) := dk_46 (dk_at dksX9_squareOf_3 4 rfl rfl)
theorem dX9_squareOf_85 : decode cX9_squareOf 85 = .ok (.ireturn, 1) := dk_172 (dk_at dksX9_squareOf_3 5 rfl rfl)
theorem dX9_squareOf_86 : decode cX9_squareOf 86 = .ok (.aload_n 0, 1) := dk_42 (dk_at dksX9_squareOf_3 6 rfl rfl)
theorem dX9_squareOf_87 : decode cX9_squareOf 87 = .ok (.getfield 13, 3) := dk_180 0 13 (dk_at dksX9_squareOf_3 7 rfl rfl)
theorem dX9_squareOf_90 : decode cX9_squareOf 90 = .ok (.bipush 102, 2) := dk_16 102 (dk_at dksX9_squareOf_3 10 rfl rfl)
theorem dX9_squareOf_92 : decode cX9_squareOf 92 = .ok (.iload_n 1, 1) := dk_27 (dk_at dksX9_squareOf_3 12 rfl rfl)
theorem dX9_squareOf_93 : decode cX9_squareOf 93 = .ok (.iadd, 1) := dk_96 (dk_at dksX9_squareOf_3 13 rfl rfl)
theorem dX9_squareOf_94 : decode cX9_squareOf 94 = .ok (.iaload, 1) := dk_46 (dk_at dksX9_squareOf_3 14 rfl rfl)
theorem dX9_squareOf_95 : decode cX9_squareOf 95 = .ok (.ireturn, 1) := dk_172 (dk_at dksX9_squareOf_3 15 rfl rfl)
theorem dX9_squareOf_96 : decode cX9_squareOf 96 = .ok (.aload_n 0, 1) := dk_42 (dk_at dksX9_squareOf_3 16 rfl rfl)
theorem dX9_squareOf_97 : decode cX9_squareOf 97 = .ok (.iload_n 1, 1) := dk_27 (dk_at dksX9_squareOf_3 17 rfl rfl)
theorem dX9_squareOf_98 : decode cX9_squareOf 98 = .ok (.invokevirtual 112, 3) := dk_182 0 112 (dk_at dksX9_squareOf_3 18 rfl rfl)
theorem dX9_squareOf_101 : decode cX9_squareOf 101 = .ok (.ifCond .eq 7, 3) := dk_153 0 7 (dk_at dksX9_squareOf_3 21 rfl rfl)
theorem dX9_squareOf_104 : decode cX9_squareOf 104 = .ok (.iconst 1, 1) := dk_4 (dk_at dksX9_squareOf_4 0 rfl rfl)
theorem dX9_squareOf_105 : decode cX9_squareOf 105 = .ok (.goto 4, 3) := dk_167 0 4 (dk_at dksX9_squareOf_4 1 rfl rfl)
theorem dX9_squareOf_108 : decode cX9_squareOf 108 = .ok (.iconst 0, 1) := dk_3 (dk_at dksX9_squareOf_4 4 rfl rfl)
theorem dX9_squareOf_109 : decode cX9_squareOf 109 = .ok (.ireturn, 1) := dk_172 (dk_at dksX9_squareOf_4 5 rfl rfl)
theorem dX9_squareOf_110 : decode cX9_squareOf 110 = .ok (.aload_n 0, 1) := dk_42 (dk_at dksX9_squareOf_4 6 rfl rfl)
theorem dX9_squareOf_111 : decode cX9_squareOf 111 = .ok (.getfield 13, 3) := dk_180 0 13 (dk_at dksX9_squareOf_4 7 rfl rfl)
theorem dX9_squareOf_114 : decode cX9_squareOf 114 = .ok (.sipush 132, 3) := dk_17 0 132 (dk_at dksX9_squareOf_4 10 rfl rfl)
theorem dX9_squareOf_117 : decode cX9_squareOf 117 = .ok (.iload_n 1, 1) := dk_27 (dk_at dksX9_squareOf_4 13 rfl rfl)
theorem dX9_squareOf_118 : decode cX9_squareOf 118 = .ok (.iadd, 1) := dk_96 (dk_at dksX9_squareOf_4 14 rfl rfl)
theorem dX9_squareOf_119 : decode cX9_squareOf 119 = .ok (.iaload, 1) := dk_46 (dk_at dksX9_squareOf_4 15 rfl rfl)
theorem dX9_squareOf_120 : decode cX9_squareOf 120 = .ok (.ireturn, 1) := dk_172 (dk_at dksX9_squareOf_4 16 rfl rfl)
theorem dX9_squareOf_121 : decode cX9_squareOf 121 = .ok (.aload_n 0, 1) := dk_42 (dk_at dksX9_squareOf_4 17 rfl rfl)
theorem dX9_squareOf_122 : decode cX9_squareOf 122 = .ok (.iload_n 1, 1) := dk_27 (dk_at dksX9_squareOf_4 18 rfl rfl)
theorem dX9_squareOf_123 : decode cX9_squareOf 123 = .ok (.invokevirtual 100, 3) := dk_182 0 100 (dk_at dksX9_squareOf_4 19 rfl rfl)
theorem dX9_squareOf_126 : decode cX9_squareOf 126 = .ok (.ireturn, 1) := dk_172 (dk_at dksX9_squareOf_4 22 rfl rfl)
theorem dX9_squareOf_127 : decode cX9_squareOf 127 = .ok (.aload_n 0, 1) := dk_42 (dk_at dksX9_squareOf_4 23 rfl rfl)
theorem dX9_squareOf_128 : decode cX9_squareOf 128 = .ok (.iload_n 1, 1) := dk_27 (dk_at dksX9_squareOf_5 0 rfl rfl)
theorem dX9_squareOf_129 : decode cX9_squareOf 129 = .ok (.invokevirtual 103, 3) := dk_182 0 103 (dk_at dksX9_squareOf_5 1 rfl rfl)
theorem dX9_squareOf_132 : decode cX9_squareOf 132 = .ok (.ireturn, 1) := dk_172 (dk_at dksX9_squareOf_5 4 rfl rfl)
theorem dX9_squareOf_133 : decode cX9_squareOf 133 = .ok (.bipush (-2), 2) := dk_16 254 (dk_at dksX9_squareOf_5 5 rfl rfl)
theorem dX9_squareOf_135 : decode cX9_squareOf 135 = .ok (.ireturn, 1) := dk_172 (dk_at dksX9_squareOf_5 7 rfl rfl)
abbrev cX9_gardenerOf : ByteArray := prog_23_method_70_code
def yX9_gardenerOf : MethodName := ⟨RX9, "gardenerOf", "(II)I"⟩
def dkwX9_gardenerOf_1 : List UInt8 := [28, 184, 0, 91, 46, 167, 0, 5, 16, 254, 172]
abbrev dktX9_gardenerOf_1 : List UInt8 := dkwX9_gardenerOf_1 ++ []
def dkwX9_gardenerOf_0 : List UInt8 := [42, 27, 182, 0, 121, 154, 0, 5, 2, 172, 28, 3, 7, 184, 0, 74, 153, 0, 16, 42, 180, 0, 13, 27]
abbrev dktX9_gardenerOf_0 : List UInt8 := dkwX9_gardenerOf_0 ++ dktX9_gardenerOf_1
theorem dksX9_gardenerOf_0 : cX9_gardenerOf.data.toList.drop 0 = dktX9_gardenerOf_0 := by decide +kernel
theorem dksX9_gardenerOf_1 : cX9_gardenerOf.data.toList.drop 24 = dktX9_gardenerOf_1 := dk_seg dksX9_gardenerOf_0 24 rfl rfl
theorem dX9_gardenerOf_0 : decode cX9_gardenerOf 0 = .ok (.aload_n 0, 1) := dk_42 (dk_at dksX9_gardenerOf_0 0 rfl rfl)
theorem dX9_gardenerOf_1 : decode cX9_gardenerOf 1 = .ok (.iload_n 1, 1) := dk_27 (dk_at dksX9_gardenerOf_0 1 rfl rfl)
theorem dX9_gardenerOf_2 : decode cX9_gardenerOf 2 = .ok (.invokevirtual 121, 3) := dk_182 0 121 (dk_at dksX9_gardenerOf_0 2 rfl rfl)
theorem dX9_gardenerOf_5 : decode cX9_gardenerOf 5 = .ok (.ifCond .ne 5, 3) := dk_154 0 5 (dk_at dksX9_gardenerOf_0 5 rfl rfl)
theorem dX9_gardenerOf_8 : decode cX9_gardenerOf 8 = .ok (.iconst (-1), 1) := dk_2 (dk_at dksX9_gardenerOf_0 8 rfl rfl)
theorem dX9_gardenerOf_9 : decode cX9_gardenerOf 9 = .ok (.ireturn, 1) := dk_172 (dk_at dksX9_gardenerOf_0 9 rfl rfl)
theorem dX9_gardenerOf_10 : decode cX9_gardenerOf 10 = .ok (.iload_n 2, 1) := dk_28 (dk_at dksX9_gardenerOf_0 10 rfl rfl)
theorem dX9_gardenerOf_11 : decode cX9_gardenerOf 11 = .ok (.iconst 0, 1) := dk_3 (dk_at dksX9_gardenerOf_0 11 rfl rfl)
theorem dX9_gardenerOf_12 : decode cX9_gardenerOf 12 = .ok (.iconst 4, 1) := dk_7 (dk_at dksX9_gardenerOf_0 12 rfl rfl)
theorem dX9_gardenerOf_13 : decode cX9_gardenerOf 13 = .ok (.invokestatic 74, 3) := dk_184 0 74 (dk_at dksX9_gardenerOf_0 13 rfl rfl)
theorem dX9_gardenerOf_16 : decode cX9_gardenerOf 16 = .ok (.ifCond .eq 16, 3) := dk_153 0 16 (dk_at dksX9_gardenerOf_0 16 rfl rfl)
theorem dX9_gardenerOf_19 : decode cX9_gardenerOf 19 = .ok (.aload_n 0, 1) := dk_42 (dk_at dksX9_gardenerOf_0 19 rfl rfl)
theorem dX9_gardenerOf_20 : decode cX9_gardenerOf 20 = .ok (.getfield 13, 3) := dk_180 0 13 (dk_at dksX9_gardenerOf_0 20 rfl rfl)
theorem dX9_gardenerOf_23 : decode cX9_gardenerOf 23 = .ok (.iload_n 1, 1) := dk_27 (dk_at dksX9_gardenerOf_0 23 rfl rfl)
theorem dX9_gardenerOf_24 : decode cX9_gardenerOf 24 = .ok (.iload_n 2, 1) := dk_28 (dk_at dksX9_gardenerOf_1 0 rfl rfl)
theorem dX9_gardenerOf_25 : decode cX9_gardenerOf 25 = .ok (.invokestatic 91, 3) := dk_184 0 91 (dk_at dksX9_gardenerOf_1 1 rfl rfl)
theorem dX9_gardenerOf_28 : decode cX9_gardenerOf 28 = .ok (.iaload, 1) := dk_46 (dk_at dksX9_gardenerOf_1 4 rfl rfl)
theorem dX9_gardenerOf_29 : decode cX9_gardenerOf 29 = .ok (.goto 5, 3) := dk_167 0 5 (dk_at dksX9_gardenerOf_1 5 rfl rfl)
theorem dX9_gardenerOf_32 : decode cX9_gardenerOf 32 = .ok (.bipush (-2), 2) := dk_16 254 (dk_at dksX9_gardenerOf_1 8 rfl rfl)
theorem dX9_gardenerOf_34 : decode cX9_gardenerOf 34 = .ok (.ireturn, 1) := dk_172 (dk_at dksX9_gardenerOf_1 10 rfl rfl)
abbrev cX9_moleOf : ByteArray := prog_23_method_71_code
def yX9_moleOf : MethodName := ⟨RX9, "moleOf", "(II)I"⟩
def dkwX9_moleOf_1 : List UInt8 := [153, 0, 16, 42, 180, 0, 13, 27, 28, 184, 0, 94, 46, 167, 0, 5, 16, 254, 172]
abbrev dktX9_moleOf_1 : List UInt8 := dkwX9_moleOf_1 ++ []
def dkwX9_moleOf_0 : List UInt8 := [27, 3, 42, 180, 0, 13, 6, 46, 4, 100, 184, 0, 74, 154, 0, 5, 2, 172, 28, 3, 5, 184, 0, 74]
abbrev dktX9_moleOf_0 : List UInt8 := dkwX9_moleOf_0 ++ dktX9_moleOf_1
theorem dksX9_moleOf_0 : cX9_moleOf.data.toList.drop 0 = dktX9_moleOf_0 := by decide +kernel
theorem dksX9_moleOf_1 : cX9_moleOf.data.toList.drop 24 = dktX9_moleOf_1 := dk_seg dksX9_moleOf_0 24 rfl rfl
theorem dX9_moleOf_0 : decode cX9_moleOf 0 = .ok (.iload_n 1, 1) := dk_27 (dk_at dksX9_moleOf_0 0 rfl rfl)
theorem dX9_moleOf_1 : decode cX9_moleOf 1 = .ok (.iconst 0, 1) := dk_3 (dk_at dksX9_moleOf_0 1 rfl rfl)
theorem dX9_moleOf_2 : decode cX9_moleOf 2 = .ok (.aload_n 0, 1) := dk_42 (dk_at dksX9_moleOf_0 2 rfl rfl)
theorem dX9_moleOf_3 : decode cX9_moleOf 3 = .ok (.getfield 13, 3) := dk_180 0 13 (dk_at dksX9_moleOf_0 3 rfl rfl)
theorem dX9_moleOf_6 : decode cX9_moleOf 6 = .ok (.iconst 3, 1) := dk_6 (dk_at dksX9_moleOf_0 6 rfl rfl)
theorem dX9_moleOf_7 : decode cX9_moleOf 7 = .ok (.iaload, 1) := dk_46 (dk_at dksX9_moleOf_0 7 rfl rfl)
theorem dX9_moleOf_8 : decode cX9_moleOf 8 = .ok (.iconst 1, 1) := dk_4 (dk_at dksX9_moleOf_0 8 rfl rfl)
theorem dX9_moleOf_9 : decode cX9_moleOf 9 = .ok (.isub, 1) := dk_100 (dk_at dksX9_moleOf_0 9 rfl rfl)
theorem dX9_moleOf_10 : decode cX9_moleOf 10 = .ok (.invokestatic 74, 3) := dk_184 0 74 (dk_at dksX9_moleOf_0 10 rfl rfl)
theorem dX9_moleOf_13 : decode cX9_moleOf 13 = .ok (.ifCond .ne 5, 3) := dk_154 0 5 (dk_at dksX9_moleOf_0 13 rfl rfl)
theorem dX9_moleOf_16 : decode cX9_moleOf 16 = .ok (.iconst (-1), 1) := dk_2 (dk_at dksX9_moleOf_0 16 rfl rfl)
theorem dX9_moleOf_17 : decode cX9_moleOf 17 = .ok (.ireturn, 1) := dk_172 (dk_at dksX9_moleOf_0 17 rfl rfl)
theorem dX9_moleOf_18 : decode cX9_moleOf 18 = .ok (.iload_n 2, 1) := dk_28 (dk_at dksX9_moleOf_0 18 rfl rfl)
theorem dX9_moleOf_19 : decode cX9_moleOf 19 = .ok (.iconst 0, 1) := dk_3 (dk_at dksX9_moleOf_0 19 rfl rfl)
theorem dX9_moleOf_20 : decode cX9_moleOf 20 = .ok (.iconst 2, 1) := dk_5 (dk_at dksX9_moleOf_0 20 rfl rfl)
theorem dX9_moleOf_21 : decode cX9_moleOf 21 = .ok (.invokestatic 74, 3) := dk_184 0 74 (dk_at dksX9_moleOf_0 21 rfl rfl)
theorem dX9_moleOf_24 : decode cX9_moleOf 24 = .ok (.ifCond .eq 16, 3) := dk_153 0 16 (dk_at dksX9_moleOf_1 0 rfl rfl)
theorem dX9_moleOf_27 : decode cX9_moleOf 27 = .ok (.aload_n 0, 1) := dk_42 (dk_at dksX9_moleOf_1 3 rfl rfl)
theorem dX9_moleOf_28 : decode cX9_moleOf 28 = .ok (.getfield 13, 3) := dk_180 0 13 (dk_at dksX9_moleOf_1 4 rfl rfl)
theorem dX9_moleOf_31 : decode cX9_moleOf 31 = .ok (.iload_n 1, 1) := dk_27 (dk_at dksX9_moleOf_1 7 rfl rfl)
theorem dX9_moleOf_32 : decode cX9_moleOf 32 = .ok (.iload_n 2, 1) := dk_28 (dk_at dksX9_moleOf_1 8 rfl rfl)
theorem dX9_moleOf_33 : decode cX9_moleOf 33 = .ok (.invokestatic 94, 3) := dk_184 0 94 (dk_at dksX9_moleOf_1 9 rfl rfl)
theorem dX9_moleOf_36 : decode cX9_moleOf 36 = .ok (.iaload, 1) := dk_46 (dk_at dksX9_moleOf_1 12 rfl rfl)
theorem dX9_moleOf_37 : decode cX9_moleOf 37 = .ok (.goto 5, 3) := dk_167 0 5 (dk_at dksX9_moleOf_1 13 rfl rfl)
theorem dX9_moleOf_40 : decode cX9_moleOf 40 = .ok (.bipush (-2), 2) := dk_16 254 (dk_at dksX9_moleOf_1 16 rfl rfl)
theorem dX9_moleOf_42 : decode cX9_moleOf 42 = .ok (.ireturn, 1) := dk_172 (dk_at dksX9_moleOf_1 18 rfl rfl)
abbrev cX9_pairs : ByteArray := prog_23_method_72_code
def yX9_pairs : MethodName := ⟨RX9, "pairs", "(I)I"⟩
def dkwX9_pairs_0 : List UInt8 := [27, 3, 7, 184, 0, 74, 153, 0, 16, 42, 180, 0, 13, 17, 0, 191, 27, 96, 46, 167, 0, 4, 2, 172]
abbrev dktX9_pairs_0 : List UInt8 := dkwX9_pairs_0 ++ []
theorem dksX9_pairs_0 : cX9_pairs.data.toList.drop 0 = dktX9_pairs_0 := by decide +kernel
theorem dX9_pairs_0 : decode cX9_pairs 0 = .ok (.iload_n 1, 1) := dk_27 (dk_at dksX9_pairs_0 0 rfl rfl)
theorem dX9_pairs_1 : decode cX9_pairs 1 = .ok (.iconst 0, 1) := dk_3 (dk_at dksX9_pairs_0 1 rfl rfl)
theorem dX9_pairs_2 : decode cX9_pairs 2 = .ok (.iconst 4, 1) := dk_7 (dk_at dksX9_pairs_0 2 rfl rfl)
theorem dX9_pairs_3 : decode cX9_pairs 3 = .ok (.invokestatic 74, 3) := dk_184 0 74 (dk_at dksX9_pairs_0 3 rfl rfl)
theorem dX9_pairs_6 : decode cX9_pairs 6 = .ok (.ifCond .eq 16, 3) := dk_153 0 16 (dk_at dksX9_pairs_0 6 rfl rfl)
theorem dX9_pairs_9 : decode cX9_pairs 9 = .ok (.aload_n 0, 1) := dk_42 (dk_at dksX9_pairs_0 9 rfl rfl)
theorem dX9_pairs_10 : decode cX9_pairs 10 = .ok (.getfield 13, 3) := dk_180 0 13 (dk_at dksX9_pairs_0 10 rfl rfl)
theorem dX9_pairs_13 : decode cX9_pairs 13 = .ok (.sipush 191, 3) := dk_17 0 191 (dk_at dksX9_pairs_0 13 rfl rfl)
theorem dX9_pairs_16 : decode cX9_pairs 16 = .ok (.iload_n 1, 1) := dk_27 (dk_at dksX9_pairs_0 16 rfl rfl)
theorem dX9_pairs_17 : decode cX9_pairs 17 = .ok (.iadd, 1) := dk_96 (dk_at dksX9_pairs_0 17 rfl rfl)
theorem dX9_pairs_18 : decode cX9_pairs 18 = .ok (.iaload, 1) := dk_46 (dk_at dksX9_pairs_0 18 rfl rfl)
theorem dX9_pairs_19 : decode cX9_pairs 19 = .ok (.goto 4, 3) := dk_167 0 4 (dk_at dksX9_pairs_0 19 rfl rfl)
theorem dX9_pairs_22 : decode cX9_pairs 22 = .ok (.iconst (-1), 1) := dk_2 (dk_at dksX9_pairs_0 22 rfl rfl)
theorem dX9_pairs_23 : decode cX9_pairs 23 = .ok (.ireturn, 1) := dk_172 (dk_at dksX9_pairs_0 23 rfl rfl)
abbrev cX9_steps : ByteArray := prog_23_method_73_code
def yX9_steps : MethodName := ⟨RX9, "steps", "(II)I"⟩
def dkwX9_steps_1 : List UInt8 := [180, 0, 35, 27, 46, 156, 0, 8, 16, 252, 167, 0, 9, 42, 180, 0, 35, 27, 46, 172]
abbrev dktX9_steps_1 : List UInt8 := dkwX9_steps_1 ++ []
def dkwX9_steps_0 : List UInt8 := [27, 184, 0, 78, 153, 0, 10, 28, 184, 0, 78, 154, 0, 5, 2, 172, 42, 28, 182, 0, 161, 42]
abbrev dktX9_steps_0 : List UInt8 := dkwX9_steps_0 ++ dktX9_steps_1
theorem dksX9_steps_0 : cX9_steps.data.toList.drop 0 = dktX9_steps_0 := by decide +kernel
theorem dksX9_steps_1 : cX9_steps.data.toList.drop 22 = dktX9_steps_1 := dk_seg dksX9_steps_0 22 rfl rfl
theorem dX9_steps_0 : decode cX9_steps 0 = .ok (.iload_n 1, 1) := dk_27 (dk_at dksX9_steps_0 0 rfl rfl)
theorem dX9_steps_1 : decode cX9_steps 1 = .ok (.invokestatic 78, 3) := dk_184 0 78 (dk_at dksX9_steps_0 1 rfl rfl)
theorem dX9_steps_4 : decode cX9_steps 4 = .ok (.ifCond .eq 10, 3) := dk_153 0 10 (dk_at dksX9_steps_0 4 rfl rfl)
theorem dX9_steps_7 : decode cX9_steps 7 = .ok (.iload_n 2, 1) := dk_28 (dk_at dksX9_steps_0 7 rfl rfl)
theorem dX9_steps_8 : decode cX9_steps 8 = .ok (.invokestatic 78, 3) := dk_184 0 78 (dk_at dksX9_steps_0 8 rfl rfl)
theorem dX9_steps_11 : decode cX9_steps 11 = .ok (.ifCond .ne 5, 3) := dk_154 0 5 (dk_at dksX9_steps_0 11 rfl rfl)
theorem dX9_steps_14 : decode cX9_steps 14 = .ok (.iconst (-1), 1) := dk_2 (dk_at dksX9_steps_0 14 rfl rfl)
theorem dX9_steps_15 : decode cX9_steps 15 = .ok (.ireturn, 1) := dk_172 (dk_at dksX9_steps_0 15 rfl rfl)
theorem dX9_steps_16 : decode cX9_steps 16 = .ok (.aload_n 0, 1) := dk_42 (dk_at dksX9_steps_0 16 rfl rfl)
theorem dX9_steps_17 : decode cX9_steps 17 = .ok (.iload_n 2, 1) := dk_28 (dk_at dksX9_steps_0 17 rfl rfl)
theorem dX9_steps_18 : decode cX9_steps 18 = .ok (.invokevirtual 161, 3) := dk_182 0 161 (dk_at dksX9_steps_0 18 rfl rfl)
theorem dX9_steps_21 : decode cX9_steps 21 = .ok (.aload_n 0, 1) := dk_42 (dk_at dksX9_steps_0 21 rfl rfl)
theorem dX9_steps_22 : decode cX9_steps 22 = .ok (.getfield 35, 3) := dk_180 0 35 (dk_at dksX9_steps_1 0 rfl rfl)
theorem dX9_steps_25 : decode cX9_steps 25 = .ok (.iload_n 1, 1) := dk_27 (dk_at dksX9_steps_1 3 rfl rfl)
theorem dX9_steps_26 : decode cX9_steps 26 = .ok (.iaload, 1) := dk_46 (dk_at dksX9_steps_1 4 rfl rfl)
theorem dX9_steps_27 : decode cX9_steps 27 = .ok (.ifCond .ge 8, 3) := dk_156 0 8 (dk_at dksX9_steps_1 5 rfl rfl)
theorem dX9_steps_30 : decode cX9_steps 30 = .ok (.bipush (-4), 2) := dk_16 252 (dk_at dksX9_steps_1 8 rfl rfl)
theorem dX9_steps_32 : decode cX9_steps 32 = .ok (.goto 9, 3) := dk_167 0 9 (dk_at dksX9_steps_1 10 rfl rfl)
theorem dX9_steps_35 : decode cX9_steps 35 = .ok (.aload_n 0, 1) := dk_42 (dk_at dksX9_steps_1 13 rfl rfl)
theorem dX9_steps_36 : decode cX9_steps 36 = .ok (.getfield 35, 3) := dk_180 0 35 (dk_at dksX9_steps_1 14 rfl rfl)
theorem dX9_steps_39 : decode cX9_steps 39 = .ok (.iload_n 1, 1) := dk_27 (dk_at dksX9_steps_1 17 rfl rfl)
theorem dX9_steps_40 : decode cX9_steps 40 = .ok (.iaload, 1) := dk_46 (dk_at dksX9_steps_1 18 rfl rfl)
theorem dX9_steps_41 : decode cX9_steps 41 = .ok (.ireturn, 1) := dk_172 (dk_at dksX9_steps_1 19 rfl rfl)
abbrev cX9_stepsAgain : ByteArray := prog_23_method_74_code
def yX9_stepsAgain : MethodName := ⟨RX9, "stepsAgain", "(II)I"⟩
def dkwX9_stepsAgain_0 : List UInt8 := [42, 27, 28, 182, 0, 230, 172]
abbrev dktX9_stepsAgain_0 : List UInt8 := dkwX9_stepsAgain_0 ++ []
theorem dksX9_stepsAgain_0 : cX9_stepsAgain.data.toList.drop 0 = dktX9_stepsAgain_0 := by decide +kernel
theorem dX9_stepsAgain_0 : decode cX9_stepsAgain 0 = .ok (.aload_n 0, 1) := dk_42 (dk_at dksX9_stepsAgain_0 0 rfl rfl)
theorem dX9_stepsAgain_1 : decode cX9_stepsAgain 1 = .ok (.iload_n 1, 1) := dk_27 (dk_at dksX9_stepsAgain_0 1 rfl rfl)
theorem dX9_stepsAgain_2 : decode cX9_stepsAgain 2 = .ok (.iload_n 2, 1) := dk_28 (dk_at dksX9_stepsAgain_0 2 rfl rfl)
theorem dX9_stepsAgain_3 : decode cX9_stepsAgain 3 = .ok (.invokevirtual 230, 3) := dk_182 0 230 (dk_at dksX9_stepsAgain_0 3 rfl rfl)
theorem dX9_stepsAgain_6 : decode cX9_stepsAgain 6 = .ok (.ireturn, 1) := dk_172 (dk_at dksX9_stepsAgain_0 6 rfl rfl)
abbrev cX9_wayAt : ByteArray := prog_23_method_75_code
def yX9_wayAt : MethodName := ⟨RX9, "wayAt", "(III)I"⟩
def dkwX9_wayAt_2 : List UInt8 := [54, 5, 132, 6, 1, 167, 255, 239, 21, 5, 172]
abbrev dktX9_wayAt_2 : List UInt8 := dkwX9_wayAt_2 ++ []
def dkwX9_wayAt_1 : List UInt8 := [154, 0, 6, 16, 252, 172, 27, 54, 5, 3, 54, 6, 21, 6, 29, 162, 0, 17, 42, 21, 5, 182, 0, 168]
abbrev dktX9_wayAt_1 : List UInt8 := dkwX9_wayAt_1 ++ dktX9_wayAt_2
def dkwX9_wayAt_0 : List UInt8 := [42, 27, 28, 182, 0, 230, 54, 4, 21, 4, 156, 0, 6, 21, 4, 172, 29, 3, 21, 4, 184, 0, 74]
abbrev dktX9_wayAt_0 : List UInt8 := dkwX9_wayAt_0 ++ dktX9_wayAt_1
theorem dksX9_wayAt_0 : cX9_wayAt.data.toList.drop 0 = dktX9_wayAt_0 := by decide +kernel
theorem dksX9_wayAt_1 : cX9_wayAt.data.toList.drop 23 = dktX9_wayAt_1 := dk_seg dksX9_wayAt_0 23 rfl rfl
theorem dksX9_wayAt_2 : cX9_wayAt.data.toList.drop 47 = dktX9_wayAt_2 := dk_seg dksX9_wayAt_1 24 rfl rfl
theorem dX9_wayAt_0 : decode cX9_wayAt 0 = .ok (.aload_n 0, 1) := dk_42 (dk_at dksX9_wayAt_0 0 rfl rfl)
theorem dX9_wayAt_1 : decode cX9_wayAt 1 = .ok (.iload_n 1, 1) := dk_27 (dk_at dksX9_wayAt_0 1 rfl rfl)
theorem dX9_wayAt_2 : decode cX9_wayAt 2 = .ok (.iload_n 2, 1) := dk_28 (dk_at dksX9_wayAt_0 2 rfl rfl)
theorem dX9_wayAt_3 : decode cX9_wayAt 3 = .ok (.invokevirtual 230, 3) := dk_182 0 230 (dk_at dksX9_wayAt_0 3 rfl rfl)
theorem dX9_wayAt_6 : decode cX9_wayAt 6 = .ok (.istore 4, 2) := dk_54 4 (dk_at dksX9_wayAt_0 6 rfl rfl)
theorem dX9_wayAt_8 : decode cX9_wayAt 8 = .ok (.iload 4, 2) := dk_21 4 (dk_at dksX9_wayAt_0 8 rfl rfl)
theorem dX9_wayAt_10 : decode cX9_wayAt 10 = .ok (.ifCond .ge 6, 3) := dk_156 0 6 (dk_at dksX9_wayAt_0 10 rfl rfl)
theorem dX9_wayAt_13 : decode cX9_wayAt 13 = .ok (.iload 4, 2) := dk_21 4 (dk_at dksX9_wayAt_0 13 rfl rfl)
theorem dX9_wayAt_15 : decode cX9_wayAt 15 = .ok (.ireturn, 1) := dk_172 (dk_at dksX9_wayAt_0 15 rfl rfl)
theorem dX9_wayAt_16 : decode cX9_wayAt 16 = .ok (.iload_n 3, 1) := dk_29 (dk_at dksX9_wayAt_0 16 rfl rfl)
theorem dX9_wayAt_17 : decode cX9_wayAt 17 = .ok (.iconst 0, 1) := dk_3 (dk_at dksX9_wayAt_0 17 rfl rfl)
theorem dX9_wayAt_18 : decode cX9_wayAt 18 = .ok (.iload 4, 2) := dk_21 4 (dk_at dksX9_wayAt_0 18 rfl rfl)
theorem dX9_wayAt_20 : decode cX9_wayAt 20 = .ok (.invokestatic 74, 3) := dk_184 0 74 (dk_at dksX9_wayAt_0 20 rfl rfl)
theorem dX9_wayAt_23 : decode cX9_wayAt 23 = .ok (.ifCond .ne 6, 3) := dk_154 0 6 (dk_at dksX9_wayAt_1 0 rfl rfl)
theorem dX9_wayAt_26 : decode cX9_wayAt 26 = .ok (.bipush (-4), 2) := dk_16 252 (dk_at dksX9_wayAt_1 3 rfl rfl)
theorem dX9_wayAt_28 : decode cX9_wayAt 28 = .ok (.ireturn, 1) := dk_172 (dk_at dksX9_wayAt_1 5 rfl rfl)
theorem dX9_wayAt_29 : decode cX9_wayAt 29 = .ok (.iload_n 1, 1) := dk_27 (dk_at dksX9_wayAt_1 6 rfl rfl)
theorem dX9_wayAt_30 : decode cX9_wayAt 30 = .ok (.istore 5, 2) := dk_54 5 (dk_at dksX9_wayAt_1 7 rfl rfl)
theorem dX9_wayAt_32 : decode cX9_wayAt 32 = .ok (.iconst 0, 1) := dk_3 (dk_at dksX9_wayAt_1 9 rfl rfl)
theorem dX9_wayAt_33 : decode cX9_wayAt 33 = .ok (.istore 6, 2) := dk_54 6 (dk_at dksX9_wayAt_1 10 rfl rfl)
theorem dX9_wayAt_35 : decode cX9_wayAt 35 = .ok (.iload 6, 2) := dk_21 6 (dk_at dksX9_wayAt_1 12 rfl rfl)
theorem dX9_wayAt_37 : decode cX9_wayAt 37 = .ok (.iload_n 3, 1) := dk_29 (dk_at dksX9_wayAt_1 14 rfl rfl)
theorem dX9_wayAt_38 : decode cX9_wayAt 38 = .ok (.if_icmp .ge 17, 3) := dk_162 0 17 (dk_at dksX9_wayAt_1 15 rfl rfl)
theorem dX9_wayAt_41 : decode cX9_wayAt 41 = .ok (.aload_n 0, 1) := dk_42 (dk_at dksX9_wayAt_1 18 rfl rfl)
theorem dX9_wayAt_42 : decode cX9_wayAt 42 = .ok (.iload 5, 2) := dk_21 5 (dk_at dksX9_wayAt_1 19 rfl rfl)
theorem dX9_wayAt_44 : decode cX9_wayAt 44 = .ok (.invokevirtual 168, 3) := dk_182 0 168 (dk_at dksX9_wayAt_1 21 rfl rfl)
theorem dX9_wayAt_47 : decode cX9_wayAt 47 = .ok (.istore 5, 2) := dk_54 5 (dk_at dksX9_wayAt_2 0 rfl rfl)
theorem dX9_wayAt_49 : decode cX9_wayAt 49 = .ok (.iinc 6 1, 3) := dk_132 6 1 (dk_at dksX9_wayAt_2 2 rfl rfl)
theorem dX9_wayAt_52 : decode cX9_wayAt 52 = .ok (.goto (-17), 3) := dk_167 255 239 (dk_at dksX9_wayAt_2 5 rfl rfl)
theorem dX9_wayAt_55 : decode cX9_wayAt 55 = .ok (.iload 5, 2) := dk_21 5 (dk_at dksX9_wayAt_2 8 rfl rfl)
theorem dX9_wayAt_57 : decode cX9_wayAt 57 = .ok (.ireturn, 1) := dk_172 (dk_at dksX9_wayAt_2 10 rfl rfl)
abbrev cX9_walked : ByteArray := prog_23_method_76_code
def yX9_walked : MethodName := ⟨RX9, "walked", "(II)I"⟩
def dkwX9_walked_2 : List UInt8 := [16, 254, 172]
abbrev dktX9_walked_2 : List UInt8 := dkwX9_walked_2 ++ []
def dkwX9_walked_1 : List UInt8 := [184, 0, 74, 153, 0, 20, 42, 180, 0, 13, 17, 0, 196, 7, 27, 104, 96, 28, 96, 46, 167, 0, 5]
abbrev dktX9_walked_1 : List UInt8 := dkwX9_walked_1 ++ dktX9_walked_2
def dkwX9_walked_0 : List UInt8 := [27, 3, 42, 180, 0, 13, 16, 11, 46, 4, 100, 184, 0, 74, 154, 0, 6, 16, 252, 172, 28, 3, 6]
abbrev dktX9_walked_0 : List UInt8 := dkwX9_walked_0 ++ dktX9_walked_1
theorem dksX9_walked_0 : cX9_walked.data.toList.drop 0 = dktX9_walked_0 := by decide +kernel
theorem dksX9_walked_1 : cX9_walked.data.toList.drop 23 = dktX9_walked_1 := dk_seg dksX9_walked_0 23 rfl rfl
theorem dksX9_walked_2 : cX9_walked.data.toList.drop 46 = dktX9_walked_2 := dk_seg dksX9_walked_1 23 rfl rfl
theorem dX9_walked_0 : decode cX9_walked 0 = .ok (.iload_n 1, 1) := dk_27 (dk_at dksX9_walked_0 0 rfl rfl)
theorem dX9_walked_1 : decode cX9_walked 1 = .ok (.iconst 0, 1) := dk_3 (dk_at dksX9_walked_0 1 rfl rfl)
theorem dX9_walked_2 : decode cX9_walked 2 = .ok (.aload_n 0, 1) := dk_42 (dk_at dksX9_walked_0 2 rfl rfl)
theorem dX9_walked_3 : decode cX9_walked 3 = .ok (.getfield 13, 3) := dk_180 0 13 (dk_at dksX9_walked_0 3 rfl rfl)
theorem dX9_walked_6 : decode cX9_walked 6 = .ok (.bipush 11, 2) := dk_16 11 (dk_at dksX9_walked_0 6 rfl rfl)
theorem dX9_walked_8 : decode cX9_walked 8 = .ok (.iaload, 1) := dk_46 (dk_at dksX9_walked_0 8 rfl rfl)
theorem dX9_walked_9 : decode cX9_walked 9 = .ok (.iconst 1, 1) := dk_4 (dk_at dksX9_walked_0 9 rfl rfl)
theorem dX9_walked_10 : decode cX9_walked 10 = .ok (.isub, 1) := dk_100 (dk_at dksX9_walked_0 10 rfl rfl)
theorem dX9_walked_11 : decode cX9_walked 11 = .ok (.invokestatic 74, 3) := dk_184 0 74 (dk_at dksX9_walked_0 11 rfl rfl)
theorem dX9_walked_14 : decode cX9_walked 14 = .ok (.ifCond .ne 6, 3) := dk_154 0 6 (dk_at dksX9_walked_0 14 rfl rfl)
theorem dX9_walked_17 : decode cX9_walked 17 = .ok (.bipush (-4), 2) := dk_16 252 (dk_at dksX9_walked_0 17 rfl rfl)
theorem dX9_walked_19 : decode cX9_walked 19 = .ok (.ireturn, 1) := dk_172 (dk_at dksX9_walked_0 19 rfl rfl)
theorem dX9_walked_20 : decode cX9_walked 20 = .ok (.iload_n 2, 1) := dk_28 (dk_at dksX9_walked_0 20 rfl rfl)
theorem dX9_walked_21 : decode cX9_walked 21 = .ok (.iconst 0, 1) := dk_3 (dk_at dksX9_walked_0 21 rfl rfl)
theorem dX9_walked_22 : decode cX9_walked 22 = .ok (.iconst 3, 1) := dk_6 (dk_at dksX9_walked_0 22 rfl rfl)
theorem dX9_walked_23 : decode cX9_walked 23 = .ok (.invokestatic 74, 3) := dk_184 0 74 (dk_at dksX9_walked_1 0 rfl rfl)
theorem dX9_walked_26 : decode cX9_walked 26 = .ok (.ifCond .eq 20, 3) := dk_153 0 20 (dk_at dksX9_walked_1 3 rfl rfl)
theorem dX9_walked_29 : decode cX9_walked 29 = .ok (.aload_n 0, 1) := dk_42 (dk_at dksX9_walked_1 6 rfl rfl)
theorem dX9_walked_30 : decode cX9_walked 30 = .ok (.getfield 13, 3) := dk_180 0 13 (dk_at dksX9_walked_1 7 rfl rfl)
theorem dX9_walked_33 : decode cX9_walked 33 = .ok (.sipush 196, 3) := dk_17 0 196 (dk_at dksX9_walked_1 10 rfl rfl)
theorem dX9_walked_36 : decode cX9_walked 36 = .ok (.iconst 4, 1) := dk_7 (dk_at dksX9_walked_1 13 rfl rfl)
theorem dX9_walked_37 : decode cX9_walked 37 = .ok (.iload_n 1, 1) := dk_27 (dk_at dksX9_walked_1 14 rfl rfl)
theorem dX9_walked_38 : decode cX9_walked 38 = .ok (.imul, 1) := dk_104 (dk_at dksX9_walked_1 15 rfl rfl)
theorem dX9_walked_39 : decode cX9_walked 39 = .ok (.iadd, 1) := dk_96 (dk_at dksX9_walked_1 16 rfl rfl)
theorem dX9_walked_40 : decode cX9_walked 40 = .ok (.iload_n 2, 1) := dk_28 (dk_at dksX9_walked_1 17 rfl rfl)
theorem dX9_walked_41 : decode cX9_walked 41 = .ok (.iadd, 1) := dk_96 (dk_at dksX9_walked_1 18 rfl rfl)
theorem dX9_walked_42 : decode cX9_walked 42 = .ok (.iaload, 1) := dk_46 (dk_at dksX9_walked_1 19 rfl rfl)
theorem dX9_walked_43 : decode cX9_walked 43 = .ok (.goto 5, 3) := dk_167 0 5 (dk_at dksX9_walked_1 20 rfl rfl)
theorem dX9_walked_46 : decode cX9_walked 46 = .ok (.bipush (-2), 2) := dk_16 254 (dk_at dksX9_walked_2 0 rfl rfl)
theorem dX9_walked_48 : decode cX9_walked 48 = .ok (.ireturn, 1) := dk_172 (dk_at dksX9_walked_2 2 rfl rfl)
abbrev cX9_young : ByteArray := prog_23_method_77_code
def yX9_young : MethodName := ⟨RX9, "young", "()I"⟩
def dkwX9_young_1 : List UInt8 := [28, 120, 128, 60, 132, 2, 1, 167, 255, 229, 27, 172]
abbrev dktX9_young_1 : List UInt8 := dkwX9_young_1 ++ []
def dkwX9_young_0 : List UInt8 := [3, 60, 3, 61, 28, 16, 30, 162, 0, 27, 27, 42, 28, 182, 0, 112, 153, 0, 7, 3, 167, 0, 6, 4]
abbrev dktX9_young_0 : List UInt8 := dkwX9_young_0 ++ dktX9_young_1
theorem dksX9_young_0 : cX9_young.data.toList.drop 0 = dktX9_young_0 := by decide +kernel
theorem dksX9_young_1 : cX9_young.data.toList.drop 24 = dktX9_young_1 := dk_seg dksX9_young_0 24 rfl rfl
theorem dX9_young_0 : decode cX9_young 0 = .ok (.iconst 0, 1) := dk_3 (dk_at dksX9_young_0 0 rfl rfl)
theorem dX9_young_1 : decode cX9_young 1 = .ok (.istore_n 1, 1) := dk_60 (dk_at dksX9_young_0 1 rfl rfl)
theorem dX9_young_2 : decode cX9_young 2 = .ok (.iconst 0, 1) := dk_3 (dk_at dksX9_young_0 2 rfl rfl)
theorem dX9_young_3 : decode cX9_young 3 = .ok (.istore_n 2, 1) := dk_61 (dk_at dksX9_young_0 3 rfl rfl)
theorem dX9_young_4 : decode cX9_young 4 = .ok (.iload_n 2, 1) := dk_28 (dk_at dksX9_young_0 4 rfl rfl)
theorem dX9_young_5 : decode cX9_young 5 = .ok (.bipush 30, 2) := dk_16 30 (dk_at dksX9_young_0 5 rfl rfl)
theorem dX9_young_7 : decode cX9_young 7 = .ok (.if_icmp .ge 27, 3) := dk_162 0 27 (dk_at dksX9_young_0 7 rfl rfl)
theorem dX9_young_10 : decode cX9_young 10 = .ok (.iload_n 1, 1) := dk_27 (dk_at dksX9_young_0 10 rfl rfl)
theorem dX9_young_11 : decode cX9_young 11 = .ok (.aload_n 0, 1) := dk_42 (dk_at dksX9_young_0 11 rfl rfl)
theorem dX9_young_12 : decode cX9_young 12 = .ok (.iload_n 2, 1) := dk_28 (dk_at dksX9_young_0 12 rfl rfl)
theorem dX9_young_13 : decode cX9_young 13 = .ok (.invokevirtual 112, 3) := dk_182 0 112 (dk_at dksX9_young_0 13 rfl rfl)
theorem dX9_young_16 : decode cX9_young 16 = .ok (.ifCond .eq 7, 3) := dk_153 0 7 (dk_at dksX9_young_0 16 rfl rfl)
theorem dX9_young_19 : decode cX9_young 19 = .ok (.iconst 0, 1) := dk_3 (dk_at dksX9_young_0 19 rfl rfl)
theorem dX9_young_20 : decode cX9_young 20 = .ok (.goto 6, 3) := dk_167 0 6 (dk_at dksX9_young_0 20 rfl rfl)
theorem dX9_young_23 : decode cX9_young 23 = .ok (.iconst 1, 1) := dk_4 (dk_at dksX9_young_0 23 rfl rfl)
theorem dX9_young_24 : decode cX9_young 24 = .ok (.iload_n 2, 1) := dk_28 (dk_at dksX9_young_1 0 rfl rfl)
theorem dX9_young_25 : decode cX9_young 25 = .ok (.ishl, 1) := dk_120 (dk_at dksX9_young_1 1 rfl rfl)
theorem dX9_young_26 : decode cX9_young 26 = .ok (.ior, 1) := dk_128 (dk_at dksX9_young_1 2 rfl rfl)
theorem dX9_young_27 : decode cX9_young 27 = .ok (.istore_n 1, 1) := dk_60 (dk_at dksX9_young_1 3 rfl rfl)
theorem dX9_young_28 : decode cX9_young 28 = .ok (.iinc 2 1, 3) := dk_132 2 1 (dk_at dksX9_young_1 4 rfl rfl)
theorem dX9_young_31 : decode cX9_young 31 = .ok (.goto (-27), 3) := dk_167 255 229 (dk_at dksX9_young_1 7 rfl rfl)
theorem dX9_young_34 : decode cX9_young 34 = .ok (.iload_n 1, 1) := dk_27 (dk_at dksX9_young_1 10 rfl rfl)
theorem dX9_young_35 : decode cX9_young 35 = .ok (.ireturn, 1) := dk_172 (dk_at dksX9_young_1 11 rfl rfl)
abbrev cX9_oldIn : ByteArray := prog_23_method_78_code
def yX9_oldIn : MethodName := ⟨RX9, "oldIn", "(I)I"⟩
def dkwX9_oldIn_4 : List UInt8 := [153, 0, 7, 28, 167, 0, 5, 16, 252, 172]
abbrev dktX9_oldIn_4 : List UInt8 := dkwX9_oldIn_4 ++ []
def dkwX9_oldIn_3 : List UInt8 := [161, 0, 7, 4, 167, 0, 4, 3, 54, 4, 42, 180, 0, 13, 42, 180, 0, 20, 184, 0, 64, 21, 4]
abbrev dktX9_oldIn_3 : List UInt8 := dkwX9_oldIn_3 ++ dktX9_oldIn_4
def dkwX9_oldIn_2 : List UInt8 := [182, 0, 188, 96, 62, 132, 2, 1, 167, 255, 226, 42, 180, 0, 13, 16, 42, 27, 96, 46, 16, 6]
abbrev dktX9_oldIn_2 : List UInt8 := dkwX9_oldIn_2 ++ dktX9_oldIn_3
def dkwX9_oldIn_1 : List UInt8 := [28, 16, 40, 162, 0, 30, 42, 180, 0, 13, 16, 42, 27, 96, 46, 16, 6, 162, 0, 16, 29, 42]
abbrev dktX9_oldIn_1 : List UInt8 := dkwX9_oldIn_1 ++ dktX9_oldIn_2
def dkwX9_oldIn_0 : List UInt8 := [27, 184, 0, 78, 154, 0, 5, 2, 172, 42, 180, 0, 20, 42, 180, 0, 13, 184, 0, 64, 3, 61, 3, 62]
abbrev dktX9_oldIn_0 : List UInt8 := dkwX9_oldIn_0 ++ dktX9_oldIn_1
theorem dksX9_oldIn_0 : cX9_oldIn.data.toList.drop 0 = dktX9_oldIn_0 := by decide +kernel
theorem dksX9_oldIn_1 : cX9_oldIn.data.toList.drop 24 = dktX9_oldIn_1 := dk_seg dksX9_oldIn_0 24 rfl rfl
theorem dksX9_oldIn_2 : cX9_oldIn.data.toList.drop 46 = dktX9_oldIn_2 := dk_seg dksX9_oldIn_1 22 rfl rfl
theorem dksX9_oldIn_3 : cX9_oldIn.data.toList.drop 68 = dktX9_oldIn_3 := dk_seg dksX9_oldIn_2 22 rfl rfl
theorem dksX9_oldIn_4 : cX9_oldIn.data.toList.drop 91 = dktX9_oldIn_4 := dk_seg dksX9_oldIn_3 23 rfl rfl
theorem dX9_oldIn_0 : decode cX9_oldIn 0 = .ok (.iload_n 1, 1) := dk_27 (dk_at dksX9_oldIn_0 0 rfl rfl)
theorem dX9_oldIn_1 : decode cX9_oldIn 1 = .ok (.invokestatic 78, 3) := dk_184 0 78 (dk_at dksX9_oldIn_0 1 rfl rfl)
theorem dX9_oldIn_4 : decode cX9_oldIn 4 = .ok (.ifCond .ne 5, 3) := dk_154 0 5 (dk_at dksX9_oldIn_0 4 rfl rfl)
theorem dX9_oldIn_7 : decode cX9_oldIn 7 = .ok (.iconst (-1), 1) := dk_2 (dk_at dksX9_oldIn_0 7 rfl rfl)
theorem dX9_oldIn_8 : decode cX9_oldIn 8 = .ok (.ireturn, 1) := dk_172 (dk_at dksX9_oldIn_0 8 rfl rfl)
theorem dX9_oldIn_9 : decode cX9_oldIn 9 = .ok (.aload_n 0, 1) := dk_42 (dk_at dksX9_oldIn_0 9 rfl rfl)
theorem dX9_oldIn_10 : decode cX9_oldIn 10 = .ok (.getfield 20, 3) := dk_180 0 20 (dk_at dksX9_oldIn_0 10 rfl rfl)
theorem dX9_oldIn_13 : decode cX9_oldIn 13 = .ok (.aload_n 0, 1) := dk_42 (dk_at dksX9_oldIn_0 13 rfl rfl)
theorem dX9_oldIn_14 : decode cX9_oldIn 14 = .ok (.getfield 13, 3) := dk_180 0 13 (dk_at dksX9_oldIn_0 14 rfl rfl)
theorem dX9_oldIn_17 : decode cX9_oldIn 17 = .ok (.invokestatic 64, 3) := dk_184 0 64 (dk_at dksX9_oldIn_0 17 rfl rfl)
theorem dX9_oldIn_20 : decode cX9_oldIn 20 = .ok (.iconst 0, 1) := dk_3 (dk_at dksX9_oldIn_0 20 rfl rfl)
theorem dX9_oldIn_21 : decode cX9_oldIn 21 = .ok (.istore_n 2, 1) := dk_61 (dk_at dksX9_oldIn_0 21 rfl rfl)
theorem dX9_oldIn_22 : decode cX9_oldIn 22 = .ok (.iconst 0, 1) := dk_3 (dk_at dksX9_oldIn_0 22 rfl rfl)
theorem dX9_oldIn_23 : decode cX9_oldIn 23 = .ok (.istore_n 3, 1) := dk_62 (dk_at dksX9_oldIn_0 23 rfl rfl)
theorem dX9_oldIn_24 : decode cX9_oldIn 24 = .ok (.iload_n 2, 1) := dk_28 (dk_at dksX9_oldIn_1 0 rfl rfl)
theorem dX9_oldIn_25 : decode cX9_oldIn 25 = .ok (.bipush 40, 2) := dk_16 40 (dk_at dksX9_oldIn_1 1 rfl rfl)
theorem dX9_oldIn_27 : decode cX9_oldIn 27 = .ok (.if_icmp .ge 30, 3) := dk_162 0 30 (dk_at dksX9_oldIn_1 3 rfl rfl)
theorem dX9_oldIn_30 : decode cX9_oldIn 30 = .ok (.aload_n 0, 1) := dk_42 (dk_at dksX9_oldIn_1 6 rfl rfl)
theorem dX9_oldIn_31 : decode cX9_oldIn 31 = .ok (.getfield 13, 3) := dk_180 0 13 (dk_at dksX9_oldIn_1 7 rfl rfl)
theorem dX9_oldIn_34 : decode cX9_oldIn 34 = .ok (.bipush 42, 2) := dk_16 42 (dk_at dksX9_oldIn_1 10 rfl rfl)
theorem dX9_oldIn_36 : decode cX9_oldIn 36 = .ok (.iload_n 1, 1) := dk_27 (dk_at dksX9_oldIn_1 12 rfl rfl)
theorem dX9_oldIn_37 : decode cX9_oldIn 37 = .ok (.iadd, 1) := dk_96 (dk_at dksX9_oldIn_1 13 rfl rfl)
theorem dX9_oldIn_38 : decode cX9_oldIn 38 = .ok (.iaload, 1) := dk_46 (dk_at dksX9_oldIn_1 14 rfl rfl)
theorem dX9_oldIn_39 : decode cX9_oldIn 39 = .ok (.bipush 6, 2) := dk_16 6 (dk_at dksX9_oldIn_1 15 rfl rfl)
theorem dX9_oldIn_41 : decode cX9_oldIn 41 = .ok (.if_icmp .ge 16, 3) := dk_162 0 16 (dk_at dksX9_oldIn_1 17 rfl rfl)
theorem dX9_oldIn_44 : decode cX9_oldIn 44 = .ok (.iload_n 3, 1) := dk_29 (dk_at dksX9_oldIn_1 20 rfl rfl)
theorem dX9_oldIn_45 : decode cX9_oldIn 45 = .ok (.aload_n 0, 1) := dk_42 (dk_at dksX9_oldIn_1 21 rfl rfl)
theorem dX9_oldIn_46 : decode cX9_oldIn 46 = .ok (.invokevirtual 188, 3) := dk_182 0 188 (dk_at dksX9_oldIn_2 0 rfl rfl)
theorem dX9_oldIn_49 : decode cX9_oldIn 49 = .ok (.iadd, 1) := dk_96 (dk_at dksX9_oldIn_2 3 rfl rfl)
theorem dX9_oldIn_50 : decode cX9_oldIn 50 = .ok (.istore_n 3, 1) := dk_62 (dk_at dksX9_oldIn_2 4 rfl rfl)
theorem dX9_oldIn_51 : decode cX9_oldIn 51 = .ok (.iinc 2 1, 3) := dk_132 2 1 (dk_at dksX9_oldIn_2 5 rfl rfl)
theorem dX9_oldIn_54 : decode cX9_oldIn 54 = .ok (.goto (-30), 3) := dk_167 255 226 (dk_at dksX9_oldIn_2 8 rfl rfl)
theorem dX9_oldIn_57 : decode cX9_oldIn 57 = .ok (.aload_n 0, 1) := dk_42 (dk_at dksX9_oldIn_2 11 rfl rfl)
theorem dX9_oldIn_58 : decode cX9_oldIn 58 = .ok (.getfield 13, 3) := dk_180 0 13 (dk_at dksX9_oldIn_2 12 rfl rfl)
theorem dX9_oldIn_61 : decode cX9_oldIn 61 = .ok (.bipush 42, 2) := dk_16 42 (dk_at dksX9_oldIn_2 15 rfl rfl)
theorem dX9_oldIn_63 : decode cX9_oldIn 63 = .ok (.iload_n 1, 1) := dk_27 (dk_at dksX9_oldIn_2 17 rfl rfl)
theorem dX9_oldIn_64 : decode cX9_oldIn 64 = .ok (.iadd, 1) := dk_96 (dk_at dksX9_oldIn_2 18 rfl rfl)
theorem dX9_oldIn_65 : decode cX9_oldIn 65 = .ok (.iaload, 1) := dk_46 (dk_at dksX9_oldIn_2 19 rfl rfl)
theorem dX9_oldIn_66 : decode cX9_oldIn 66 = .ok (.bipush 6, 2) := dk_16 6 (dk_at dksX9_oldIn_2 20 rfl rfl)
theorem dX9_oldIn_68 : decode cX9_oldIn 68 = .ok (.if_icmp .lt 7, 3) := dk_161 0 7 (dk_at dksX9_oldIn_3 0 rfl rfl)
theorem dX9_oldIn_71 : decode cX9_oldIn 71 = .ok (.iconst 1, 1) := dk_4 (dk_at dksX9_oldIn_3 3 rfl rfl)
theorem dX9_oldIn_72 : decode cX9_oldIn 72 = .ok (.goto 4, 3) := dk_167 0 4 (dk_at dksX9_oldIn_3 4 rfl rfl)
theorem dX9_oldIn_75 : decode cX9_oldIn 75 = .ok (.iconst 0, 1) := dk_3 (dk_at dksX9_oldIn_3 7 rfl rfl)
theorem dX9_oldIn_76 : decode cX9_oldIn 76 = .ok (.istore 4, 2) := dk_54 4 (dk_at dksX9_oldIn_3 8 rfl rfl)
theorem dX9_oldIn_78 : decode cX9_oldIn 78 = .ok (.aload_n 0, 1) := dk_42 (dk_at dksX9_oldIn_3 10 rfl rfl)
theorem dX9_oldIn_79 : decode cX9_oldIn 79 = .ok (.getfield 13, 3) := dk_180 0 13 (dk_at dksX9_oldIn_3 11 rfl rfl)
theorem dX9_oldIn_82 : decode cX9_oldIn 82 = .ok (.aload_n 0, 1) := dk_42 (dk_at dksX9_oldIn_3 14 rfl rfl)
theorem dX9_oldIn_83 : decode cX9_oldIn 83 = .ok (.getfield 20, 3) := dk_180 0 20 (dk_at dksX9_oldIn_3 15 rfl rfl)
theorem dX9_oldIn_86 : decode cX9_oldIn 86 = .ok (.invokestatic 64, 3) := dk_184 0 64 (dk_at dksX9_oldIn_3 18 rfl rfl)
theorem dX9_oldIn_89 : decode cX9_oldIn 89 = .ok (.iload 4, 2) := dk_21 4 (dk_at dksX9_oldIn_3 21 rfl rfl)
theorem dX9_oldIn_91 : decode cX9_oldIn 91 = .ok (.ifCond .eq 7, 3) := dk_153 0 7 (dk_at dksX9_oldIn_4 0 rfl rfl)
theorem dX9_oldIn_94 : decode cX9_oldIn 94 = .ok (.iload_n 2, 1) := dk_28 (dk_at dksX9_oldIn_4 3 rfl rfl)
theorem dX9_oldIn_95 : decode cX9_oldIn 95 = .ok (.goto 5, 3) := dk_167 0 5 (dk_at dksX9_oldIn_4 4 rfl rfl)
theorem dX9_oldIn_98 : decode cX9_oldIn 98 = .ok (.bipush (-4), 2) := dk_16 252 (dk_at dksX9_oldIn_4 7 rfl rfl)
theorem dX9_oldIn_100 : decode cX9_oldIn 100 = .ok (.ireturn, 1) := dk_172 (dk_at dksX9_oldIn_4 9 rfl rfl)
abbrev cX9_mossIn : ByteArray := prog_23_method_79_code
def yX9_mossIn : MethodName := ⟨RX9, "mossIn", "(II)I"⟩
def dkwX9_mossIn_3 : List UInt8 := [180, 0, 13, 42, 180, 0, 20, 184, 0, 64, 21, 4, 172]
abbrev dktX9_mossIn_3 : List UInt8 := dkwX9_mossIn_3 ++ []
def dkwX9_mossIn_2 : List UInt8 := [182, 0, 188, 96, 62, 132, 4, 1, 167, 255, 240, 42, 180, 0, 13, 16, 42, 27, 96, 46, 54, 4, 42]
abbrev dktX9_mossIn_2 : List UInt8 := dkwX9_mossIn_2 ++ dktX9_mossIn_3
def dkwX9_mossIn_1 : List UInt8 := [180, 0, 20, 42, 180, 0, 13, 184, 0, 64, 3, 62, 3, 54, 4, 21, 4, 28, 162, 0, 16, 29, 42]
abbrev dktX9_mossIn_1 : List UInt8 := dkwX9_mossIn_1 ++ dktX9_mossIn_2
def dkwX9_mossIn_0 : List UInt8 := [27, 184, 0, 78, 154, 0, 5, 2, 172, 28, 3, 16, 40, 184, 0, 74, 154, 0, 6, 16, 254, 172, 42]
abbrev dktX9_mossIn_0 : List UInt8 := dkwX9_mossIn_0 ++ dktX9_mossIn_1
theorem dksX9_mossIn_0 : cX9_mossIn.data.toList.drop 0 = dktX9_mossIn_0 := by decide +kernel
theorem dksX9_mossIn_1 : cX9_mossIn.data.toList.drop 23 = dktX9_mossIn_1 := dk_seg dksX9_mossIn_0 23 rfl rfl
theorem dksX9_mossIn_2 : cX9_mossIn.data.toList.drop 46 = dktX9_mossIn_2 := dk_seg dksX9_mossIn_1 23 rfl rfl
theorem dksX9_mossIn_3 : cX9_mossIn.data.toList.drop 69 = dktX9_mossIn_3 := dk_seg dksX9_mossIn_2 23 rfl rfl
theorem dX9_mossIn_0 : decode cX9_mossIn 0 = .ok (.iload_n 1, 1) := dk_27 (dk_at dksX9_mossIn_0 0 rfl rfl)
theorem dX9_mossIn_1 : decode cX9_mossIn 1 = .ok (.invokestatic 78, 3) := dk_184 0 78 (dk_at dksX9_mossIn_0 1 rfl rfl)
theorem dX9_mossIn_4 : decode cX9_mossIn 4 = .ok (.ifCond .ne 5, 3) := dk_154 0 5 (dk_at dksX9_mossIn_0 4 rfl rfl)
theorem dX9_mossIn_7 : decode cX9_mossIn 7 = .ok (.iconst (-1), 1) := dk_2 (dk_at dksX9_mossIn_0 7 rfl rfl)
theorem dX9_mossIn_8 : decode cX9_mossIn 8 = .ok (.ireturn, 1) := dk_172 (dk_at dksX9_mossIn_0 8 rfl rfl)
theorem dX9_mossIn_9 : decode cX9_mossIn 9 = .ok (.iload_n 2, 1) := dk_28 (dk_at dksX9_mossIn_0 9 rfl rfl)
theorem dX9_mossIn_10 : decode cX9_mossIn 10 = .ok (.iconst 0, 1) := dk_3 (dk_at dksX9_mossIn_0 10 rfl rfl)
theorem dX9_mossIn_11 : decode cX9_mossIn 11 = .ok (.bipush 40, 2) := dk_16 40 (dk_at dksX9_mossIn_0 11 rfl rfl)
theorem dX9_mossIn_13 : decode cX9_mossIn 13 = .ok (.invokestatic 74, 3) := dk_184 0 74 (dk_at dksX9_mossIn_0 13 rfl rfl)
theorem dX9_mossIn_16 : decode cX9_mossIn 16 = .ok (.ifCond .ne 6, 3) := dk_154 0 6 (dk_at dksX9_mossIn_0 16 rfl rfl)
theorem dX9_mossIn_19 : decode cX9_mossIn 19 = .ok (.bipush (-2), 2) := dk_16 254 (dk_at dksX9_mossIn_0 19 rfl rfl)
theorem dX9_mossIn_21 : decode cX9_mossIn 21 = .ok (.ireturn, 1) := dk_172 (dk_at dksX9_mossIn_0 21 rfl rfl)
theorem dX9_mossIn_22 : decode cX9_mossIn 22 = .ok (.aload_n 0, 1) := dk_42 (dk_at dksX9_mossIn_0 22 rfl rfl)
theorem dX9_mossIn_23 : decode cX9_mossIn 23 = .ok (.getfield 20, 3) := dk_180 0 20 (dk_at dksX9_mossIn_1 0 rfl rfl)
theorem dX9_mossIn_26 : decode cX9_mossIn 26 = .ok (.aload_n 0, 1) := dk_42 (dk_at dksX9_mossIn_1 3 rfl rfl)
theorem dX9_mossIn_27 : decode cX9_mossIn 27 = .ok (.getfield 13, 3) := dk_180 0 13 (dk_at dksX9_mossIn_1 4 rfl rfl)
theorem dX9_mossIn_30 : decode cX9_mossIn 30 = .ok (.invokestatic 64, 3) := dk_184 0 64 (dk_at dksX9_mossIn_1 7 rfl rfl)
theorem dX9_mossIn_33 : decode cX9_mossIn 33 = .ok (.iconst 0, 1) := dk_3 (dk_at dksX9_mossIn_1 10 rfl rfl)
theorem dX9_mossIn_34 : decode cX9_mossIn 34 = .ok (.istore_n 3, 1) := dk_62 (dk_at dksX9_mossIn_1 11 rfl rfl)
theorem dX9_mossIn_35 : decode cX9_mossIn 35 = .ok (.iconst 0, 1) := dk_3 (dk_at dksX9_mossIn_1 12 rfl rfl)
theorem dX9_mossIn_36 : decode cX9_mossIn 36 = .ok (.istore 4, 2) := dk_54 4 (dk_at dksX9_mossIn_1 13 rfl rfl)
theorem dX9_mossIn_38 : decode cX9_mossIn 38 = .ok (.iload 4, 2) := dk_21 4 (dk_at dksX9_mossIn_1 15 rfl rfl)
theorem dX9_mossIn_40 : decode cX9_mossIn 40 = .ok (.iload_n 2, 1) := dk_28 (dk_at dksX9_mossIn_1 17 rfl rfl)
theorem dX9_mossIn_41 : decode cX9_mossIn 41 = .ok (.if_icmp .ge 16, 3) := dk_162 0 16 (dk_at dksX9_mossIn_1 18 rfl rfl)
theorem dX9_mossIn_44 : decode cX9_mossIn 44 = .ok (.iload_n 3, 1) := dk_29 (dk_at dksX9_mossIn_1 21 rfl rfl)
theorem dX9_mossIn_45 : decode cX9_mossIn 45 = .ok (.aload_n 0, 1) := dk_42 (dk_at dksX9_mossIn_1 22 rfl rfl)
theorem dX9_mossIn_46 : decode cX9_mossIn 46 = .ok (.invokevirtual 188, 3) := dk_182 0 188 (dk_at dksX9_mossIn_2 0 rfl rfl)
theorem dX9_mossIn_49 : decode cX9_mossIn 49 = .ok (.iadd, 1) := dk_96 (dk_at dksX9_mossIn_2 3 rfl rfl)
theorem dX9_mossIn_50 : decode cX9_mossIn 50 = .ok (.istore_n 3, 1) := dk_62 (dk_at dksX9_mossIn_2 4 rfl rfl)
theorem dX9_mossIn_51 : decode cX9_mossIn 51 = .ok (.iinc 4 1, 3) := dk_132 4 1 (dk_at dksX9_mossIn_2 5 rfl rfl)
theorem dX9_mossIn_54 : decode cX9_mossIn 54 = .ok (.goto (-16), 3) := dk_167 255 240 (dk_at dksX9_mossIn_2 8 rfl rfl)
theorem dX9_mossIn_57 : decode cX9_mossIn 57 = .ok (.aload_n 0, 1) := dk_42 (dk_at dksX9_mossIn_2 11 rfl rfl)
theorem dX9_mossIn_58 : decode cX9_mossIn 58 = .ok (.getfield 13, 3) := dk_180 0 13 (dk_at dksX9_mossIn_2 12 rfl rfl)
theorem dX9_mossIn_61 : decode cX9_mossIn 61 = .ok (.bipush 42, 2) := dk_16 42 (dk_at dksX9_mossIn_2 15 rfl rfl)
theorem dX9_mossIn_63 : decode cX9_mossIn 63 = .ok (.iload_n 1, 1) := dk_27 (dk_at dksX9_mossIn_2 17 rfl rfl)
theorem dX9_mossIn_64 : decode cX9_mossIn 64 = .ok (.iadd, 1) := dk_96 (dk_at dksX9_mossIn_2 18 rfl rfl)
theorem dX9_mossIn_65 : decode cX9_mossIn 65 = .ok (.iaload, 1) := dk_46 (dk_at dksX9_mossIn_2 19 rfl rfl)
theorem dX9_mossIn_66 : decode cX9_mossIn 66 = .ok (.istore 4, 2) := dk_54 4 (dk_at dksX9_mossIn_2 20 rfl rfl)
theorem dX9_mossIn_68 : decode cX9_mossIn 68 = .ok (.aload_n 0, 1) := dk_42 (dk_at dksX9_mossIn_2 22 rfl rfl)
theorem dX9_mossIn_69 : decode cX9_mossIn 69 = .ok (.getfield 13, 3) := dk_180 0 13 (dk_at dksX9_mossIn_3 0 rfl rfl)
theorem dX9_mossIn_72 : decode cX9_mossIn 72 = .ok (.aload_n 0, 1) := dk_42 (dk_at dksX9_mossIn_3 3 rfl rfl)
theorem dX9_mossIn_73 : decode cX9_mossIn 73 = .ok (.getfield 20, 3) := dk_180 0 20 (dk_at dksX9_mossIn_3 4 rfl rfl)
theorem dX9_mossIn_76 : decode cX9_mossIn 76 = .ok (.invokestatic 64, 3) := dk_184 0 64 (dk_at dksX9_mossIn_3 7 rfl rfl)
theorem dX9_mossIn_79 : decode cX9_mossIn 79 = .ok (.iload 4, 2) := dk_21 4 (dk_at dksX9_mossIn_3 10 rfl rfl)
theorem dX9_mossIn_81 : decode cX9_mossIn 81 = .ok (.ireturn, 1) := dk_172 (dk_at dksX9_mossIn_3 12 rfl rfl)
abbrev cX9_worst : ByteArray := prog_23_method_81_code
def yX9_worst : MethodName := ⟨RX9, "worst", "()I"⟩
def dkwX9_worst_2 : List UInt8 := [16, 72, 27, 96, 46, 154, 0, 8, 16, 252, 167, 0, 4, 27, 172]
abbrev dktX9_worst_2 : List UInt8 := dkwX9_worst_2 ++ []
def dkwX9_worst_1 : List UInt8 := [16, 72, 27, 96, 46, 164, 0, 7, 28, 167, 0, 4, 27, 60, 132, 2, 1, 167, 255, 220, 42, 180, 0, 13]
abbrev dktX9_worst_1 : List UInt8 := dkwX9_worst_1 ++ dktX9_worst_2
def dkwX9_worst_0 : List UInt8 := [3, 60, 4, 61, 28, 16, 30, 162, 0, 36, 42, 180, 0, 13, 16, 72, 28, 96, 46, 42, 180, 0, 13]
abbrev dktX9_worst_0 : List UInt8 := dkwX9_worst_0 ++ dktX9_worst_1
theorem dksX9_worst_0 : cX9_worst.data.toList.drop 0 = dktX9_worst_0 := by decide +kernel
theorem dksX9_worst_1 : cX9_worst.data.toList.drop 23 = dktX9_worst_1 := dk_seg dksX9_worst_0 23 rfl rfl
theorem dksX9_worst_2 : cX9_worst.data.toList.drop 47 = dktX9_worst_2 := dk_seg dksX9_worst_1 24 rfl rfl
theorem dX9_worst_0 : decode cX9_worst 0 = .ok (.iconst 0, 1) := dk_3 (dk_at dksX9_worst_0 0 rfl rfl)
theorem dX9_worst_1 : decode cX9_worst 1 = .ok (.istore_n 1, 1) := dk_60 (dk_at dksX9_worst_0 1 rfl rfl)
theorem dX9_worst_2 : decode cX9_worst 2 = .ok (.iconst 1, 1) := dk_4 (dk_at dksX9_worst_0 2 rfl rfl)
theorem dX9_worst_3 : decode cX9_worst 3 = .ok (.istore_n 2, 1) := dk_61 (dk_at dksX9_worst_0 3 rfl rfl)
theorem dX9_worst_4 : decode cX9_worst 4 = .ok (.iload_n 2, 1) := dk_28 (dk_at dksX9_worst_0 4 rfl rfl)
theorem dX9_worst_5 : decode cX9_worst 5 = .ok (.bipush 30, 2) := dk_16 30 (dk_at dksX9_worst_0 5 rfl rfl)
theorem dX9_worst_7 : decode cX9_worst 7 = .ok (.if_icmp .ge 36, 3) := dk_162 0 36 (dk_at dksX9_worst_0 7 rfl rfl)
theorem dX9_worst_10 : decode cX9_worst 10 = .ok (.aload_n 0, 1) := dk_42 (dk_at dksX9_worst_0 10 rfl rfl)
theorem dX9_worst_11 : decode cX9_worst 11 = .ok (.getfield 13, 3) := dk_180 0 13 (dk_at dksX9_worst_0 11 rfl rfl)
theorem dX9_worst_14 : decode cX9_worst 14 = .ok (.bipush 72, 2) := dk_16 72 (dk_at dksX9_worst_0 14 rfl rfl)
theorem dX9_worst_16 : decode cX9_worst 16 = .ok (.iload_n 2, 1) := dk_28 (dk_at dksX9_worst_0 16 rfl rfl)
theorem dX9_worst_17 : decode cX9_worst 17 = .ok (.iadd, 1) := dk_96 (dk_at dksX9_worst_0 17 rfl rfl)
theorem dX9_worst_18 : decode cX9_worst 18 = .ok (.iaload, 1) := dk_46 (dk_at dksX9_worst_0 18 rfl rfl)
theorem dX9_worst_19 : decode cX9_worst 19 = .ok (.aload_n 0, 1) := dk_42 (dk_at dksX9_worst_0 19 rfl rfl)
theorem dX9_worst_20 : decode cX9_worst 20 = .ok (.getfield 13, 3) := dk_180 0 13 (dk_at dksX9_worst_0 20 rfl rfl)
theorem dX9_worst_23 : decode cX9_worst 23 = .ok (.bipush 72, 2) := dk_16 72 (dk_at dksX9_worst_1 0 rfl rfl)
theorem dX9_worst_25 : decode cX9_worst 25 = .ok (.iload_n 1, 1) := dk_27 (dk_at dksX9_worst_1 2 rfl rfl)
theorem dX9_worst_26 : decode cX9_worst 26 = .ok (.iadd, 1) := dk_96 (dk_at dksX9_worst_1 3 rfl rfl)
theorem dX9_worst_27 : decode cX9_worst 27 = .ok (.iaload, 1) := dk_46 (dk_at dksX9_worst_1 4 rfl rfl)
theorem dX9_worst_28 : decode cX9_worst 28 = .ok (.if_icmp .le 7, 3) := dk_164 0 7 (dk_at dksX9_worst_1 5 rfl rfl)
theorem dX9_worst_31 : decode cX9_worst 31 = .ok (.iload_n 2, 1) := dk_28 (dk_at dksX9_worst_1 8 rfl rfl)
theorem dX9_worst_32 : decode cX9_worst 32 = .ok (.goto 4, 3) := dk_167 0 4 (dk_at dksX9_worst_1 9 rfl rfl)
theorem dX9_worst_35 : decode cX9_worst 35 = .ok (.iload_n 1, 1) := dk_27 (dk_at dksX9_worst_1 12 rfl rfl)
theorem dX9_worst_36 : decode cX9_worst 36 = .ok (.istore_n 1, 1) := dk_60 (dk_at dksX9_worst_1 13 rfl rfl)
theorem dX9_worst_37 : decode cX9_worst 37 = .ok (.iinc 2 1, 3) := dk_132 2 1 (dk_at dksX9_worst_1 14 rfl rfl)
theorem dX9_worst_40 : decode cX9_worst 40 = .ok (.goto (-36), 3) := dk_167 255 220 (dk_at dksX9_worst_1 17 rfl rfl)
theorem dX9_worst_43 : decode cX9_worst 43 = .ok (.aload_n 0, 1) := dk_42 (dk_at dksX9_worst_1 20 rfl rfl)
theorem dX9_worst_44 : decode cX9_worst 44 = .ok (.getfield 13, 3) := dk_180 0 13 (dk_at dksX9_worst_1 21 rfl rfl)
theorem dX9_worst_47 : decode cX9_worst 47 = .ok (.bipush 72, 2) := dk_16 72 (dk_at dksX9_worst_2 0 rfl rfl)
theorem dX9_worst_49 : decode cX9_worst 49 = .ok (.iload_n 1, 1) := dk_27 (dk_at dksX9_worst_2 2 rfl rfl)
theorem dX9_worst_50 : decode cX9_worst 50 = .ok (.iadd, 1) := dk_96 (dk_at dksX9_worst_2 3 rfl rfl)
theorem dX9_worst_51 : decode cX9_worst 51 = .ok (.iaload, 1) := dk_46 (dk_at dksX9_worst_2 4 rfl rfl)
theorem dX9_worst_52 : decode cX9_worst 52 = .ok (.ifCond .ne 8, 3) := dk_154 0 8 (dk_at dksX9_worst_2 5 rfl rfl)
theorem dX9_worst_55 : decode cX9_worst 55 = .ok (.bipush (-4), 2) := dk_16 252 (dk_at dksX9_worst_2 8 rfl rfl)
theorem dX9_worst_57 : decode cX9_worst 57 = .ok (.goto 4, 3) := dk_167 0 4 (dk_at dksX9_worst_2 10 rfl rfl)
theorem dX9_worst_60 : decode cX9_worst 60 = .ok (.iload_n 1, 1) := dk_27 (dk_at dksX9_worst_2 13 rfl rfl)
theorem dX9_worst_61 : decode cX9_worst 61 = .ok (.ireturn, 1) := dk_172 (dk_at dksX9_worst_2 14 rfl rfl)
abbrev cX9_moss : ByteArray := prog_23_method_82_code
def yX9_moss : MethodName := ⟨RX9, "moss", "(Z)I"⟩
def dkwX9_moss_1 : List UInt8 := [167, 0, 9, 42, 16, 42, 182, 0, 233, 172]
abbrev dktX9_moss_1 : List UInt8 := dkwX9_moss_1 ++ []
def dkwX9_moss_0 : List UInt8 := [27, 153, 0, 24, 17, 1, 44, 42, 180, 0, 13, 8, 46, 96, 42, 180, 0, 13, 16, 6, 46, 100]
abbrev dktX9_moss_0 : List UInt8 := dkwX9_moss_0 ++ dktX9_moss_1
theorem dksX9_moss_0 : cX9_moss.data.toList.drop 0 = dktX9_moss_0 := by decide +kernel
theorem dksX9_moss_1 : cX9_moss.data.toList.drop 22 = dktX9_moss_1 := dk_seg dksX9_moss_0 22 rfl rfl
theorem dX9_moss_0 : decode cX9_moss 0 = .ok (.iload_n 1, 1) := dk_27 (dk_at dksX9_moss_0 0 rfl rfl)
theorem dX9_moss_1 : decode cX9_moss 1 = .ok (.ifCond .eq 24, 3) := dk_153 0 24 (dk_at dksX9_moss_0 1 rfl rfl)
theorem dX9_moss_4 : decode cX9_moss 4 = .ok (.sipush 300, 3) := dk_17 1 44 (dk_at dksX9_moss_0 4 rfl rfl)
theorem dX9_moss_7 : decode cX9_moss 7 = .ok (.aload_n 0, 1) := dk_42 (dk_at dksX9_moss_0 7 rfl rfl)
theorem dX9_moss_8 : decode cX9_moss 8 = .ok (.getfield 13, 3) := dk_180 0 13 (dk_at dksX9_moss_0 8 rfl rfl)
theorem dX9_moss_11 : decode cX9_moss 11 = .ok (.iconst 5, 1) := dk_8 (dk_at dksX9_moss_0 11 rfl rfl)
theorem dX9_moss_12 : decode cX9_moss 12 = .ok (.iaload, 1) := dk_46 (dk_at dksX9_moss_0 12 rfl rfl)
theorem dX9_moss_13 : decode cX9_moss 13 = .ok (.iadd, 1) := dk_96 (dk_at dksX9_moss_0 13 rfl rfl)
theorem dX9_moss_14 : decode cX9_moss 14 = .ok (.aload_n 0, 1) := dk_42 (dk_at dksX9_moss_0 14 rfl rfl)
theorem dX9_moss_15 : decode cX9_moss 15 = .ok (.getfield 13, 3) := dk_180 0 13 (dk_at dksX9_moss_0 15 rfl rfl)
theorem dX9_moss_18 : decode cX9_moss 18 = .ok (.bipush 6, 2) := dk_16 6 (dk_at dksX9_moss_0 18 rfl rfl)
theorem dX9_moss_20 : decode cX9_moss 20 = .ok (.iaload, 1) := dk_46 (dk_at dksX9_moss_0 20 rfl rfl)
theorem dX9_moss_21 : decode cX9_moss 21 = .ok (.isub, 1) := dk_100 (dk_at dksX9_moss_0 21 rfl rfl)
theorem dX9_moss_22 : decode cX9_moss 22 = .ok (.goto 9, 3) := dk_167 0 9 (dk_at dksX9_moss_1 0 rfl rfl)
theorem dX9_moss_25 : decode cX9_moss 25 = .ok (.aload_n 0, 1) := dk_42 (dk_at dksX9_moss_1 3 rfl rfl)
theorem dX9_moss_26 : decode cX9_moss 26 = .ok (.bipush 42, 2) := dk_16 42 (dk_at dksX9_moss_1 4 rfl rfl)
theorem dX9_moss_28 : decode cX9_moss 28 = .ok (.invokevirtual 233, 3) := dk_182 0 233 (dk_at dksX9_moss_1 6 rfl rfl)
theorem dX9_moss_31 : decode cX9_moss 31 = .ok (.ireturn, 1) := dk_172 (dk_at dksX9_moss_1 9 rfl rfl)
abbrev cX9_sumOf : ByteArray := prog_23_method_80_code
def yX9_sumOf : MethodName := ⟨RX9, "sumOf", "(I)I"⟩
def dkwX9_sumOf_1 : List UInt8 := [167, 255, 236, 28, 172]
abbrev dktX9_sumOf_1 : List UInt8 := dkwX9_sumOf_1 ++ []
def dkwX9_sumOf_0 : List UInt8 := [3, 61, 3, 62, 29, 16, 30, 162, 0, 20, 28, 42, 180, 0, 13, 27, 29, 96, 46, 96, 61, 132, 3, 1]
abbrev dktX9_sumOf_0 : List UInt8 := dkwX9_sumOf_0 ++ dktX9_sumOf_1
theorem dksX9_sumOf_0 : cX9_sumOf.data.toList.drop 0 = dktX9_sumOf_0 := by decide +kernel
theorem dksX9_sumOf_1 : cX9_sumOf.data.toList.drop 24 = dktX9_sumOf_1 := dk_seg dksX9_sumOf_0 24 rfl rfl
theorem dX9_sumOf_0 : decode cX9_sumOf 0 = .ok (.iconst 0, 1) := dk_3 (dk_at dksX9_sumOf_0 0 rfl rfl)
theorem dX9_sumOf_1 : decode cX9_sumOf 1 = .ok (.istore_n 2, 1) := dk_61 (dk_at dksX9_sumOf_0 1 rfl rfl)
theorem dX9_sumOf_2 : decode cX9_sumOf 2 = .ok (.iconst 0, 1) := dk_3 (dk_at dksX9_sumOf_0 2 rfl rfl)
theorem dX9_sumOf_3 : decode cX9_sumOf 3 = .ok (.istore_n 3, 1) := dk_62 (dk_at dksX9_sumOf_0 3 rfl rfl)
theorem dX9_sumOf_4 : decode cX9_sumOf 4 = .ok (.iload_n 3, 1) := dk_29 (dk_at dksX9_sumOf_0 4 rfl rfl)
theorem dX9_sumOf_5 : decode cX9_sumOf 5 = .ok (.bipush 30, 2) := dk_16 30 (dk_at dksX9_sumOf_0 5 rfl rfl)
theorem dX9_sumOf_7 : decode cX9_sumOf 7 = .ok (.if_icmp .ge 20, 3) := dk_162 0 20 (dk_at dksX9_sumOf_0 7 rfl rfl)
theorem dX9_sumOf_10 : decode cX9_sumOf 10 = .ok (.iload_n 2, 1) := dk_28 (dk_at dksX9_sumOf_0 10 rfl rfl)
theorem dX9_sumOf_11 : decode cX9_sumOf 11 = .ok (.aload_n 0, 1) := dk_42 (dk_at dksX9_sumOf_0 11 rfl rfl)
theorem dX9_sumOf_12 : decode cX9_sumOf 12 = .ok (.getfield 13, 3) := dk_180 0 13 (dk_at dksX9_sumOf_0 12 rfl rfl)
theorem dX9_sumOf_15 : decode cX9_sumOf 15 = .ok (.iload_n 1, 1) := dk_27 (dk_at dksX9_sumOf_0 15 rfl rfl)
theorem dX9_sumOf_16 : decode cX9_sumOf 16 = .ok (.iload_n 3, 1) := dk_29 (dk_at dksX9_sumOf_0 16 rfl rfl)
theorem dX9_sumOf_17 : decode cX9_sumOf 17 = .ok (.iadd, 1) := dk_96 (dk_at dksX9_sumOf_0 17 rfl rfl)
theorem dX9_sumOf_18 : decode cX9_sumOf 18 = .ok (.iaload, 1) := dk_46 (dk_at dksX9_sumOf_0 18 rfl rfl)
theorem dX9_sumOf_19 : decode cX9_sumOf 19 = .ok (.iadd, 1) := dk_96 (dk_at dksX9_sumOf_0 19 rfl rfl)
theorem dX9_sumOf_20 : decode cX9_sumOf 20 = .ok (.istore_n 2, 1) := dk_61 (dk_at dksX9_sumOf_0 20 rfl rfl)
theorem dX9_sumOf_21 : decode cX9_sumOf 21 = .ok (.iinc 3 1, 3) := dk_132 3 1 (dk_at dksX9_sumOf_0 21 rfl rfl)
theorem dX9_sumOf_24 : decode cX9_sumOf 24 = .ok (.goto (-20), 3) := dk_167 255 236 (dk_at dksX9_sumOf_1 0 rfl rfl)
theorem dX9_sumOf_27 : decode cX9_sumOf 27 = .ok (.iload_n 2, 1) := dk_28 (dk_at dksX9_sumOf_1 3 rfl rfl)
theorem dX9_sumOf_28 : decode cX9_sumOf 28 = .ok (.ireturn, 1) := dk_172 (dk_at dksX9_sumOf_1 4 rfl rfl)
abbrev cX9_describe : ByteArray := prog_23_method_84_code
def yX9_describe : MethodName := ⟨RX9, "describe", "(I)I"⟩
def dkwX9_describe_4 : List UInt8 := [42, 16, 42, 182, 0, 239, 132, 2, 1, 167, 255, 174, 42, 180, 0, 236, 172]
abbrev dktX9_describe_4 : List UInt8 := dkwX9_describe_4 ++ []
def dkwX9_describe_3 : List UInt8 := [46, 16, 6, 162, 0, 8, 16, 121, 167, 0, 5, 16, 111, 182, 0, 239, 42, 28, 182, 0, 100, 153, 0, 9]
abbrev dktX9_describe_3 : List UInt8 := dkwX9_describe_3 ++ dktX9_describe_4
def dkwX9_describe_2 : List UInt8 := [180, 0, 13, 16, 42, 28, 96, 46, 154, 0, 8, 16, 46, 167, 0, 24, 42, 180, 0, 13, 16, 42, 28, 96]
abbrev dktX9_describe_2 : List UInt8 := dkwX9_describe_2 ++ dktX9_describe_3
def dkwX9_describe_1 : List UInt8 := [27, 4, 96, 104, 162, 0, 78, 42, 42, 28, 182, 0, 97, 153, 0, 8, 16, 35, 167, 0, 41, 42]
abbrev dktX9_describe_1 : List UInt8 := dkwX9_describe_1 ++ dktX9_describe_2
def dkwX9_describe_0 : List UInt8 := [27, 3, 7, 184, 0, 74, 154, 0, 5, 2, 172, 42, 3, 181, 0, 236, 16, 6, 27, 104, 61, 28, 16, 6]
abbrev dktX9_describe_0 : List UInt8 := dkwX9_describe_0 ++ dktX9_describe_1
theorem dksX9_describe_0 : cX9_describe.data.toList.drop 0 = dktX9_describe_0 := by decide +kernel
theorem dksX9_describe_1 : cX9_describe.data.toList.drop 24 = dktX9_describe_1 := dk_seg dksX9_describe_0 24 rfl rfl
theorem dksX9_describe_2 : cX9_describe.data.toList.drop 46 = dktX9_describe_2 := dk_seg dksX9_describe_1 22 rfl rfl
theorem dksX9_describe_3 : cX9_describe.data.toList.drop 70 = dktX9_describe_3 := dk_seg dksX9_describe_2 24 rfl rfl
theorem dksX9_describe_4 : cX9_describe.data.toList.drop 94 = dktX9_describe_4 := dk_seg dksX9_describe_3 24 rfl rfl
theorem dX9_describe_0 : decode cX9_describe 0 = .ok (.iload_n 1, 1) := dk_27 (dk_at dksX9_describe_0 0 rfl rfl)
theorem dX9_describe_1 : decode cX9_describe 1 = .ok (.iconst 0, 1) := dk_3 (dk_at dksX9_describe_0 1 rfl rfl)
theorem dX9_describe_2 : decode cX9_describe 2 = .ok (.iconst 4, 1) := dk_7 (dk_at dksX9_describe_0 2 rfl rfl)
theorem dX9_describe_3 : decode cX9_describe 3 = .ok (.invokestatic 74, 3) := dk_184 0 74 (dk_at dksX9_describe_0 3 rfl rfl)
theorem dX9_describe_6 : decode cX9_describe 6 = .ok (.ifCond .ne 5, 3) := dk_154 0 5 (dk_at dksX9_describe_0 6 rfl rfl)
theorem dX9_describe_9 : decode cX9_describe 9 = .ok (.iconst (-1), 1) := dk_2 (dk_at dksX9_describe_0 9 rfl rfl)
theorem dX9_describe_10 : decode cX9_describe 10 = .ok (.ireturn, 1) := dk_172 (dk_at dksX9_describe_0 10 rfl rfl)
theorem dX9_describe_11 : decode cX9_describe 11 = .ok (.aload_n 0, 1) := dk_42 (dk_at dksX9_describe_0 11 rfl rfl)
theorem dX9_describe_12 : decode cX9_describe 12 = .ok (.iconst 0, 1) := dk_3 (dk_at dksX9_describe_0 12 rfl rfl)
theorem dX9_describe_13 : decode cX9_describe 13 = .ok (.putfield 236, 3) := dk_181 0 236 (dk_at dksX9_describe_0 13 rfl rfl)
theorem dX9_describe_16 : decode cX9_describe 16 = .ok (.bipush 6, 2) := dk_16 6 (dk_at dksX9_describe_0 16 rfl rfl)
theorem dX9_describe_18 : decode cX9_describe 18 = .ok (.iload_n 1, 1) := dk_27 (dk_at dksX9_describe_0 18 rfl rfl)
theorem dX9_describe_19 : decode cX9_describe 19 = .ok (.imul, 1) := dk_104 (dk_at dksX9_describe_0 19 rfl rfl)
theorem dX9_describe_20 : decode cX9_describe 20 = .ok (.istore_n 2, 1) := dk_61 (dk_at dksX9_describe_0 20 rfl rfl)
theorem dX9_describe_21 : decode cX9_describe 21 = .ok (.iload_n 2, 1) := dk_28 (dk_at dksX9_describe_0 21 rfl rfl)
theorem dX9_describe_22 : decode cX9_describe 22 = .ok (.bipush 6, 2) := dk_16 6 (dk_at dksX9_describe_0 22 rfl rfl)
theorem dX9_describe_24 : decode cX9_describe 24 = .ok (.iload_n 1, 1) := dk_27 (dk_at dksX9_describe_1 0 rfl rfl)
theorem dX9_describe_25 : decode cX9_describe 25 = .ok (.iconst 1, 1) := dk_4 (dk_at dksX9_describe_1 1 rfl rfl)
theorem dX9_describe_26 : decode cX9_describe 26 = .ok (.iadd, 1) := dk_96 (dk_at dksX9_describe_1 2 rfl rfl)
theorem dX9_describe_27 : decode cX9_describe 27 = .ok (.imul, 1) := dk_104 (dk_at dksX9_describe_1 3 rfl rfl)
theorem dX9_describe_28 : decode cX9_describe 28 = .ok (.if_icmp .ge 78, 3) := dk_162 0 78 (dk_at dksX9_describe_1 4 rfl rfl)
theorem dX9_describe_31 : decode cX9_describe 31 = .ok (.aload_n 0, 1) := dk_42 (dk_at dksX9_describe_1 7 rfl rfl)
theorem dX9_describe_32 : decode cX9_describe 32 = .ok (.aload_n 0, 1) := dk_42 (dk_at dksX9_describe_1 8 rfl rfl)
theorem dX9_describe_33 : decode cX9_describe 33 = .ok (.iload_n 2, 1) := dk_28 (dk_at dksX9_describe_1 9 rfl rfl)
theorem dX9_describe_34 : decode cX9_describe 34 = .ok (.invokevirtual 97, 3) := dk_182 0 97 (dk_at dksX9_describe_1 10 rfl rfl)
theorem dX9_describe_37 : decode cX9_describe 37 = .ok (.ifCond .eq 8, 3) := dk_153 0 8 (dk_at dksX9_describe_1 13 rfl rfl)
theorem dX9_describe_40 : decode cX9_describe 40 = .ok (.bipush 35, 2) := dk_16 35 (dk_at dksX9_describe_1 16 rfl rfl)
theorem dX9_describe_42 : decode cX9_describe 42 = .ok (.goto 41, 3) := dk_167 0 41 (dk_at dksX9_describe_1 18 rfl rfl)
theorem dX9_describe_45 : decode cX9_describe 45 = .ok (.aload_n 0, 1) := dk_42 (dk_at dksX9_describe_1 21 rfl rfl)
theorem dX9_describe_46 : decode cX9_describe 46 = .ok (.getfield 13, 3) := dk_180 0 13 (dk_at dksX9_describe_2 0 rfl rfl)
theorem dX9_describe_49 : decode cX9_describe 49 = .ok (.bipush 42, 2) := dk_16 42 (dk_at dksX9_describe_2 3 rfl rfl)
theorem dX9_describe_51 : decode cX9_describe 51 = .ok (.iload_n 2, 1) := dk_28 (dk_at dksX9_describe_2 5 rfl rfl)
theorem dX9_describe_52 : decode cX9_describe 52 = .ok (.iadd, 1) := dk_96 (dk_at dksX9_describe_2 6 rfl rfl)
theorem dX9_describe_53 : decode cX9_describe 53 = .ok (.iaload, 1) := dk_46 (dk_at dksX9_describe_2 7 rfl rfl)
theorem dX9_describe_54 : decode cX9_describe 54 = .ok (.ifCond .ne 8, 3) := dk_154 0 8 (dk_at dksX9_describe_2 8 rfl rfl)
theorem dX9_describe_57 : decode cX9_describe 57 = .ok (.bipush 46, 2) := dk_16 46 (dk_at dksX9_describe_2 11 rfl rfl)
theorem dX9_describe_59 : decode cX9_describe 59 = .ok (.goto 24, 3) := dk_167 0 24 (dk_at dksX9_describe_2 13 rfl rfl)
theorem dX9_describe_62 : decode cX9_describe 62 = .ok (.aload_n 0, 1) := dk_42 (dk_at dksX9_describe_2 16 rfl rfl)
theorem dX9_describe_63 : decode cX9_describe 63 = .ok (.getfield 13, 3) := dk_180 0 13 (dk_at dksX9_describe_2 17 rfl rfl)
theorem dX9_describe_66 : decode cX9_describe 66 = .ok (.bipush 42, 2) := dk_16 42 (dk_at dksX9_describe_2 20 rfl rfl)
theorem dX9_describe_68 : decode cX9_describe 68 = .ok (.iload_n 2, 1) := dk_28 (dk_at dksX9_describe_2 22 rfl rfl)
theorem dX9_describe_69 : decode cX9_describe 69 = .ok (.iadd, 1) := dk_96 (dk_at dksX9_describe_2 23 rfl rfl)
theorem dX9_describe_70 : decode cX9_describe 70 = .ok (.iaload, 1) := dk_46 (dk_at dksX9_describe_3 0 rfl rfl)
theorem dX9_describe_71 : decode cX9_describe 71 = .ok (.bipush 6, 2) := dk_16 6 (dk_at dksX9_describe_3 1 rfl rfl)
theorem dX9_describe_73 : decode cX9_describe 73 = .ok (.if_icmp .ge 8, 3) := dk_162 0 8 (dk_at dksX9_describe_3 3 rfl rfl)
theorem dX9_describe_76 : decode cX9_describe 76 = .ok (.bipush 121, 2) := dk_16 121 (dk_at dksX9_describe_3 6 rfl rfl)
theorem dX9_describe_78 : decode cX9_describe 78 = .ok (.goto 5, 3) := dk_167 0 5 (dk_at dksX9_describe_3 8 rfl rfl)
theorem dX9_describe_81 : decode cX9_describe 81 = .ok (.bipush 111, 2) := dk_16 111 (dk_at dksX9_describe_3 11 rfl rfl)
theorem dX9_describe_83 : decode cX9_describe 83 = .ok (.invokevirtual 239, 3) := dk_182 0 239 (dk_at dksX9_describe_3 13 rfl rfl)
theorem dX9_describe_86 : decode cX9_describe 86 = .ok (.aload_n 0, 1) := dk_42 (dk_at dksX9_describe_3 16 rfl rfl)
theorem dX9_describe_87 : decode cX9_describe 87 = .ok (.iload_n 2, 1) := dk_28 (dk_at dksX9_describe_3 17 rfl rfl)
theorem dX9_describe_88 : decode cX9_describe 88 = .ok (.invokevirtual 100, 3) := dk_182 0 100 (dk_at dksX9_describe_3 18 rfl rfl)
theorem dX9_describe_91 : decode cX9_describe 91 = .ok (.ifCond .eq 9, 3) := dk_153 0 9 (dk_at dksX9_describe_3 21 rfl rfl)
theorem dX9_describe_94 : decode cX9_describe 94 = .ok (.aload_n 0, 1) := dk_42 (dk_at dksX9_describe_4 0 rfl rfl)
theorem dX9_describe_95 : decode cX9_describe 95 = .ok (.bipush 42, 2) := dk_16 42 (dk_at dksX9_describe_4 1 rfl rfl)
theorem dX9_describe_97 : decode cX9_describe 97 = .ok (.invokevirtual 239, 3) := dk_182 0 239 (dk_at dksX9_describe_4 3 rfl rfl)
theorem dX9_describe_100 : decode cX9_describe 100 = .ok (.iinc 2 1, 3) := dk_132 2 1 (dk_at dksX9_describe_4 6 rfl rfl)
theorem dX9_describe_103 : decode cX9_describe 103 = .ok (.goto (-82), 3) := dk_167 255 174 (dk_at dksX9_describe_4 9 rfl rfl)
theorem dX9_describe_106 : decode cX9_describe 106 = .ok (.aload_n 0, 1) := dk_42 (dk_at dksX9_describe_4 12 rfl rfl)
theorem dX9_describe_107 : decode cX9_describe 107 = .ok (.getfield 236, 3) := dk_180 0 236 (dk_at dksX9_describe_4 13 rfl rfl)
theorem dX9_describe_110 : decode cX9_describe 110 = .ok (.ireturn, 1) := dk_172 (dk_at dksX9_describe_4 16 rfl rfl)
abbrev cX9_writes : ByteArray := prog_23_method_83_code
def yX9_writes : MethodName := ⟨RX9, "writes", "(I)V"⟩
def dkwX9_writes_0 : List UInt8 := [42, 180, 0, 44, 42, 180, 0, 236, 27, 79, 42, 89, 180, 0, 236, 4, 96, 181, 0, 236, 177]
abbrev dktX9_writes_0 : List UInt8 := dkwX9_writes_0 ++ []
theorem dksX9_writes_0 : cX9_writes.data.toList.drop 0 = dktX9_writes_0 := by decide +kernel
theorem dX9_writes_0 : decode cX9_writes 0 = .ok (.aload_n 0, 1) := dk_42 (dk_at dksX9_writes_0 0 rfl rfl)
theorem dX9_writes_1 : decode cX9_writes 1 = .ok (.getfield 44, 3) := dk_180 0 44 (dk_at dksX9_writes_0 1 rfl rfl)
theorem dX9_writes_4 : decode cX9_writes 4 = .ok (.aload_n 0, 1) := dk_42 (dk_at dksX9_writes_0 4 rfl rfl)
theorem dX9_writes_5 : decode cX9_writes 5 = .ok (.getfield 236, 3) := dk_180 0 236 (dk_at dksX9_writes_0 5 rfl rfl)
theorem dX9_writes_8 : decode cX9_writes 8 = .ok (.iload_n 1, 1) := dk_27 (dk_at dksX9_writes_0 8 rfl rfl)
theorem dX9_writes_9 : decode cX9_writes 9 = .ok (.iastore, 1) := dk_79 (dk_at dksX9_writes_0 9 rfl rfl)
theorem dX9_writes_10 : decode cX9_writes 10 = .ok (.aload_n 0, 1) := dk_42 (dk_at dksX9_writes_0 10 rfl rfl)
theorem dX9_writes_11 : decode cX9_writes 11 = .ok (.dup, 1) := dk_89 (dk_at dksX9_writes_0 11 rfl rfl)
theorem dX9_writes_12 : decode cX9_writes 12 = .ok (.getfield 236, 3) := dk_180 0 236 (dk_at dksX9_writes_0 12 rfl rfl)
theorem dX9_writes_15 : decode cX9_writes 15 = .ok (.iconst 1, 1) := dk_4 (dk_at dksX9_writes_0 15 rfl rfl)
theorem dX9_writes_16 : decode cX9_writes 16 = .ok (.iadd, 1) := dk_96 (dk_at dksX9_writes_0 16 rfl rfl)
theorem dX9_writes_17 : decode cX9_writes 17 = .ok (.putfield 236, 3) := dk_181 0 236 (dk_at dksX9_writes_0 17 rfl rfl)
theorem dX9_writes_20 : decode cX9_writes 20 = .ok (.return_, 1) := dk_177 (dk_at dksX9_writes_0 20 rfl rfl)
abbrev cX9_written : ByteArray := prog_23_method_85_code
def yX9_written : MethodName := ⟨RX9, "written", "(I)I"⟩
def dkwX9_written_1 : List UInt8 := [172]
abbrev dktX9_written_1 : List UInt8 := dkwX9_written_1 ++ []
def dkwX9_written_0 : List UInt8 := [27, 3, 42, 180, 0, 236, 4, 100, 184, 0, 74, 153, 0, 12, 42, 180, 0, 44, 27, 46, 167, 0, 4, 2]
abbrev dktX9_written_0 : List UInt8 := dkwX9_written_0 ++ dktX9_written_1
theorem dksX9_written_0 : cX9_written.data.toList.drop 0 = dktX9_written_0 := by decide +kernel
theorem dksX9_written_1 : cX9_written.data.toList.drop 24 = dktX9_written_1 := dk_seg dksX9_written_0 24 rfl rfl
theorem dX9_written_0 : decode cX9_written 0 = .ok (.iload_n 1, 1) := dk_27 (dk_at dksX9_written_0 0 rfl rfl)
theorem dX9_written_1 : decode cX9_written 1 = .ok (.iconst 0, 1) := dk_3 (dk_at dksX9_written_0 1 rfl rfl)
theorem dX9_written_2 : decode cX9_written 2 = .ok (.aload_n 0, 1) := dk_42 (dk_at dksX9_written_0 2 rfl rfl)
theorem dX9_written_3 : decode cX9_written 3 = .ok (.getfield 236, 3) := dk_180 0 236 (dk_at dksX9_written_0 3 rfl rfl)
theorem dX9_written_6 : decode cX9_written 6 = .ok (.iconst 1, 1) := dk_4 (dk_at dksX9_written_0 6 rfl rfl)
theorem dX9_written_7 : decode cX9_written 7 = .ok (.isub, 1) := dk_100 (dk_at dksX9_written_0 7 rfl rfl)
theorem dX9_written_8 : decode cX9_written 8 = .ok (.invokestatic 74, 3) := dk_184 0 74 (dk_at dksX9_written_0 8 rfl rfl)
theorem dX9_written_11 : decode cX9_written 11 = .ok (.ifCond .eq 12, 3) := dk_153 0 12 (dk_at dksX9_written_0 11 rfl rfl)
theorem dX9_written_14 : decode cX9_written 14 = .ok (.aload_n 0, 1) := dk_42 (dk_at dksX9_written_0 14 rfl rfl)
theorem dX9_written_15 : decode cX9_written 15 = .ok (.getfield 44, 3) := dk_180 0 44 (dk_at dksX9_written_0 15 rfl rfl)
theorem dX9_written_18 : decode cX9_written 18 = .ok (.iload_n 1, 1) := dk_27 (dk_at dksX9_written_0 18 rfl rfl)
theorem dX9_written_19 : decode cX9_written 19 = .ok (.iaload, 1) := dk_46 (dk_at dksX9_written_0 19 rfl rfl)
theorem dX9_written_20 : decode cX9_written 20 = .ok (.goto 4, 3) := dk_167 0 4 (dk_at dksX9_written_0 20 rfl rfl)
theorem dX9_written_23 : decode cX9_written 23 = .ok (.iconst (-1), 1) := dk_2 (dk_at dksX9_written_0 23 rfl rfl)
theorem dX9_written_24 : decode cX9_written 24 = .ok (.ireturn, 1) := dk_172 (dk_at dksX9_written_1 0 rfl rfl)
abbrev cX9_meanMoss : ByteArray := prog_23_method_86_code
def yX9_meanMoss : MethodName := ⟨RX9, "meanMoss", "()F"⟩
def dkwX9_meanMoss_1 : List UInt8 := [134, 27, 134, 110, 174]
abbrev dktX9_meanMoss_1 : List UInt8 := dkwX9_meanMoss_1 ++ []
def dkwX9_meanMoss_0 : List UInt8 := [16, 30, 42, 16, 102, 182, 0, 233, 100, 60, 27, 154, 0, 7, 11, 167, 0, 13, 42, 16, 42, 182, 0, 233]
abbrev dktX9_meanMoss_0 : List UInt8 := dkwX9_meanMoss_0 ++ dktX9_meanMoss_1
theorem dksX9_meanMoss_0 : cX9_meanMoss.data.toList.drop 0 = dktX9_meanMoss_0 := by decide +kernel
theorem dksX9_meanMoss_1 : cX9_meanMoss.data.toList.drop 24 = dktX9_meanMoss_1 := dk_seg dksX9_meanMoss_0 24 rfl rfl
theorem dX9_meanMoss_0 : decode cX9_meanMoss 0 = .ok (.bipush 30, 2) := dk_16 30 (dk_at dksX9_meanMoss_0 0 rfl rfl)
theorem dX9_meanMoss_2 : decode cX9_meanMoss 2 = .ok (.aload_n 0, 1) := dk_42 (dk_at dksX9_meanMoss_0 2 rfl rfl)
theorem dX9_meanMoss_3 : decode cX9_meanMoss 3 = .ok (.bipush 102, 2) := dk_16 102 (dk_at dksX9_meanMoss_0 3 rfl rfl)
theorem dX9_meanMoss_5 : decode cX9_meanMoss 5 = .ok (.invokevirtual 233, 3) := dk_182 0 233 (dk_at dksX9_meanMoss_0 5 rfl rfl)
theorem dX9_meanMoss_8 : decode cX9_meanMoss 8 = .ok (.isub, 1) := dk_100 (dk_at dksX9_meanMoss_0 8 rfl rfl)
theorem dX9_meanMoss_9 : decode cX9_meanMoss 9 = .ok (.istore_n 1, 1) := dk_60 (dk_at dksX9_meanMoss_0 9 rfl rfl)
theorem dX9_meanMoss_10 : decode cX9_meanMoss 10 = .ok (.iload_n 1, 1) := dk_27 (dk_at dksX9_meanMoss_0 10 rfl rfl)
theorem dX9_meanMoss_11 : decode cX9_meanMoss 11 = .ok (.ifCond .ne 7, 3) := dk_154 0 7 (dk_at dksX9_meanMoss_0 11 rfl rfl)
theorem dX9_meanMoss_14 : decode cX9_meanMoss 14 = .ok (.fconst 0, 1) := dk_11 (dk_at dksX9_meanMoss_0 14 rfl rfl)
theorem dX9_meanMoss_15 : decode cX9_meanMoss 15 = .ok (.goto 13, 3) := dk_167 0 13 (dk_at dksX9_meanMoss_0 15 rfl rfl)
theorem dX9_meanMoss_18 : decode cX9_meanMoss 18 = .ok (.aload_n 0, 1) := dk_42 (dk_at dksX9_meanMoss_0 18 rfl rfl)
theorem dX9_meanMoss_19 : decode cX9_meanMoss 19 = .ok (.bipush 42, 2) := dk_16 42 (dk_at dksX9_meanMoss_0 19 rfl rfl)
theorem dX9_meanMoss_21 : decode cX9_meanMoss 21 = .ok (.invokevirtual 233, 3) := dk_182 0 233 (dk_at dksX9_meanMoss_0 21 rfl rfl)
theorem dX9_meanMoss_24 : decode cX9_meanMoss 24 = .ok (.i2f, 1) := dk_134 (dk_at dksX9_meanMoss_1 0 rfl rfl)
theorem dX9_meanMoss_25 : decode cX9_meanMoss 25 = .ok (.iload_n 1, 1) := dk_27 (dk_at dksX9_meanMoss_1 1 rfl rfl)
theorem dX9_meanMoss_26 : decode cX9_meanMoss 26 = .ok (.i2f, 1) := dk_134 (dk_at dksX9_meanMoss_1 2 rfl rfl)
theorem dX9_meanMoss_27 : decode cX9_meanMoss 27 = .ok (.fdiv, 1) := dk_110 (dk_at dksX9_meanMoss_1 3 rfl rfl)
theorem dX9_meanMoss_28 : decode cX9_meanMoss 28 = .ok (.freturn, 1) := dk_174 (dk_at dksX9_meanMoss_1 4 rfl rfl)
abbrev cX9_oldShare : ByteArray := prog_23_method_87_code
def yX9_oldShare : MethodName := ⟨RX9, "oldShare", "()D"⟩
def dkwX9_oldShare_3 : List UInt8 := [27, 135, 28, 135, 111, 175]
abbrev dktX9_oldShare_3 : List UInt8 := dkwX9_oldShare_3 ++ []
def dkwX9_oldShare_2 : List UInt8 := [161, 0, 7, 4, 167, 0, 4, 3, 96, 60, 132, 3, 1, 167, 255, 205, 28, 154, 0, 7, 14, 167, 0, 8]
abbrev dktX9_oldShare_2 : List UInt8 := dkwX9_oldShare_2 ++ dktX9_oldShare_3
def dkwX9_oldShare_1 : List UInt8 := [158, 0, 7, 4, 167, 0, 4, 3, 96, 61, 27, 42, 180, 0, 13, 16, 42, 29, 96, 46, 16, 6]
abbrev dktX9_oldShare_1 : List UInt8 := dkwX9_oldShare_1 ++ dktX9_oldShare_2
def dkwX9_oldShare_0 : List UInt8 := [3, 60, 3, 61, 3, 62, 29, 16, 30, 162, 0, 51, 28, 42, 180, 0, 13, 16, 42, 29, 96, 46]
abbrev dktX9_oldShare_0 : List UInt8 := dkwX9_oldShare_0 ++ dktX9_oldShare_1
theorem dksX9_oldShare_0 : cX9_oldShare.data.toList.drop 0 = dktX9_oldShare_0 := by decide +kernel
theorem dksX9_oldShare_1 : cX9_oldShare.data.toList.drop 22 = dktX9_oldShare_1 := dk_seg dksX9_oldShare_0 22 rfl rfl
theorem dksX9_oldShare_2 : cX9_oldShare.data.toList.drop 44 = dktX9_oldShare_2 := dk_seg dksX9_oldShare_1 22 rfl rfl
theorem dksX9_oldShare_3 : cX9_oldShare.data.toList.drop 68 = dktX9_oldShare_3 := dk_seg dksX9_oldShare_2 24 rfl rfl
theorem dX9_oldShare_0 : decode cX9_oldShare 0 = .ok (.iconst 0, 1) := dk_3 (dk_at dksX9_oldShare_0 0 rfl rfl)
theorem dX9_oldShare_1 : decode cX9_oldShare 1 = .ok (.istore_n 1, 1) := dk_60 (dk_at dksX9_oldShare_0 1 rfl rfl)
theorem dX9_oldShare_2 : decode cX9_oldShare 2 = .ok (.iconst 0, 1) := dk_3 (dk_at dksX9_oldShare_0 2 rfl rfl)
theorem dX9_oldShare_3 : decode cX9_oldShare 3 = .ok (.istore_n 2, 1) := dk_61 (dk_at dksX9_oldShare_0 3 rfl rfl)
theorem dX9_oldShare_4 : decode cX9_oldShare 4 = .ok (.iconst 0, 1) := dk_3 (dk_at dksX9_oldShare_0 4 rfl rfl)
theorem dX9_oldShare_5 : decode cX9_oldShare 5 = .ok (.istore_n 3, 1) := dk_62 (dk_at dksX9_oldShare_0 5 rfl rfl)
theorem dX9_oldShare_6 : decode cX9_oldShare 6 = .ok (.iload_n 3, 1) := dk_29 (dk_at dksX9_oldShare_0 6 rfl rfl)
theorem dX9_oldShare_7 : decode cX9_oldShare 7 = .ok (.bipush 30, 2) := dk_16 30 (dk_at dksX9_oldShare_0 7 rfl rfl)
theorem dX9_oldShare_9 : decode cX9_oldShare 9 = .ok (.if_icmp .ge 51, 3) := dk_162 0 51 (dk_at dksX9_oldShare_0 9 rfl rfl)
theorem dX9_oldShare_12 : decode cX9_oldShare 12 = .ok (.iload_n 2, 1) := dk_28 (dk_at dksX9_oldShare_0 12 rfl rfl)
theorem dX9_oldShare_13 : decode cX9_oldShare 13 = .ok (.aload_n 0, 1) := dk_42 (dk_at dksX9_oldShare_0 13 rfl rfl)
theorem dX9_oldShare_14 : decode cX9_oldShare 14 = .ok (.getfield 13, 3) := dk_180 0 13 (dk_at dksX9_oldShare_0 14 rfl rfl)
theorem dX9_oldShare_17 : decode cX9_oldShare 17 = .ok (.bipush 42, 2) := dk_16 42 (dk_at dksX9_oldShare_0 17 rfl rfl)
theorem dX9_oldShare_19 : decode cX9_oldShare 19 = .ok (.iload_n 3, 1) := dk_29 (dk_at dksX9_oldShare_0 19 rfl rfl)
theorem dX9_oldShare_20 : decode cX9_oldShare 20 = .ok (.iadd, 1) := dk_96 (dk_at dksX9_oldShare_0 20 rfl rfl)
theorem dX9_oldShare_21 : decode cX9_oldShare 21 = .ok (.iaload, 1) := dk_46 (dk_at dksX9_oldShare_0 21 rfl rfl)
theorem dX9_oldShare_22 : decode cX9_oldShare 22 = .ok (.ifCond .le 7, 3) := dk_158 0 7 (dk_at dksX9_oldShare_1 0 rfl rfl)
theorem dX9_oldShare_25 : decode cX9_oldShare 25 = .ok (.iconst 1, 1) := dk_4 (dk_at dksX9_oldShare_1 3 rfl rfl)
theorem dX9_oldShare_26 : decode cX9_oldShare 26 = .ok (.goto 4, 3) := dk_167 0 4 (dk_at dksX9_oldShare_1 4 rfl rfl)
theorem dX9_oldShare_29 : decode cX9_oldShare 29 = .ok (.iconst 0, 1) := dk_3 (dk_at dksX9_oldShare_1 7 rfl rfl)
theorem dX9_oldShare_30 : decode cX9_oldShare 30 = .ok (.iadd, 1) := dk_96 (dk_at dksX9_oldShare_1 8 rfl rfl)
theorem dX9_oldShare_31 : decode cX9_oldShare 31 = .ok (.istore_n 2, 1) := dk_61 (dk_at dksX9_oldShare_1 9 rfl rfl)
theorem dX9_oldShare_32 : decode cX9_oldShare 32 = .ok (.iload_n 1, 1) := dk_27 (dk_at dksX9_oldShare_1 10 rfl rfl)
theorem dX9_oldShare_33 : decode cX9_oldShare 33 = .ok (.aload_n 0, 1) := dk_42 (dk_at dksX9_oldShare_1 11 rfl rfl)
theorem dX9_oldShare_34 : decode cX9_oldShare 34 = .ok (.getfield 13, 3) := dk_180 0 13 (dk_at dksX9_oldShare_1 12 rfl rfl)
theorem dX9_oldShare_37 : decode cX9_oldShare 37 = .ok (.bipush 42, 2) := dk_16 42 (dk_at dksX9_oldShare_1 15 rfl rfl)
theorem dX9_oldShare_39 : decode cX9_oldShare 39 = .ok (.iload_n 3, 1) := dk_29 (dk_at dksX9_oldShare_1 17 rfl rfl)
theorem dX9_oldShare_40 : decode cX9_oldShare 40 = .ok (.iadd, 1) := dk_96 (dk_at dksX9_oldShare_1 18 rfl rfl)
theorem dX9_oldShare_41 : decode cX9_oldShare 41 = .ok (.iaload, 1) := dk_46 (dk_at dksX9_oldShare_1 19 rfl rfl)
theorem dX9_oldShare_42 : decode cX9_oldShare 42 = .ok (.bipush 6, 2) := dk_16 6 (dk_at dksX9_oldShare_1 20 rfl rfl)
theorem dX9_oldShare_44 : decode cX9_oldShare 44 = .ok (.if_icmp .lt 7, 3) := dk_161 0 7 (dk_at dksX9_oldShare_2 0 rfl rfl)
theorem dX9_oldShare_47 : decode cX9_oldShare 47 = .ok (.iconst 1, 1) := dk_4 (dk_at dksX9_oldShare_2 3 rfl rfl)
theorem dX9_oldShare_48 : decode cX9_oldShare 48 = .ok (.goto 4, 3) := dk_167 0 4 (dk_at dksX9_oldShare_2 4 rfl rfl)
theorem dX9_oldShare_51 : decode cX9_oldShare 51 = .ok (.iconst 0, 1) := dk_3 (dk_at dksX9_oldShare_2 7 rfl rfl)
theorem dX9_oldShare_52 : decode cX9_oldShare 52 = .ok (.iadd, 1) := dk_96 (dk_at dksX9_oldShare_2 8 rfl rfl)
theorem dX9_oldShare_53 : decode cX9_oldShare 53 = .ok (.istore_n 1, 1) := dk_60 (dk_at dksX9_oldShare_2 9 rfl rfl)
theorem dX9_oldShare_54 : decode cX9_oldShare 54 = .ok (.iinc 3 1, 3) := dk_132 3 1 (dk_at dksX9_oldShare_2 10 rfl rfl)
theorem dX9_oldShare_57 : decode cX9_oldShare 57 = .ok (.goto (-51), 3) := dk_167 255 205 (dk_at dksX9_oldShare_2 13 rfl rfl)
theorem dX9_oldShare_60 : decode cX9_oldShare 60 = .ok (.iload_n 2, 1) := dk_28 (dk_at dksX9_oldShare_2 16 rfl rfl)
theorem dX9_oldShare_61 : decode cX9_oldShare 61 = .ok (.ifCond .ne 7, 3) := dk_154 0 7 (dk_at dksX9_oldShare_2 17 rfl rfl)
theorem dX9_oldShare_64 : decode cX9_oldShare 64 = .ok (.dconst 0, 1) := dk_14 (dk_at dksX9_oldShare_2 20 rfl rfl)
theorem dX9_oldShare_65 : decode cX9_oldShare 65 = .ok (.goto 8, 3) := dk_167 0 8 (dk_at dksX9_oldShare_2 21 rfl rfl)
theorem dX9_oldShare_68 : decode cX9_oldShare 68 = .ok (.iload_n 1, 1) := dk_27 (dk_at dksX9_oldShare_3 0 rfl rfl)
theorem dX9_oldShare_69 : decode cX9_oldShare 69 = .ok (.i2d, 1) := dk_135 (dk_at dksX9_oldShare_3 1 rfl rfl)
theorem dX9_oldShare_70 : decode cX9_oldShare 70 = .ok (.iload_n 2, 1) := dk_28 (dk_at dksX9_oldShare_3 2 rfl rfl)
theorem dX9_oldShare_71 : decode cX9_oldShare 71 = .ok (.i2d, 1) := dk_135 (dk_at dksX9_oldShare_3 3 rfl rfl)
theorem dX9_oldShare_72 : decode cX9_oldShare 72 = .ok (.ddiv, 1) := dk_111 (dk_at dksX9_oldShare_3 4 rfl rfl)
theorem dX9_oldShare_73 : decode cX9_oldShare 73 = .ok (.dreturn, 1) := dk_175 (dk_at dksX9_oldShare_3 5 rfl rfl)
abbrev cX9_account : ByteArray := prog_23_method_89_code
def yX9_account : MethodName := ⟨RX9, "account", "(I)I"⟩
def dkwX9_account_6 : List UInt8 := [172, 16, 254, 172]
abbrev dktX9_account_6 : List UInt8 := dkwX9_account_6 ++ []
def dkwX9_account_5 : List UInt8 := [46, 172, 42, 180, 0, 13, 16, 8, 27, 96, 16, 12, 100, 46, 172, 42, 180, 0, 195, 172, 42, 180, 0, 71]
abbrev dktX9_account_5 : List UInt8 := dkwX9_account_5 ++ dktX9_account_6
def dkwX9_account_4 : List UInt8 := [16, 72, 182, 0, 233, 172, 42, 180, 0, 13, 16, 7, 46, 172, 42, 180, 0, 13, 8, 27, 96, 16, 10, 100]
abbrev dktX9_account_4 : List UInt8 := dkwX9_account_4 ++ dktX9_account_5
def dkwX9_account_3 : List UInt8 := [42, 180, 0, 13, 7, 46, 172, 42, 17, 0, 132, 182, 0, 233, 172, 42, 16, 102, 182, 0, 233, 172, 42]
abbrev dktX9_account_3 : List UInt8 := dkwX9_account_3 ++ dktX9_account_4
def dkwX9_account_2 : List UInt8 := [42, 180, 0, 13, 27, 46, 172, 42, 180, 0, 13, 6, 46, 42, 182, 0, 242, 100, 172, 42, 182, 0, 242, 172]
abbrev dktX9_account_2 : List UInt8 := dkwX9_account_2 ++ dktX9_account_3
def dkwX9_account_1 : List UInt8 := [170, 0, 0, 0, 0, 0, 179, 0, 0, 0, 0, 0, 0, 0, 16, 0, 0, 0, 83, 0, 0, 0, 83, 0, 0, 0, 83, 0, 0, 0, 90, 0, 0, 0, 102, 0, 0, 0, 107, 0, 0, 0, 114, 0, 0, 0, 122, 0, 0, 0, 129, 0, 0, 0, 136, 0, 0, 0, 144, 0, 0, 0, 144, 0, 0, 0, 156, 0, 0, 0, 156, 0, 0, 0, 156, 0, 0, 0, 169, 0, 0, 0, 174]
abbrev dktX9_account_1 : List UInt8 := dkwX9_account_1 ++ dktX9_account_2
def dkwX9_account_0 : List UInt8 := [27]
abbrev dktX9_account_0 : List UInt8 := dkwX9_account_0 ++ dktX9_account_1
theorem dksX9_account_0 : cX9_account.data.toList.drop 0 = dktX9_account_0 := by decide +kernel
theorem dksX9_account_1 : cX9_account.data.toList.drop 1 = dktX9_account_1 := dk_seg dksX9_account_0 1 rfl rfl
theorem dksX9_account_2 : cX9_account.data.toList.drop 84 = dktX9_account_2 := dk_seg dksX9_account_1 83 rfl rfl
theorem dksX9_account_3 : cX9_account.data.toList.drop 108 = dktX9_account_3 := dk_seg dksX9_account_2 24 rfl rfl
theorem dksX9_account_4 : cX9_account.data.toList.drop 131 = dktX9_account_4 := dk_seg dksX9_account_3 23 rfl rfl
theorem dksX9_account_5 : cX9_account.data.toList.drop 155 = dktX9_account_5 := dk_seg dksX9_account_4 24 rfl rfl
theorem dksX9_account_6 : cX9_account.data.toList.drop 179 = dktX9_account_6 := dk_seg dksX9_account_5 24 rfl rfl
theorem dX9_account_0 : decode cX9_account 0 = .ok (.iload_n 1, 1) := dk_27 (dk_at dksX9_account_0 0 rfl rfl)
theorem dX9_account_1 : decode cX9_account 1 = .ok (.tableswitch 179 0 16 #[83, 83, 83, 90, 102, 107, 114, 122, 129, 136, 144, 144, 156, 156, 156, 169, 174], 83) := by decide +kernel
theorem dX9_account_84 : decode cX9_account 84 = .ok (.aload_n 0, 1) := dk_42 (dk_at dksX9_account_2 0 rfl rfl)
theorem dX9_account_85 : decode cX9_account 85 = .ok (.getfield 13, 3) := dk_180 0 13 (dk_at dksX9_account_2 1 rfl rfl)
theorem dX9_account_88 : decode cX9_account 88 = .ok (.iload_n 1, 1) := dk_27 (dk_at dksX9_account_2 4 rfl rfl)
theorem dX9_account_89 : decode cX9_account 89 = .ok (.iaload, 1) := dk_46 (dk_at dksX9_account_2 5 rfl rfl)
theorem dX9_account_90 : decode cX9_account 90 = .ok (.ireturn, 1) := dk_172 (dk_at dksX9_account_2 6 rfl rfl)
theorem dX9_account_91 : decode cX9_account 91 = .ok (.aload_n 0, 1) := dk_42 (dk_at dksX9_account_2 7 rfl rfl)
theorem dX9_account_92 : decode cX9_account 92 = .ok (.getfield 13, 3) := dk_180 0 13 (dk_at dksX9_account_2 8 rfl rfl)
theorem dX9_account_95 : decode cX9_account 95 = .ok (.iconst 3, 1) := dk_6 (dk_at dksX9_account_2 11 rfl rfl)
theorem dX9_account_96 : decode cX9_account 96 = .ok (.iaload, 1) := dk_46 (dk_at dksX9_account_2 12 rfl rfl)
theorem dX9_account_97 : decode cX9_account 97 = .ok (.aload_n 0, 1) := dk_42 (dk_at dksX9_account_2 13 rfl rfl)
theorem dX9_account_98 : decode cX9_account 98 = .ok (.invokevirtual 242, 3) := dk_182 0 242 (dk_at dksX9_account_2 14 rfl rfl)
theorem dX9_account_101 : decode cX9_account 101 = .ok (.isub, 1) := dk_100 (dk_at dksX9_account_2 17 rfl rfl)
theorem dX9_account_102 : decode cX9_account 102 = .ok (.ireturn, 1) := dk_172 (dk_at dksX9_account_2 18 rfl rfl)
theorem dX9_account_103 : decode cX9_account 103 = .ok (.aload_n 0, 1) := dk_42 (dk_at dksX9_account_2 19 rfl rfl)
theorem dX9_account_104 : decode cX9_account 104 = .ok (.invokevirtual 242, 3) := dk_182 0 242 (dk_at dksX9_account_2 20 rfl rfl)
theorem dX9_account_107 : decode cX9_account 107 = .ok (.ireturn, 1) := dk_172 (dk_at dksX9_account_2 23 rfl rfl)
theorem dX9_account_108 : decode cX9_account 108 = .ok (.aload_n 0, 1) := dk_42 (dk_at dksX9_account_3 0 rfl rfl)
theorem dX9_account_109 : decode cX9_account 109 = .ok (.getfield 13, 3) := dk_180 0 13 (dk_at dksX9_account_3 1 rfl rfl)
theorem dX9_account_112 : decode cX9_account 112 = .ok (.iconst 4, 1) := dk_7 (dk_at dksX9_account_3 4 rfl rfl)
theorem dX9_account_113 : decode cX9_account 113 = .ok (.iaload, 1) := dk_46 (dk_at dksX9_account_3 5 rfl rfl)
theorem dX9_account_114 : decode cX9_account 114 = .ok (.ireturn, 1) := dk_172 (dk_at dksX9_account_3 6 rfl rfl)
theorem dX9_account_115 : decode cX9_account 115 = .ok (.aload_n 0, 1) := dk_42 (dk_at dksX9_account_3 7 rfl rfl)
theorem dX9_account_116 : decode cX9_account 116 = .ok (.sipush 132, 3) := dk_17 0 132 (dk_at dksX9_account_3 8 rfl rfl)
theorem dX9_account_119 : decode cX9_account 119 = .ok (.invokevirtual 233, 3) := dk_182 0 233 (dk_at dksX9_account_3 11 rfl rfl)
theorem dX9_account_122 : decode cX9_account 122 = .ok (.ireturn, 1) := dk_172 (dk_at dksX9_account_3 14 rfl rfl)
theorem dX9_account_123 : decode cX9_account 123 = .ok (.aload_n 0, 1) := dk_42 (dk_at dksX9_account_3 15 rfl rfl)
theorem dX9_account_124 : decode cX9_account 124 = .ok (.bipush 102, 2) := dk_16 102 (dk_at dksX9_account_3 16 rfl rfl)
theorem dX9_account_126 : decode cX9_account 126 = .ok (.invokevirtual 233, 3) := dk_182 0 233 (dk_at dksX9_account_3 18 rfl rfl)
theorem dX9_account_129 : decode cX9_account 129 = .ok (.ireturn, 1) := dk_172 (dk_at dksX9_account_3 21 rfl rfl)
theorem dX9_account_130 : decode cX9_account 130 = .ok (.aload_n 0, 1) := dk_42 (dk_at dksX9_account_3 22 rfl rfl)
theorem dX9_account_131 : decode cX9_account 131 = .ok (.bipush 72, 2) := dk_16 72 (dk_at dksX9_account_4 0 rfl rfl)
theorem dX9_account_133 : decode cX9_account 133 = .ok (.invokevirtual 233, 3) := dk_182 0 233 (dk_at dksX9_account_4 2 rfl rfl)
theorem dX9_account_136 : decode cX9_account 136 = .ok (.ireturn, 1) := dk_172 (dk_at dksX9_account_4 5 rfl rfl)
theorem dX9_account_137 : decode cX9_account 137 = .ok (.aload_n 0, 1) := dk_42 (dk_at dksX9_account_4 6 rfl rfl)
theorem dX9_account_138 : decode cX9_account 138 = .ok (.getfield 13, 3) := dk_180 0 13 (dk_at dksX9_account_4 7 rfl rfl)
theorem dX9_account_141 : decode cX9_account 141 = .ok (.bipush 7, 2) := dk_16 7 (dk_at dksX9_account_4 10 rfl rfl)
theorem dX9_account_143 : decode cX9_account 143 = .ok (.iaload, 1) := dk_46 (dk_at dksX9_account_4 12 rfl rfl)
theorem dX9_account_144 : decode cX9_account 144 = .ok (.ireturn, 1) := dk_172 (dk_at dksX9_account_4 13 rfl rfl)
theorem dX9_account_145 : decode cX9_account 145 = .ok (.aload_n 0, 1) := dk_42 (dk_at dksX9_account_4 14 rfl rfl)
theorem dX9_account_146 : decode cX9_account 146 = .ok (.getfield 13, 3) := dk_180 0 13 (dk_at dksX9_account_4 15 rfl rfl)
theorem dX9_account_149 : decode cX9_account 149 = .ok (.iconst 5, 1) := dk_8 (dk_at dksX9_account_4 18 rfl rfl)
theorem dX9_account_150 : decode cX9_account 150 = .ok (.iload_n 1, 1) := dk_27 (dk_at dksX9_account_4 19 rfl rfl)
theorem dX9_account_151 : decode cX9_account 151 = .ok (.iadd, 1) := dk_96 (dk_at dksX9_account_4 20 rfl rfl)
theorem dX9_account_152 : decode cX9_account 152 = .ok (.bipush 10, 2) := dk_16 10 (dk_at dksX9_account_4 21 rfl rfl)
theorem dX9_account_154 : decode cX9_account 154 = .ok (.isub, 1) := dk_100 (dk_at dksX9_account_4 23 rfl rfl)
theorem dX9_account_155 : decode cX9_account 155 = .ok (.iaload, 1) := dk_46 (dk_at dksX9_account_5 0 rfl rfl)
theorem dX9_account_156 : decode cX9_account 156 = .ok (.ireturn, 1) := dk_172 (dk_at dksX9_account_5 1 rfl rfl)
theorem dX9_account_157 : decode cX9_account 157 = .ok (.aload_n 0, 1) := dk_42 (dk_at dksX9_account_5 2 rfl rfl)
theorem dX9_account_158 : decode cX9_account 158 = .ok (.getfield 13, 3) := dk_180 0 13 (dk_at dksX9_account_5 3 rfl rfl)
theorem dX9_account_161 : decode cX9_account 161 = .ok (.bipush 8, 2) := dk_16 8 (dk_at dksX9_account_5 6 rfl rfl)
theorem dX9_account_163 : decode cX9_account 163 = .ok (.iload_n 1, 1) := dk_27 (dk_at dksX9_account_5 8 rfl rfl)
theorem dX9_account_164 : decode cX9_account 164 = .ok (.iadd, 1) := dk_96 (dk_at dksX9_account_5 9 rfl rfl)
theorem dX9_account_165 : decode cX9_account 165 = .ok (.bipush 12, 2) := dk_16 12 (dk_at dksX9_account_5 10 rfl rfl)
theorem dX9_account_167 : decode cX9_account 167 = .ok (.isub, 1) := dk_100 (dk_at dksX9_account_5 12 rfl rfl)
theorem dX9_account_168 : decode cX9_account 168 = .ok (.iaload, 1) := dk_46 (dk_at dksX9_account_5 13 rfl rfl)
theorem dX9_account_169 : decode cX9_account 169 = .ok (.ireturn, 1) := dk_172 (dk_at dksX9_account_5 14 rfl rfl)
theorem dX9_account_170 : decode cX9_account 170 = .ok (.aload_n 0, 1) := dk_42 (dk_at dksX9_account_5 15 rfl rfl)
theorem dX9_account_171 : decode cX9_account 171 = .ok (.getfield 195, 3) := dk_180 0 195 (dk_at dksX9_account_5 16 rfl rfl)
theorem dX9_account_174 : decode cX9_account 174 = .ok (.ireturn, 1) := dk_172 (dk_at dksX9_account_5 19 rfl rfl)
theorem dX9_account_175 : decode cX9_account 175 = .ok (.aload_n 0, 1) := dk_42 (dk_at dksX9_account_5 20 rfl rfl)
theorem dX9_account_176 : decode cX9_account 176 = .ok (.getfield 71, 3) := dk_180 0 71 (dk_at dksX9_account_5 21 rfl rfl)
theorem dX9_account_179 : decode cX9_account 179 = .ok (.ireturn, 1) := dk_172 (dk_at dksX9_account_6 0 rfl rfl)
theorem dX9_account_180 : decode cX9_account 180 = .ok (.bipush (-2), 2) := dk_16 254 (dk_at dksX9_account_6 1 rfl rfl)
theorem dX9_account_182 : decode cX9_account 182 = .ok (.ireturn, 1) := dk_172 (dk_at dksX9_account_6 3 rfl rfl)
abbrev cX9_caught : ByteArray := prog_23_method_88_code
def yX9_caught : MethodName := ⟨RX9, "caught", "()I"⟩
def dkwX9_caught_1 : List UInt8 := [46, 96, 60, 132, 2, 1, 167, 255, 230, 27, 172]
abbrev dktX9_caught_1 : List UInt8 := dkwX9_caught_1 ++ []
def dkwX9_caught_0 : List UInt8 := [3, 60, 3, 61, 28, 42, 180, 0, 13, 6, 46, 162, 0, 22, 27, 42, 180, 0, 13, 28, 4, 184, 0, 94]
abbrev dktX9_caught_0 : List UInt8 := dkwX9_caught_0 ++ dktX9_caught_1
theorem dksX9_caught_0 : cX9_caught.data.toList.drop 0 = dktX9_caught_0 := by decide +kernel
theorem dksX9_caught_1 : cX9_caught.data.toList.drop 24 = dktX9_caught_1 := dk_seg dksX9_caught_0 24 rfl rfl
theorem dX9_caught_0 : decode cX9_caught 0 = .ok (.iconst 0, 1) := dk_3 (dk_at dksX9_caught_0 0 rfl rfl)
theorem dX9_caught_1 : decode cX9_caught 1 = .ok (.istore_n 1, 1) := dk_60 (dk_at dksX9_caught_0 1 rfl rfl)
theorem dX9_caught_2 : decode cX9_caught 2 = .ok (.iconst 0, 1) := dk_3 (dk_at dksX9_caught_0 2 rfl rfl)
theorem dX9_caught_3 : decode cX9_caught 3 = .ok (.istore_n 2, 1) := dk_61 (dk_at dksX9_caught_0 3 rfl rfl)
theorem dX9_caught_4 : decode cX9_caught 4 = .ok (.iload_n 2, 1) := dk_28 (dk_at dksX9_caught_0 4 rfl rfl)
theorem dX9_caught_5 : decode cX9_caught 5 = .ok (.aload_n 0, 1) := dk_42 (dk_at dksX9_caught_0 5 rfl rfl)
theorem dX9_caught_6 : decode cX9_caught 6 = .ok (.getfield 13, 3) := dk_180 0 13 (dk_at dksX9_caught_0 6 rfl rfl)
theorem dX9_caught_9 : decode cX9_caught 9 = .ok (.iconst 3, 1) := dk_6 (dk_at dksX9_caught_0 9 rfl rfl)
theorem dX9_caught_10 : decode cX9_caught 10 = .ok (.iaload, 1) := dk_46 (dk_at dksX9_caught_0 10 rfl rfl)
theorem dX9_caught_11 : decode cX9_caught 11 = .ok (.if_icmp .ge 22, 3) := dk_162 0 22 (dk_at dksX9_caught_0 11 rfl rfl)
theorem dX9_caught_14 : decode cX9_caught 14 = .ok (.iload_n 1, 1) := dk_27 (dk_at dksX9_caught_0 14 rfl rfl)
theorem dX9_caught_15 : decode cX9_caught 15 = .ok (.aload_n 0, 1) := dk_42 (dk_at dksX9_caught_0 15 rfl rfl)
theorem dX9_caught_16 : decode cX9_caught 16 = .ok (.getfield 13, 3) := dk_180 0 13 (dk_at dksX9_caught_0 16 rfl rfl)
theorem dX9_caught_19 : decode cX9_caught 19 = .ok (.iload_n 2, 1) := dk_28 (dk_at dksX9_caught_0 19 rfl rfl)
theorem dX9_caught_20 : decode cX9_caught 20 = .ok (.iconst 1, 1) := dk_4 (dk_at dksX9_caught_0 20 rfl rfl)
theorem dX9_caught_21 : decode cX9_caught 21 = .ok (.invokestatic 94, 3) := dk_184 0 94 (dk_at dksX9_caught_0 21 rfl rfl)
theorem dX9_caught_24 : decode cX9_caught 24 = .ok (.iaload, 1) := dk_46 (dk_at dksX9_caught_1 0 rfl rfl)
theorem dX9_caught_25 : decode cX9_caught 25 = .ok (.iadd, 1) := dk_96 (dk_at dksX9_caught_1 1 rfl rfl)
theorem dX9_caught_26 : decode cX9_caught 26 = .ok (.istore_n 1, 1) := dk_60 (dk_at dksX9_caught_1 2 rfl rfl)
theorem dX9_caught_27 : decode cX9_caught 27 = .ok (.iinc 2 1, 3) := dk_132 2 1 (dk_at dksX9_caught_1 3 rfl rfl)
theorem dX9_caught_30 : decode cX9_caught 30 = .ok (.goto (-26), 3) := dk_167 255 230 (dk_at dksX9_caught_1 6 rfl rfl)
theorem dX9_caught_33 : decode cX9_caught 33 = .ok (.iload_n 1, 1) := dk_27 (dk_at dksX9_caught_1 9 rfl rfl)
theorem dX9_caught_34 : decode cX9_caught 34 = .ok (.ireturn, 1) := dk_172 (dk_at dksX9_caught_1 10 rfl rfl)
abbrev cX9_undo : ByteArray := prog_23_method_90_code
def yX9_undo : MethodName := ⟨RX9, "undo", "()I"⟩
def dkwX9_undo_2 : List UInt8 := [96, 46, 79, 132, 1, 1, 167, 255, 225, 42, 180, 0, 71, 172]
abbrev dktX9_undo_2 : List UInt8 := dkwX9_undo_2 ++ []
def dkwX9_undo_1 : List UInt8 := [17, 0, 216, 162, 0, 30, 42, 180, 0, 13, 27, 42, 180, 0, 26, 42, 180, 0, 71, 17, 0, 216, 104, 27]
abbrev dktX9_undo_1 : List UInt8 := dkwX9_undo_1 ++ dktX9_undo_2
def dkwX9_undo_0 : List UInt8 := [42, 180, 0, 71, 154, 0, 6, 16, 252, 172, 42, 89, 180, 0, 71, 4, 100, 181, 0, 71, 3, 60, 27]
abbrev dktX9_undo_0 : List UInt8 := dkwX9_undo_0 ++ dktX9_undo_1
theorem dksX9_undo_0 : cX9_undo.data.toList.drop 0 = dktX9_undo_0 := by decide +kernel
theorem dksX9_undo_1 : cX9_undo.data.toList.drop 23 = dktX9_undo_1 := dk_seg dksX9_undo_0 23 rfl rfl
theorem dksX9_undo_2 : cX9_undo.data.toList.drop 47 = dktX9_undo_2 := dk_seg dksX9_undo_1 24 rfl rfl
theorem dX9_undo_0 : decode cX9_undo 0 = .ok (.aload_n 0, 1) := dk_42 (dk_at dksX9_undo_0 0 rfl rfl)
theorem dX9_undo_1 : decode cX9_undo 1 = .ok (.getfield 71, 3) := dk_180 0 71 (dk_at dksX9_undo_0 1 rfl rfl)
theorem dX9_undo_4 : decode cX9_undo 4 = .ok (.ifCond .ne 6, 3) := dk_154 0 6 (dk_at dksX9_undo_0 4 rfl rfl)
theorem dX9_undo_7 : decode cX9_undo 7 = .ok (.bipush (-4), 2) := dk_16 252 (dk_at dksX9_undo_0 7 rfl rfl)
theorem dX9_undo_9 : decode cX9_undo 9 = .ok (.ireturn, 1) := dk_172 (dk_at dksX9_undo_0 9 rfl rfl)
theorem dX9_undo_10 : decode cX9_undo 10 = .ok (.aload_n 0, 1) := dk_42 (dk_at dksX9_undo_0 10 rfl rfl)
theorem dX9_undo_11 : decode cX9_undo 11 = .ok (.dup, 1) := dk_89 (dk_at dksX9_undo_0 11 rfl rfl)
theorem dX9_undo_12 : decode cX9_undo 12 = .ok (.getfield 71, 3) := dk_180 0 71 (dk_at dksX9_undo_0 12 rfl rfl)
theorem dX9_undo_15 : decode cX9_undo 15 = .ok (.iconst 1, 1) := dk_4 (dk_at dksX9_undo_0 15 rfl rfl)
theorem dX9_undo_16 : decode cX9_undo 16 = .ok (.isub, 1) := dk_100 (dk_at dksX9_undo_0 16 rfl rfl)
theorem dX9_undo_17 : decode cX9_undo 17 = .ok (.putfield 71, 3) := dk_181 0 71 (dk_at dksX9_undo_0 17 rfl rfl)
theorem dX9_undo_20 : decode cX9_undo 20 = .ok (.iconst 0, 1) := dk_3 (dk_at dksX9_undo_0 20 rfl rfl)
theorem dX9_undo_21 : decode cX9_undo 21 = .ok (.istore_n 1, 1) := dk_60 (dk_at dksX9_undo_0 21 rfl rfl)
theorem dX9_undo_22 : decode cX9_undo 22 = .ok (.iload_n 1, 1) := dk_27 (dk_at dksX9_undo_0 22 rfl rfl)
theorem dX9_undo_23 : decode cX9_undo 23 = .ok (.sipush 216, 3) := dk_17 0 216 (dk_at dksX9_undo_1 0 rfl rfl)
theorem dX9_undo_26 : decode cX9_undo 26 = .ok (.if_icmp .ge 30, 3) := dk_162 0 30 (dk_at dksX9_undo_1 3 rfl rfl)
theorem dX9_undo_29 : decode cX9_undo 29 = .ok (.aload_n 0, 1) := dk_42 (dk_at dksX9_undo_1 6 rfl rfl)
theorem dX9_undo_30 : decode cX9_undo 30 = .ok (.getfield 13, 3) := dk_180 0 13 (dk_at dksX9_undo_1 7 rfl rfl)
theorem dX9_undo_33 : decode cX9_undo 33 = .ok (.iload_n 1, 1) := dk_27 (dk_at dksX9_undo_1 10 rfl rfl)
theorem dX9_undo_34 : decode cX9_undo 34 = .ok (.aload_n 0, 1) := dk_42 (dk_at dksX9_undo_1 11 rfl rfl)
theorem dX9_undo_35 : decode cX9_undo 35 = .ok (.getfield 26, 3) := dk_180 0 26 (dk_at dksX9_undo_1 12 rfl rfl)
theorem dX9_undo_38 : decode cX9_undo 38 = .ok (.aload_n 0, 1) := dk_42 (dk_at dksX9_undo_1 15 rfl rfl)
theorem dX9_undo_39 : decode cX9_undo 39 = .ok (.getfield 71, 3) := dk_180 0 71 (dk_at dksX9_undo_1 16 rfl rfl)
theorem dX9_undo_42 : decode cX9_undo 42 = .ok (.sipush 216, 3) := dk_17 0 216 (dk_at dksX9_undo_1 19 rfl rfl)
theorem dX9_undo_45 : decode cX9_undo 45 = .ok (.imul, 1) := dk_104 (dk_at dksX9_undo_1 22 rfl rfl)
theorem dX9_undo_46 : decode cX9_undo 46 = .ok (.iload_n 1, 1) := dk_27 (dk_at dksX9_undo_1 23 rfl rfl)
theorem dX9_undo_47 : decode cX9_undo 47 = .ok (.iadd, 1) := dk_96 (dk_at dksX9_undo_2 0 rfl rfl)
theorem dX9_undo_48 : decode cX9_undo 48 = .ok (.iaload, 1) := dk_46 (dk_at dksX9_undo_2 1 rfl rfl)
theorem dX9_undo_49 : decode cX9_undo 49 = .ok (.iastore, 1) := dk_79 (dk_at dksX9_undo_2 2 rfl rfl)
theorem dX9_undo_50 : decode cX9_undo 50 = .ok (.iinc 1 1, 3) := dk_132 1 1 (dk_at dksX9_undo_2 3 rfl rfl)
theorem dX9_undo_53 : decode cX9_undo 53 = .ok (.goto (-31), 3) := dk_167 255 225 (dk_at dksX9_undo_2 6 rfl rfl)
theorem dX9_undo_56 : decode cX9_undo 56 = .ok (.aload_n 0, 1) := dk_42 (dk_at dksX9_undo_2 9 rfl rfl)
theorem dX9_undo_57 : decode cX9_undo 57 = .ok (.getfield 71, 3) := dk_180 0 71 (dk_at dksX9_undo_2 10 rfl rfl)
theorem dX9_undo_60 : decode cX9_undo 60 = .ok (.ireturn, 1) := dk_172 (dk_at dksX9_undo_2 13 rfl rfl)
abbrev cX9_save : ByteArray := prog_23_method_91_code
def yX9_save : MethodName := ⟨RX9, "save", "()I"⟩
def dkwX9_save_0 : List UInt8 := [42, 180, 0, 23, 42, 180, 0, 13, 184, 0, 64, 42, 4, 181, 0, 245, 42, 180, 0, 13, 3, 46, 172]
abbrev dktX9_save_0 : List UInt8 := dkwX9_save_0 ++ []
theorem dksX9_save_0 : cX9_save.data.toList.drop 0 = dktX9_save_0 := by decide +kernel
theorem dX9_save_0 : decode cX9_save 0 = .ok (.aload_n 0, 1) := dk_42 (dk_at dksX9_save_0 0 rfl rfl)
theorem dX9_save_1 : decode cX9_save 1 = .ok (.getfield 23, 3) := dk_180 0 23 (dk_at dksX9_save_0 1 rfl rfl)
theorem dX9_save_4 : decode cX9_save 4 = .ok (.aload_n 0, 1) := dk_42 (dk_at dksX9_save_0 4 rfl rfl)
theorem dX9_save_5 : decode cX9_save 5 = .ok (.getfield 13, 3) := dk_180 0 13 (dk_at dksX9_save_0 5 rfl rfl)
theorem dX9_save_8 : decode cX9_save 8 = .ok (.invokestatic 64, 3) := dk_184 0 64 (dk_at dksX9_save_0 8 rfl rfl)
theorem dX9_save_11 : decode cX9_save 11 = .ok (.aload_n 0, 1) := dk_42 (dk_at dksX9_save_0 11 rfl rfl)
theorem dX9_save_12 : decode cX9_save 12 = .ok (.iconst 1, 1) := dk_4 (dk_at dksX9_save_0 12 rfl rfl)
theorem dX9_save_13 : decode cX9_save 13 = .ok (.putfield 245, 3) := dk_181 0 245 (dk_at dksX9_save_0 13 rfl rfl)
theorem dX9_save_16 : decode cX9_save 16 = .ok (.aload_n 0, 1) := dk_42 (dk_at dksX9_save_0 16 rfl rfl)
theorem dX9_save_17 : decode cX9_save 17 = .ok (.getfield 13, 3) := dk_180 0 13 (dk_at dksX9_save_0 17 rfl rfl)
theorem dX9_save_20 : decode cX9_save 20 = .ok (.iconst 0, 1) := dk_3 (dk_at dksX9_save_0 20 rfl rfl)
theorem dX9_save_21 : decode cX9_save 21 = .ok (.iaload, 1) := dk_46 (dk_at dksX9_save_0 21 rfl rfl)
theorem dX9_save_22 : decode cX9_save 22 = .ok (.ireturn, 1) := dk_172 (dk_at dksX9_save_0 22 rfl rfl)
abbrev cX9_restore : ByteArray := prog_23_method_92_code
def yX9_restore : MethodName := ⟨RX9, "restore", "()I"⟩
def dkwX9_restore_1 : List UInt8 := [181, 0, 71, 42, 180, 0, 13, 3, 46, 172]
abbrev dktX9_restore_1 : List UInt8 := dkwX9_restore_1 ++ []
def dkwX9_restore_0 : List UInt8 := [42, 180, 0, 245, 154, 0, 6, 16, 252, 172, 42, 180, 0, 13, 42, 180, 0, 23, 184, 0, 64, 42, 3]
abbrev dktX9_restore_0 : List UInt8 := dkwX9_restore_0 ++ dktX9_restore_1
theorem dksX9_restore_0 : cX9_restore.data.toList.drop 0 = dktX9_restore_0 := by decide +kernel
theorem dksX9_restore_1 : cX9_restore.data.toList.drop 23 = dktX9_restore_1 := dk_seg dksX9_restore_0 23 rfl rfl
theorem dX9_restore_0 : decode cX9_restore 0 = .ok (.aload_n 0, 1) := dk_42 (dk_at dksX9_restore_0 0 rfl rfl)
theorem dX9_restore_1 : decode cX9_restore 1 = .ok (.getfield 245, 3) := dk_180 0 245 (dk_at dksX9_restore_0 1 rfl rfl)
theorem dX9_restore_4 : decode cX9_restore 4 = .ok (.ifCond .ne 6, 3) := dk_154 0 6 (dk_at dksX9_restore_0 4 rfl rfl)
theorem dX9_restore_7 : decode cX9_restore 7 = .ok (.bipush (-4), 2) := dk_16 252 (dk_at dksX9_restore_0 7 rfl rfl)
theorem dX9_restore_9 : decode cX9_restore 9 = .ok (.ireturn, 1) := dk_172 (dk_at dksX9_restore_0 9 rfl rfl)
theorem dX9_restore_10 : decode cX9_restore 10 = .ok (.aload_n 0, 1) := dk_42 (dk_at dksX9_restore_0 10 rfl rfl)
theorem dX9_restore_11 : decode cX9_restore 11 = .ok (.getfield 13, 3) := dk_180 0 13 (dk_at dksX9_restore_0 11 rfl rfl)
theorem dX9_restore_14 : decode cX9_restore 14 = .ok (.aload_n 0, 1) := dk_42 (dk_at dksX9_restore_0 14 rfl rfl)
theorem dX9_restore_15 : decode cX9_restore 15 = .ok (.getfield 23, 3) := dk_180 0 23 (dk_at dksX9_restore_0 15 rfl rfl)
theorem dX9_restore_18 : decode cX9_restore 18 = .ok (.invokestatic 64, 3) := dk_184 0 64 (dk_at dksX9_restore_0 18 rfl rfl)
theorem dX9_restore_21 : decode cX9_restore 21 = .ok (.aload_n 0, 1) := dk_42 (dk_at dksX9_restore_0 21 rfl rfl)
theorem dX9_restore_22 : decode cX9_restore 22 = .ok (.iconst 0, 1) := dk_3 (dk_at dksX9_restore_0 22 rfl rfl)
theorem dX9_restore_23 : decode cX9_restore 23 = .ok (.putfield 71, 3) := dk_181 0 71 (dk_at dksX9_restore_1 0 rfl rfl)
theorem dX9_restore_26 : decode cX9_restore 26 = .ok (.aload_n 0, 1) := dk_42 (dk_at dksX9_restore_1 3 rfl rfl)
theorem dX9_restore_27 : decode cX9_restore 27 = .ok (.getfield 13, 3) := dk_180 0 13 (dk_at dksX9_restore_1 4 rfl rfl)
theorem dX9_restore_30 : decode cX9_restore 30 = .ok (.iconst 0, 1) := dk_3 (dk_at dksX9_restore_1 7 rfl rfl)
theorem dX9_restore_31 : decode cX9_restore 31 = .ok (.iaload, 1) := dk_46 (dk_at dksX9_restore_1 8 rfl rfl)
theorem dX9_restore_32 : decode cX9_restore 32 = .ok (.ireturn, 1) := dk_172 (dk_at dksX9_restore_1 9 rfl rfl)
theorem q142 : (Jvm.Cond.initialized "MossLawnModel") ∈ lw_all := lw_g (lw_at lw_m1 28 rfl) rfl
theorem q445 : (Jvm.Cond.selects "MossLawnModel" ({ cls := "java/lang/Object", name := "getClass", desc := "()Ljava/lang/Class;" } : Jvm.MethodName) ({ cls := "java/lang/Object", name := "getClass", desc := "()Ljava/lang/Class;" } : Jvm.MethodName)) ∈ lw_all := lw_g (lw_at lw_m2 91 rfl) rfl
theorem q1997 : (Jvm.Cond.instantiable "MossLawnModel" (22 : Nat)) ∈ lw_all := lw_g (lw_at lw_m8 203 rfl) rfl
theorem q1999 : (Jvm.Cond.instanceMethod ({ cls := "MossLawnModel", name := "<init>", desc := "()V" } : Jvm.MethodName)) ∈ lw_all := lw_g (lw_at lw_m8 205 rfl) rfl
theorem q2000 : (Jvm.Cond.code ({ cls := "MossLawnModel", name := "<init>", desc := "()V" } : Jvm.MethodName) prog_23_method_1_code (1 : Nat) (Option.none : Option Jvm.ClassFile.FieldType)) ∈ lw_all := lw_g (lw_at lw_m8 206 rfl) rfl
theorem q2001 : (Jvm.Cond.methodLink "MossLawnModel" (1 : Nat) ({ cls := "java/lang/Object", name := "<init>", desc := "()V" } : Jvm.MethodName)) ∈ lw_all := lw_g (lw_at lw_m8 207 rfl) rfl
theorem q2002 : (Jvm.Cond.methodLink "MossLawnModel" (47 : Nat) ({ cls := "MossLawnModel", name := "makes", desc := "()V" } : Jvm.MethodName)) ∈ lw_all := lw_g (lw_at lw_m8 208 rfl) rfl
theorem q2003 : (Jvm.Cond.privateMethod ({ cls := "MossLawnModel", name := "makes", desc := "()V" } : Jvm.MethodName)) ∈ lw_tbl := lw_at lw_m8 209 rfl
theorem q2004 : (Jvm.Cond.instanceMethod ({ cls := "MossLawnModel", name := "makes", desc := "()V" } : Jvm.MethodName)) ∈ lw_all := lw_g (lw_at lw_m8 210 rfl) rfl
theorem q2005 : (Jvm.Cond.code ({ cls := "MossLawnModel", name := "makes", desc := "()V" } : Jvm.MethodName) prog_23_method_2_code (2 : Nat) (Option.none : Option Jvm.ClassFile.FieldType)) ∈ lw_all := lw_g (lw_at lw_m8 211 rfl) rfl
theorem q2006 : (Jvm.Cond.fieldLink "MossLawnModel" (50 : Nat) "MossLawnModel" "fails" "I") ∈ lw_all := lw_g (lw_at lw_m8 212 rfl) rfl
theorem q2007 : (Jvm.Cond.fieldLink "MossLawnModel" (71 : Nat) "MossLawnModel" "changes" "I") ∈ lw_all := lw_g (lw_at lw_m8 213 rfl) rfl
theorem q2008 : (Jvm.Cond.fieldLink "MossLawnModel" (53 : Nat) "MossLawnModel" "causes" "I") ∈ lw_all := lw_g (lw_at lw_m8 214 rfl) rfl
theorem q2009 : (Jvm.Cond.fieldLink "MossLawnModel" (68 : Nat) "MossLawnModel" "kept" "I") ∈ lw_all := lw_g (lw_at lw_m8 215 rfl) rfl
theorem q2010 : (Jvm.Cond.fieldLink "MossLawnModel" (9 : Nat) "MossLawnModel" "error" "I") ∈ lw_all := lw_g (lw_at lw_m8 216 rfl) rfl
theorem q2011 : (Jvm.Cond.fieldLink "MossLawnModel" (245 : Nat) "MossLawnModel" "isSaved" "Z") ∈ lw_all := lw_g (lw_at lw_m8 217 rfl) rfl
theorem q2012 : (Jvm.Cond.fieldLink "MossLawnModel" (13 : Nat) "MossLawnModel" "v" "[I") ∈ lw_all := lw_g (lw_at lw_m8 218 rfl) rfl
theorem q2013 : (Jvm.Cond.fieldLink "MossLawnModel" (17 : Nat) "MossLawnModel" "before" "[I") ∈ lw_all := lw_g (lw_at lw_m8 219 rfl) rfl
theorem q2014 : (Jvm.Cond.fieldLink "MossLawnModel" (20 : Nat) "MossLawnModel" "aside" "[I") ∈ lw_all := lw_g (lw_at lw_m8 220 rfl) rfl
theorem q2015 : (Jvm.Cond.fieldLink "MossLawnModel" (23 : Nat) "MossLawnModel" "saved" "[I") ∈ lw_all := lw_g (lw_at lw_m8 221 rfl) rfl
theorem q2016 : (Jvm.Cond.fieldLink "MossLawnModel" (26 : Nat) "MossLawnModel" "past" "[I") ∈ lw_all := lw_g (lw_at lw_m8 222 rfl) rfl
theorem q2017 : (Jvm.Cond.fieldLink "MossLawnModel" (29 : Nat) "MossLawnModel" "now" "[I") ∈ lw_all := lw_g (lw_at lw_m8 223 rfl) rfl
theorem q2018 : (Jvm.Cond.fieldLink "MossLawnModel" (32 : Nat) "MossLawnModel" "last" "[I") ∈ lw_all := lw_g (lw_at lw_m8 224 rfl) rfl
theorem q2019 : (Jvm.Cond.fieldLink "MossLawnModel" (35 : Nat) "MossLawnModel" "far" "[I") ∈ lw_all := lw_g (lw_at lw_m8 225 rfl) rfl
theorem q2020 : (Jvm.Cond.fieldLink "MossLawnModel" (38 : Nat) "MossLawnModel" "queue" "[I") ∈ lw_all := lw_g (lw_at lw_m8 226 rfl) rfl
theorem q2021 : (Jvm.Cond.fieldLink "MossLawnModel" (41 : Nat) "MossLawnModel" "input" "[I") ∈ lw_all := lw_g (lw_at lw_m8 227 rfl) rfl
theorem q2022 : (Jvm.Cond.fieldLink "MossLawnModel" (44 : Nat) "MossLawnModel" "line" "[I") ∈ lw_all := lw_g (lw_at lw_m8 228 rfl) rfl
theorem q2023 : (Jvm.Cond.fieldLink "MossLawnModel" (195 : Nat) "MossLawnModel" "inputN" "I") ∈ lw_all := lw_g (lw_at lw_m8 229 rfl) rfl
theorem q2024 : (Jvm.Cond.fieldLink "MossLawnModel" (236 : Nat) "MossLawnModel" "lineN" "I") ∈ lw_all := lw_g (lw_at lw_m8 230 rfl) rfl
theorem q2025 : (Jvm.Cond.fieldLink "MossLawnModel" (198 : Nat) "MossLawnModel" "here" "I") ∈ lw_all := lw_g (lw_at lw_m8 231 rfl) rfl
theorem q2026 : (Jvm.Cond.fieldLink "MossLawnModel" (201 : Nat) "MossLawnModel" "isWrong" "Z") ∈ lw_all := lw_g (lw_at lw_m8 232 rfl) rfl
theorem q2027 : (Jvm.Cond.fieldLink "MossLawnModel" (217 : Nat) "MossLawnModel" "isDoing" "Z") ∈ lw_all := lw_g (lw_at lw_m8 233 rfl) rfl
theorem q2028 : (Jvm.Cond.lays "MossLawnModel" "MossLawnModel" "fails" "I") ∈ lw_all := lw_g (lw_at lw_m8 234 rfl) rfl
theorem q2029 : (Jvm.Cond.soleField "MossLawnModel" "fails") ∈ lw_all := lw_g (lw_at lw_m8 235 rfl) rfl
theorem q2030 : (Jvm.Cond.lays "MossLawnModel" "MossLawnModel" "changes" "I") ∈ lw_all := lw_g (lw_at lw_m8 236 rfl) rfl
theorem q2031 : (Jvm.Cond.soleField "MossLawnModel" "changes") ∈ lw_all := lw_g (lw_at lw_m8 237 rfl) rfl
theorem q2032 : (Jvm.Cond.lays "MossLawnModel" "MossLawnModel" "causes" "I") ∈ lw_all := lw_g (lw_at lw_m8 238 rfl) rfl
theorem q2033 : (Jvm.Cond.soleField "MossLawnModel" "causes") ∈ lw_all := lw_g (lw_at lw_m8 239 rfl) rfl
theorem q2034 : (Jvm.Cond.lays "MossLawnModel" "MossLawnModel" "kept" "I") ∈ lw_all := lw_g (lw_at lw_m9 0 rfl) rfl
theorem q2035 : (Jvm.Cond.soleField "MossLawnModel" "kept") ∈ lw_all := lw_g (lw_at lw_m9 1 rfl) rfl
theorem q2036 : (Jvm.Cond.lays "MossLawnModel" "MossLawnModel" "error" "I") ∈ lw_all := lw_g (lw_at lw_m9 2 rfl) rfl
theorem q2037 : (Jvm.Cond.soleField "MossLawnModel" "error") ∈ lw_all := lw_g (lw_at lw_m9 3 rfl) rfl
theorem q2038 : (Jvm.Cond.lays "MossLawnModel" "MossLawnModel" "isSaved" "Z") ∈ lw_all := lw_g (lw_at lw_m9 4 rfl) rfl
theorem q2039 : (Jvm.Cond.soleField "MossLawnModel" "isSaved") ∈ lw_all := lw_g (lw_at lw_m9 5 rfl) rfl
theorem q2040 : (Jvm.Cond.laysFinal "MossLawnModel" "MossLawnModel" "v" "[I") ∈ lw_all := lw_g (lw_at lw_m9 6 rfl) rfl
theorem q2041 : (Jvm.Cond.soleField "MossLawnModel" "v") ∈ lw_all := lw_g (lw_at lw_m9 7 rfl) rfl
theorem q2042 : (Jvm.Cond.laysFinal "MossLawnModel" "MossLawnModel" "before" "[I") ∈ lw_all := lw_g (lw_at lw_m9 8 rfl) rfl
theorem q2043 : (Jvm.Cond.soleField "MossLawnModel" "before") ∈ lw_all := lw_g (lw_at lw_m9 9 rfl) rfl
theorem q2044 : (Jvm.Cond.laysFinal "MossLawnModel" "MossLawnModel" "aside" "[I") ∈ lw_all := lw_g (lw_at lw_m9 10 rfl) rfl
theorem q2045 : (Jvm.Cond.soleField "MossLawnModel" "aside") ∈ lw_all := lw_g (lw_at lw_m9 11 rfl) rfl
theorem q2046 : (Jvm.Cond.laysFinal "MossLawnModel" "MossLawnModel" "saved" "[I") ∈ lw_all := lw_g (lw_at lw_m9 12 rfl) rfl
theorem q2047 : (Jvm.Cond.soleField "MossLawnModel" "saved") ∈ lw_all := lw_g (lw_at lw_m9 13 rfl) rfl
theorem q2048 : (Jvm.Cond.laysFinal "MossLawnModel" "MossLawnModel" "past" "[I") ∈ lw_all := lw_g (lw_at lw_m9 14 rfl) rfl
theorem q2049 : (Jvm.Cond.soleField "MossLawnModel" "past") ∈ lw_all := lw_g (lw_at lw_m9 15 rfl) rfl
theorem q2050 : (Jvm.Cond.laysFinal "MossLawnModel" "MossLawnModel" "now" "[I") ∈ lw_all := lw_g (lw_at lw_m9 16 rfl) rfl
theorem q2051 : (Jvm.Cond.soleField "MossLawnModel" "now") ∈ lw_all := lw_g (lw_at lw_m9 17 rfl) rfl
theorem q2052 : (Jvm.Cond.laysFinal "MossLawnModel" "MossLawnModel" "last" "[I") ∈ lw_all := lw_g (lw_at lw_m9 18 rfl) rfl
theorem q2053 : (Jvm.Cond.soleField "MossLawnModel" "last") ∈ lw_all := lw_g (lw_at lw_m9 19 rfl) rfl
theorem q2054 : (Jvm.Cond.laysFinal "MossLawnModel" "MossLawnModel" "far" "[I") ∈ lw_all := lw_g (lw_at lw_m9 20 rfl) rfl
theorem q2055 : (Jvm.Cond.soleField "MossLawnModel" "far") ∈ lw_all := lw_g (lw_at lw_m9 21 rfl) rfl
theorem q2056 : (Jvm.Cond.laysFinal "MossLawnModel" "MossLawnModel" "queue" "[I") ∈ lw_all := lw_g (lw_at lw_m9 22 rfl) rfl
theorem q2057 : (Jvm.Cond.soleField "MossLawnModel" "queue") ∈ lw_all := lw_g (lw_at lw_m9 23 rfl) rfl
theorem q2058 : (Jvm.Cond.laysFinal "MossLawnModel" "MossLawnModel" "input" "[I") ∈ lw_all := lw_g (lw_at lw_m9 24 rfl) rfl
theorem q2059 : (Jvm.Cond.soleField "MossLawnModel" "input") ∈ lw_all := lw_g (lw_at lw_m9 25 rfl) rfl
theorem q2060 : (Jvm.Cond.laysFinal "MossLawnModel" "MossLawnModel" "line" "[I") ∈ lw_all := lw_g (lw_at lw_m9 26 rfl) rfl
theorem q2061 : (Jvm.Cond.soleField "MossLawnModel" "line") ∈ lw_all := lw_g (lw_at lw_m9 27 rfl) rfl
theorem q2062 : (Jvm.Cond.lays "MossLawnModel" "MossLawnModel" "inputN" "I") ∈ lw_all := lw_g (lw_at lw_m9 28 rfl) rfl
theorem q2063 : (Jvm.Cond.soleField "MossLawnModel" "inputN") ∈ lw_all := lw_g (lw_at lw_m9 29 rfl) rfl
theorem q2064 : (Jvm.Cond.lays "MossLawnModel" "MossLawnModel" "lineN" "I") ∈ lw_all := lw_g (lw_at lw_m9 30 rfl) rfl
theorem q2065 : (Jvm.Cond.soleField "MossLawnModel" "lineN") ∈ lw_all := lw_g (lw_at lw_m9 31 rfl) rfl
theorem q2066 : (Jvm.Cond.lays "MossLawnModel" "MossLawnModel" "here" "I") ∈ lw_all := lw_g (lw_at lw_m9 32 rfl) rfl
theorem q2067 : (Jvm.Cond.soleField "MossLawnModel" "here") ∈ lw_all := lw_g (lw_at lw_m9 33 rfl) rfl
theorem q2068 : (Jvm.Cond.lays "MossLawnModel" "MossLawnModel" "isWrong" "Z") ∈ lw_all := lw_g (lw_at lw_m9 34 rfl) rfl
theorem q2069 : (Jvm.Cond.soleField "MossLawnModel" "isWrong") ∈ lw_all := lw_g (lw_at lw_m9 35 rfl) rfl
theorem q2070 : (Jvm.Cond.lays "MossLawnModel" "MossLawnModel" "isDoing" "Z") ∈ lw_all := lw_g (lw_at lw_m9 36 rfl) rfl
theorem q2071 : (Jvm.Cond.soleField "MossLawnModel" "isDoing") ∈ lw_all := lw_g (lw_at lw_m9 37 rfl) rfl
theorem q2072 : (Jvm.Cond.superclass "MossLawnModel" "java/lang/Object") ∈ lw_all := lw_g (lw_at lw_m9 38 rfl) rfl
theorem q2074 : (Jvm.Cond.instanceMethod ({ cls := "MossLawnModel", name := "clear", desc := "()I" } : Jvm.MethodName)) ∈ lw_all := lw_g (lw_at lw_m9 40 rfl) rfl
theorem q2075 : (Jvm.Cond.selects "MossLawnModel" ({ cls := "MossLawnModel", name := "clear", desc := "()I" } : Jvm.MethodName) ({ cls := "MossLawnModel", name := "clear", desc := "()I" } : Jvm.MethodName)) ∈ lw_all := lw_g (lw_at lw_m9 41 rfl) rfl
theorem q2076 : (Jvm.Cond.code ({ cls := "MossLawnModel", name := "clear", desc := "()I" } : Jvm.MethodName) prog_23_method_19_code (2 : Nat) (Option.some Jvm.ClassFile.FieldType.int)) ∈ lw_all := lw_g (lw_at lw_m9 42 rfl) rfl
theorem q2078 : (Jvm.Cond.instanceMethod ({ cls := "MossLawnModel", name := "shade", desc := "(II)I" } : Jvm.MethodName)) ∈ lw_all := lw_g (lw_at lw_m9 44 rfl) rfl
theorem q2079 : (Jvm.Cond.selects "MossLawnModel" ({ cls := "MossLawnModel", name := "shade", desc := "(II)I" } : Jvm.MethodName) ({ cls := "MossLawnModel", name := "shade", desc := "(II)I" } : Jvm.MethodName)) ∈ lw_all := lw_g (lw_at lw_m9 45 rfl) rfl
theorem q2080 : (Jvm.Cond.code ({ cls := "MossLawnModel", name := "shade", desc := "(II)I" } : Jvm.MethodName) prog_23_method_21_code (3 : Nat) (Option.some Jvm.ClassFile.FieldType.int)) ∈ lw_all := lw_g (lw_at lw_m9 46 rfl) rfl
theorem q2081 : (Jvm.Cond.methodLink "MossLawnModel" (82 : Nat) ({ cls := "MossLawnModel", name := "begins", desc := "()V" } : Jvm.MethodName)) ∈ lw_all := lw_g (lw_at lw_m9 47 rfl) rfl
theorem q2082 : (Jvm.Cond.privateMethod ({ cls := "MossLawnModel", name := "begins", desc := "()V" } : Jvm.MethodName)) ∈ lw_tbl := lw_at lw_m9 48 rfl
theorem q2083 : (Jvm.Cond.instanceMethod ({ cls := "MossLawnModel", name := "begins", desc := "()V" } : Jvm.MethodName)) ∈ lw_all := lw_g (lw_at lw_m9 49 rfl) rfl
theorem q2084 : (Jvm.Cond.code ({ cls := "MossLawnModel", name := "begins", desc := "()V" } : Jvm.MethodName) prog_23_method_9_code (1 : Nat) (Option.none : Option Jvm.ClassFile.FieldType)) ∈ lw_all := lw_g (lw_at lw_m9 50 rfl) rfl
theorem q2085 : (Jvm.Cond.methodLink "MossLawnModel" (64 : Nat) ({ cls := "MossLawnModel", name := "lays", desc := "([I[I)V" } : Jvm.MethodName)) ∈ lw_all := lw_g (lw_at lw_m9 51 rfl) rfl
theorem q2086 : (Jvm.Cond.static ({ cls := "MossLawnModel", name := "lays", desc := "([I[I)V" } : Jvm.MethodName)) ∈ lw_all := lw_g (lw_at lw_m9 52 rfl) rfl
theorem q2087 : (Jvm.Cond.code ({ cls := "MossLawnModel", name := "lays", desc := "([I[I)V" } : Jvm.MethodName) prog_23_method_8_code (3 : Nat) (Option.none : Option Jvm.ClassFile.FieldType)) ∈ lw_all := lw_g (lw_at lw_m9 53 rfl) rfl
theorem q2088 : (Jvm.Cond.methodLink "MossLawnModel" (85 : Nat) ({ cls := "MossLawnModel", name := "shades", desc := "(II)I" } : Jvm.MethodName)) ∈ lw_all := lw_g (lw_at lw_m9 54 rfl) rfl
theorem q2089 : (Jvm.Cond.privateMethod ({ cls := "MossLawnModel", name := "shades", desc := "(II)I" } : Jvm.MethodName)) ∈ lw_tbl := lw_at lw_m9 55 rfl
theorem q2090 : (Jvm.Cond.instanceMethod ({ cls := "MossLawnModel", name := "shades", desc := "(II)I" } : Jvm.MethodName)) ∈ lw_all := lw_g (lw_at lw_m9 56 rfl) rfl
theorem q2091 : (Jvm.Cond.code ({ cls := "MossLawnModel", name := "shades", desc := "(II)I" } : Jvm.MethodName) prog_23_method_20_code (4 : Nat) (Option.some Jvm.ClassFile.FieldType.int)) ∈ lw_all := lw_g (lw_at lw_m9 57 rfl) rfl
theorem q2092 : (Jvm.Cond.methodLink "MossLawnModel" (78 : Nat) ({ cls := "MossLawnModel", name := "isSquare", desc := "(I)Z" } : Jvm.MethodName)) ∈ lw_all := lw_g (lw_at lw_m9 58 rfl) rfl
theorem q2093 : (Jvm.Cond.static ({ cls := "MossLawnModel", name := "isSquare", desc := "(I)Z" } : Jvm.MethodName)) ∈ lw_all := lw_g (lw_at lw_m9 59 rfl) rfl
theorem q2094 : (Jvm.Cond.code ({ cls := "MossLawnModel", name := "isSquare", desc := "(I)Z" } : Jvm.MethodName) prog_23_method_13_code (1 : Nat) (Option.some Jvm.ClassFile.FieldType.boolean)) ∈ lw_all := lw_g (lw_at lw_m9 60 rfl) rfl
theorem q2095 : (Jvm.Cond.methodLink "MossLawnModel" (74 : Nat) ({ cls := "MossLawnModel", name := "isIn", desc := "(III)Z" } : Jvm.MethodName)) ∈ lw_all := lw_g (lw_at lw_m9 61 rfl) rfl
theorem q2096 : (Jvm.Cond.static ({ cls := "MossLawnModel", name := "isIn", desc := "(III)Z" } : Jvm.MethodName)) ∈ lw_all := lw_g (lw_at lw_m9 62 rfl) rfl
theorem q2097 : (Jvm.Cond.code ({ cls := "MossLawnModel", name := "isIn", desc := "(III)Z" } : Jvm.MethodName) prog_23_method_6_code (3 : Nat) (Option.some Jvm.ClassFile.FieldType.boolean)) ∈ lw_all := lw_g (lw_at lw_m9 63 rfl) rfl
theorem q2098 : (Jvm.Cond.methodLink "MossLawnModel" (56 : Nat) ({ cls := "MossLawnModel", name := "fail", desc := "(I)I" } : Jvm.MethodName)) ∈ lw_all := lw_g (lw_at lw_m9 64 rfl) rfl
theorem q2099 : (Jvm.Cond.privateMethod ({ cls := "MossLawnModel", name := "fail", desc := "(I)I" } : Jvm.MethodName)) ∈ lw_tbl := lw_at lw_m9 65 rfl
theorem q2100 : (Jvm.Cond.instanceMethod ({ cls := "MossLawnModel", name := "fail", desc := "(I)I" } : Jvm.MethodName)) ∈ lw_all := lw_g (lw_at lw_m9 66 rfl) rfl
theorem q2101 : (Jvm.Cond.code ({ cls := "MossLawnModel", name := "fail", desc := "(I)I" } : Jvm.MethodName) prog_23_method_3_code (2 : Nat) (Option.some Jvm.ClassFile.FieldType.int)) ∈ lw_all := lw_g (lw_at lw_m9 67 rfl) rfl
theorem q2102 : (Jvm.Cond.methodLink "MossLawnModel" (88 : Nat) ({ cls := "MossLawnModel", name := "ends", desc := "(I)I" } : Jvm.MethodName)) ∈ lw_all := lw_g (lw_at lw_m9 68 rfl) rfl
theorem q2103 : (Jvm.Cond.privateMethod ({ cls := "MossLawnModel", name := "ends", desc := "(I)I" } : Jvm.MethodName)) ∈ lw_tbl := lw_at lw_m9 69 rfl
theorem q2104 : (Jvm.Cond.instanceMethod ({ cls := "MossLawnModel", name := "ends", desc := "(I)I" } : Jvm.MethodName)) ∈ lw_all := lw_g (lw_at lw_m9 70 rfl) rfl
theorem q2105 : (Jvm.Cond.code ({ cls := "MossLawnModel", name := "ends", desc := "(I)I" } : Jvm.MethodName) prog_23_method_10_code (3 : Nat) (Option.some Jvm.ClassFile.FieldType.int)) ∈ lw_all := lw_g (lw_at lw_m9 71 rfl) rfl
theorem q2107 : (Jvm.Cond.instanceMethod ({ cls := "MossLawnModel", name := "stone", desc := "(I)I" } : Jvm.MethodName)) ∈ lw_all := lw_g (lw_at lw_m9 73 rfl) rfl
theorem q2108 : (Jvm.Cond.selects "MossLawnModel" ({ cls := "MossLawnModel", name := "stone", desc := "(I)I" } : Jvm.MethodName) ({ cls := "MossLawnModel", name := "stone", desc := "(I)I" } : Jvm.MethodName)) ∈ lw_all := lw_g (lw_at lw_m9 74 rfl) rfl
theorem q2109 : (Jvm.Cond.code ({ cls := "MossLawnModel", name := "stone", desc := "(I)I" } : Jvm.MethodName) prog_23_method_25_code (2 : Nat) (Option.some Jvm.ClassFile.FieldType.int)) ∈ lw_all := lw_g (lw_at lw_m9 75 rfl) rfl
theorem q2110 : (Jvm.Cond.methodLink "MossLawnModel" (106 : Nat) ({ cls := "MossLawnModel", name := "stones", desc := "(I)I" } : Jvm.MethodName)) ∈ lw_all := lw_g (lw_at lw_m9 76 rfl) rfl
theorem q2111 : (Jvm.Cond.privateMethod ({ cls := "MossLawnModel", name := "stones", desc := "(I)I" } : Jvm.MethodName)) ∈ lw_tbl := lw_at lw_m9 77 rfl
theorem q2112 : (Jvm.Cond.instanceMethod ({ cls := "MossLawnModel", name := "stones", desc := "(I)I" } : Jvm.MethodName)) ∈ lw_all := lw_g (lw_at lw_m9 78 rfl) rfl
theorem q2113 : (Jvm.Cond.code ({ cls := "MossLawnModel", name := "stones", desc := "(I)I" } : Jvm.MethodName) prog_23_method_24_code (3 : Nat) (Option.some Jvm.ClassFile.FieldType.int)) ∈ lw_all := lw_g (lw_at lw_m9 79 rfl) rfl
theorem q2114 : (Jvm.Cond.methodLink "MossLawnModel" (97 : Nat) ({ cls := "MossLawnModel", name := "isStone", desc := "(I)Z" } : Jvm.MethodName)) ∈ lw_all := lw_g (lw_at lw_m9 80 rfl) rfl
theorem q2115 : (Jvm.Cond.privateMethod ({ cls := "MossLawnModel", name := "isStone", desc := "(I)Z" } : Jvm.MethodName)) ∈ lw_tbl := lw_at lw_m9 81 rfl
theorem q2116 : (Jvm.Cond.instanceMethod ({ cls := "MossLawnModel", name := "isStone", desc := "(I)Z" } : Jvm.MethodName)) ∈ lw_all := lw_g (lw_at lw_m9 82 rfl) rfl
theorem q2117 : (Jvm.Cond.code ({ cls := "MossLawnModel", name := "isStone", desc := "(I)Z" } : Jvm.MethodName) prog_23_method_15_code (2 : Nat) (Option.some Jvm.ClassFile.FieldType.boolean)) ∈ lw_all := lw_g (lw_at lw_m9 83 rfl) rfl
theorem q2118 : (Jvm.Cond.methodLink "MossLawnModel" (60 : Nat) ({ cls := "MossLawnModel", name := "refuses", desc := "(II)I" } : Jvm.MethodName)) ∈ lw_all := lw_g (lw_at lw_m9 84 rfl) rfl
theorem q2119 : (Jvm.Cond.privateMethod ({ cls := "MossLawnModel", name := "refuses", desc := "(II)I" } : Jvm.MethodName)) ∈ lw_tbl := lw_at lw_m9 85 rfl
theorem q2120 : (Jvm.Cond.instanceMethod ({ cls := "MossLawnModel", name := "refuses", desc := "(II)I" } : Jvm.MethodName)) ∈ lw_all := lw_g (lw_at lw_m9 86 rfl) rfl
theorem q2121 : (Jvm.Cond.code ({ cls := "MossLawnModel", name := "refuses", desc := "(II)I" } : Jvm.MethodName) prog_23_method_4_code (3 : Nat) (Option.some Jvm.ClassFile.FieldType.int)) ∈ lw_all := lw_g (lw_at lw_m9 87 rfl) rfl
theorem q2122 : (Jvm.Cond.methodLink "MossLawnModel" (100 : Nat) ({ cls := "MossLawnModel", name := "gardenersOn", desc := "(I)I" } : Jvm.MethodName)) ∈ lw_all := lw_g (lw_at lw_m9 88 rfl) rfl
theorem q2123 : (Jvm.Cond.privateMethod ({ cls := "MossLawnModel", name := "gardenersOn", desc := "(I)I" } : Jvm.MethodName)) ∈ lw_tbl := lw_at lw_m9 89 rfl
theorem q2124 : (Jvm.Cond.instanceMethod ({ cls := "MossLawnModel", name := "gardenersOn", desc := "(I)I" } : Jvm.MethodName)) ∈ lw_all := lw_g (lw_at lw_m9 90 rfl) rfl
theorem q2125 : (Jvm.Cond.code ({ cls := "MossLawnModel", name := "gardenersOn", desc := "(I)I" } : Jvm.MethodName) prog_23_method_22_code (4 : Nat) (Option.some Jvm.ClassFile.FieldType.int)) ∈ lw_all := lw_g (lw_at lw_m9 91 rfl) rfl
theorem q2126 : (Jvm.Cond.methodLink "MossLawnModel" (91 : Nat) ({ cls := "MossLawnModel", name := "gardAt", desc := "(II)I" } : Jvm.MethodName)) ∈ lw_all := lw_g (lw_at lw_m9 92 rfl) rfl
theorem q2127 : (Jvm.Cond.static ({ cls := "MossLawnModel", name := "gardAt", desc := "(II)I" } : Jvm.MethodName)) ∈ lw_all := lw_g (lw_at lw_m9 93 rfl) rfl
theorem q2128 : (Jvm.Cond.code ({ cls := "MossLawnModel", name := "gardAt", desc := "(II)I" } : Jvm.MethodName) prog_23_method_11_code (2 : Nat) (Option.some Jvm.ClassFile.FieldType.int)) ∈ lw_all := lw_g (lw_at lw_m9 94 rfl) rfl
theorem q2129 : (Jvm.Cond.methodLink "MossLawnModel" (103 : Nat) ({ cls := "MossLawnModel", name := "molesOn", desc := "(I)I" } : Jvm.MethodName)) ∈ lw_all := lw_g (lw_at lw_m9 95 rfl) rfl
theorem q2130 : (Jvm.Cond.privateMethod ({ cls := "MossLawnModel", name := "molesOn", desc := "(I)I" } : Jvm.MethodName)) ∈ lw_tbl := lw_at lw_m9 96 rfl
theorem q2131 : (Jvm.Cond.instanceMethod ({ cls := "MossLawnModel", name := "molesOn", desc := "(I)I" } : Jvm.MethodName)) ∈ lw_all := lw_g (lw_at lw_m9 97 rfl) rfl
theorem q2132 : (Jvm.Cond.code ({ cls := "MossLawnModel", name := "molesOn", desc := "(I)I" } : Jvm.MethodName) prog_23_method_23_code (4 : Nat) (Option.some Jvm.ClassFile.FieldType.int)) ∈ lw_all := lw_g (lw_at lw_m9 98 rfl) rfl
theorem q2133 : (Jvm.Cond.methodLink "MossLawnModel" (94 : Nat) ({ cls := "MossLawnModel", name := "moleAt", desc := "(II)I" } : Jvm.MethodName)) ∈ lw_all := lw_g (lw_at lw_m9 99 rfl) rfl
theorem q2134 : (Jvm.Cond.static ({ cls := "MossLawnModel", name := "moleAt", desc := "(II)I" } : Jvm.MethodName)) ∈ lw_all := lw_g (lw_at lw_m9 100 rfl) rfl
theorem q2135 : (Jvm.Cond.code ({ cls := "MossLawnModel", name := "moleAt", desc := "(II)I" } : Jvm.MethodName) prog_23_method_12_code (2 : Nat) (Option.some Jvm.ClassFile.FieldType.int)) ∈ lw_all := lw_g (lw_at lw_m9 101 rfl) rfl
theorem q2137 : (Jvm.Cond.instanceMethod ({ cls := "MossLawnModel", name := "rain", desc := "(I)I" } : Jvm.MethodName)) ∈ lw_all := lw_g (lw_at lw_m9 103 rfl) rfl
theorem q2138 : (Jvm.Cond.selects "MossLawnModel" ({ cls := "MossLawnModel", name := "rain", desc := "(I)I" } : Jvm.MethodName) ({ cls := "MossLawnModel", name := "rain", desc := "(I)I" } : Jvm.MethodName)) ∈ lw_all := lw_g (lw_at lw_m9 104 rfl) rfl
theorem q2139 : (Jvm.Cond.code ({ cls := "MossLawnModel", name := "rain", desc := "(I)I" } : Jvm.MethodName) prog_23_method_27_code (2 : Nat) (Option.some Jvm.ClassFile.FieldType.int)) ∈ lw_all := lw_g (lw_at lw_m9 105 rfl) rfl
theorem q2140 : (Jvm.Cond.methodLink "MossLawnModel" (109 : Nat) ({ cls := "MossLawnModel", name := "rains", desc := "(I)I" } : Jvm.MethodName)) ∈ lw_all := lw_g (lw_at lw_m9 106 rfl) rfl
theorem q2141 : (Jvm.Cond.privateMethod ({ cls := "MossLawnModel", name := "rains", desc := "(I)I" } : Jvm.MethodName)) ∈ lw_tbl := lw_at lw_m9 107 rfl
theorem q2142 : (Jvm.Cond.instanceMethod ({ cls := "MossLawnModel", name := "rains", desc := "(I)I" } : Jvm.MethodName)) ∈ lw_all := lw_g (lw_at lw_m9 108 rfl) rfl
theorem q2143 : (Jvm.Cond.code ({ cls := "MossLawnModel", name := "rains", desc := "(I)I" } : Jvm.MethodName) prog_23_method_26_code (3 : Nat) (Option.some Jvm.ClassFile.FieldType.int)) ∈ lw_all := lw_g (lw_at lw_m9 109 rfl) rfl
theorem q2145 : (Jvm.Cond.instanceMethod ({ cls := "MossLawnModel", name := "gardener", desc := "(I)I" } : Jvm.MethodName)) ∈ lw_all := lw_g (lw_at lw_m9 111 rfl) rfl
theorem q2146 : (Jvm.Cond.selects "MossLawnModel" ({ cls := "MossLawnModel", name := "gardener", desc := "(I)I" } : Jvm.MethodName) ({ cls := "MossLawnModel", name := "gardener", desc := "(I)I" } : Jvm.MethodName)) ∈ lw_all := lw_g (lw_at lw_m9 112 rfl) rfl
theorem q2147 : (Jvm.Cond.code ({ cls := "MossLawnModel", name := "gardener", desc := "(I)I" } : Jvm.MethodName) prog_23_method_29_code (2 : Nat) (Option.some Jvm.ClassFile.FieldType.int)) ∈ lw_all := lw_g (lw_at lw_m9 113 rfl) rfl
theorem q2148 : (Jvm.Cond.methodLink "MossLawnModel" (118 : Nat) ({ cls := "MossLawnModel", name := "addsGardener", desc := "(I)I" } : Jvm.MethodName)) ∈ lw_all := lw_g (lw_at lw_m9 114 rfl) rfl
theorem q2149 : (Jvm.Cond.privateMethod ({ cls := "MossLawnModel", name := "addsGardener", desc := "(I)I" } : Jvm.MethodName)) ∈ lw_tbl := lw_at lw_m9 115 rfl
theorem q2150 : (Jvm.Cond.instanceMethod ({ cls := "MossLawnModel", name := "addsGardener", desc := "(I)I" } : Jvm.MethodName)) ∈ lw_all := lw_g (lw_at lw_m9 116 rfl) rfl
theorem q2151 : (Jvm.Cond.code ({ cls := "MossLawnModel", name := "addsGardener", desc := "(I)I" } : Jvm.MethodName) prog_23_method_28_code (4 : Nat) (Option.some Jvm.ClassFile.FieldType.int)) ∈ lw_all := lw_g (lw_at lw_m9 117 rfl) rfl
theorem q2152 : (Jvm.Cond.methodLink "MossLawnModel" (112 : Nat) ({ cls := "MossLawnModel", name := "mayTread", desc := "(I)Z" } : Jvm.MethodName)) ∈ lw_all := lw_g (lw_at lw_m9 118 rfl) rfl
theorem q2153 : (Jvm.Cond.privateMethod ({ cls := "MossLawnModel", name := "mayTread", desc := "(I)Z" } : Jvm.MethodName)) ∈ lw_tbl := lw_at lw_m9 119 rfl
theorem q2154 : (Jvm.Cond.instanceMethod ({ cls := "MossLawnModel", name := "mayTread", desc := "(I)Z" } : Jvm.MethodName)) ∈ lw_all := lw_g (lw_at lw_m9 120 rfl) rfl
theorem q2155 : (Jvm.Cond.code ({ cls := "MossLawnModel", name := "mayTread", desc := "(I)Z" } : Jvm.MethodName) prog_23_method_16_code (2 : Nat) (Option.some Jvm.ClassFile.FieldType.boolean)) ∈ lw_all := lw_g (lw_at lw_m9 121 rfl) rfl
theorem q2156 : (Jvm.Cond.methodLink "MossLawnModel" (115 : Nat) ({ cls := "MossLawnModel", name := "refusesFoot", desc := "(I)I" } : Jvm.MethodName)) ∈ lw_all := lw_g (lw_at lw_m9 122 rfl) rfl
theorem q2157 : (Jvm.Cond.privateMethod ({ cls := "MossLawnModel", name := "refusesFoot", desc := "(I)I" } : Jvm.MethodName)) ∈ lw_tbl := lw_at lw_m9 123 rfl
theorem q2158 : (Jvm.Cond.instanceMethod ({ cls := "MossLawnModel", name := "refusesFoot", desc := "(I)I" } : Jvm.MethodName)) ∈ lw_all := lw_g (lw_at lw_m9 124 rfl) rfl
theorem q2159 : (Jvm.Cond.code ({ cls := "MossLawnModel", name := "refusesFoot", desc := "(I)I" } : Jvm.MethodName) prog_23_method_5_code (3 : Nat) (Option.some Jvm.ClassFile.FieldType.int)) ∈ lw_all := lw_g (lw_at lw_m9 125 rfl) rfl
theorem q2161 : (Jvm.Cond.instanceMethod ({ cls := "MossLawnModel", name := "walk", desc := "(IC)I" } : Jvm.MethodName)) ∈ lw_all := lw_g (lw_at lw_m9 127 rfl) rfl
theorem q2162 : (Jvm.Cond.selects "MossLawnModel" ({ cls := "MossLawnModel", name := "walk", desc := "(IC)I" } : Jvm.MethodName) ({ cls := "MossLawnModel", name := "walk", desc := "(IC)I" } : Jvm.MethodName)) ∈ lw_all := lw_g (lw_at lw_m9 128 rfl) rfl
theorem q2163 : (Jvm.Cond.code ({ cls := "MossLawnModel", name := "walk", desc := "(IC)I" } : Jvm.MethodName) prog_23_method_32_code (3 : Nat) (Option.some Jvm.ClassFile.FieldType.int)) ∈ lw_all := lw_g (lw_at lw_m9 129 rfl) rfl
theorem q2164 : (Jvm.Cond.methodLink "MossLawnModel" (134 : Nat) ({ cls := "MossLawnModel", name := "walks", desc := "(II)I" } : Jvm.MethodName)) ∈ lw_all := lw_g (lw_at lw_m9 130 rfl) rfl
theorem q2165 : (Jvm.Cond.privateMethod ({ cls := "MossLawnModel", name := "walks", desc := "(II)I" } : Jvm.MethodName)) ∈ lw_tbl := lw_at lw_m9 131 rfl
theorem q2166 : (Jvm.Cond.instanceMethod ({ cls := "MossLawnModel", name := "walks", desc := "(II)I" } : Jvm.MethodName)) ∈ lw_all := lw_g (lw_at lw_m9 132 rfl) rfl
theorem q2167 : (Jvm.Cond.code ({ cls := "MossLawnModel", name := "walks", desc := "(II)I" } : Jvm.MethodName) prog_23_method_31_code (6 : Nat) (Option.some Jvm.ClassFile.FieldType.int)) ∈ lw_all := lw_g (lw_at lw_m9 133 rfl) rfl
theorem q2168 : (Jvm.Cond.methodLink "MossLawnModel" (121 : Nat) ({ cls := "MossLawnModel", name := "isGardener", desc := "(I)Z" } : Jvm.MethodName)) ∈ lw_all := lw_g (lw_at lw_m9 134 rfl) rfl
theorem q2169 : (Jvm.Cond.privateMethod ({ cls := "MossLawnModel", name := "isGardener", desc := "(I)Z" } : Jvm.MethodName)) ∈ lw_tbl := lw_at lw_m9 135 rfl
theorem q2170 : (Jvm.Cond.instanceMethod ({ cls := "MossLawnModel", name := "isGardener", desc := "(I)Z" } : Jvm.MethodName)) ∈ lw_all := lw_g (lw_at lw_m9 136 rfl) rfl
theorem q2171 : (Jvm.Cond.code ({ cls := "MossLawnModel", name := "isGardener", desc := "(I)Z" } : Jvm.MethodName) prog_23_method_14_code (2 : Nat) (Option.some Jvm.ClassFile.FieldType.boolean)) ∈ lw_all := lw_g (lw_at lw_m9 137 rfl) rfl
theorem q2172 : (Jvm.Cond.methodLink "MossLawnModel" (124 : Nat) ({ cls := "MossLawnModel", name := "sideOf", desc := "(I)I" } : Jvm.MethodName)) ∈ lw_all := lw_g (lw_at lw_m9 138 rfl) rfl
theorem q2173 : (Jvm.Cond.static ({ cls := "MossLawnModel", name := "sideOf", desc := "(I)I" } : Jvm.MethodName)) ∈ lw_all := lw_g (lw_at lw_m9 139 rfl) rfl
theorem q2174 : (Jvm.Cond.code ({ cls := "MossLawnModel", name := "sideOf", desc := "(I)I" } : Jvm.MethodName) prog_23_method_18_code (1 : Nat) (Option.some Jvm.ClassFile.FieldType.int)) ∈ lw_all := lw_g (lw_at lw_m9 140 rfl) rfl
theorem q2175 : (Jvm.Cond.methodLink "MossLawnModel" (127 : Nat) ({ cls := "MossLawnModel", name := "beside", desc := "(II)I" } : Jvm.MethodName)) ∈ lw_all := lw_g (lw_at lw_m9 141 rfl) rfl
theorem q2176 : (Jvm.Cond.static ({ cls := "MossLawnModel", name := "beside", desc := "(II)I" } : Jvm.MethodName)) ∈ lw_all := lw_g (lw_at lw_m9 142 rfl) rfl
theorem q2177 : (Jvm.Cond.code ({ cls := "MossLawnModel", name := "beside", desc := "(II)I" } : Jvm.MethodName) prog_23_method_17_code (4 : Nat) (Option.some Jvm.ClassFile.FieldType.int)) ∈ lw_all := lw_g (lw_at lw_m9 143 rfl) rfl
theorem q2178 : (Jvm.Cond.methodLink "MossLawnModel" (130 : Nat) ({ cls := "MossLawnModel", name := "hasTime", desc := "(II)Z" } : Jvm.MethodName)) ∈ lw_all := lw_g (lw_at lw_m9 144 rfl) rfl
theorem q2179 : (Jvm.Cond.privateMethod ({ cls := "MossLawnModel", name := "hasTime", desc := "(II)Z" } : Jvm.MethodName)) ∈ lw_tbl := lw_at lw_m9 145 rfl
theorem q2180 : (Jvm.Cond.instanceMethod ({ cls := "MossLawnModel", name := "hasTime", desc := "(II)Z" } : Jvm.MethodName)) ∈ lw_all := lw_g (lw_at lw_m9 146 rfl) rfl
theorem q2181 : (Jvm.Cond.code ({ cls := "MossLawnModel", name := "hasTime", desc := "(II)Z" } : Jvm.MethodName) prog_23_method_30_code (5 : Nat) (Option.some Jvm.ClassFile.FieldType.boolean)) ∈ lw_all := lw_g (lw_at lw_m9 147 rfl) rfl
theorem q2183 : (Jvm.Cond.instanceMethod ({ cls := "MossLawnModel", name := "sweep", desc := "(I)I" } : Jvm.MethodName)) ∈ lw_all := lw_g (lw_at lw_m9 149 rfl) rfl
theorem q2184 : (Jvm.Cond.selects "MossLawnModel" ({ cls := "MossLawnModel", name := "sweep", desc := "(I)I" } : Jvm.MethodName) ({ cls := "MossLawnModel", name := "sweep", desc := "(I)I" } : Jvm.MethodName)) ∈ lw_all := lw_g (lw_at lw_m9 150 rfl) rfl
theorem q2185 : (Jvm.Cond.code ({ cls := "MossLawnModel", name := "sweep", desc := "(I)I" } : Jvm.MethodName) prog_23_method_34_code (2 : Nat) (Option.some Jvm.ClassFile.FieldType.int)) ∈ lw_all := lw_g (lw_at lw_m9 151 rfl) rfl
theorem q2186 : (Jvm.Cond.methodLink "MossLawnModel" (137 : Nat) ({ cls := "MossLawnModel", name := "sweeps", desc := "(I)I" } : Jvm.MethodName)) ∈ lw_all := lw_g (lw_at lw_m9 152 rfl) rfl
theorem q2187 : (Jvm.Cond.privateMethod ({ cls := "MossLawnModel", name := "sweeps", desc := "(I)I" } : Jvm.MethodName)) ∈ lw_tbl := lw_at lw_m9 153 rfl
theorem q2188 : (Jvm.Cond.instanceMethod ({ cls := "MossLawnModel", name := "sweeps", desc := "(I)I" } : Jvm.MethodName)) ∈ lw_all := lw_g (lw_at lw_m9 154 rfl) rfl
theorem q2189 : (Jvm.Cond.code ({ cls := "MossLawnModel", name := "sweeps", desc := "(I)I" } : Jvm.MethodName) prog_23_method_33_code (6 : Nat) (Option.some Jvm.ClassFile.FieldType.int)) ∈ lw_all := lw_g (lw_at lw_m9 155 rfl) rfl
theorem q2191 : (Jvm.Cond.instanceMethod ({ cls := "MossLawnModel", name := "bind", desc := "(I)I" } : Jvm.MethodName)) ∈ lw_all := lw_g (lw_at lw_m9 157 rfl) rfl
theorem q2192 : (Jvm.Cond.selects "MossLawnModel" ({ cls := "MossLawnModel", name := "bind", desc := "(I)I" } : Jvm.MethodName) ({ cls := "MossLawnModel", name := "bind", desc := "(I)I" } : Jvm.MethodName)) ∈ lw_all := lw_g (lw_at lw_m9 158 rfl) rfl
theorem q2193 : (Jvm.Cond.code ({ cls := "MossLawnModel", name := "bind", desc := "(I)I" } : Jvm.MethodName) prog_23_method_36_code (2 : Nat) (Option.some Jvm.ClassFile.FieldType.int)) ∈ lw_all := lw_g (lw_at lw_m9 159 rfl) rfl
theorem q2194 : (Jvm.Cond.methodLink "MossLawnModel" (140 : Nat) ({ cls := "MossLawnModel", name := "binds", desc := "(I)I" } : Jvm.MethodName)) ∈ lw_all := lw_g (lw_at lw_m9 160 rfl) rfl
theorem q2195 : (Jvm.Cond.privateMethod ({ cls := "MossLawnModel", name := "binds", desc := "(I)I" } : Jvm.MethodName)) ∈ lw_tbl := lw_at lw_m9 161 rfl
theorem q2196 : (Jvm.Cond.instanceMethod ({ cls := "MossLawnModel", name := "binds", desc := "(I)I" } : Jvm.MethodName)) ∈ lw_all := lw_g (lw_at lw_m9 162 rfl) rfl
theorem q2197 : (Jvm.Cond.code ({ cls := "MossLawnModel", name := "binds", desc := "(I)I" } : Jvm.MethodName) prog_23_method_35_code (3 : Nat) (Option.some Jvm.ClassFile.FieldType.int)) ∈ lw_all := lw_g (lw_at lw_m9 163 rfl) rfl
theorem q2199 : (Jvm.Cond.instanceMethod ({ cls := "MossLawnModel", name := "trap", desc := "(I)I" } : Jvm.MethodName)) ∈ lw_all := lw_g (lw_at lw_m9 165 rfl) rfl
theorem q2200 : (Jvm.Cond.selects "MossLawnModel" ({ cls := "MossLawnModel", name := "trap", desc := "(I)I" } : Jvm.MethodName) ({ cls := "MossLawnModel", name := "trap", desc := "(I)I" } : Jvm.MethodName)) ∈ lw_all := lw_g (lw_at lw_m9 166 rfl) rfl
theorem q2201 : (Jvm.Cond.code ({ cls := "MossLawnModel", name := "trap", desc := "(I)I" } : Jvm.MethodName) prog_23_method_38_code (2 : Nat) (Option.some Jvm.ClassFile.FieldType.int)) ∈ lw_all := lw_g (lw_at lw_m9 167 rfl) rfl
theorem q2202 : (Jvm.Cond.methodLink "MossLawnModel" (143 : Nat) ({ cls := "MossLawnModel", name := "setsTrap", desc := "(I)I" } : Jvm.MethodName)) ∈ lw_all := lw_g (lw_at lw_m9 168 rfl) rfl
theorem q2203 : (Jvm.Cond.privateMethod ({ cls := "MossLawnModel", name := "setsTrap", desc := "(I)I" } : Jvm.MethodName)) ∈ lw_tbl := lw_at lw_m9 169 rfl
theorem q2204 : (Jvm.Cond.instanceMethod ({ cls := "MossLawnModel", name := "setsTrap", desc := "(I)I" } : Jvm.MethodName)) ∈ lw_all := lw_g (lw_at lw_m9 170 rfl) rfl
theorem q2205 : (Jvm.Cond.code ({ cls := "MossLawnModel", name := "setsTrap", desc := "(I)I" } : Jvm.MethodName) prog_23_method_37_code (3 : Nat) (Option.some Jvm.ClassFile.FieldType.int)) ∈ lw_all := lw_g (lw_at lw_m9 171 rfl) rfl
theorem q2207 : (Jvm.Cond.instanceMethod ({ cls := "MossLawnModel", name := "plant", desc := "(IC)I" } : Jvm.MethodName)) ∈ lw_all := lw_g (lw_at lw_m9 173 rfl) rfl
theorem q2208 : (Jvm.Cond.selects "MossLawnModel" ({ cls := "MossLawnModel", name := "plant", desc := "(IC)I" } : Jvm.MethodName) ({ cls := "MossLawnModel", name := "plant", desc := "(IC)I" } : Jvm.MethodName)) ∈ lw_all := lw_g (lw_at lw_m9 174 rfl) rfl
theorem q2209 : (Jvm.Cond.code ({ cls := "MossLawnModel", name := "plant", desc := "(IC)I" } : Jvm.MethodName) prog_23_method_40_code (3 : Nat) (Option.some Jvm.ClassFile.FieldType.int)) ∈ lw_all := lw_g (lw_at lw_m9 175 rfl) rfl
theorem q2210 : (Jvm.Cond.methodLink "MossLawnModel" (146 : Nat) ({ cls := "MossLawnModel", name := "plants", desc := "(II)I" } : Jvm.MethodName)) ∈ lw_all := lw_g (lw_at lw_m9 176 rfl) rfl
theorem q2211 : (Jvm.Cond.privateMethod ({ cls := "MossLawnModel", name := "plants", desc := "(II)I" } : Jvm.MethodName)) ∈ lw_tbl := lw_at lw_m9 177 rfl
theorem q2212 : (Jvm.Cond.instanceMethod ({ cls := "MossLawnModel", name := "plants", desc := "(II)I" } : Jvm.MethodName)) ∈ lw_all := lw_g (lw_at lw_m9 178 rfl) rfl
theorem q2213 : (Jvm.Cond.code ({ cls := "MossLawnModel", name := "plants", desc := "(II)I" } : Jvm.MethodName) prog_23_method_39_code (6 : Nat) (Option.some Jvm.ClassFile.FieldType.int)) ∈ lw_all := lw_g (lw_at lw_m9 179 rfl) rfl
theorem q2215 : (Jvm.Cond.instanceMethod ({ cls := "MossLawnModel", name := "mole", desc := "(I)I" } : Jvm.MethodName)) ∈ lw_all := lw_g (lw_at lw_m9 181 rfl) rfl
theorem q2216 : (Jvm.Cond.selects "MossLawnModel" ({ cls := "MossLawnModel", name := "mole", desc := "(I)I" } : Jvm.MethodName) ({ cls := "MossLawnModel", name := "mole", desc := "(I)I" } : Jvm.MethodName)) ∈ lw_all := lw_g (lw_at lw_m9 182 rfl) rfl
theorem q2217 : (Jvm.Cond.code ({ cls := "MossLawnModel", name := "mole", desc := "(I)I" } : Jvm.MethodName) prog_23_method_42_code (2 : Nat) (Option.some Jvm.ClassFile.FieldType.int)) ∈ lw_all := lw_g (lw_at lw_m9 183 rfl) rfl
theorem q2218 : (Jvm.Cond.methodLink "MossLawnModel" (149 : Nat) ({ cls := "MossLawnModel", name := "addsMole", desc := "(I)I" } : Jvm.MethodName)) ∈ lw_all := lw_g (lw_at lw_m9 184 rfl) rfl
theorem q2219 : (Jvm.Cond.privateMethod ({ cls := "MossLawnModel", name := "addsMole", desc := "(I)I" } : Jvm.MethodName)) ∈ lw_tbl := lw_at lw_m9 185 rfl
theorem q2220 : (Jvm.Cond.instanceMethod ({ cls := "MossLawnModel", name := "addsMole", desc := "(I)I" } : Jvm.MethodName)) ∈ lw_all := lw_g (lw_at lw_m9 186 rfl) rfl
theorem q2221 : (Jvm.Cond.code ({ cls := "MossLawnModel", name := "addsMole", desc := "(I)I" } : Jvm.MethodName) prog_23_method_41_code (3 : Nat) (Option.some Jvm.ClassFile.FieldType.int)) ∈ lw_all := lw_g (lw_at lw_m9 187 rfl) rfl
theorem q2223 : (Jvm.Cond.instanceMethod ({ cls := "MossLawnModel", name := "slippers", desc := "(II)I" } : Jvm.MethodName)) ∈ lw_all := lw_g (lw_at lw_m9 189 rfl) rfl
theorem q2224 : (Jvm.Cond.selects "MossLawnModel" ({ cls := "MossLawnModel", name := "slippers", desc := "(II)I" } : Jvm.MethodName) ({ cls := "MossLawnModel", name := "slippers", desc := "(II)I" } : Jvm.MethodName)) ∈ lw_all := lw_g (lw_at lw_m9 190 rfl) rfl
theorem q2225 : (Jvm.Cond.code ({ cls := "MossLawnModel", name := "slippers", desc := "(II)I" } : Jvm.MethodName) prog_23_method_44_code (3 : Nat) (Option.some Jvm.ClassFile.FieldType.int)) ∈ lw_all := lw_g (lw_at lw_m9 191 rfl) rfl
theorem q2226 : (Jvm.Cond.methodLink "MossLawnModel" (155 : Nat) ({ cls := "MossLawnModel", name := "bringsPairs", desc := "(II)I" } : Jvm.MethodName)) ∈ lw_all := lw_g (lw_at lw_m9 192 rfl) rfl
theorem q2227 : (Jvm.Cond.privateMethod ({ cls := "MossLawnModel", name := "bringsPairs", desc := "(II)I" } : Jvm.MethodName)) ∈ lw_tbl := lw_at lw_m9 193 rfl
theorem q2228 : (Jvm.Cond.instanceMethod ({ cls := "MossLawnModel", name := "bringsPairs", desc := "(II)I" } : Jvm.MethodName)) ∈ lw_all := lw_g (lw_at lw_m9 194 rfl) rfl
theorem q2229 : (Jvm.Cond.code ({ cls := "MossLawnModel", name := "bringsPairs", desc := "(II)I" } : Jvm.MethodName) prog_23_method_43_code (3 : Nat) (Option.some Jvm.ClassFile.FieldType.int)) ∈ lw_all := lw_g (lw_at lw_m9 195 rfl) rfl
theorem q2230 : (Jvm.Cond.methodLink "MossLawnModel" (152 : Nat) ({ cls := "MossLawnModel", name := "lesser", desc := "(II)I" } : Jvm.MethodName)) ∈ lw_all := lw_g (lw_at lw_m9 196 rfl) rfl
theorem q2231 : (Jvm.Cond.static ({ cls := "MossLawnModel", name := "lesser", desc := "(II)I" } : Jvm.MethodName)) ∈ lw_all := lw_g (lw_at lw_m9 197 rfl) rfl
theorem q2232 : (Jvm.Cond.code ({ cls := "MossLawnModel", name := "lesser", desc := "(II)I" } : Jvm.MethodName) prog_23_method_7_code (2 : Nat) (Option.some Jvm.ClassFile.FieldType.int)) ∈ lw_all := lw_g (lw_at lw_m9 198 rfl) rfl
theorem q2234 : (Jvm.Cond.instanceMethod ({ cls := "MossLawnModel", name := "pilgrim", desc := "(III)I" } : Jvm.MethodName)) ∈ lw_all := lw_g (lw_at lw_m9 200 rfl) rfl
theorem q2235 : (Jvm.Cond.selects "MossLawnModel" ({ cls := "MossLawnModel", name := "pilgrim", desc := "(III)I" } : Jvm.MethodName) ({ cls := "MossLawnModel", name := "pilgrim", desc := "(III)I" } : Jvm.MethodName)) ∈ lw_all := lw_g (lw_at lw_m9 201 rfl) rfl
theorem q2236 : (Jvm.Cond.code ({ cls := "MossLawnModel", name := "pilgrim", desc := "(III)I" } : Jvm.MethodName) prog_23_method_51_code (4 : Nat) (Option.some Jvm.ClassFile.FieldType.int)) ∈ lw_all := lw_g (lw_at lw_m9 202 rfl) rfl
theorem q2237 : (Jvm.Cond.methodLink "MossLawnModel" (175 : Nat) ({ cls := "MossLawnModel", name := "visits", desc := "(III)I" } : Jvm.MethodName)) ∈ lw_all := lw_g (lw_at lw_m9 203 rfl) rfl
theorem q2238 : (Jvm.Cond.privateMethod ({ cls := "MossLawnModel", name := "visits", desc := "(III)I" } : Jvm.MethodName)) ∈ lw_tbl := lw_at lw_m9 204 rfl
theorem q2239 : (Jvm.Cond.instanceMethod ({ cls := "MossLawnModel", name := "visits", desc := "(III)I" } : Jvm.MethodName)) ∈ lw_all := lw_g (lw_at lw_m9 205 rfl) rfl
theorem q2240 : (Jvm.Cond.code ({ cls := "MossLawnModel", name := "visits", desc := "(III)I" } : Jvm.MethodName) prog_23_method_50_code (7 : Nat) (Option.some Jvm.ClassFile.FieldType.int)) ∈ lw_all := lw_g (lw_at lw_m9 206 rfl) rfl
theorem q2241 : (Jvm.Cond.methodLink "MossLawnModel" (158 : Nat) ({ cls := "MossLawnModel", name := "pairFor", desc := "(I)I" } : Jvm.MethodName)) ∈ lw_all := lw_g (lw_at lw_m9 207 rfl) rfl
theorem q2242 : (Jvm.Cond.privateMethod ({ cls := "MossLawnModel", name := "pairFor", desc := "(I)I" } : Jvm.MethodName)) ∈ lw_tbl := lw_at lw_m9 208 rfl
theorem q2243 : (Jvm.Cond.instanceMethod ({ cls := "MossLawnModel", name := "pairFor", desc := "(I)I" } : Jvm.MethodName)) ∈ lw_all := lw_g (lw_at lw_m9 209 rfl) rfl
theorem q2244 : (Jvm.Cond.code ({ cls := "MossLawnModel", name := "pairFor", desc := "(I)I" } : Jvm.MethodName) prog_23_method_47_code (3 : Nat) (Option.some Jvm.ClassFile.FieldType.int)) ∈ lw_all := lw_g (lw_at lw_m9 210 rfl) rfl
theorem q2245 : (Jvm.Cond.methodLink "MossLawnModel" (161 : Nat) ({ cls := "MossLawnModel", name := "measures", desc := "(I)V" } : Jvm.MethodName)) ∈ lw_all := lw_g (lw_at lw_m9 211 rfl) rfl
theorem q2246 : (Jvm.Cond.privateMethod ({ cls := "MossLawnModel", name := "measures", desc := "(I)V" } : Jvm.MethodName)) ∈ lw_tbl := lw_at lw_m9 212 rfl
theorem q2247 : (Jvm.Cond.instanceMethod ({ cls := "MossLawnModel", name := "measures", desc := "(I)V" } : Jvm.MethodName)) ∈ lw_all := lw_g (lw_at lw_m9 213 rfl) rfl
theorem q2248 : (Jvm.Cond.code ({ cls := "MossLawnModel", name := "measures", desc := "(I)V" } : Jvm.MethodName) prog_23_method_45_code (7 : Nat) (Option.none : Option Jvm.ClassFile.FieldType)) ∈ lw_all := lw_g (lw_at lw_m9 214 rfl) rfl
theorem q2249 : (Jvm.Cond.methodLink "MossLawnModel" (165 : Nat) ({ cls := "MossLawnModel", name := "treads", desc := "(I)V" } : Jvm.MethodName)) ∈ lw_all := lw_g (lw_at lw_m9 215 rfl) rfl
theorem q2250 : (Jvm.Cond.privateMethod ({ cls := "MossLawnModel", name := "treads", desc := "(I)V" } : Jvm.MethodName)) ∈ lw_tbl := lw_at lw_m9 216 rfl
theorem q2251 : (Jvm.Cond.instanceMethod ({ cls := "MossLawnModel", name := "treads", desc := "(I)V" } : Jvm.MethodName)) ∈ lw_all := lw_g (lw_at lw_m9 217 rfl) rfl
theorem q2252 : (Jvm.Cond.code ({ cls := "MossLawnModel", name := "treads", desc := "(I)V" } : Jvm.MethodName) prog_23_method_48_code (2 : Nat) (Option.none : Option Jvm.ClassFile.FieldType)) ∈ lw_all := lw_g (lw_at lw_m9 218 rfl) rfl
theorem q2253 : (Jvm.Cond.methodLink "MossLawnModel" (168 : Nat) ({ cls := "MossLawnModel", name := "next", desc := "(I)I" } : Jvm.MethodName)) ∈ lw_all := lw_g (lw_at lw_m9 219 rfl) rfl
theorem q2254 : (Jvm.Cond.privateMethod ({ cls := "MossLawnModel", name := "next", desc := "(I)I" } : Jvm.MethodName)) ∈ lw_tbl := lw_at lw_m9 220 rfl
theorem q2255 : (Jvm.Cond.instanceMethod ({ cls := "MossLawnModel", name := "next", desc := "(I)I" } : Jvm.MethodName)) ∈ lw_all := lw_g (lw_at lw_m9 221 rfl) rfl
theorem q2256 : (Jvm.Cond.code ({ cls := "MossLawnModel", name := "next", desc := "(I)I" } : Jvm.MethodName) prog_23_method_46_code (4 : Nat) (Option.some Jvm.ClassFile.FieldType.int)) ∈ lw_all := lw_g (lw_at lw_m9 222 rfl) rfl
theorem q2257 : (Jvm.Cond.methodLink "MossLawnModel" (171 : Nat) ({ cls := "MossLawnModel", name := "notes", desc := "(IIII)V" } : Jvm.MethodName)) ∈ lw_all := lw_g (lw_at lw_m9 223 rfl) rfl
theorem q2258 : (Jvm.Cond.privateMethod ({ cls := "MossLawnModel", name := "notes", desc := "(IIII)V" } : Jvm.MethodName)) ∈ lw_tbl := lw_at lw_m9 224 rfl
theorem q2259 : (Jvm.Cond.instanceMethod ({ cls := "MossLawnModel", name := "notes", desc := "(IIII)V" } : Jvm.MethodName)) ∈ lw_all := lw_g (lw_at lw_m9 225 rfl) rfl
theorem q2260 : (Jvm.Cond.code ({ cls := "MossLawnModel", name := "notes", desc := "(IIII)V" } : Jvm.MethodName) prog_23_method_49_code (6 : Nat) (Option.none : Option Jvm.ClassFile.FieldType)) ∈ lw_all := lw_g (lw_at lw_m9 226 rfl) rfl
theorem q2262 : (Jvm.Cond.instanceMethod ({ cls := "MossLawnModel", name := "day", desc := "(I)I" } : Jvm.MethodName)) ∈ lw_all := lw_g (lw_at lw_m9 228 rfl) rfl
theorem q2263 : (Jvm.Cond.selects "MossLawnModel" ({ cls := "MossLawnModel", name := "day", desc := "(I)I" } : Jvm.MethodName) ({ cls := "MossLawnModel", name := "day", desc := "(I)I" } : Jvm.MethodName)) ∈ lw_all := lw_g (lw_at lw_m9 229 rfl) rfl
theorem q2264 : (Jvm.Cond.code ({ cls := "MossLawnModel", name := "day", desc := "(I)I" } : Jvm.MethodName) prog_23_method_57_code (2 : Nat) (Option.some Jvm.ClassFile.FieldType.int)) ∈ lw_all := lw_g (lw_at lw_m9 230 rfl) rfl
theorem q2265 : (Jvm.Cond.methodLink "MossLawnModel" (192 : Nat) ({ cls := "MossLawnModel", name := "passes", desc := "(I)I" } : Jvm.MethodName)) ∈ lw_all := lw_g (lw_at lw_m9 231 rfl) rfl
theorem q2266 : (Jvm.Cond.privateMethod ({ cls := "MossLawnModel", name := "passes", desc := "(I)I" } : Jvm.MethodName)) ∈ lw_tbl := lw_at lw_m9 232 rfl
theorem q2267 : (Jvm.Cond.instanceMethod ({ cls := "MossLawnModel", name := "passes", desc := "(I)I" } : Jvm.MethodName)) ∈ lw_all := lw_g (lw_at lw_m9 233 rfl) rfl
theorem q2268 : (Jvm.Cond.code ({ cls := "MossLawnModel", name := "passes", desc := "(I)I" } : Jvm.MethodName) prog_23_method_56_code (4 : Nat) (Option.some Jvm.ClassFile.FieldType.int)) ∈ lw_all := lw_g (lw_at lw_m9 234 rfl) rfl
theorem q2269 : (Jvm.Cond.methodLink "MossLawnModel" (188 : Nat) ({ cls := "MossLawnModel", name := "bell", desc := "()I" } : Jvm.MethodName)) ∈ lw_all := lw_g (lw_at lw_m9 235 rfl) rfl
theorem q2270 : (Jvm.Cond.privateMethod ({ cls := "MossLawnModel", name := "bell", desc := "()I" } : Jvm.MethodName)) ∈ lw_tbl := lw_at lw_m9 236 rfl
theorem q2271 : (Jvm.Cond.instanceMethod ({ cls := "MossLawnModel", name := "bell", desc := "()I" } : Jvm.MethodName)) ∈ lw_all := lw_g (lw_at lw_m9 237 rfl) rfl
theorem q2272 : (Jvm.Cond.code ({ cls := "MossLawnModel", name := "bell", desc := "()I" } : Jvm.MethodName) prog_23_method_55_code (3 : Nat) (Option.some Jvm.ClassFile.FieldType.int)) ∈ lw_all := lw_g (lw_at lw_m9 238 rfl) rfl
theorem q2273 : (Jvm.Cond.methodLink "MossLawnModel" (182 : Nat) ({ cls := "MossLawnModel", name := "grows", desc := "(I)V" } : Jvm.MethodName)) ∈ lw_all := lw_g (lw_at lw_m9 239 rfl) rfl
theorem q2274 : (Jvm.Cond.privateMethod ({ cls := "MossLawnModel", name := "grows", desc := "(I)V" } : Jvm.MethodName)) ∈ lw_tbl := lw_at lw_m10 0 rfl
theorem q2275 : (Jvm.Cond.instanceMethod ({ cls := "MossLawnModel", name := "grows", desc := "(I)V" } : Jvm.MethodName)) ∈ lw_all := lw_g (lw_at lw_m10 1 rfl) rfl
theorem q2276 : (Jvm.Cond.code ({ cls := "MossLawnModel", name := "grows", desc := "(I)V" } : Jvm.MethodName) prog_23_method_52_code (5 : Nat) (Option.none : Option Jvm.ClassFile.FieldType)) ∈ lw_all := lw_g (lw_at lw_m10 2 rfl) rfl
theorem q2277 : (Jvm.Cond.methodLink "MossLawnModel" (185 : Nat) ({ cls := "MossLawnModel", name := "digs", desc := "(I)Z" } : Jvm.MethodName)) ∈ lw_all := lw_g (lw_at lw_m10 3 rfl) rfl
theorem q2278 : (Jvm.Cond.privateMethod ({ cls := "MossLawnModel", name := "digs", desc := "(I)Z" } : Jvm.MethodName)) ∈ lw_tbl := lw_at lw_m10 4 rfl
theorem q2279 : (Jvm.Cond.instanceMethod ({ cls := "MossLawnModel", name := "digs", desc := "(I)Z" } : Jvm.MethodName)) ∈ lw_all := lw_g (lw_at lw_m10 5 rfl) rfl
theorem q2280 : (Jvm.Cond.code ({ cls := "MossLawnModel", name := "digs", desc := "(I)Z" } : Jvm.MethodName) prog_23_method_54_code (5 : Nat) (Option.some Jvm.ClassFile.FieldType.boolean)) ∈ lw_all := lw_g (lw_at lw_m10 6 rfl) rfl
theorem q2281 : (Jvm.Cond.methodLink "MossLawnModel" (179 : Nat) ({ cls := "MossLawnModel", name := "richest", desc := "(I)I" } : Jvm.MethodName)) ∈ lw_all := lw_g (lw_at lw_m10 7 rfl) rfl
theorem q2282 : (Jvm.Cond.privateMethod ({ cls := "MossLawnModel", name := "richest", desc := "(I)I" } : Jvm.MethodName)) ∈ lw_tbl := lw_at lw_m10 8 rfl
theorem q2283 : (Jvm.Cond.instanceMethod ({ cls := "MossLawnModel", name := "richest", desc := "(I)I" } : Jvm.MethodName)) ∈ lw_all := lw_g (lw_at lw_m10 9 rfl) rfl
theorem q2284 : (Jvm.Cond.code ({ cls := "MossLawnModel", name := "richest", desc := "(I)I" } : Jvm.MethodName) prog_23_method_53_code (5 : Nat) (Option.some Jvm.ClassFile.FieldType.int)) ∈ lw_all := lw_g (lw_at lw_m10 10 rfl) rfl
theorem q2286 : (Jvm.Cond.instanceMethod ({ cls := "MossLawnModel", name := "append", desc := "(C)I" } : Jvm.MethodName)) ∈ lw_all := lw_g (lw_at lw_m10 12 rfl) rfl
theorem q2287 : (Jvm.Cond.selects "MossLawnModel" ({ cls := "MossLawnModel", name := "append", desc := "(C)I" } : Jvm.MethodName) ({ cls := "MossLawnModel", name := "append", desc := "(C)I" } : Jvm.MethodName)) ∈ lw_all := lw_g (lw_at lw_m10 13 rfl) rfl
theorem q2288 : (Jvm.Cond.code ({ cls := "MossLawnModel", name := "append", desc := "(C)I" } : Jvm.MethodName) prog_23_method_58_code (2 : Nat) (Option.some Jvm.ClassFile.FieldType.int)) ∈ lw_all := lw_g (lw_at lw_m10 14 rfl) rfl
theorem q2290 : (Jvm.Cond.instanceMethod ({ cls := "MossLawnModel", name := "script", desc := "()I" } : Jvm.MethodName)) ∈ lw_all := lw_g (lw_at lw_m10 16 rfl) rfl
theorem q2291 : (Jvm.Cond.selects "MossLawnModel" ({ cls := "MossLawnModel", name := "script", desc := "()I" } : Jvm.MethodName) ({ cls := "MossLawnModel", name := "script", desc := "()I" } : Jvm.MethodName)) ∈ lw_all := lw_g (lw_at lw_m10 17 rfl) rfl
theorem q2292 : (Jvm.Cond.code ({ cls := "MossLawnModel", name := "script", desc := "()I" } : Jvm.MethodName) prog_23_method_66_code (3 : Nat) (Option.some Jvm.ClassFile.FieldType.int)) ∈ lw_all := lw_g (lw_at lw_m10 18 rfl) rfl
theorem q2293 : (Jvm.Cond.methodLink "MossLawnModel" (227 : Nat) ({ cls := "MossLawnModel", name := "orders", desc := "()I" } : Jvm.MethodName)) ∈ lw_all := lw_g (lw_at lw_m10 19 rfl) rfl
theorem q2294 : (Jvm.Cond.privateMethod ({ cls := "MossLawnModel", name := "orders", desc := "()I" } : Jvm.MethodName)) ∈ lw_tbl := lw_at lw_m10 20 rfl
theorem q2295 : (Jvm.Cond.instanceMethod ({ cls := "MossLawnModel", name := "orders", desc := "()I" } : Jvm.MethodName)) ∈ lw_all := lw_g (lw_at lw_m10 21 rfl) rfl
theorem q2296 : (Jvm.Cond.code ({ cls := "MossLawnModel", name := "orders", desc := "()I" } : Jvm.MethodName) prog_23_method_65_code (2 : Nat) (Option.some Jvm.ClassFile.FieldType.int)) ∈ lw_all := lw_g (lw_at lw_m10 22 rfl) rfl
theorem q2297 : (Jvm.Cond.methodLink "MossLawnModel" (224 : Nat) ({ cls := "MossLawnModel", name := "order", desc := "()V" } : Jvm.MethodName)) ∈ lw_all := lw_g (lw_at lw_m10 23 rfl) rfl
theorem q2298 : (Jvm.Cond.privateMethod ({ cls := "MossLawnModel", name := "order", desc := "()V" } : Jvm.MethodName)) ∈ lw_tbl := lw_at lw_m10 24 rfl
theorem q2299 : (Jvm.Cond.instanceMethod ({ cls := "MossLawnModel", name := "order", desc := "()V" } : Jvm.MethodName)) ∈ lw_all := lw_g (lw_at lw_m10 25 rfl) rfl
theorem q2300 : (Jvm.Cond.code ({ cls := "MossLawnModel", name := "order", desc := "()V" } : Jvm.MethodName) prog_23_method_64_code (6 : Nat) (Option.none : Option Jvm.ClassFile.FieldType)) ∈ lw_all := lw_g (lw_at lw_m10 26 rfl) rfl
theorem q2301 : (Jvm.Cond.methodLink "MossLawnModel" (205 : Nat) ({ cls := "MossLawnModel", name := "sign", desc := "()I" } : Jvm.MethodName)) ∈ lw_all := lw_g (lw_at lw_m10 27 rfl) rfl
theorem q2302 : (Jvm.Cond.privateMethod ({ cls := "MossLawnModel", name := "sign", desc := "()I" } : Jvm.MethodName)) ∈ lw_tbl := lw_at lw_m10 28 rfl
theorem q2303 : (Jvm.Cond.instanceMethod ({ cls := "MossLawnModel", name := "sign", desc := "()I" } : Jvm.MethodName)) ∈ lw_all := lw_g (lw_at lw_m10 29 rfl) rfl
theorem q2304 : (Jvm.Cond.code ({ cls := "MossLawnModel", name := "sign", desc := "()I" } : Jvm.MethodName) prog_23_method_59_code (1 : Nat) (Option.some Jvm.ClassFile.FieldType.int)) ∈ lw_all := lw_g (lw_at lw_m10 30 rfl) rfl
theorem q2305 : (Jvm.Cond.methodLink "MossLawnModel" (208 : Nat) ({ cls := "MossLawnModel", name := "number", desc := "(I)I" } : Jvm.MethodName)) ∈ lw_all := lw_g (lw_at lw_m10 31 rfl) rfl
theorem q2306 : (Jvm.Cond.privateMethod ({ cls := "MossLawnModel", name := "number", desc := "(I)I" } : Jvm.MethodName)) ∈ lw_tbl := lw_at lw_m10 32 rfl
theorem q2307 : (Jvm.Cond.instanceMethod ({ cls := "MossLawnModel", name := "number", desc := "(I)I" } : Jvm.MethodName)) ∈ lw_all := lw_g (lw_at lw_m10 33 rfl) rfl
theorem q2308 : (Jvm.Cond.code ({ cls := "MossLawnModel", name := "number", desc := "(I)I" } : Jvm.MethodName) prog_23_method_60_code (4 : Nat) (Option.some Jvm.ClassFile.FieldType.int)) ∈ lw_all := lw_g (lw_at lw_m10 34 rfl) rfl
theorem q2309 : (Jvm.Cond.methodLink "MossLawnModel" (211 : Nat) ({ cls := "MossLawnModel", name := "letter", desc := "()I" } : Jvm.MethodName)) ∈ lw_all := lw_g (lw_at lw_m10 35 rfl) rfl
theorem q2310 : (Jvm.Cond.privateMethod ({ cls := "MossLawnModel", name := "letter", desc := "()I" } : Jvm.MethodName)) ∈ lw_tbl := lw_at lw_m10 36 rfl
theorem q2311 : (Jvm.Cond.instanceMethod ({ cls := "MossLawnModel", name := "letter", desc := "()I" } : Jvm.MethodName)) ∈ lw_all := lw_g (lw_at lw_m10 37 rfl) rfl
theorem q2312 : (Jvm.Cond.code ({ cls := "MossLawnModel", name := "letter", desc := "()I" } : Jvm.MethodName) prog_23_method_61_code (2 : Nat) (Option.some Jvm.ClassFile.FieldType.int)) ∈ lw_all := lw_g (lw_at lw_m10 38 rfl) rfl
theorem q2313 : (Jvm.Cond.methodLink "MossLawnModel" (214 : Nat) ({ cls := "MossLawnModel", name := "mark", desc := "(I)V" } : Jvm.MethodName)) ∈ lw_all := lw_g (lw_at lw_m10 39 rfl) rfl
theorem q2314 : (Jvm.Cond.privateMethod ({ cls := "MossLawnModel", name := "mark", desc := "(I)V" } : Jvm.MethodName)) ∈ lw_tbl := lw_at lw_m10 40 rfl
theorem q2315 : (Jvm.Cond.instanceMethod ({ cls := "MossLawnModel", name := "mark", desc := "(I)V" } : Jvm.MethodName)) ∈ lw_all := lw_g (lw_at lw_m10 41 rfl) rfl
theorem q2316 : (Jvm.Cond.code ({ cls := "MossLawnModel", name := "mark", desc := "(I)V" } : Jvm.MethodName) prog_23_method_62_code (2 : Nat) (Option.none : Option Jvm.ClassFile.FieldType)) ∈ lw_all := lw_g (lw_at lw_m10 42 rfl) rfl
theorem q2317 : (Jvm.Cond.methodLink "MossLawnModel" (220 : Nat) ({ cls := "MossLawnModel", name := "does", desc := "(IIII)I" } : Jvm.MethodName)) ∈ lw_all := lw_g (lw_at lw_m10 43 rfl) rfl
theorem q2318 : (Jvm.Cond.privateMethod ({ cls := "MossLawnModel", name := "does", desc := "(IIII)I" } : Jvm.MethodName)) ∈ lw_tbl := lw_at lw_m10 44 rfl
theorem q2319 : (Jvm.Cond.instanceMethod ({ cls := "MossLawnModel", name := "does", desc := "(IIII)I" } : Jvm.MethodName)) ∈ lw_all := lw_g (lw_at lw_m10 45 rfl) rfl
theorem q2320 : (Jvm.Cond.code ({ cls := "MossLawnModel", name := "does", desc := "(IIII)I" } : Jvm.MethodName) prog_23_method_63_code (5 : Nat) (Option.some Jvm.ClassFile.FieldType.int)) ∈ lw_all := lw_g (lw_at lw_m10 46 rfl) rfl
theorem q2322 : (Jvm.Cond.instanceMethod ({ cls := "MossLawnModel", name := "fault", desc := "()I" } : Jvm.MethodName)) ∈ lw_all := lw_g (lw_at lw_m10 48 rfl) rfl
theorem q2323 : (Jvm.Cond.selects "MossLawnModel" ({ cls := "MossLawnModel", name := "fault", desc := "()I" } : Jvm.MethodName) ({ cls := "MossLawnModel", name := "fault", desc := "()I" } : Jvm.MethodName)) ∈ lw_all := lw_g (lw_at lw_m10 49 rfl) rfl
theorem q2324 : (Jvm.Cond.code ({ cls := "MossLawnModel", name := "fault", desc := "()I" } : Jvm.MethodName) prog_23_method_67_code (1 : Nat) (Option.some Jvm.ClassFile.FieldType.int)) ∈ lw_all := lw_g (lw_at lw_m10 50 rfl) rfl
theorem q2326 : (Jvm.Cond.instanceMethod ({ cls := "MossLawnModel", name := "reason", desc := "(IZ)I" } : Jvm.MethodName)) ∈ lw_all := lw_g (lw_at lw_m10 52 rfl) rfl
theorem q2327 : (Jvm.Cond.selects "MossLawnModel" ({ cls := "MossLawnModel", name := "reason", desc := "(IZ)I" } : Jvm.MethodName) ({ cls := "MossLawnModel", name := "reason", desc := "(IZ)I" } : Jvm.MethodName)) ∈ lw_all := lw_g (lw_at lw_m10 53 rfl) rfl
theorem q2328 : (Jvm.Cond.code ({ cls := "MossLawnModel", name := "reason", desc := "(IZ)I" } : Jvm.MethodName) prog_23_method_68_code (3 : Nat) (Option.some Jvm.ClassFile.FieldType.int)) ∈ lw_all := lw_g (lw_at lw_m10 54 rfl) rfl
theorem q2330 : (Jvm.Cond.instanceMethod ({ cls := "MossLawnModel", name := "squareOf", desc := "(II)I" } : Jvm.MethodName)) ∈ lw_all := lw_g (lw_at lw_m10 56 rfl) rfl
theorem q2331 : (Jvm.Cond.selects "MossLawnModel" ({ cls := "MossLawnModel", name := "squareOf", desc := "(II)I" } : Jvm.MethodName) ({ cls := "MossLawnModel", name := "squareOf", desc := "(II)I" } : Jvm.MethodName)) ∈ lw_all := lw_g (lw_at lw_m10 57 rfl) rfl
theorem q2332 : (Jvm.Cond.code ({ cls := "MossLawnModel", name := "squareOf", desc := "(II)I" } : Jvm.MethodName) prog_23_method_69_code (3 : Nat) (Option.some Jvm.ClassFile.FieldType.int)) ∈ lw_all := lw_g (lw_at lw_m10 58 rfl) rfl
theorem q2334 : (Jvm.Cond.instanceMethod ({ cls := "MossLawnModel", name := "gardenerOf", desc := "(II)I" } : Jvm.MethodName)) ∈ lw_all := lw_g (lw_at lw_m10 60 rfl) rfl
theorem q2335 : (Jvm.Cond.selects "MossLawnModel" ({ cls := "MossLawnModel", name := "gardenerOf", desc := "(II)I" } : Jvm.MethodName) ({ cls := "MossLawnModel", name := "gardenerOf", desc := "(II)I" } : Jvm.MethodName)) ∈ lw_all := lw_g (lw_at lw_m10 61 rfl) rfl
theorem q2336 : (Jvm.Cond.code ({ cls := "MossLawnModel", name := "gardenerOf", desc := "(II)I" } : Jvm.MethodName) prog_23_method_70_code (3 : Nat) (Option.some Jvm.ClassFile.FieldType.int)) ∈ lw_all := lw_g (lw_at lw_m10 62 rfl) rfl
theorem q2338 : (Jvm.Cond.instanceMethod ({ cls := "MossLawnModel", name := "moleOf", desc := "(II)I" } : Jvm.MethodName)) ∈ lw_all := lw_g (lw_at lw_m10 64 rfl) rfl
theorem q2339 : (Jvm.Cond.selects "MossLawnModel" ({ cls := "MossLawnModel", name := "moleOf", desc := "(II)I" } : Jvm.MethodName) ({ cls := "MossLawnModel", name := "moleOf", desc := "(II)I" } : Jvm.MethodName)) ∈ lw_all := lw_g (lw_at lw_m10 65 rfl) rfl
theorem q2340 : (Jvm.Cond.code ({ cls := "MossLawnModel", name := "moleOf", desc := "(II)I" } : Jvm.MethodName) prog_23_method_71_code (3 : Nat) (Option.some Jvm.ClassFile.FieldType.int)) ∈ lw_all := lw_g (lw_at lw_m10 66 rfl) rfl
theorem q2342 : (Jvm.Cond.instanceMethod ({ cls := "MossLawnModel", name := "pairs", desc := "(I)I" } : Jvm.MethodName)) ∈ lw_all := lw_g (lw_at lw_m10 68 rfl) rfl
theorem q2343 : (Jvm.Cond.selects "MossLawnModel" ({ cls := "MossLawnModel", name := "pairs", desc := "(I)I" } : Jvm.MethodName) ({ cls := "MossLawnModel", name := "pairs", desc := "(I)I" } : Jvm.MethodName)) ∈ lw_all := lw_g (lw_at lw_m10 69 rfl) rfl
theorem q2344 : (Jvm.Cond.code ({ cls := "MossLawnModel", name := "pairs", desc := "(I)I" } : Jvm.MethodName) prog_23_method_72_code (2 : Nat) (Option.some Jvm.ClassFile.FieldType.int)) ∈ lw_all := lw_g (lw_at lw_m10 70 rfl) rfl
theorem q2346 : (Jvm.Cond.instanceMethod ({ cls := "MossLawnModel", name := "steps", desc := "(II)I" } : Jvm.MethodName)) ∈ lw_all := lw_g (lw_at lw_m10 72 rfl) rfl
theorem q2347 : (Jvm.Cond.selects "MossLawnModel" ({ cls := "MossLawnModel", name := "steps", desc := "(II)I" } : Jvm.MethodName) ({ cls := "MossLawnModel", name := "steps", desc := "(II)I" } : Jvm.MethodName)) ∈ lw_all := lw_g (lw_at lw_m10 73 rfl) rfl
theorem q2348 : (Jvm.Cond.code ({ cls := "MossLawnModel", name := "steps", desc := "(II)I" } : Jvm.MethodName) prog_23_method_73_code (3 : Nat) (Option.some Jvm.ClassFile.FieldType.int)) ∈ lw_all := lw_g (lw_at lw_m10 74 rfl) rfl
theorem q2350 : (Jvm.Cond.instanceMethod ({ cls := "MossLawnModel", name := "stepsAgain", desc := "(II)I" } : Jvm.MethodName)) ∈ lw_all := lw_g (lw_at lw_m10 76 rfl) rfl
theorem q2351 : (Jvm.Cond.selects "MossLawnModel" ({ cls := "MossLawnModel", name := "stepsAgain", desc := "(II)I" } : Jvm.MethodName) ({ cls := "MossLawnModel", name := "stepsAgain", desc := "(II)I" } : Jvm.MethodName)) ∈ lw_all := lw_g (lw_at lw_m10 77 rfl) rfl
theorem q2352 : (Jvm.Cond.code ({ cls := "MossLawnModel", name := "stepsAgain", desc := "(II)I" } : Jvm.MethodName) prog_23_method_74_code (3 : Nat) (Option.some Jvm.ClassFile.FieldType.int)) ∈ lw_all := lw_g (lw_at lw_m10 78 rfl) rfl
theorem q2353 : (Jvm.Cond.methodLink "MossLawnModel" (230 : Nat) ({ cls := "MossLawnModel", name := "steps", desc := "(II)I" } : Jvm.MethodName)) ∈ lw_all := lw_g (lw_at lw_m10 79 rfl) rfl
theorem q2355 : (Jvm.Cond.instanceMethod ({ cls := "MossLawnModel", name := "wayAt", desc := "(III)I" } : Jvm.MethodName)) ∈ lw_all := lw_g (lw_at lw_m10 81 rfl) rfl
theorem q2356 : (Jvm.Cond.selects "MossLawnModel" ({ cls := "MossLawnModel", name := "wayAt", desc := "(III)I" } : Jvm.MethodName) ({ cls := "MossLawnModel", name := "wayAt", desc := "(III)I" } : Jvm.MethodName)) ∈ lw_all := lw_g (lw_at lw_m10 82 rfl) rfl
theorem q2357 : (Jvm.Cond.code ({ cls := "MossLawnModel", name := "wayAt", desc := "(III)I" } : Jvm.MethodName) prog_23_method_75_code (7 : Nat) (Option.some Jvm.ClassFile.FieldType.int)) ∈ lw_all := lw_g (lw_at lw_m10 83 rfl) rfl
theorem q2359 : (Jvm.Cond.instanceMethod ({ cls := "MossLawnModel", name := "walked", desc := "(II)I" } : Jvm.MethodName)) ∈ lw_all := lw_g (lw_at lw_m10 85 rfl) rfl
theorem q2360 : (Jvm.Cond.selects "MossLawnModel" ({ cls := "MossLawnModel", name := "walked", desc := "(II)I" } : Jvm.MethodName) ({ cls := "MossLawnModel", name := "walked", desc := "(II)I" } : Jvm.MethodName)) ∈ lw_all := lw_g (lw_at lw_m10 86 rfl) rfl
theorem q2361 : (Jvm.Cond.code ({ cls := "MossLawnModel", name := "walked", desc := "(II)I" } : Jvm.MethodName) prog_23_method_76_code (3 : Nat) (Option.some Jvm.ClassFile.FieldType.int)) ∈ lw_all := lw_g (lw_at lw_m10 87 rfl) rfl
theorem q2363 : (Jvm.Cond.instanceMethod ({ cls := "MossLawnModel", name := "young", desc := "()I" } : Jvm.MethodName)) ∈ lw_all := lw_g (lw_at lw_m10 89 rfl) rfl
theorem q2364 : (Jvm.Cond.selects "MossLawnModel" ({ cls := "MossLawnModel", name := "young", desc := "()I" } : Jvm.MethodName) ({ cls := "MossLawnModel", name := "young", desc := "()I" } : Jvm.MethodName)) ∈ lw_all := lw_g (lw_at lw_m10 90 rfl) rfl
theorem q2365 : (Jvm.Cond.code ({ cls := "MossLawnModel", name := "young", desc := "()I" } : Jvm.MethodName) prog_23_method_77_code (3 : Nat) (Option.some Jvm.ClassFile.FieldType.int)) ∈ lw_all := lw_g (lw_at lw_m10 91 rfl) rfl
theorem q2367 : (Jvm.Cond.instanceMethod ({ cls := "MossLawnModel", name := "oldIn", desc := "(I)I" } : Jvm.MethodName)) ∈ lw_all := lw_g (lw_at lw_m10 93 rfl) rfl
theorem q2368 : (Jvm.Cond.selects "MossLawnModel" ({ cls := "MossLawnModel", name := "oldIn", desc := "(I)I" } : Jvm.MethodName) ({ cls := "MossLawnModel", name := "oldIn", desc := "(I)I" } : Jvm.MethodName)) ∈ lw_all := lw_g (lw_at lw_m10 94 rfl) rfl
theorem q2369 : (Jvm.Cond.code ({ cls := "MossLawnModel", name := "oldIn", desc := "(I)I" } : Jvm.MethodName) prog_23_method_78_code (5 : Nat) (Option.some Jvm.ClassFile.FieldType.int)) ∈ lw_all := lw_g (lw_at lw_m10 95 rfl) rfl
theorem q2371 : (Jvm.Cond.instanceMethod ({ cls := "MossLawnModel", name := "mossIn", desc := "(II)I" } : Jvm.MethodName)) ∈ lw_all := lw_g (lw_at lw_m10 97 rfl) rfl
theorem q2372 : (Jvm.Cond.selects "MossLawnModel" ({ cls := "MossLawnModel", name := "mossIn", desc := "(II)I" } : Jvm.MethodName) ({ cls := "MossLawnModel", name := "mossIn", desc := "(II)I" } : Jvm.MethodName)) ∈ lw_all := lw_g (lw_at lw_m10 98 rfl) rfl
theorem q2373 : (Jvm.Cond.code ({ cls := "MossLawnModel", name := "mossIn", desc := "(II)I" } : Jvm.MethodName) prog_23_method_79_code (5 : Nat) (Option.some Jvm.ClassFile.FieldType.int)) ∈ lw_all := lw_g (lw_at lw_m10 99 rfl) rfl
theorem q2375 : (Jvm.Cond.instanceMethod ({ cls := "MossLawnModel", name := "worst", desc := "()I" } : Jvm.MethodName)) ∈ lw_all := lw_g (lw_at lw_m10 101 rfl) rfl
theorem q2376 : (Jvm.Cond.selects "MossLawnModel" ({ cls := "MossLawnModel", name := "worst", desc := "()I" } : Jvm.MethodName) ({ cls := "MossLawnModel", name := "worst", desc := "()I" } : Jvm.MethodName)) ∈ lw_all := lw_g (lw_at lw_m10 102 rfl) rfl
theorem q2377 : (Jvm.Cond.code ({ cls := "MossLawnModel", name := "worst", desc := "()I" } : Jvm.MethodName) prog_23_method_81_code (3 : Nat) (Option.some Jvm.ClassFile.FieldType.int)) ∈ lw_all := lw_g (lw_at lw_m10 103 rfl) rfl
theorem q2379 : (Jvm.Cond.instanceMethod ({ cls := "MossLawnModel", name := "moss", desc := "(Z)I" } : Jvm.MethodName)) ∈ lw_all := lw_g (lw_at lw_m10 105 rfl) rfl
theorem q2380 : (Jvm.Cond.selects "MossLawnModel" ({ cls := "MossLawnModel", name := "moss", desc := "(Z)I" } : Jvm.MethodName) ({ cls := "MossLawnModel", name := "moss", desc := "(Z)I" } : Jvm.MethodName)) ∈ lw_all := lw_g (lw_at lw_m10 106 rfl) rfl
theorem q2381 : (Jvm.Cond.code ({ cls := "MossLawnModel", name := "moss", desc := "(Z)I" } : Jvm.MethodName) prog_23_method_82_code (2 : Nat) (Option.some Jvm.ClassFile.FieldType.int)) ∈ lw_all := lw_g (lw_at lw_m10 107 rfl) rfl
theorem q2382 : (Jvm.Cond.methodLink "MossLawnModel" (233 : Nat) ({ cls := "MossLawnModel", name := "sumOf", desc := "(I)I" } : Jvm.MethodName)) ∈ lw_all := lw_g (lw_at lw_m10 108 rfl) rfl
theorem q2383 : (Jvm.Cond.privateMethod ({ cls := "MossLawnModel", name := "sumOf", desc := "(I)I" } : Jvm.MethodName)) ∈ lw_tbl := lw_at lw_m10 109 rfl
theorem q2384 : (Jvm.Cond.instanceMethod ({ cls := "MossLawnModel", name := "sumOf", desc := "(I)I" } : Jvm.MethodName)) ∈ lw_all := lw_g (lw_at lw_m10 110 rfl) rfl
theorem q2385 : (Jvm.Cond.code ({ cls := "MossLawnModel", name := "sumOf", desc := "(I)I" } : Jvm.MethodName) prog_23_method_80_code (4 : Nat) (Option.some Jvm.ClassFile.FieldType.int)) ∈ lw_all := lw_g (lw_at lw_m10 111 rfl) rfl
theorem q2387 : (Jvm.Cond.instanceMethod ({ cls := "MossLawnModel", name := "describe", desc := "(I)I" } : Jvm.MethodName)) ∈ lw_all := lw_g (lw_at lw_m10 113 rfl) rfl
theorem q2388 : (Jvm.Cond.selects "MossLawnModel" ({ cls := "MossLawnModel", name := "describe", desc := "(I)I" } : Jvm.MethodName) ({ cls := "MossLawnModel", name := "describe", desc := "(I)I" } : Jvm.MethodName)) ∈ lw_all := lw_g (lw_at lw_m10 114 rfl) rfl
theorem q2389 : (Jvm.Cond.code ({ cls := "MossLawnModel", name := "describe", desc := "(I)I" } : Jvm.MethodName) prog_23_method_84_code (3 : Nat) (Option.some Jvm.ClassFile.FieldType.int)) ∈ lw_all := lw_g (lw_at lw_m10 115 rfl) rfl
theorem q2390 : (Jvm.Cond.methodLink "MossLawnModel" (239 : Nat) ({ cls := "MossLawnModel", name := "writes", desc := "(I)V" } : Jvm.MethodName)) ∈ lw_all := lw_g (lw_at lw_m10 116 rfl) rfl
theorem q2391 : (Jvm.Cond.privateMethod ({ cls := "MossLawnModel", name := "writes", desc := "(I)V" } : Jvm.MethodName)) ∈ lw_tbl := lw_at lw_m10 117 rfl
theorem q2392 : (Jvm.Cond.instanceMethod ({ cls := "MossLawnModel", name := "writes", desc := "(I)V" } : Jvm.MethodName)) ∈ lw_all := lw_g (lw_at lw_m10 118 rfl) rfl
theorem q2393 : (Jvm.Cond.code ({ cls := "MossLawnModel", name := "writes", desc := "(I)V" } : Jvm.MethodName) prog_23_method_83_code (2 : Nat) (Option.none : Option Jvm.ClassFile.FieldType)) ∈ lw_all := lw_g (lw_at lw_m10 119 rfl) rfl
theorem q2395 : (Jvm.Cond.instanceMethod ({ cls := "MossLawnModel", name := "written", desc := "(I)I" } : Jvm.MethodName)) ∈ lw_all := lw_g (lw_at lw_m10 121 rfl) rfl
theorem q2396 : (Jvm.Cond.selects "MossLawnModel" ({ cls := "MossLawnModel", name := "written", desc := "(I)I" } : Jvm.MethodName) ({ cls := "MossLawnModel", name := "written", desc := "(I)I" } : Jvm.MethodName)) ∈ lw_all := lw_g (lw_at lw_m10 122 rfl) rfl
theorem q2397 : (Jvm.Cond.code ({ cls := "MossLawnModel", name := "written", desc := "(I)I" } : Jvm.MethodName) prog_23_method_85_code (2 : Nat) (Option.some Jvm.ClassFile.FieldType.int)) ∈ lw_all := lw_g (lw_at lw_m10 123 rfl) rfl
theorem q2399 : (Jvm.Cond.instanceMethod ({ cls := "MossLawnModel", name := "meanMoss", desc := "()F" } : Jvm.MethodName)) ∈ lw_all := lw_g (lw_at lw_m10 125 rfl) rfl
theorem q2400 : (Jvm.Cond.selects "MossLawnModel" ({ cls := "MossLawnModel", name := "meanMoss", desc := "()F" } : Jvm.MethodName) ({ cls := "MossLawnModel", name := "meanMoss", desc := "()F" } : Jvm.MethodName)) ∈ lw_all := lw_g (lw_at lw_m10 126 rfl) rfl
theorem q2401 : (Jvm.Cond.code ({ cls := "MossLawnModel", name := "meanMoss", desc := "()F" } : Jvm.MethodName) prog_23_method_86_code (2 : Nat) (Option.some Jvm.ClassFile.FieldType.float)) ∈ lw_all := lw_g (lw_at lw_m10 127 rfl) rfl
theorem q2403 : (Jvm.Cond.instanceMethod ({ cls := "MossLawnModel", name := "oldShare", desc := "()D" } : Jvm.MethodName)) ∈ lw_all := lw_g (lw_at lw_m10 129 rfl) rfl
theorem q2404 : (Jvm.Cond.selects "MossLawnModel" ({ cls := "MossLawnModel", name := "oldShare", desc := "()D" } : Jvm.MethodName) ({ cls := "MossLawnModel", name := "oldShare", desc := "()D" } : Jvm.MethodName)) ∈ lw_all := lw_g (lw_at lw_m10 130 rfl) rfl
theorem q2405 : (Jvm.Cond.code ({ cls := "MossLawnModel", name := "oldShare", desc := "()D" } : Jvm.MethodName) prog_23_method_87_code (4 : Nat) (Option.some Jvm.ClassFile.FieldType.double)) ∈ lw_all := lw_g (lw_at lw_m10 131 rfl) rfl
theorem q2407 : (Jvm.Cond.instanceMethod ({ cls := "MossLawnModel", name := "account", desc := "(I)I" } : Jvm.MethodName)) ∈ lw_all := lw_g (lw_at lw_m10 133 rfl) rfl
theorem q2408 : (Jvm.Cond.selects "MossLawnModel" ({ cls := "MossLawnModel", name := "account", desc := "(I)I" } : Jvm.MethodName) ({ cls := "MossLawnModel", name := "account", desc := "(I)I" } : Jvm.MethodName)) ∈ lw_all := lw_g (lw_at lw_m10 134 rfl) rfl
theorem q2409 : (Jvm.Cond.code ({ cls := "MossLawnModel", name := "account", desc := "(I)I" } : Jvm.MethodName) prog_23_method_89_code (2 : Nat) (Option.some Jvm.ClassFile.FieldType.int)) ∈ lw_all := lw_g (lw_at lw_m10 135 rfl) rfl
theorem q2410 : (Jvm.Cond.methodLink "MossLawnModel" (242 : Nat) ({ cls := "MossLawnModel", name := "caught", desc := "()I" } : Jvm.MethodName)) ∈ lw_all := lw_g (lw_at lw_m10 136 rfl) rfl
theorem q2411 : (Jvm.Cond.privateMethod ({ cls := "MossLawnModel", name := "caught", desc := "()I" } : Jvm.MethodName)) ∈ lw_tbl := lw_at lw_m10 137 rfl
theorem q2412 : (Jvm.Cond.instanceMethod ({ cls := "MossLawnModel", name := "caught", desc := "()I" } : Jvm.MethodName)) ∈ lw_all := lw_g (lw_at lw_m10 138 rfl) rfl
theorem q2413 : (Jvm.Cond.code ({ cls := "MossLawnModel", name := "caught", desc := "()I" } : Jvm.MethodName) prog_23_method_88_code (3 : Nat) (Option.some Jvm.ClassFile.FieldType.int)) ∈ lw_all := lw_g (lw_at lw_m10 139 rfl) rfl
theorem q2415 : (Jvm.Cond.instanceMethod ({ cls := "MossLawnModel", name := "undo", desc := "()I" } : Jvm.MethodName)) ∈ lw_all := lw_g (lw_at lw_m10 141 rfl) rfl
theorem q2416 : (Jvm.Cond.selects "MossLawnModel" ({ cls := "MossLawnModel", name := "undo", desc := "()I" } : Jvm.MethodName) ({ cls := "MossLawnModel", name := "undo", desc := "()I" } : Jvm.MethodName)) ∈ lw_all := lw_g (lw_at lw_m10 142 rfl) rfl
theorem q2417 : (Jvm.Cond.code ({ cls := "MossLawnModel", name := "undo", desc := "()I" } : Jvm.MethodName) prog_23_method_90_code (2 : Nat) (Option.some Jvm.ClassFile.FieldType.int)) ∈ lw_all := lw_g (lw_at lw_m10 143 rfl) rfl
theorem q2419 : (Jvm.Cond.instanceMethod ({ cls := "MossLawnModel", name := "save", desc := "()I" } : Jvm.MethodName)) ∈ lw_all := lw_g (lw_at lw_m10 145 rfl) rfl
theorem q2420 : (Jvm.Cond.selects "MossLawnModel" ({ cls := "MossLawnModel", name := "save", desc := "()I" } : Jvm.MethodName) ({ cls := "MossLawnModel", name := "save", desc := "()I" } : Jvm.MethodName)) ∈ lw_all := lw_g (lw_at lw_m10 146 rfl) rfl
theorem q2421 : (Jvm.Cond.code ({ cls := "MossLawnModel", name := "save", desc := "()I" } : Jvm.MethodName) prog_23_method_91_code (1 : Nat) (Option.some Jvm.ClassFile.FieldType.int)) ∈ lw_all := lw_g (lw_at lw_m10 147 rfl) rfl
theorem q2423 : (Jvm.Cond.instanceMethod ({ cls := "MossLawnModel", name := "restore", desc := "()I" } : Jvm.MethodName)) ∈ lw_all := lw_g (lw_at lw_m10 149 rfl) rfl
theorem q2424 : (Jvm.Cond.selects "MossLawnModel" ({ cls := "MossLawnModel", name := "restore", desc := "()I" } : Jvm.MethodName) ({ cls := "MossLawnModel", name := "restore", desc := "()I" } : Jvm.MethodName)) ∈ lw_all := lw_g (lw_at lw_m10 150 rfl) rfl
theorem q2425 : (Jvm.Cond.code ({ cls := "MossLawnModel", name := "restore", desc := "()I" } : Jvm.MethodName) prog_23_method_92_code (1 : Nat) (Option.some Jvm.ClassFile.FieldType.int)) ∈ lw_all := lw_g (lw_at lw_m10 151 rfl) rfl
theorem q2465 : (Jvm.Cond.castable "MossLawnModel" "java/lang/Object") ∈ lw_tbl := lw_at lw_m10 191 rfl
theorem in_X9 : ∀ w ∈ wsX90, w ∈ lw_all := lw_in wsX90 [2028, 2030, 2032, 2034, 2036, 2038, 2040, 2042, 2044, 2046, 2048, 2050, 2052, 2054, 2056, 2058, 2060, 2062, 2064, 2066, 2068, 2070] (by decide +kernel) (by decide +kernel)
