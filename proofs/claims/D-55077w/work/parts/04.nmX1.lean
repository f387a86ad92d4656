/-! MossLawn$State -/
set_option maxRecDepth 100000
def RX1 : String := "MossLawn$State"
def TX1 : u_T := fun k => match k with
  | 0 => ("MossLawn$State", "shade", "[I", true)
  | 1 => ("MossLawn$State", "moss", "[I", true)
  | 2 => ("MossLawn$State", "leaves", "[I", true)
  | 3 => ("MossLawn$State", "stones", "Ljava/util/BitSet;", true)
  | 4 => ("MossLawn$State", "traps", "Ljava/util/BitSet;", true)
  | 5 => ("MossLawn$State", "gardeners", "[LMossLawn$Gardener;", true)
  | 6 => ("MossLawn$State", "gardenerMany", "I", false)
  | 7 => ("MossLawn$State", "moles", "[LMossLawn$Mole;", true)
  | 8 => ("MossLawn$State", "moleMany", "I", false)
  | 9 => ("MossLawn$State", "pairs", "[I", true)
  | 10 => ("MossLawn$State", "walks", "Ljava/util/LinkedList;", true)
  | 11 => ("MossLawn$State", "trapsLeft", "I", false)
  | 12 => ("MossLawn$State", "rain", "I", false)
  | 13 => ("MossLawn$State", "day", "I", false)
  | 14 => ("MossLawn$State", "grown", "I", false)
  | 15 => ("MossLawn$State", "lost", "I", false)
  | 16 => ("MossLawn$State", "pilgrims", "I", false)
  | 17 => ("MossLawn$State", "coins", "I", false)
  | _ => ("MossLawn$State", "strokes", "I", false)
def tyX1 : Nat → FieldType := fun k => match k with
  | 0 => .array .int
  | 1 => .array .int
  | 2 => .array .int
  | 3 => .object "java/util/BitSet"
  | 4 => .object "java/util/BitSet"
  | 5 => .array (.object "MossLawn$Gardener")
  | 6 => .int
  | 7 => .array (.object "MossLawn$Mole")
  | 8 => .int
  | 9 => .array .int
  | 10 => .object "java/util/LinkedList"
  | 11 => .int
  | 12 => .int
  | 13 => .int
  | 14 => .int
  | 15 => .int
  | 16 => .int
  | 17 => .int
  | _ => .int
abbrev wsX10 : List Cond := u_ws RX1 TX1 19
set_option maxRecDepth 100000 in
theorem nmX1 : ∀ a, a < 19 → ∀ b, b < 19 → a ≠ b → (TX1 a).2.1 ≠ (TX1 b).2.1 := by decide +kernel
set_option maxRecDepth 100000 in
theorem tyX1_ok : ∀ k, k < 19 → parseFieldDescriptor (TX1 k).2.2.1 = some (tyX1 k) := by decide +kernel
abbrev cX1_init : ByteArray := prog_18_method_1_code
def yX1_init : MethodName := ⟨RX1, "<init>", "()V"⟩
def dkwX1_init_6 : List UInt8 := [42, 182, 0, 57, 177]
abbrev dktX1_init_6 : List UInt8 := dkwX1_init_6 ++ []
def dkwX1_init_5 : List UInt8 := [27, 6, 162, 0, 22, 42, 180, 0, 41, 27, 187, 0, 39, 89, 183, 0, 56, 83, 132, 1, 1, 167, 255, 235]
abbrev dktX1_init_5 : List UInt8 := dkwX1_init_5 ++ dktX1_init_6
def dkwX1_init_4 : List UInt8 := [162, 0, 22, 42, 180, 0, 35, 27, 187, 0, 33, 89, 183, 0, 55, 83, 132, 1, 1, 167, 255, 235, 3, 60]
abbrev dktX1_init_4 : List UInt8 := dkwX1_init_4 ++ dktX1_init_5
def dkwX1_init_3 : List UInt8 := [42, 8, 188, 10, 181, 0, 45, 42, 187, 0, 48, 89, 183, 0, 50, 181, 0, 51, 3, 60, 27, 7]
abbrev dktX1_init_3 : List UInt8 := dkwX1_init_3 ++ dktX1_init_4
def dkwX1_init_2 : List UInt8 := [16, 30, 183, 0, 23, 181, 0, 30, 42, 7, 189, 0, 33, 181, 0, 35, 42, 6, 189, 0, 39, 181, 0, 41]
abbrev dktX1_init_2 : List UInt8 := dkwX1_init_2 ++ dktX1_init_3
def dkwX1_init_1 : List UInt8 := [188, 10, 181, 0, 18, 42, 187, 0, 21, 89, 16, 30, 183, 0, 23, 181, 0, 26, 42, 187, 0, 21, 89]
abbrev dktX1_init_1 : List UInt8 := dkwX1_init_1 ++ dktX1_init_2
def dkwX1_init_0 : List UInt8 := [42, 183, 0, 3, 42, 16, 30, 188, 10, 181, 0, 9, 42, 16, 30, 188, 10, 181, 0, 15, 42, 16, 30]
abbrev dktX1_init_0 : List UInt8 := dkwX1_init_0 ++ dktX1_init_1
theorem dksX1_init_0 : cX1_init.data.toList.drop 0 = dktX1_init_0 := by decide +kernel
theorem dksX1_init_1 : cX1_init.data.toList.drop 23 = dktX1_init_1 := dk_seg dksX1_init_0 23 rfl rfl
theorem dksX1_init_2 : cX1_init.data.toList.drop 46 = dktX1_init_2 := dk_seg dksX1_init_1 23 rfl rfl
theorem dksX1_init_3 : cX1_init.data.toList.drop 70 = dktX1_init_3 := dk_seg dksX1_init_2 24 rfl rfl
theorem dksX1_init_4 : cX1_init.data.toList.drop 92 = dktX1_init_4 := dk_seg dksX1_init_3 22 rfl rfl
theorem dksX1_init_5 : cX1_init.data.toList.drop 116 = dktX1_init_5 := dk_seg dksX1_init_4 24 rfl rfl
theorem dksX1_init_6 : cX1_init.data.toList.drop 140 = dktX1_init_6 := dk_seg dksX1_init_5 24 rfl rfl
theorem dX1_init_0 : decode cX1_init 0 = .ok (.aload_n 0, 1) := dk_42 (dk_at dksX1_init_0 0 rfl rfl)
theorem dX1_init_1 : decode cX1_init 1 = .ok (.invokespecial 3, 3) := dk_183 0 3 (dk_at dksX1_init_0 1 rfl rfl)
theorem dX1_init_4 : decode cX1_init 4 = .ok (.aload_n 0, 1) := dk_42 (dk_at dksX1_init_0 4 rfl rfl)
theorem dX1_init_5 : decode cX1_init 5 = .ok (.bipush 30, 2) := dk_16 30 (dk_at dksX1_init_0 5 rfl rfl)
theorem dX1_init_7 : decode cX1_init 7 = .ok (.newarray .int, 2) := dk_188_10 (dk_at dksX1_init_0 7 rfl rfl)
theorem dX1_init_9 : decode cX1_init 9 = .ok (.putfield 9, 3) := dk_181 0 9 (dk_at dksX1_init_0 9 rfl rfl)
theorem dX1_init_12 : decode cX1_init 12 = .ok (.aload_n 0, 1) := dk_42 (dk_at dksX1_init_0 12 rfl rfl)
theorem dX1_init_13 : decode cX1_init 13 = .ok (.bipush 30, 2) := dk_16 30 (dk_at dksX1_init_0 13 rfl rfl)
theorem dX1_init_15 : decode cX1_init 15 = .ok (.newarray .int, 2) := dk_188_10 (dk_at dksX1_init_0 15 rfl rfl)
theorem dX1_init_17 : decode cX1_init 17 = .ok (.putfield 15, 3) := dk_181 0 15 (dk_at dksX1_init_0 17 rfl rfl)
theorem dX1_init_20 : decode cX1_init 20 = .ok (.aload_n 0, 1) := dk_42 (dk_at dksX1_init_0 20 rfl rfl)
theorem dX1_init_21 : decode cX1_init 21 = .ok (.bipush 30, 2) := dk_16 30 (dk_at dksX1_init_0 21 rfl rfl)
theorem dX1_init_23 : decode cX1_init 23 = .ok (.newarray .int, 2) := dk_188_10 (dk_at dksX1_init_1 0 rfl rfl)
theorem dX1_init_25 : decode cX1_init 25 = .ok (.putfield 18, 3) := dk_181 0 18 (dk_at dksX1_init_1 2 rfl rfl)
theorem dX1_init_28 : decode cX1_init 28 = .ok (.aload_n 0, 1) := dk_42 (dk_at dksX1_init_1 5 rfl rfl)
theorem dX1_init_29 : decode cX1_init 29 = .ok (.new 21, 3) := dk_187 0 21 (dk_at dksX1_init_1 6 rfl rfl)
theorem dX1_init_32 : decode cX1_init 32 = .ok (.dup, 1) := dk_89 (dk_at dksX1_init_1 9 rfl rfl)
theorem dX1_init_33 : decode cX1_init 33 = .ok (.bipush 30, 2) := dk_16 30 (dk_at dksX1_init_1 10 rfl rfl)
theorem dX1_init_35 : decode cX1_init 35 = .ok (.invokespecial 23, 3) := dk_183 0 23 (dk_at dksX1_init_1 12 rfl rfl)
theorem dX1_init_38 : decode cX1_init 38 = .ok (.putfield 26, 3) := dk_181 0 26 (dk_at dksX1_init_1 15 rfl rfl)
theorem dX1_init_41 : decode cX1_init 41 = .ok (.aload_n 0, 1) := dk_42 (dk_at dksX1_init_1 18 rfl rfl)
theorem dX1_init_42 : decode cX1_init 42 = .ok (.new 21, 3) := dk_187 0 21 (dk_at dksX1_init_1 19 rfl rfl)
theorem dX1_init_45 : decode cX1_init 45 = .ok (.dup, 1) := dk_89 (dk_at dksX1_init_1 22 rfl rfl)
theorem dX1_init_46 : decode cX1_init 46 = .ok (.bipush 30, 2) := dk_16 30 (dk_at dksX1_init_2 0 rfl rfl)
theorem dX1_init_48 : decode cX1_init 48 = .ok (.invokespecial 23, 3) := dk_183 0 23 (dk_at dksX1_init_2 2 rfl rfl)
theorem dX1_init_51 : decode cX1_init 51 = .ok (.putfield 30, 3) := dk_181 0 30 (dk_at dksX1_init_2 5 rfl rfl)
theorem dX1_init_54 : decode cX1_init 54 = .ok (.aload_n 0, 1) := dk_42 (dk_at dksX1_init_2 8 rfl rfl)
theorem dX1_init_55 : decode cX1_init 55 = .ok (.iconst 4, 1) := dk_7 (dk_at dksX1_init_2 9 rfl rfl)
theorem dX1_init_56 : decode cX1_init 56 = .ok (.anewarray 33, 3) := dk_189 0 33 (dk_at dksX1_init_2 10 rfl rfl)
theorem dX1_init_59 : decode cX1_init 59 = .ok (.putfield 35, 3) := dk_181 0 35 (dk_at dksX1_init_2 13 rfl rfl)
theorem dX1_init_62 : decode cX1_init 62 = .ok (.aload_n 0, 1) := dk_42 (dk_at dksX1_init_2 16 rfl rfl)
theorem dX1_init_63 : decode cX1_init 63 = .ok (.iconst 3, 1) := dk_6 (dk_at dksX1_init_2 17 rfl rfl)
theorem dX1_init_64 : decode cX1_init 64 = .ok (.anewarray 39, 3) := dk_189 0 39 (dk_at dksX1_init_2 18 rfl rfl)
theorem dX1_init_67 : decode cX1_init 67 = .ok (.putfield 41, 3) := dk_181 0 41 (dk_at dksX1_init_2 21 rfl rfl)
theorem dX1_init_70 : decode cX1_init 70 = .ok (.aload_n 0, 1) := dk_42 (dk_at dksX1_init_3 0 rfl rfl)
theorem dX1_init_71 : decode cX1_init 71 = .ok (.iconst 5, 1) := dk_8 (dk_at dksX1_init_3 1 rfl rfl)
theorem dX1_init_72 : decode cX1_init 72 = .ok (.newarray .int, 2) := dk_188_10 (dk_at dksX1_init_3 2 rfl rfl)
theorem dX1_init_74 : decode cX1_init 74 = .ok (.putfield 45, 3) := dk_181 0 45 (dk_at dksX1_init_3 4 rfl rfl)
theorem dX1_init_77 : decode cX1_init 77 = .ok (.aload_n 0, 1) := dk_42 (dk_at dksX1_init_3 7 rfl rfl)
theorem dX1_init_78 : decode cX1_init 78 = .ok (.new 48, 3) := dk_187 0 48 (dk_at dksX1_init_3 8 rfl rfl)
theorem dX1_init_81 : decode cX1_init 81 = .ok (.dup, 1) := dk_89 (dk_at dksX1_init_3 11 rfl rfl)
theorem dX1_init_82 : decode cX1_init 82 = .ok (.invokespecial 50, 3) := dk_183 0 50 (dk_at dksX1_init_3 12 rfl rfl)
theorem dX1_init_85 : decode cX1_init 85 = .ok (.putfield 51, 3) := dk_181 0 51 (dk_at dksX1_init_3 15 rfl rfl)
theorem dX1_init_88 : decode cX1_init 88 = .ok (.iconst 0, 1) := dk_3 (dk_at dksX1_init_3 18 rfl rfl)
theorem dX1_init_89 : decode cX1_init 89 = .ok (.istore_n 1, 1) := dk_60 (dk_at dksX1_init_3 19 rfl rfl)
theorem dX1_init_90 : decode cX1_init 90 = .ok (.iload_n 1, 1) := dk_27 (dk_at dksX1_init_3 20 rfl rfl)
theorem dX1_init_91 : decode cX1_init 91 = .ok (.iconst 4, 1) := dk_7 (dk_at dksX1_init_3 21 rfl rfl)
theorem dX1_init_92 : decode cX1_init 92 = .ok (.if_icmp .ge 22, 3) := dk_162 0 22 (dk_at dksX1_init_4 0 rfl rfl)
theorem dX1_init_95 : decode cX1_init 95 = .ok (.aload_n 0, 1) := dk_42 (dk_at dksX1_init_4 3 rfl rfl)
theorem dX1_init_96 : decode cX1_init 96 = .ok (.getfield 35, 3) := dk_180 0 35 (dk_at dksX1_init_4 4 rfl rfl)
theorem dX1_init_99 : decode cX1_init 99 = .ok (.iload_n 1, 1) := dk_27 (dk_at dksX1_init_4 7 rfl rfl)
theorem dX1_init_100 : decode cX1_init 100 = .ok (.new 33, 3) := dk_187 0 33 (dk_at dksX1_init_4 8 rfl rfl)
theorem dX1_init_103 : decode cX1_init 103 = .ok (.dup, 1) := dk_89 (dk_at dksX1_init_4 11 rfl rfl)
theorem dX1_init_104 : decode cX1_init 104 = .ok (.invokespecial 55, 3) := dk_183 0 55 (dk_at dksX1_init_4 12 rfl rfl)
theorem dX1_init_107 : decode cX1_init 107 = .ok (.aastore, 1) := dk_83 (dk_at dksX1_init_4 15 rfl rfl)
theorem dX1_init_108 : decode cX1_init 108 = .ok (.iinc 1 1, 3) := dk_132 1 1 (dk_at dksX1_init_4 16 rfl rfl)
theorem dX1_init_111 : decode cX1_init 111 = .ok (.goto (-21), 3) := dk_167 255 235 (dk_at dksX1_init_4 19 rfl rfl)
theorem dX1_init_114 : decode cX1_init 114 = .ok (.iconst 0, 1) := dk_3 (dk_at dksX1_init_4 22 rfl rfl)
theorem dX1_init_115 : decode cX1_init 115 = .ok (.istore_n 1, 1) := dk_60 (dk_at dksX1_init_4 23 rfl rfl)
theorem dX1_init_116 : decode cX1_init 116 = .ok (.iload_n 1, 1) := dk_27 (dk_at dksX1_init_5 0 rfl rfl)
theorem dX1_init_117 : decode cX1_init 117 = .ok (.iconst 3, 1) := dk_6 (dk_at dksX1_init_5 1 rfl rfl)
theorem dX1_init_118 : decode cX1_init 118 = .ok (.if_icmp .ge 22, 3) := dk_162 0 22 (dk_at dksX1_init_5 2 rfl rfl)
theorem dX1_init_121 : decode cX1_init 121 = .ok (.aload_n 0, 1) := dk_42 (dk_at dksX1_init_5 5 rfl rfl)
theorem dX1_init_122 : decode cX1_init 122 = .ok (.getfield 41, 3) := dk_180 0 41 (dk_at dksX1_init_5 6 rfl rfl)
theorem dX1_init_125 : decode cX1_init 125 = .ok (.iload_n 1, 1) := dk_27 (dk_at dksX1_init_5 9 rfl rfl)
theorem dX1_init_126 : decode cX1_init 126 = .ok (.new 39, 3) := dk_187 0 39 (dk_at dksX1_init_5 10 rfl rfl)
theorem dX1_init_129 : decode cX1_init 129 = .ok (.dup, 1) := dk_89 (dk_at dksX1_init_5 13 rfl rfl)
theorem dX1_init_130 : decode cX1_init 130 = .ok (.invokespecial 56, 3) := dk_183 0 56 (dk_at dksX1_init_5 14 rfl rfl)
theorem dX1_init_133 : decode cX1_init 133 = .ok (.aastore, 1) := dk_83 (dk_at dksX1_init_5 17 rfl rfl)
theorem dX1_init_134 : decode cX1_init 134 = .ok (.iinc 1 1, 3) := dk_132 1 1 (dk_at dksX1_init_5 18 rfl rfl)
theorem dX1_init_137 : decode cX1_init 137 = .ok (.goto (-21), 3) := dk_167 255 235 (dk_at dksX1_init_5 21 rfl rfl)
theorem dX1_init_140 : decode cX1_init 140 = .ok (.aload_n 0, 1) := dk_42 (dk_at dksX1_init_6 0 rfl rfl)
theorem dX1_init_141 : decode cX1_init 141 = .ok (.invokevirtual 57, 3) := dk_182 0 57 (dk_at dksX1_init_6 1 rfl rfl)
theorem dX1_init_144 : decode cX1_init 144 = .ok (.return_, 1) := dk_177 (dk_at dksX1_init_6 4 rfl rfl)
abbrev cX1_empties : ByteArray := prog_18_method_2_code
def yX1_empties : MethodName := ⟨RX1, "empties", "()V"⟩
def dkwX1_empties_5 : List UInt8 := [3, 181, 0, 89, 42, 3, 181, 0, 92, 177]
abbrev dktX1_empties_5 : List UInt8 := dkwX1_empties_5 ++ []
def dkwX1_empties_4 : List UInt8 := [181, 0, 74, 42, 3, 181, 0, 77, 42, 3, 181, 0, 80, 42, 3, 181, 0, 83, 42, 3, 181, 0, 86, 42]
abbrev dktX1_empties_4 : List UInt8 := dkwX1_empties_4 ++ dktX1_empties_5
def dkwX1_empties_3 : List UInt8 := [27, 6, 79, 132, 1, 1, 167, 255, 241, 42, 180, 0, 51, 182, 0, 70, 42, 8, 181, 0, 71, 42, 4]
abbrev dktX1_empties_3 : List UInt8 := dkwX1_empties_3 ++ dktX1_empties_4
def dkwX1_empties_2 : List UInt8 := [182, 0, 60, 42, 3, 181, 0, 63, 42, 3, 181, 0, 67, 3, 60, 27, 8, 162, 0, 16, 42, 180, 0, 45]
abbrev dktX1_empties_2 : List UInt8 := dkwX1_empties_2 ++ dktX1_empties_3
def dkwX1_empties_1 : List UInt8 := [180, 0, 18, 27, 3, 79, 132, 1, 1, 167, 255, 225, 42, 180, 0, 26, 182, 0, 60, 42, 180, 0, 30]
abbrev dktX1_empties_1 : List UInt8 := dkwX1_empties_1 ++ dktX1_empties_2
def dkwX1_empties_0 : List UInt8 := [3, 60, 27, 16, 30, 162, 0, 31, 42, 180, 0, 9, 27, 5, 79, 42, 180, 0, 15, 27, 16, 10, 79, 42]
abbrev dktX1_empties_0 : List UInt8 := dkwX1_empties_0 ++ dktX1_empties_1
theorem dksX1_empties_0 : cX1_empties.data.toList.drop 0 = dktX1_empties_0 := by decide +kernel
theorem dksX1_empties_1 : cX1_empties.data.toList.drop 24 = dktX1_empties_1 := dk_seg dksX1_empties_0 24 rfl rfl
theorem dksX1_empties_2 : cX1_empties.data.toList.drop 47 = dktX1_empties_2 := dk_seg dksX1_empties_1 23 rfl rfl
theorem dksX1_empties_3 : cX1_empties.data.toList.drop 71 = dktX1_empties_3 := dk_seg dksX1_empties_2 24 rfl rfl
theorem dksX1_empties_4 : cX1_empties.data.toList.drop 94 = dktX1_empties_4 := dk_seg dksX1_empties_3 23 rfl rfl
theorem dksX1_empties_5 : cX1_empties.data.toList.drop 118 = dktX1_empties_5 := dk_seg dksX1_empties_4 24 rfl rfl
theorem dX1_empties_0 : decode cX1_empties 0 = .ok (.iconst 0, 1) := dk_3 (dk_at dksX1_empties_0 0 rfl rfl)
theorem dX1_empties_1 : decode cX1_empties 1 = .ok (.istore_n 1, 1) := dk_60 (dk_at dksX1_empties_0 1 rfl rfl)
theorem dX1_empties_2 : decode cX1_empties 2 = .ok (.iload_n 1, 1) := dk_27 (dk_at dksX1_empties_0 2 rfl rfl)
theorem dX1_empties_3 : decode cX1_empties 3 = .ok (.bipush 30, 2) := dk_16 30 (dk_at dksX1_empties_0 3 rfl rfl)
theorem dX1_empties_5 : decode cX1_empties 5 = .ok (.if_icmp .ge 31, 3) := dk_162 0 31 (dk_at dksX1_empties_0 5 rfl rfl)
theorem dX1_empties_8 : decode cX1_empties 8 = .ok (.aload_n 0, 1) := dk_42 (dk_at dksX1_empties_0 8 rfl rfl)
theorem dX1_empties_9 : decode cX1_empties 9 = .ok (.getfield 9, 3) := dk_180 0 9 (dk_at dksX1_empties_0 9 rfl rfl)
theorem dX1_empties_12 : decode cX1_empties 12 = .ok (.iload_n 1, 1) := dk_27 (dk_at dksX1_empties_0 12 rfl rfl)
theorem dX1_empties_13 : decode cX1_empties 13 = .ok (.iconst 2, 1) := dk_5 (dk_at dksX1_empties_0 13 rfl rfl)
theorem dX1_empties_14 : decode cX1_empties 14 = .ok (.iastore, 1) := dk_79 (dk_at dksX1_empties_0 14 rfl rfl)
theorem dX1_empties_15 : decode cX1_empties 15 = .ok (.aload_n 0, 1) := dk_42 (dk_at dksX1_empties_0 15 rfl rfl)
theorem dX1_empties_16 : decode cX1_empties 16 = .ok (.getfield 15, 3) := dk_180 0 15 (dk_at dksX1_empties_0 16 rfl rfl)
theorem dX1_empties_19 : decode cX1_empties 19 = .ok (.iload_n 1, 1) := dk_27 (dk_at dksX1_empties_0 19 rfl rfl)
theorem dX1_empties_20 : decode cX1_empties 20 = .ok (.bipush 10, 2) := dk_16 10 (dk_at dksX1_empties_0 20 rfl rfl)
theorem dX1_empties_22 : decode cX1_empties 22 = .ok (.iastore, 1) := dk_79 (dk_at dksX1_empties_0 22 rfl rfl)
theorem dX1_empties_23 : decode cX1_empties 23 = .ok (.aload_n 0, 1) := dk_42 (dk_at dksX1_empties_0 23 rfl rfl)
theorem dX1_empties_24 : decode cX1_empties 24 = .ok (.getfield 18, 3) := dk_180 0 18 (dk_at dksX1_empties_1 0 rfl rfl)
theorem dX1_empties_27 : decode cX1_empties 27 = .ok (.iload_n 1, 1) := dk_27 (dk_at dksX1_empties_1 3 rfl rfl)
theorem dX1_empties_28 : decode cX1_empties 28 = .ok (.iconst 0, 1) := dk_3 (dk_at dksX1_empties_1 4 rfl rfl)
theorem dX1_empties_29 : decode cX1_empties 29 = .ok (.iastore, 1) := dk_79 (dk_at dksX1_empties_1 5 rfl rfl)
theorem dX1_empties_30 : decode cX1_empties 30 = .ok (.iinc 1 1, 3) := dk_132 1 1 (dk_at dksX1_empties_1 6 rfl rfl)
theorem dX1_empties_33 : decode cX1_empties 33 = .ok (.goto (-31), 3) := dk_167 255 225 (dk_at dksX1_empties_1 9 rfl rfl)
theorem dX1_empties_36 : decode cX1_empties 36 = .ok (.aload_n 0, 1) := dk_42 (dk_at dksX1_empties_1 12 rfl rfl)
theorem dX1_empties_37 : decode cX1_empties 37 = .ok (.getfield 26, 3) := dk_180 0 26 (dk_at dksX1_empties_1 13 rfl rfl)
theorem dX1_empties_40 : decode cX1_empties 40 = .ok (.invokevirtual 60, 3) := dk_182 0 60 (dk_at dksX1_empties_1 16 rfl rfl)
theorem dX1_empties_43 : decode cX1_empties 43 = .ok (.aload_n 0, 1) := dk_42 (dk_at dksX1_empties_1 19 rfl rfl)
theorem dX1_empties_44 : decode cX1_empties 44 = .ok (.getfield 30, 3) := dk_180 0 30 (dk_at dksX1_empties_1 20 rfl rfl)
theorem dX1_empties_47 : decode cX1_empties 47 = .ok (.invokevirtual 60, 3) := dk_182 0 60 (dk_at dksX1_empties_2 0 rfl rfl)
theorem dX1_empties_50 : decode cX1_empties 50 = .ok (.aload_n 0, 1) := dk_42 (dk_at dksX1_empties_2 3 rfl rfl)
theorem dX1_empties_51 : decode cX1_empties 51 = .ok (.iconst 0, 1) := dk_3 (dk_at dksX1_empties_2 4 rfl rfl)
theorem dX1_empties_52 : decode cX1_empties 52 = .ok (.putfield 63, 3) := dk_181 0 63 (dk_at dksX1_empties_2 5 rfl rfl)
theorem dX1_empties_55 : decode cX1_empties 55 = .ok (.aload_n 0, 1) := dk_42 (dk_at dksX1_empties_2 8 rfl rfl)
theorem dX1_empties_56 : decode cX1_empties 56 = .ok (.iconst 0, 1) := dk_3 (dk_at dksX1_empties_2 9 rfl rfl)
theorem dX1_empties_57 : decode cX1_empties 57 = .ok (.putfield 67, 3) := dk_181 0 67 (dk_at dksX1_empties_2 10 rfl rfl)
theorem dX1_empties_60 : decode cX1_empties 60 = .ok (.iconst 0, 1) := dk_3 (dk_at dksX1_empties_2 13 rfl rfl)
theorem dX1_empties_61 : decode cX1_empties 61 = .ok (.istore_n 1, 1) := dk_60 (dk_at dksX1_empties_2 14 rfl rfl)
theorem dX1_empties_62 : decode cX1_empties 62 = .ok (.iload_n 1, 1) := dk_27 (dk_at dksX1_empties_2 15 rfl rfl)
theorem dX1_empties_63 : decode cX1_empties 63 = .ok (.iconst 5, 1) := dk_8 (dk_at dksX1_empties_2 16 rfl rfl)
theorem dX1_empties_64 : decode cX1_empties 64 = .ok (.if_icmp .ge 16, 3) := dk_162 0 16 (dk_at dksX1_empties_2 17 rfl rfl)
theorem dX1_empties_67 : decode cX1_empties 67 = .ok (.aload_n 0, 1) := dk_42 (dk_at dksX1_empties_2 20 rfl rfl)
theorem dX1_empties_68 : decode cX1_empties 68 = .ok (.getfield 45, 3) := dk_180 0 45 (dk_at dksX1_empties_2 21 rfl rfl)
theorem dX1_empties_71 : decode cX1_empties 71 = .ok (.iload_n 1, 1) := dk_27 (dk_at dksX1_empties_3 0 rfl rfl)
theorem dX1_empties_72 : decode cX1_empties 72 = .ok (.iconst 3, 1) := dk_6 (dk_at dksX1_empties_3 1 rfl rfl)
theorem dX1_empties_73 : decode cX1_empties 73 = .ok (.iastore, 1) := dk_79 (dk_at dksX1_empties_3 2 rfl rfl)
theorem dX1_empties_74 : decode cX1_empties 74 = .ok (.iinc 1 1, 3) := dk_132 1 1 (dk_at dksX1_empties_3 3 rfl rfl)
theorem dX1_empties_77 : decode cX1_empties 77 = .ok (.goto (-15), 3) := dk_167 255 241 (dk_at dksX1_empties_3 6 rfl rfl)
theorem dX1_empties_80 : decode cX1_empties 80 = .ok (.aload_n 0, 1) := dk_42 (dk_at dksX1_empties_3 9 rfl rfl)
theorem dX1_empties_81 : decode cX1_empties 81 = .ok (.getfield 51, 3) := dk_180 0 51 (dk_at dksX1_empties_3 10 rfl rfl)
theorem dX1_empties_84 : decode cX1_empties 84 = .ok (.invokevirtual 70, 3) := dk_182 0 70 (dk_at dksX1_empties_3 13 rfl rfl)
theorem dX1_empties_87 : decode cX1_empties 87 = .ok (.aload_n 0, 1) := dk_42 (dk_at dksX1_empties_3 16 rfl rfl)
theorem dX1_empties_88 : decode cX1_empties 88 = .ok (.iconst 5, 1) := dk_8 (dk_at dksX1_empties_3 17 rfl rfl)
theorem dX1_empties_89 : decode cX1_empties 89 = .ok (.putfield 71, 3) := dk_181 0 71 (dk_at dksX1_empties_3 18 rfl rfl)
theorem dX1_empties_92 : decode cX1_empties 92 = .ok (.aload_n 0, 1) := dk_42 (dk_at dksX1_empties_3 21 rfl rfl)
theorem dX1_empties_93 : decode cX1_empties 93 = .ok (.iconst 1, 1) := dk_4 (dk_at dksX1_empties_3 22 rfl rfl)
theorem dX1_empties_94 : decode cX1_empties 94 = .ok (.putfield 74, 3) := dk_181 0 74 (dk_at dksX1_empties_4 0 rfl rfl)
theorem dX1_empties_97 : decode cX1_empties 97 = .ok (.aload_n 0, 1) := dk_42 (dk_at dksX1_empties_4 3 rfl rfl)
theorem dX1_empties_98 : decode cX1_empties 98 = .ok (.iconst 0, 1) := dk_3 (dk_at dksX1_empties_4 4 rfl rfl)
theorem dX1_empties_99 : decode cX1_empties 99 = .ok (.putfield 77, 3) := dk_181 0 77 (dk_at dksX1_empties_4 5 rfl rfl)
theorem dX1_empties_102 : decode cX1_empties 102 = .ok (.aload_n 0, 1) := dk_42 (dk_at dksX1_empties_4 8 rfl rfl)
theorem dX1_empties_103 : decode cX1_empties 103 = .ok (.iconst 0, 1) := dk_3 (dk_at dksX1_empties_4 9 rfl rfl)
theorem dX1_empties_104 : decode cX1_empties 104 = .ok (.putfield 80, 3) := dk_181 0 80 (dk_at dksX1_empties_4 10 rfl rfl)
theorem dX1_empties_107 : decode cX1_empties 107 = .ok (.aload_n 0, 1) := dk_42 (dk_at dksX1_empties_4 13 rfl rfl)
theorem dX1_empties_108 : decode cX1_empties 108 = .ok (.iconst 0, 1) := dk_3 (dk_at dksX1_empties_4 14 rfl rfl)
theorem dX1_empties_109 : decode cX1_empties 109 = .ok (.putfield 83, 3) := dk_181 0 83 (dk_at dksX1_empties_4 15 rfl rfl)
theorem dX1_empties_112 : decode cX1_empties 112 = .ok (.aload_n 0, 1) := dk_42 (dk_at dksX1_empties_4 18 rfl rfl)
theorem dX1_empties_113 : decode cX1_empties 113 = .ok (.iconst 0, 1) := dk_3 (dk_at dksX1_empties_4 19 rfl rfl)
theorem dX1_empties_114 : decode cX1_empties 114 = .ok (.putfield 86, 3) := dk_181 0 86 (dk_at dksX1_empties_4 20 rfl rfl)
theorem dX1_empties_117 : decode cX1_empties 117 = .ok (.aload_n 0, 1) := dk_42 (dk_at dksX1_empties_4 23 rfl rfl)
theorem dX1_empties_118 : decode cX1_empties 118 = .ok (.iconst 0, 1) := dk_3 (dk_at dksX1_empties_5 0 rfl rfl)
theorem dX1_empties_119 : decode cX1_empties 119 = .ok (.putfield 89, 3) := dk_181 0 89 (dk_at dksX1_empties_5 1 rfl rfl)
theorem dX1_empties_122 : decode cX1_empties 122 = .ok (.aload_n 0, 1) := dk_42 (dk_at dksX1_empties_5 4 rfl rfl)
theorem dX1_empties_123 : decode cX1_empties 123 = .ok (.iconst 0, 1) := dk_3 (dk_at dksX1_empties_5 5 rfl rfl)
theorem dX1_empties_124 : decode cX1_empties 124 = .ok (.putfield 92, 3) := dk_181 0 92 (dk_at dksX1_empties_5 6 rfl rfl)
theorem dX1_empties_127 : decode cX1_empties 127 = .ok (.return_, 1) := dk_177 (dk_at dksX1_empties_5 9 rfl rfl)
abbrev cX1_like : ByteArray := prog_18_method_3_code
def yX1_like : MethodName := ⟨RX1, "like", "(LMossLawn$State;)V"⟩
def dkwX1_like_10 : List UInt8 := [43, 180, 0, 86, 181, 0, 86, 42, 43, 180, 0, 89, 181, 0, 89, 42, 43, 180, 0, 92, 181, 0, 92, 177]
abbrev dktX1_like_10 : List UInt8 := dkwX1_like_10 ++ []
def dkwX1_like_9 : List UInt8 := [43, 180, 0, 77, 181, 0, 77, 42, 43, 180, 0, 80, 181, 0, 80, 42, 43, 180, 0, 83, 181, 0, 83, 42]
abbrev dktX1_like_9 : List UInt8 := dkwX1_like_9 ++ dktX1_like_10
def dkwX1_like_8 : List UInt8 := [180, 0, 51, 182, 0, 112, 87, 42, 43, 180, 0, 71, 181, 0, 71, 42, 43, 180, 0, 74, 181, 0, 74, 42]
abbrev dktX1_like_8 : List UInt8 := dkwX1_like_8 ++ dktX1_like_9
def dkwX1_like_7 : List UInt8 := [3, 42, 180, 0, 45, 3, 8, 184, 0, 95, 42, 180, 0, 51, 182, 0, 70, 42, 180, 0, 51, 43]
abbrev dktX1_like_7 : List UInt8 := dkwX1_like_7 ++ dktX1_like_8
def dkwX1_like_6 : List UInt8 := [180, 0, 41, 28, 50, 43, 180, 0, 41, 28, 50, 182, 0, 109, 132, 2, 1, 167, 255, 230, 43, 180, 0, 45]
abbrev dktX1_like_6 : List UInt8 := dkwX1_like_6 ++ dktX1_like_7
def dkwX1_like_5 : List UInt8 := [167, 255, 230, 42, 43, 180, 0, 67, 181, 0, 67, 3, 61, 28, 42, 180, 0, 67, 162, 0, 24, 42]
abbrev dktX1_like_5 : List UInt8 := dkwX1_like_5 ++ dktX1_like_6
def dkwX1_like_4 : List UInt8 := [180, 0, 63, 162, 0, 24, 42, 180, 0, 35, 28, 50, 43, 180, 0, 35, 28, 50, 182, 0, 105, 132, 2, 1]
abbrev dktX1_like_4 : List UInt8 := dkwX1_like_4 ++ dktX1_like_5
def dkwX1_like_3 : List UInt8 := [42, 180, 0, 30, 43, 180, 0, 30, 182, 0, 101, 42, 43, 180, 0, 63, 181, 0, 63, 3, 61, 28, 42]
abbrev dktX1_like_3 : List UInt8 := dkwX1_like_3 ++ dktX1_like_4
def dkwX1_like_2 : List UInt8 := [180, 0, 26, 182, 0, 60, 42, 180, 0, 26, 43, 180, 0, 26, 182, 0, 101, 42, 180, 0, 30, 182, 0, 60]
abbrev dktX1_like_2 : List UInt8 := dkwX1_like_2 ++ dktX1_like_3
def dkwX1_like_1 : List UInt8 := [3, 16, 30, 184, 0, 95, 43, 180, 0, 18, 3, 42, 180, 0, 18, 3, 16, 30, 184, 0, 95, 42]
abbrev dktX1_like_1 : List UInt8 := dkwX1_like_1 ++ dktX1_like_2
def dkwX1_like_0 : List UInt8 := [43, 180, 0, 9, 3, 42, 180, 0, 9, 3, 16, 30, 184, 0, 95, 43, 180, 0, 15, 3, 42, 180, 0, 15]
abbrev dktX1_like_0 : List UInt8 := dkwX1_like_0 ++ dktX1_like_1
theorem dksX1_like_0 : cX1_like.data.toList.drop 0 = dktX1_like_0 := by decide +kernel
theorem dksX1_like_1 : cX1_like.data.toList.drop 24 = dktX1_like_1 := dk_seg dksX1_like_0 24 rfl rfl
theorem dksX1_like_2 : cX1_like.data.toList.drop 46 = dktX1_like_2 := dk_seg dksX1_like_1 22 rfl rfl
theorem dksX1_like_3 : cX1_like.data.toList.drop 70 = dktX1_like_3 := dk_seg dksX1_like_2 24 rfl rfl
theorem dksX1_like_4 : cX1_like.data.toList.drop 93 = dktX1_like_4 := dk_seg dksX1_like_3 23 rfl rfl
theorem dksX1_like_5 : cX1_like.data.toList.drop 117 = dktX1_like_5 := dk_seg dksX1_like_4 24 rfl rfl
theorem dksX1_like_6 : cX1_like.data.toList.drop 139 = dktX1_like_6 := dk_seg dksX1_like_5 22 rfl rfl
theorem dksX1_like_7 : cX1_like.data.toList.drop 163 = dktX1_like_7 := dk_seg dksX1_like_6 24 rfl rfl
theorem dksX1_like_8 : cX1_like.data.toList.drop 185 = dktX1_like_8 := dk_seg dksX1_like_7 22 rfl rfl
theorem dksX1_like_9 : cX1_like.data.toList.drop 209 = dktX1_like_9 := dk_seg dksX1_like_8 24 rfl rfl
theorem dksX1_like_10 : cX1_like.data.toList.drop 233 = dktX1_like_10 := dk_seg dksX1_like_9 24 rfl rfl
theorem dX1_like_0 : decode cX1_like 0 = .ok (.aload_n 1, 1) := dk_43 (dk_at dksX1_like_0 0 rfl rfl)
theorem dX1_like_1 : decode cX1_like 1 = .ok (.getfield 9, 3) := dk_180 0 9 (dk_at dksX1_like_0 1 rfl rfl)
theorem dX1_like_4 : decode cX1_like 4 = .ok (.iconst 0, 1) := dk_3 (dk_at dksX1_like_0 4 rfl rfl)
theorem dX1_like_5 : decode cX1_like 5 = .ok (.aload_n 0, 1) := dk_42 (dk_at dksX1_like_0 5 rfl rfl)
theorem dX1_like_6 : decode cX1_like 6 = .ok (.getfield 9, 3) := dk_180 0 9 (dk_at dksX1_like_0 6 rfl rfl)
theorem dX1_like_9 : decode cX1_like 9 = .ok (.iconst 0, 1) := dk_3 (dk_at dksX1_like_0 9 rfl rfl)
theorem dX1_like_10 : decode cX1_like 10 = .ok (.bipush 30, 2) := dk_16 30 (dk_at dksX1_like_0 10 rfl rfl)
theorem dX1_like_12 : decode cX1_like 12 = .ok (.invokestatic 95, 3) := dk_184 0 95 (dk_at dksX1_like_0 12 rfl rfl)
theorem dX1_like_15 : decode cX1_like 15 = .ok (.aload_n 1, 1) := dk_43 (dk_at dksX1_like_0 15 rfl rfl)
theorem dX1_like_16 : decode cX1_like 16 = .ok (.getfield 15, 3) := dk_180 0 15 (dk_at dksX1_like_0 16 rfl rfl)
theorem dX1_like_19 : decode cX1_like 19 = .ok (.iconst 0, 1) := dk_3 (dk_at dksX1_like_0 19 rfl rfl)
theorem dX1_like_20 : decode cX1_like 20 = .ok (.aload_n 0, 1) := dk_42 (dk_at dksX1_like_0 20 rfl rfl)
theorem dX1_like_21 : decode cX1_like 21 = .ok (.getfield 15, 3) := dk_180 0 15 (dk_at dksX1_like_0 21 rfl rfl)
theorem dX1_like_24 : decode cX1_like 24 = .ok (.iconst 0, 1) := dk_3 (dk_at dksX1_like_1 0 rfl rfl)
theorem dX1_like_25 : decode cX1_like 25 = .ok (.bipush 30, 2) := dk_16 30 (dk_at dksX1_like_1 1 rfl rfl)
theorem dX1_like_27 : decode cX1_like 27 = .ok (.invokestatic 95, 3) := dk_184 0 95 (dk_at dksX1_like_1 3 rfl rfl)
theorem dX1_like_30 : decode cX1_like 30 = .ok (.aload_n 1, 1) := dk_43 (dk_at dksX1_like_1 6 rfl rfl)
theorem dX1_like_31 : decode cX1_like 31 = .ok (.getfield 18, 3) := dk_180 0 18 (dk_at dksX1_like_1 7 rfl rfl)
theorem dX1_like_34 : decode cX1_like 34 = .ok (.iconst 0, 1) := dk_3 (dk_at dksX1_like_1 10 rfl rfl)
theorem dX1_like_35 : decode cX1_like 35 = .ok (.aload_n 0, 1) := dk_42 (dk_at dksX1_like_1 11 rfl rfl)
theorem dX1_like_36 : decode cX1_like 36 = .ok (.getfield 18, 3) := dk_180 0 18 (dk_at dksX1_like_1 12 rfl rfl)
theorem dX1_like_39 : decode cX1_like 39 = .ok (.iconst 0, 1) := dk_3 (dk_at dksX1_like_1 15 rfl rfl)
theorem dX1_like_40 : decode cX1_like 40 = .ok (.bipush 30, 2) := dk_16 30 (dk_at dksX1_like_1 16 rfl rfl)
theorem dX1_like_42 : decode cX1_like 42 = .ok (.invokestatic 95, 3) := dk_184 0 95 (dk_at dksX1_like_1 18 rfl rfl)
theorem dX1_like_45 : decode cX1_like 45 = .ok (.aload_n 0, 1) := dk_42 (dk_at dksX1_like_1 21 rfl rfl)
theorem dX1_like_46 : decode cX1_like 46 = .ok (.getfield 26, 3) := dk_180 0 26 (dk_at dksX1_like_2 0 rfl rfl)
theorem dX1_like_49 : decode cX1_like 49 = .ok (.invokevirtual 60, 3) := dk_182 0 60 (dk_at dksX1_like_2 3 rfl rfl)
theorem dX1_like_52 : decode cX1_like 52 = .ok (.aload_n 0, 1) := dk_42 (dk_at dksX1_like_2 6 rfl rfl)
theorem dX1_like_53 : decode cX1_like 53 = .ok (.getfield 26, 3) := dk_180 0 26 (dk_at dksX1_like_2 7 rfl rfl)
theorem dX1_like_56 : decode cX1_like 56 = .ok (.aload_n 1, 1) := dk_43 (dk_at dksX1_like_2 10 rfl rfl)
theorem dX1_like_57 : decode cX1_like 57 = .ok (.getfield 26, 3) := dk_180 0 26 (dk_at dksX1_like_2 11 rfl rfl)
theorem dX1_like_60 : decode cX1_like 60 = .ok (.invokevirtual 101, 3) := dk_182 0 101 (dk_at dksX1_like_2 14 rfl rfl)
theorem dX1_like_63 : decode cX1_like 63 = .ok (.aload_n 0, 1) := dk_42 (dk_at dksX1_like_2 17 rfl rfl)
theorem dX1_like_64 : decode cX1_like 64 = .ok (.getfield 30, 3) := dk_180 0 30 (dk_at dksX1_like_2 18 rfl rfl)
theorem dX1_like_67 : decode cX1_like 67 = .ok (.invokevirtual 60, 3) := dk_182 0 60 (dk_at dksX1_like_2 21 rfl rfl)
theorem dX1_like_70 : decode cX1_like 70 = .ok (.aload_n 0, 1) := dk_42 (dk_at dksX1_like_3 0 rfl rfl)
theorem dX1_like_71 : decode cX1_like 71 = .ok (.getfield 30, 3) := dk_180 0 30 (dk_at dksX1_like_3 1 rfl rfl)
theorem dX1_like_74 : decode cX1_like 74 = .ok (.aload_n 1, 1) := dk_43 (dk_at dksX1_like_3 4 rfl rfl)
theorem dX1_like_75 : decode cX1_like 75 = .ok (.getfield 30, 3) := dk_180 0 30 (dk_at dksX1_like_3 5 rfl rfl)
theorem dX1_like_78 : decode cX1_like 78 = .ok (.invokevirtual 101, 3) := dk_182 0 101 (dk_at dksX1_like_3 8 rfl rfl)
theorem dX1_like_81 : decode cX1_like 81 = .ok (.aload_n 0, 1) := dk_42 (dk_at dksX1_like_3 11 rfl rfl)
theorem dX1_like_82 : decode cX1_like 82 = .ok (.aload_n 1, 1) := dk_43 (dk_at dksX1_like_3 12 rfl rfl)
theorem dX1_like_83 : decode cX1_like 83 = .ok (.getfield 63, 3) := dk_180 0 63 (dk_at dksX1_like_3 13 rfl rfl)
theorem dX1_like_86 : decode cX1_like 86 = .ok (.putfield 63, 3) := dk_181 0 63 (dk_at dksX1_like_3 16 rfl rfl)
theorem dX1_like_89 : decode cX1_like 89 = .ok (.iconst 0, 1) := dk_3 (dk_at dksX1_like_3 19 rfl rfl)
theorem dX1_like_90 : decode cX1_like 90 = .ok (.istore_n 2, 1) := dk_61 (dk_at dksX1_like_3 20 rfl rfl)
theorem dX1_like_91 : decode cX1_like 91 = .ok (.iload_n 2, 1) := dk_28 (dk_at dksX1_like_3 21 rfl rfl)
theorem dX1_like_92 : decode cX1_like 92 = .ok (.aload_n 0, 1) := dk_42 (dk_at dksX1_like_3 22 rfl rfl)
theorem dX1_like_93 : decode cX1_like 93 = .ok (.getfield 63, 3) := dk_180 0 63 (dk_at dksX1_like_4 0 rfl rfl)
theorem dX1_like_96 : decode cX1_like 96 = .ok (.if_icmp .ge 24, 3) := dk_162 0 24 (dk_at dksX1_like_4 3 rfl rfl)
theorem dX1_like_99 : decode cX1_like 99 = .ok (.aload_n 0, 1) := dk_42 (dk_at dksX1_like_4 6 rfl rfl)
theorem dX1_like_100 : decode cX1_like 100 = .ok (.getfield 35, 3) := dk_180 0 35 (dk_at dksX1_like_4 7 rfl rfl)
theorem dX1_like_103 : decode cX1_like 103 = .ok (.iload_n 2, 1) := dk_28 (dk_at dksX1_like_4 10 rfl rfl)
theorem dX1_like_104 : decode cX1_like 104 = .ok (.aaload, 1) := dk_50 (dk_at dksX1_like_4 11 rfl rfl)
theorem dX1_like_105 : decode cX1_like 105 = .ok (.aload_n 1, 1) := dk_43 (dk_at dksX1_like_4 12 rfl rfl)
theorem dX1_like_106 : decode cX1_like 106 = .ok (.getfield 35, 3) := dk_180 0 35 (dk_at dksX1_like_4 13 rfl rfl)
theorem dX1_like_109 : decode cX1_like 109 = .ok (.iload_n 2, 1) := dk_28 (dk_at dksX1_like_4 16 rfl rfl)
theorem dX1_like_110 : decode cX1_like 110 = .ok (.aaload, 1) := dk_50 (dk_at dksX1_like_4 17 rfl rfl)
theorem dX1_like_111 : decode cX1_like 111 = .ok (.invokevirtual 105, 3) := dk_182 0 105 (dk_at dksX1_like_4 18 rfl rfl)
theorem dX1_like_114 : decode cX1_like 114 = .ok (.iinc 2 1, 3) := dk_132 2 1 (dk_at dksX1_like_4 21 rfl rfl)
theorem dX1_like_117 : decode cX1_like 117 = .ok (.goto (-26), 3) := dk_167 255 230 (dk_at dksX1_like_5 0 rfl rfl)
theorem dX1_like_120 : decode cX1_like 120 = .ok (.aload_n 0, 1) := dk_42 (dk_at dksX1_like_5 3 rfl rfl)
theorem dX1_like_121 : decode cX1_like 121 = .ok (.aload_n 1, 1) := dk_43 (dk_at dksX1_like_5 4 rfl rfl)
theorem dX1_like_122 : decode cX1_like 122 = .ok (.getfield 67, 3) := dk_180 0 67 (dk_at dksX1_like_5 5 rfl rfl)
theorem dX1_like_125 : decode cX1_like 125 = .ok (.putfield 67, 3) := dk_181 0 67 (dk_at dksX1_like_5 8 rfl rfl)
theorem dX1_like_128 : decode cX1_like 128 = .ok (.iconst 0, 1) := dk_3 (dk_at dksX1_like_5 11 rfl rfl)
theorem dX1_like_129 : decode cX1_like 129 = .ok (.istore_n 2, 1) := dk_61 (dk_at dksX1_like_5 12 rfl rfl)
theorem dX1_like_130 : decode cX1_like 130 = .ok (.iload_n 2, 1) := dk_28 (dk_at dksX1_like_5 13 rfl rfl)
theorem dX1_like_131 : decode cX1_like 131 = .ok (.aload_n 0, 1) := dk_42 (dk_at dksX1_like_5 14 rfl rfl)
theorem dX1_like_132 : decode cX1_like 132 = .ok (.getfield 67, 3) := dk_180 0 67 (dk_at dksX1_like_5 15 rfl rfl)
theorem dX1_like_135 : decode cX1_like 135 = .ok (.if_icmp .ge 24, 3) := dk_162 0 24 (dk_at dksX1_like_5 18 rfl rfl)
theorem dX1_like_138 : decode cX1_like 138 = .ok (.aload_n 0, 1) := dk_42 (dk_at dksX1_like_5 21 rfl rfl)
theorem dX1_like_139 : decode cX1_like 139 = .ok (.getfield 41, 3) := dk_180 0 41 (dk_at dksX1_like_6 0 rfl rfl)
theorem dX1_like_142 : decode cX1_like 142 = .ok (.iload_n 2, 1) := dk_28 (dk_at dksX1_like_6 3 rfl rfl)
theorem dX1_like_143 : decode cX1_like 143 = .ok (.aaload, 1) := dk_50 (dk_at dksX1_like_6 4 rfl rfl)
theorem dX1_like_144 : decode cX1_like 144 = .ok (.aload_n 1, 1) := dk_43 (dk_at dksX1_like_6 5 rfl rfl)
theorem dX1_like_145 : decode cX1_like 145 = .ok (.getfield 41, 3) := dk_180 0 41 (dk_at dksX1_like_6 6 rfl rfl)
theorem dX1_like_148 : decode cX1_like 148 = .ok (.iload_n 2, 1) := dk_28 (dk_at dksX1_like_6 9 rfl rfl)
theorem dX1_like_149 : decode cX1_like 149 = .ok (.aaload, 1) := dk_50 (dk_at dksX1_like_6 10 rfl rfl)
theorem dX1_like_150 : decode cX1_like 150 = .ok (.invokevirtual 109, 3) := dk_182 0 109 (dk_at dksX1_like_6 11 rfl rfl)
theorem dX1_like_153 : decode cX1_like 153 = .ok (.iinc 2 1, 3) := dk_132 2 1 (dk_at dksX1_like_6 14 rfl rfl)
theorem dX1_like_156 : decode cX1_like 156 = .ok (.goto (-26), 3) := dk_167 255 230 (dk_at dksX1_like_6 17 rfl rfl)
theorem dX1_like_159 : decode cX1_like 159 = .ok (.aload_n 1, 1) := dk_43 (dk_at dksX1_like_6 20 rfl rfl)
theorem dX1_like_160 : decode cX1_like 160 = .ok (.getfield 45, 3) := dk_180 0 45 (dk_at dksX1_like_6 21 rfl rfl)
theorem dX1_like_163 : decode cX1_like 163 = .ok (.iconst 0, 1) := dk_3 (dk_at dksX1_like_7 0 rfl rfl)
theorem dX1_like_164 : decode cX1_like 164 = .ok (.aload_n 0, 1) := dk_42 (dk_at dksX1_like_7 1 rfl rfl)
theorem dX1_like_165 : decode cX1_like 165 = .ok (.getfield 45, 3) := dk_180 0 45 (dk_at dksX1_like_7 2 rfl rfl)
theorem dX1_like_168 : decode cX1_like 168 = .ok (.iconst 0, 1) := dk_3 (dk_at dksX1_like_7 5 rfl rfl)
theorem dX1_like_169 : decode cX1_like 169 = .ok (.iconst 5, 1) := dk_8 (dk_at dksX1_like_7 6 rfl rfl)
theorem dX1_like_170 : decode cX1_like 170 = .ok (.invokestatic 95, 3) := dk_184 0 95 (dk_at dksX1_like_7 7 rfl rfl)
theorem dX1_like_173 : decode cX1_like 173 = .ok (.aload_n 0, 1) := dk_42 (dk_at dksX1_like_7 10 rfl rfl)
theorem dX1_like_174 : decode cX1_like 174 = .ok (.getfield 51, 3) := dk_180 0 51 (dk_at dksX1_like_7 11 rfl rfl)
theorem dX1_like_177 : decode cX1_like 177 = .ok (.invokevirtual 70, 3) := dk_182 0 70 (dk_at dksX1_like_7 14 rfl rfl)
theorem dX1_like_180 : decode cX1_like 180 = .ok (.aload_n 0, 1) := dk_42 (dk_at dksX1_like_7 17 rfl rfl)
theorem dX1_like_181 : decode cX1_like 181 = .ok (.getfield 51, 3) := dk_180 0 51 (dk_at dksX1_like_7 18 rfl rfl)
theorem dX1_like_184 : decode cX1_like 184 = .ok (.aload_n 1, 1) := dk_43 (dk_at dksX1_like_7 21 rfl rfl)
theorem dX1_like_185 : decode cX1_like 185 = .ok (.getfield 51, 3) := dk_180 0 51 (dk_at dksX1_like_8 0 rfl rfl)
theorem dX1_like_188 : decode cX1_like 188 = .ok (.invokevirtual 112, 3) := dk_182 0 112 (dk_at dksX1_like_8 3 rfl rfl)
theorem dX1_like_191 : decode cX1_like 191 = .ok (.pop, 1) := dk_87 (dk_at dksX1_like_8 6 rfl rfl)
theorem dX1_like_192 : decode cX1_like 192 = .ok (.aload_n 0, 1) := dk_42 (dk_at dksX1_like_8 7 rfl rfl)
theorem dX1_like_193 : decode cX1_like 193 = .ok (.aload_n 1, 1) := dk_43 (dk_at dksX1_like_8 8 rfl rfl)
theorem dX1_like_194 : decode cX1_like 194 = .ok (.getfield 71, 3) := dk_180 0 71 (dk_at dksX1_like_8 9 rfl rfl)
theorem dX1_like_197 : decode cX1_like 197 = .ok (.putfield 71, 3) := dk_181 0 71 (dk_at dksX1_like_8 12 rfl rfl)
theorem dX1_like_200 : decode cX1_like 200 = .ok (.aload_n 0, 1) := dk_42 (dk_at dksX1_like_8 15 rfl rfl)
theorem dX1_like_201 : decode cX1_like 201 = .ok (.aload_n 1, 1) := dk_43 (dk_at dksX1_like_8 16 rfl rfl)
theorem dX1_like_202 : decode cX1_like 202 = .ok (.getfield 74, 3) := dk_180 0 74 (dk_at dksX1_like_8 17 rfl rfl)
theorem dX1_like_205 : decode cX1_like 205 = .ok (.putfield 74, 3) := dk_181 0 74 (dk_at dksX1_like_8 20 rfl rfl)
theorem dX1_like_208 : decode cX1_like 208 = .ok (.aload_n 0, 1) := dk_42 (dk_at dksX1_like_8 23 rfl rfl)
theorem dX1_like_209 : decode cX1_like 209 = .ok (.aload_n 1, 1) := dk_43 (dk_at dksX1_like_9 0 rfl rfl)
theorem dX1_like_210 : decode cX1_like 210 = .ok (.getfield 77, 3) := dk_180 0 77 (dk_at dksX1_like_9 1 rfl rfl)
theorem dX1_like_213 : decode cX1_like 213 = .ok (.putfield 77, 3) := dk_181 0 77 (dk_at dksX1_like_9 4 rfl rfl)
theorem dX1_like_216 : decode cX1_like 216 = .ok (.aload_n 0, 1) := dk_42 (dk_at dksX1_like_9 7 rfl rfl)
theorem dX1_like_217 : decode cX1_like 217 = .ok (.aload_n 1, 1) := dk_43 (dk_at dksX1_like_9 8 rfl rfl)
theorem dX1_like_218 : decode cX1_like 218 = .ok (.getfield 80, 3) := dk_180 0 80 (dk_at dksX1_like_9 9 rfl rfl)
theorem dX1_like_221 : decode cX1_like 221 = .ok (.putfield 80, 3) := dk_181 0 80 (dk_at dksX1_like_9 12 rfl rfl)
theorem dX1_like_224 : decode cX1_like 224 = .ok (.aload_n 0, 1) := dk_42 (dk_at dksX1_like_9 15 rfl rfl)
theorem dX1_like_225 : decode cX1_like 225 = .ok (.aload_n 1, 1) := dk_43 (dk_at dksX1_like_9 16 rfl rfl)
theorem dX1_like_226 : decode cX1_like 226 = .ok (.getfield 83, 3) := dk_180 0 83 (dk_at dksX1_like_9 17 rfl rfl)
theorem dX1_like_229 : decode cX1_like 229 = .ok (.putfield 83, 3) := dk_181 0 83 (dk_at dksX1_like_9 20 rfl rfl)
theorem dX1_like_232 : decode cX1_like 232 = .ok (.aload_n 0, 1) := dk_42 (dk_at dksX1_like_9 23 rfl rfl)
theorem dX1_like_233 : decode cX1_like 233 = .ok (.aload_n 1, 1) := dk_43 (dk_at dksX1_like_10 0 rfl rfl)
theorem dX1_like_234 : decode cX1_like 234 = .ok (.getfield 86, 3) := dk_180 0 86 (dk_at dksX1_like_10 1 rfl rfl)
theorem dX1_like_237 : decode cX1_like 237 = .ok (.putfield 86, 3) := dk_181 0 86 (dk_at dksX1_like_10 4 rfl rfl)
theorem dX1_like_240 : decode cX1_like 240 = .ok (.aload_n 0, 1) := dk_42 (dk_at dksX1_like_10 7 rfl rfl)
theorem dX1_like_241 : decode cX1_like 241 = .ok (.aload_n 1, 1) := dk_43 (dk_at dksX1_like_10 8 rfl rfl)
theorem dX1_like_242 : decode cX1_like 242 = .ok (.getfield 89, 3) := dk_180 0 89 (dk_at dksX1_like_10 9 rfl rfl)
theorem dX1_like_245 : decode cX1_like 245 = .ok (.putfield 89, 3) := dk_181 0 89 (dk_at dksX1_like_10 12 rfl rfl)
theorem dX1_like_248 : decode cX1_like 248 = .ok (.aload_n 0, 1) := dk_42 (dk_at dksX1_like_10 15 rfl rfl)
theorem dX1_like_249 : decode cX1_like 249 = .ok (.aload_n 1, 1) := dk_43 (dk_at dksX1_like_10 16 rfl rfl)
theorem dX1_like_250 : decode cX1_like 250 = .ok (.getfield 92, 3) := dk_180 0 92 (dk_at dksX1_like_10 17 rfl rfl)
theorem dX1_like_253 : decode cX1_like 253 = .ok (.putfield 92, 3) := dk_181 0 92 (dk_at dksX1_like_10 20 rfl rfl)
theorem dX1_like_256 : decode cX1_like 256 = .ok (.return_, 1) := dk_177 (dk_at dksX1_like_10 23 rfl rfl)
abbrev cX1_loses : ByteArray := prog_18_method_5_code
def yX1_loses : MethodName := ⟨RX1, "loses", "(II)V"⟩
def dkwX1_loses_0 : List UInt8 := [42, 180, 0, 15, 27, 92, 46, 28, 100, 79, 42, 89, 180, 0, 83, 28, 96, 181, 0, 83, 177]
abbrev dktX1_loses_0 : List UInt8 := dkwX1_loses_0 ++ []
theorem dksX1_loses_0 : cX1_loses.data.toList.drop 0 = dktX1_loses_0 := by decide +kernel
theorem dX1_loses_0 : decode cX1_loses 0 = .ok (.aload_n 0, 1) := dk_42 (dk_at dksX1_loses_0 0 rfl rfl)
theorem dX1_loses_1 : decode cX1_loses 1 = .ok (.getfield 15, 3) := dk_180 0 15 (dk_at dksX1_loses_0 1 rfl rfl)
theorem dX1_loses_4 : decode cX1_loses 4 = .ok (.iload_n 1, 1) := dk_27 (dk_at dksX1_loses_0 4 rfl rfl)
theorem dX1_loses_5 : decode cX1_loses 5 = .ok (.dup2, 1) := dk_92 (dk_at dksX1_loses_0 5 rfl rfl)
theorem dX1_loses_6 : decode cX1_loses 6 = .ok (.iaload, 1) := dk_46 (dk_at dksX1_loses_0 6 rfl rfl)
theorem dX1_loses_7 : decode cX1_loses 7 = .ok (.iload_n 2, 1) := dk_28 (dk_at dksX1_loses_0 7 rfl rfl)
theorem dX1_loses_8 : decode cX1_loses 8 = .ok (.isub, 1) := dk_100 (dk_at dksX1_loses_0 8 rfl rfl)
theorem dX1_loses_9 : decode cX1_loses 9 = .ok (.iastore, 1) := dk_79 (dk_at dksX1_loses_0 9 rfl rfl)
theorem dX1_loses_10 : decode cX1_loses 10 = .ok (.aload_n 0, 1) := dk_42 (dk_at dksX1_loses_0 10 rfl rfl)
theorem dX1_loses_11 : decode cX1_loses 11 = .ok (.dup, 1) := dk_89 (dk_at dksX1_loses_0 11 rfl rfl)
theorem dX1_loses_12 : decode cX1_loses 12 = .ok (.getfield 83, 3) := dk_180 0 83 (dk_at dksX1_loses_0 12 rfl rfl)
theorem dX1_loses_15 : decode cX1_loses 15 = .ok (.iload_n 2, 1) := dk_28 (dk_at dksX1_loses_0 15 rfl rfl)
theorem dX1_loses_16 : decode cX1_loses 16 = .ok (.iadd, 1) := dk_96 (dk_at dksX1_loses_0 16 rfl rfl)
theorem dX1_loses_17 : decode cX1_loses 17 = .ok (.putfield 83, 3) := dk_181 0 83 (dk_at dksX1_loses_0 17 rfl rfl)
theorem dX1_loses_20 : decode cX1_loses 20 = .ok (.return_, 1) := dk_177 (dk_at dksX1_loses_0 20 rfl rfl)
abbrev cX1_grows : ByteArray := prog_18_method_6_code
def yX1_grows : MethodName := ⟨RX1, "grows", "(II)V"⟩
def dkwX1_grows_1 : List UInt8 := [42, 89, 180, 0, 80, 29, 96, 181, 0, 80, 177]
abbrev dktX1_grows_1 : List UInt8 := dkwX1_grows_1 ++ []
def dkwX1_grows_0 : List UInt8 := [28, 16, 20, 42, 180, 0, 15, 27, 46, 100, 184, 0, 120, 62, 42, 180, 0, 15, 27, 92, 46, 29, 96, 79]
abbrev dktX1_grows_0 : List UInt8 := dkwX1_grows_0 ++ dktX1_grows_1
theorem dksX1_grows_0 : cX1_grows.data.toList.drop 0 = dktX1_grows_0 := by decide +kernel
theorem dksX1_grows_1 : cX1_grows.data.toList.drop 24 = dktX1_grows_1 := dk_seg dksX1_grows_0 24 rfl rfl
theorem dX1_grows_0 : decode cX1_grows 0 = .ok (.iload_n 2, 1) := dk_28 (dk_at dksX1_grows_0 0 rfl rfl)
theorem dX1_grows_1 : decode cX1_grows 1 = .ok (.bipush 20, 2) := dk_16 20 (dk_at dksX1_grows_0 1 rfl rfl)
theorem dX1_grows_3 : decode cX1_grows 3 = .ok (.aload_n 0, 1) := dk_42 (dk_at dksX1_grows_0 3 rfl rfl)
theorem dX1_grows_4 : decode cX1_grows 4 = .ok (.getfield 15, 3) := dk_180 0 15 (dk_at dksX1_grows_0 4 rfl rfl)
theorem dX1_grows_7 : decode cX1_grows 7 = .ok (.iload_n 1, 1) := dk_27 (dk_at dksX1_grows_0 7 rfl rfl)
theorem dX1_grows_8 : decode cX1_grows 8 = .ok (.iaload, 1) := dk_46 (dk_at dksX1_grows_0 8 rfl rfl)
theorem dX1_grows_9 : decode cX1_grows 9 = .ok (.isub, 1) := dk_100 (dk_at dksX1_grows_0 9 rfl rfl)
theorem dX1_grows_10 : decode cX1_grows 10 = .ok (.invokestatic 120, 3) := dk_184 0 120 (dk_at dksX1_grows_0 10 rfl rfl)
theorem dX1_grows_13 : decode cX1_grows 13 = .ok (.istore_n 3, 1) := dk_62 (dk_at dksX1_grows_0 13 rfl rfl)
theorem dX1_grows_14 : decode cX1_grows 14 = .ok (.aload_n 0, 1) := dk_42 (dk_at dksX1_grows_0 14 rfl rfl)
theorem dX1_grows_15 : decode cX1_grows 15 = .ok (.getfield 15, 3) := dk_180 0 15 (dk_at dksX1_grows_0 15 rfl rfl)
theorem dX1_grows_18 : decode cX1_grows 18 = .ok (.iload_n 1, 1) := dk_27 (dk_at dksX1_grows_0 18 rfl rfl)
theorem dX1_grows_19 : decode cX1_grows 19 = .ok (.dup2, 1) := dk_92 (dk_at dksX1_grows_0 19 rfl rfl)
theorem dX1_grows_20 : decode cX1_grows 20 = .ok (.iaload, 1) := dk_46 (dk_at dksX1_grows_0 20 rfl rfl)
theorem dX1_grows_21 : decode cX1_grows 21 = .ok (.iload_n 3, 1) := dk_29 (dk_at dksX1_grows_0 21 rfl rfl)
theorem dX1_grows_22 : decode cX1_grows 22 = .ok (.iadd, 1) := dk_96 (dk_at dksX1_grows_0 22 rfl rfl)
theorem dX1_grows_23 : decode cX1_grows 23 = .ok (.iastore, 1) := dk_79 (dk_at dksX1_grows_0 23 rfl rfl)
theorem dX1_grows_24 : decode cX1_grows 24 = .ok (.aload_n 0, 1) := dk_42 (dk_at dksX1_grows_1 0 rfl rfl)
theorem dX1_grows_25 : decode cX1_grows 25 = .ok (.dup, 1) := dk_89 (dk_at dksX1_grows_1 1 rfl rfl)
theorem dX1_grows_26 : decode cX1_grows 26 = .ok (.getfield 80, 3) := dk_180 0 80 (dk_at dksX1_grows_1 2 rfl rfl)
theorem dX1_grows_29 : decode cX1_grows 29 = .ok (.iload_n 3, 1) := dk_29 (dk_at dksX1_grows_1 5 rfl rfl)
theorem dX1_grows_30 : decode cX1_grows 30 = .ok (.iadd, 1) := dk_96 (dk_at dksX1_grows_1 6 rfl rfl)
theorem dX1_grows_31 : decode cX1_grows 31 = .ok (.putfield 80, 3) := dk_181 0 80 (dk_at dksX1_grows_1 7 rfl rfl)
theorem dX1_grows_34 : decode cX1_grows 34 = .ok (.return_, 1) := dk_177 (dk_at dksX1_grows_1 10 rfl rfl)
abbrev cX1_ends : ByteArray := prog_18_method_10_code
def yX1_ends : MethodName := ⟨RX1, "ends", "()I"⟩
def dkwX1_ends_7 : List UInt8 := [181, 0, 77, 27, 172]
abbrev dktX1_ends_7 : List UInt8 := dkwX1_ends_7 ++ []
def dkwX1_ends_6 : List UInt8 := [180, 0, 74, 6, 161, 0, 7, 8, 167, 0, 4, 6, 96, 181, 0, 92, 42, 89, 180, 0, 77, 4, 96]
abbrev dktX1_ends_6 : List UInt8 := dkwX1_ends_6 ++ dktX1_ends_7
def dkwX1_ends_5 : List UInt8 := [180, 0, 35, 28, 50, 16, 6, 181, 0, 177, 132, 2, 1, 167, 255, 234, 42, 89, 180, 0, 92, 42]
abbrev dktX1_ends_5 : List UInt8 := dkwX1_ends_5 ++ dktX1_ends_6
def dkwX1_ends_4 : List UInt8 := [182, 0, 173, 96, 60, 132, 2, 1, 167, 255, 232, 3, 61, 28, 42, 180, 0, 63, 162, 0, 20, 42]
abbrev dktX1_ends_4 : List UInt8 := dkwX1_ends_4 ++ dktX1_ends_5
def dkwX1_ends_3 : List UInt8 := [167, 255, 206, 3, 60, 3, 61, 28, 42, 180, 0, 67, 162, 0, 22, 27, 42, 42, 180, 0, 41, 28, 50]
abbrev dktX1_ends_3 : List UInt8 := dkwX1_ends_3 ++ dktX1_ends_4
def dkwX1_ends_2 : List UInt8 := [16, 9, 42, 180, 0, 18, 27, 46, 42, 180, 0, 9, 27, 46, 5, 108, 96, 184, 0, 120, 79, 132, 1, 1]
abbrev dktX1_ends_2 : List UInt8 := dkwX1_ends_2 ++ dktX1_ends_3
def dkwX1_ends_1 : List UInt8 := [162, 0, 50, 42, 180, 0, 18, 27, 42, 180, 0, 26, 27, 182, 0, 151, 153, 0, 7, 3, 167, 0, 23]
abbrev dktX1_ends_1 : List UInt8 := dkwX1_ends_1 ++ dktX1_ends_2
def dkwX1_ends_0 : List UInt8 := [3, 60, 27, 16, 30, 162, 0, 14, 42, 27, 182, 0, 170, 132, 1, 1, 167, 255, 242, 3, 60, 27, 16, 30]
abbrev dktX1_ends_0 : List UInt8 := dkwX1_ends_0 ++ dktX1_ends_1
theorem dksX1_ends_0 : cX1_ends.data.toList.drop 0 = dktX1_ends_0 := by decide +kernel
theorem dksX1_ends_1 : cX1_ends.data.toList.drop 24 = dktX1_ends_1 := dk_seg dksX1_ends_0 24 rfl rfl
theorem dksX1_ends_2 : cX1_ends.data.toList.drop 47 = dktX1_ends_2 := dk_seg dksX1_ends_1 23 rfl rfl
theorem dksX1_ends_3 : cX1_ends.data.toList.drop 71 = dktX1_ends_3 := dk_seg dksX1_ends_2 24 rfl rfl
theorem dksX1_ends_4 : cX1_ends.data.toList.drop 94 = dktX1_ends_4 := dk_seg dksX1_ends_3 23 rfl rfl
theorem dksX1_ends_5 : cX1_ends.data.toList.drop 116 = dktX1_ends_5 := dk_seg dksX1_ends_4 22 rfl rfl
theorem dksX1_ends_6 : cX1_ends.data.toList.drop 138 = dktX1_ends_6 := dk_seg dksX1_ends_5 22 rfl rfl
theorem dksX1_ends_7 : cX1_ends.data.toList.drop 161 = dktX1_ends_7 := dk_seg dksX1_ends_6 23 rfl rfl
theorem dX1_ends_0 : decode cX1_ends 0 = .ok (.iconst 0, 1) := dk_3 (dk_at dksX1_ends_0 0 rfl rfl)
theorem dX1_ends_1 : decode cX1_ends 1 = .ok (.istore_n 1, 1) := dk_60 (dk_at dksX1_ends_0 1 rfl rfl)
theorem dX1_ends_2 : decode cX1_ends 2 = .ok (.iload_n 1, 1) := dk_27 (dk_at dksX1_ends_0 2 rfl rfl)
theorem dX1_ends_3 : decode cX1_ends 3 = .ok (.bipush 30, 2) := dk_16 30 (dk_at dksX1_ends_0 3 rfl rfl)
theorem dX1_ends_5 : decode cX1_ends 5 = .ok (.if_icmp .ge 14, 3) := dk_162 0 14 (dk_at dksX1_ends_0 5 rfl rfl)
theorem dX1_ends_8 : decode cX1_ends 8 = .ok (.aload_n 0, 1) := dk_42 (dk_at dksX1_ends_0 8 rfl rfl)
theorem dX1_ends_9 : decode cX1_ends 9 = .ok (.iload_n 1, 1) := dk_27 (dk_at dksX1_ends_0 9 rfl rfl)
theorem dX1_ends_10 : decode cX1_ends 10 = .ok (.invokevirtual 170, 3) := dk_182 0 170 (dk_at dksX1_ends_0 10 rfl rfl)
theorem dX1_ends_13 : decode cX1_ends 13 = .ok (.iinc 1 1, 3) := dk_132 1 1 (dk_at dksX1_ends_0 13 rfl rfl)
theorem dX1_ends_16 : decode cX1_ends 16 = .ok (.goto (-14), 3) := dk_167 255 242 (dk_at dksX1_ends_0 16 rfl rfl)
theorem dX1_ends_19 : decode cX1_ends 19 = .ok (.iconst 0, 1) := dk_3 (dk_at dksX1_ends_0 19 rfl rfl)
theorem dX1_ends_20 : decode cX1_ends 20 = .ok (.istore_n 1, 1) := dk_60 (dk_at dksX1_ends_0 20 rfl rfl)
theorem dX1_ends_21 : decode cX1_ends 21 = .ok (.iload_n 1, 1) := dk_27 (dk_at dksX1_ends_0 21 rfl rfl)
theorem dX1_ends_22 : decode cX1_ends 22 = .ok (.bipush 30, 2) := dk_16 30 (dk_at dksX1_ends_0 22 rfl rfl)
theorem dX1_ends_24 : decode cX1_ends 24 = .ok (.if_icmp .ge 50, 3) := dk_162 0 50 (dk_at dksX1_ends_1 0 rfl rfl)
theorem dX1_ends_27 : decode cX1_ends 27 = .ok (.aload_n 0, 1) := dk_42 (dk_at dksX1_ends_1 3 rfl rfl)
theorem dX1_ends_28 : decode cX1_ends 28 = .ok (.getfield 18, 3) := dk_180 0 18 (dk_at dksX1_ends_1 4 rfl rfl)
theorem dX1_ends_31 : decode cX1_ends 31 = .ok (.iload_n 1, 1) := dk_27 (dk_at dksX1_ends_1 7 rfl rfl)
theorem dX1_ends_32 : decode cX1_ends 32 = .ok (.aload_n 0, 1) := dk_42 (dk_at dksX1_ends_1 8 rfl rfl)
theorem dX1_ends_33 : decode cX1_ends 33 = .ok (.getfield 26, 3) := dk_180 0 26 (dk_at dksX1_ends_1 9 rfl rfl)
theorem dX1_ends_36 : decode cX1_ends 36 = .ok (.iload_n 1, 1) := dk_27 (dk_at dksX1_ends_1 12 rfl rfl)
theorem dX1_ends_37 : decode cX1_ends 37 = .ok (.invokevirtual 151, 3) := dk_182 0 151 (dk_at dksX1_ends_1 13 rfl rfl)
theorem dX1_ends_40 : decode cX1_ends 40 = .ok (.ifCond .eq 7, 3) := dk_153 0 7 (dk_at dksX1_ends_1 16 rfl rfl)
theorem dX1_ends_43 : decode cX1_ends 43 = .ok (.iconst 0, 1) := dk_3 (dk_at dksX1_ends_1 19 rfl rfl)
theorem dX1_ends_44 : decode cX1_ends 44 = .ok (.goto 23, 3) := dk_167 0 23 (dk_at dksX1_ends_1 20 rfl rfl)
theorem dX1_ends_47 : decode cX1_ends 47 = .ok (.bipush 9, 2) := dk_16 9 (dk_at dksX1_ends_2 0 rfl rfl)
theorem dX1_ends_49 : decode cX1_ends 49 = .ok (.aload_n 0, 1) := dk_42 (dk_at dksX1_ends_2 2 rfl rfl)
theorem dX1_ends_50 : decode cX1_ends 50 = .ok (.getfield 18, 3) := dk_180 0 18 (dk_at dksX1_ends_2 3 rfl rfl)
theorem dX1_ends_53 : decode cX1_ends 53 = .ok (.iload_n 1, 1) := dk_27 (dk_at dksX1_ends_2 6 rfl rfl)
theorem dX1_ends_54 : decode cX1_ends 54 = .ok (.iaload, 1) := dk_46 (dk_at dksX1_ends_2 7 rfl rfl)
theorem dX1_ends_55 : decode cX1_ends 55 = .ok (.aload_n 0, 1) := dk_42 (dk_at dksX1_ends_2 8 rfl rfl)
theorem dX1_ends_56 : decode cX1_ends 56 = .ok (.getfield 9, 3) := dk_180 0 9 (dk_at dksX1_ends_2 9 rfl rfl)
theorem dX1_ends_59 : decode cX1_ends 59 = .ok (.iload_n 1, 1) := dk_27 (dk_at dksX1_ends_2 12 rfl rfl)
theorem dX1_ends_60 : decode cX1_ends 60 = .ok (.iaload, 1) := dk_46 (dk_at dksX1_ends_2 13 rfl rfl)
theorem dX1_ends_61 : decode cX1_ends 61 = .ok (.iconst 2, 1) := dk_5 (dk_at dksX1_ends_2 14 rfl rfl)
theorem dX1_ends_62 : decode cX1_ends 62 = .ok (.idiv, 1) := dk_108 (dk_at dksX1_ends_2 15 rfl rfl)
theorem dX1_ends_63 : decode cX1_ends 63 = .ok (.iadd, 1) := dk_96 (dk_at dksX1_ends_2 16 rfl rfl)
theorem dX1_ends_64 : decode cX1_ends 64 = .ok (.invokestatic 120, 3) := dk_184 0 120 (dk_at dksX1_ends_2 17 rfl rfl)
theorem dX1_ends_67 : decode cX1_ends 67 = .ok (.iastore, 1) := dk_79 (dk_at dksX1_ends_2 20 rfl rfl)
theorem dX1_ends_68 : decode cX1_ends 68 = .ok (.iinc 1 1, 3) := dk_132 1 1 (dk_at dksX1_ends_2 21 rfl rfl)
theorem dX1_ends_71 : decode cX1_ends 71 = .ok (.goto (-50), 3) := dk_167 255 206 (dk_at dksX1_ends_3 0 rfl rfl)
theorem dX1_ends_74 : decode cX1_ends 74 = .ok (.iconst 0, 1) := dk_3 (dk_at dksX1_ends_3 3 rfl rfl)
theorem dX1_ends_75 : decode cX1_ends 75 = .ok (.istore_n 1, 1) := dk_60 (dk_at dksX1_ends_3 4 rfl rfl)
theorem dX1_ends_76 : decode cX1_ends 76 = .ok (.iconst 0, 1) := dk_3 (dk_at dksX1_ends_3 5 rfl rfl)
theorem dX1_ends_77 : decode cX1_ends 77 = .ok (.istore_n 2, 1) := dk_61 (dk_at dksX1_ends_3 6 rfl rfl)
theorem dX1_ends_78 : decode cX1_ends 78 = .ok (.iload_n 2, 1) := dk_28 (dk_at dksX1_ends_3 7 rfl rfl)
theorem dX1_ends_79 : decode cX1_ends 79 = .ok (.aload_n 0, 1) := dk_42 (dk_at dksX1_ends_3 8 rfl rfl)
theorem dX1_ends_80 : decode cX1_ends 80 = .ok (.getfield 67, 3) := dk_180 0 67 (dk_at dksX1_ends_3 9 rfl rfl)
theorem dX1_ends_83 : decode cX1_ends 83 = .ok (.if_icmp .ge 22, 3) := dk_162 0 22 (dk_at dksX1_ends_3 12 rfl rfl)
theorem dX1_ends_86 : decode cX1_ends 86 = .ok (.iload_n 1, 1) := dk_27 (dk_at dksX1_ends_3 15 rfl rfl)
theorem dX1_ends_87 : decode cX1_ends 87 = .ok (.aload_n 0, 1) := dk_42 (dk_at dksX1_ends_3 16 rfl rfl)
theorem dX1_ends_88 : decode cX1_ends 88 = .ok (.aload_n 0, 1) := dk_42 (dk_at dksX1_ends_3 17 rfl rfl)
theorem dX1_ends_89 : decode cX1_ends 89 = .ok (.getfield 41, 3) := dk_180 0 41 (dk_at dksX1_ends_3 18 rfl rfl)
theorem dX1_ends_92 : decode cX1_ends 92 = .ok (.iload_n 2, 1) := dk_28 (dk_at dksX1_ends_3 21 rfl rfl)
theorem dX1_ends_93 : decode cX1_ends 93 = .ok (.aaload, 1) := dk_50 (dk_at dksX1_ends_3 22 rfl rfl)
theorem dX1_ends_94 : decode cX1_ends 94 = .ok (.invokevirtual 173, 3) := dk_182 0 173 (dk_at dksX1_ends_4 0 rfl rfl)
theorem dX1_ends_97 : decode cX1_ends 97 = .ok (.iadd, 1) := dk_96 (dk_at dksX1_ends_4 3 rfl rfl)
theorem dX1_ends_98 : decode cX1_ends 98 = .ok (.istore_n 1, 1) := dk_60 (dk_at dksX1_ends_4 4 rfl rfl)
theorem dX1_ends_99 : decode cX1_ends 99 = .ok (.iinc 2 1, 3) := dk_132 2 1 (dk_at dksX1_ends_4 5 rfl rfl)
theorem dX1_ends_102 : decode cX1_ends 102 = .ok (.goto (-24), 3) := dk_167 255 232 (dk_at dksX1_ends_4 8 rfl rfl)
theorem dX1_ends_105 : decode cX1_ends 105 = .ok (.iconst 0, 1) := dk_3 (dk_at dksX1_ends_4 11 rfl rfl)
theorem dX1_ends_106 : decode cX1_ends 106 = .ok (.istore_n 2, 1) := dk_61 (dk_at dksX1_ends_4 12 rfl rfl)
theorem dX1_ends_107 : decode cX1_ends 107 = .ok (.iload_n 2, 1) := dk_28 (dk_at dksX1_ends_4 13 rfl rfl)
theorem dX1_ends_108 : decode cX1_ends 108 = .ok (.aload_n 0, 1) := dk_42 (dk_at dksX1_ends_4 14 rfl rfl)
theorem dX1_ends_109 : decode cX1_ends 109 = .ok (.getfield 63, 3) := dk_180 0 63 (dk_at dksX1_ends_4 15 rfl rfl)
theorem dX1_ends_112 : decode cX1_ends 112 = .ok (.if_icmp .ge 20, 3) := dk_162 0 20 (dk_at dksX1_ends_4 18 rfl rfl)
theorem dX1_ends_115 : decode cX1_ends 115 = .ok (.aload_n 0, 1) := dk_42 (dk_at dksX1_ends_4 21 rfl rfl)
theorem dX1_ends_116 : decode cX1_ends 116 = .ok (.getfield 35, 3) := dk_180 0 35 (dk_at dksX1_ends_5 0 rfl rfl)
theorem dX1_ends_119 : decode cX1_ends 119 = .ok (.iload_n 2, 1) := dk_28 (dk_at dksX1_ends_5 3 rfl rfl)
theorem dX1_ends_120 : decode cX1_ends 120 = .ok (.aaload, 1) := dk_50 (dk_at dksX1_ends_5 4 rfl rfl)
theorem dX1_ends_121 : decode cX1_ends 121 = .ok (.bipush 6, 2) := dk_16 6 (dk_at dksX1_ends_5 5 rfl rfl)
theorem dX1_ends_123 : decode cX1_ends 123 = .ok (.putfield 177, 3) := dk_181 0 177 (dk_at dksX1_ends_5 7 rfl rfl)
theorem dX1_ends_126 : decode cX1_ends 126 = .ok (.iinc 2 1, 3) := dk_132 2 1 (dk_at dksX1_ends_5 10 rfl rfl)
theorem dX1_ends_129 : decode cX1_ends 129 = .ok (.goto (-22), 3) := dk_167 255 234 (dk_at dksX1_ends_5 13 rfl rfl)
theorem dX1_ends_132 : decode cX1_ends 132 = .ok (.aload_n 0, 1) := dk_42 (dk_at dksX1_ends_5 16 rfl rfl)
theorem dX1_ends_133 : decode cX1_ends 133 = .ok (.dup, 1) := dk_89 (dk_at dksX1_ends_5 17 rfl rfl)
theorem dX1_ends_134 : decode cX1_ends 134 = .ok (.getfield 92, 3) := dk_180 0 92 (dk_at dksX1_ends_5 18 rfl rfl)
theorem dX1_ends_137 : decode cX1_ends 137 = .ok (.aload_n 0, 1) := dk_42 (dk_at dksX1_ends_5 21 rfl rfl)
theorem dX1_ends_138 : decode cX1_ends 138 = .ok (.getfield 74, 3) := dk_180 0 74 (dk_at dksX1_ends_6 0 rfl rfl)
theorem dX1_ends_141 : decode cX1_ends 141 = .ok (.iconst 3, 1) := dk_6 (dk_at dksX1_ends_6 3 rfl rfl)
theorem dX1_ends_142 : decode cX1_ends 142 = .ok (.if_icmp .lt 7, 3) := dk_161 0 7 (dk_at dksX1_ends_6 4 rfl rfl)
theorem dX1_ends_145 : decode cX1_ends 145 = .ok (.iconst 5, 1) := dk_8 (dk_at dksX1_ends_6 7 rfl rfl)
theorem dX1_ends_146 : decode cX1_ends 146 = .ok (.goto 4, 3) := dk_167 0 4 (dk_at dksX1_ends_6 8 rfl rfl)
theorem dX1_ends_149 : decode cX1_ends 149 = .ok (.iconst 3, 1) := dk_6 (dk_at dksX1_ends_6 11 rfl rfl)
theorem dX1_ends_150 : decode cX1_ends 150 = .ok (.iadd, 1) := dk_96 (dk_at dksX1_ends_6 12 rfl rfl)
theorem dX1_ends_151 : decode cX1_ends 151 = .ok (.putfield 92, 3) := dk_181 0 92 (dk_at dksX1_ends_6 13 rfl rfl)
theorem dX1_ends_154 : decode cX1_ends 154 = .ok (.aload_n 0, 1) := dk_42 (dk_at dksX1_ends_6 16 rfl rfl)
theorem dX1_ends_155 : decode cX1_ends 155 = .ok (.dup, 1) := dk_89 (dk_at dksX1_ends_6 17 rfl rfl)
theorem dX1_ends_156 : decode cX1_ends 156 = .ok (.getfield 77, 3) := dk_180 0 77 (dk_at dksX1_ends_6 18 rfl rfl)
theorem dX1_ends_159 : decode cX1_ends 159 = .ok (.iconst 1, 1) := dk_4 (dk_at dksX1_ends_6 21 rfl rfl)
theorem dX1_ends_160 : decode cX1_ends 160 = .ok (.iadd, 1) := dk_96 (dk_at dksX1_ends_6 22 rfl rfl)
theorem dX1_ends_161 : decode cX1_ends 161 = .ok (.putfield 77, 3) := dk_181 0 77 (dk_at dksX1_ends_7 0 rfl rfl)
theorem dX1_ends_164 : decode cX1_ends 164 = .ok (.iload_n 1, 1) := dk_27 (dk_at dksX1_ends_7 3 rfl rfl)
theorem dX1_ends_165 : decode cX1_ends 165 = .ok (.ireturn, 1) := dk_172 (dk_at dksX1_ends_7 4 rfl rfl)
abbrev cX1_mossDay : ByteArray := prog_18_method_7_code
def yX1_mossDay : MethodName := ⟨RX1, "mossDay", "(I)V"⟩
def dkwX1_mossDay_3 : List UInt8 := [182, 0, 130, 177]
abbrev dktX1_mossDay_3 : List UInt8 := dkwX1_mossDay_3 ++ []
def dkwX1_mossDay_2 : List UInt8 := [180, 0, 74, 6, 161, 0, 23, 42, 27, 42, 180, 0, 9, 27, 46, 6, 161, 0, 7, 5, 167, 0, 4, 4]
abbrev dktX1_mossDay_2 : List UInt8 := dkwX1_mossDay_2 ++ dktX1_mossDay_3
def dkwX1_mossDay_1 : List UInt8 := [182, 0, 126, 167, 0, 47, 42, 180, 0, 74, 158, 0, 40, 42, 180, 0, 9, 27, 46, 157, 0, 11, 42]
abbrev dktX1_mossDay_1 : List UInt8 := dkwX1_mossDay_1 ++ dktX1_mossDay_2
def dkwX1_mossDay_0 : List UInt8 := [42, 180, 0, 15, 27, 46, 154, 0, 4, 177, 42, 180, 0, 18, 27, 46, 6, 161, 0, 12, 42, 27, 4]
abbrev dktX1_mossDay_0 : List UInt8 := dkwX1_mossDay_0 ++ dktX1_mossDay_1
theorem dksX1_mossDay_0 : cX1_mossDay.data.toList.drop 0 = dktX1_mossDay_0 := by decide +kernel
theorem dksX1_mossDay_1 : cX1_mossDay.data.toList.drop 23 = dktX1_mossDay_1 := dk_seg dksX1_mossDay_0 23 rfl rfl
theorem dksX1_mossDay_2 : cX1_mossDay.data.toList.drop 46 = dktX1_mossDay_2 := dk_seg dksX1_mossDay_1 23 rfl rfl
theorem dksX1_mossDay_3 : cX1_mossDay.data.toList.drop 70 = dktX1_mossDay_3 := dk_seg dksX1_mossDay_2 24 rfl rfl
theorem dX1_mossDay_0 : decode cX1_mossDay 0 = .ok (.aload_n 0, 1) := dk_42 (dk_at dksX1_mossDay_0 0 rfl rfl)
theorem dX1_mossDay_1 : decode cX1_mossDay 1 = .ok (.getfield 15, 3) := dk_180 0 15 (dk_at dksX1_mossDay_0 1 rfl rfl)
theorem dX1_mossDay_4 : decode cX1_mossDay 4 = .ok (.iload_n 1, 1) := dk_27 (dk_at dksX1_mossDay_0 4 rfl rfl)
theorem dX1_mossDay_5 : decode cX1_mossDay 5 = .ok (.iaload, 1) := dk_46 (dk_at dksX1_mossDay_0 5 rfl rfl)
theorem dX1_mossDay_6 : decode cX1_mossDay 6 = .ok (.ifCond .ne 4, 3) := dk_154 0 4 (dk_at dksX1_mossDay_0 6 rfl rfl)
theorem dX1_mossDay_9 : decode cX1_mossDay 9 = .ok (.return_, 1) := dk_177 (dk_at dksX1_mossDay_0 9 rfl rfl)
theorem dX1_mossDay_10 : decode cX1_mossDay 10 = .ok (.aload_n 0, 1) := dk_42 (dk_at dksX1_mossDay_0 10 rfl rfl)
theorem dX1_mossDay_11 : decode cX1_mossDay 11 = .ok (.getfield 18, 3) := dk_180 0 18 (dk_at dksX1_mossDay_0 11 rfl rfl)
theorem dX1_mossDay_14 : decode cX1_mossDay 14 = .ok (.iload_n 1, 1) := dk_27 (dk_at dksX1_mossDay_0 14 rfl rfl)
theorem dX1_mossDay_15 : decode cX1_mossDay 15 = .ok (.iaload, 1) := dk_46 (dk_at dksX1_mossDay_0 15 rfl rfl)
theorem dX1_mossDay_16 : decode cX1_mossDay 16 = .ok (.iconst 3, 1) := dk_6 (dk_at dksX1_mossDay_0 16 rfl rfl)
theorem dX1_mossDay_17 : decode cX1_mossDay 17 = .ok (.if_icmp .lt 12, 3) := dk_161 0 12 (dk_at dksX1_mossDay_0 17 rfl rfl)
theorem dX1_mossDay_20 : decode cX1_mossDay 20 = .ok (.aload_n 0, 1) := dk_42 (dk_at dksX1_mossDay_0 20 rfl rfl)
theorem dX1_mossDay_21 : decode cX1_mossDay 21 = .ok (.iload_n 1, 1) := dk_27 (dk_at dksX1_mossDay_0 21 rfl rfl)
theorem dX1_mossDay_22 : decode cX1_mossDay 22 = .ok (.iconst 1, 1) := dk_4 (dk_at dksX1_mossDay_0 22 rfl rfl)
theorem dX1_mossDay_23 : decode cX1_mossDay 23 = .ok (.invokevirtual 126, 3) := dk_182 0 126 (dk_at dksX1_mossDay_1 0 rfl rfl)
theorem dX1_mossDay_26 : decode cX1_mossDay 26 = .ok (.goto 47, 3) := dk_167 0 47 (dk_at dksX1_mossDay_1 3 rfl rfl)
theorem dX1_mossDay_29 : decode cX1_mossDay 29 = .ok (.aload_n 0, 1) := dk_42 (dk_at dksX1_mossDay_1 6 rfl rfl)
theorem dX1_mossDay_30 : decode cX1_mossDay 30 = .ok (.getfield 74, 3) := dk_180 0 74 (dk_at dksX1_mossDay_1 7 rfl rfl)
theorem dX1_mossDay_33 : decode cX1_mossDay 33 = .ok (.ifCond .le 40, 3) := dk_158 0 40 (dk_at dksX1_mossDay_1 10 rfl rfl)
theorem dX1_mossDay_36 : decode cX1_mossDay 36 = .ok (.aload_n 0, 1) := dk_42 (dk_at dksX1_mossDay_1 13 rfl rfl)
theorem dX1_mossDay_37 : decode cX1_mossDay 37 = .ok (.getfield 9, 3) := dk_180 0 9 (dk_at dksX1_mossDay_1 14 rfl rfl)
theorem dX1_mossDay_40 : decode cX1_mossDay 40 = .ok (.iload_n 1, 1) := dk_27 (dk_at dksX1_mossDay_1 17 rfl rfl)
theorem dX1_mossDay_41 : decode cX1_mossDay 41 = .ok (.iaload, 1) := dk_46 (dk_at dksX1_mossDay_1 18 rfl rfl)
theorem dX1_mossDay_42 : decode cX1_mossDay 42 = .ok (.ifCond .gt 11, 3) := dk_157 0 11 (dk_at dksX1_mossDay_1 19 rfl rfl)
theorem dX1_mossDay_45 : decode cX1_mossDay 45 = .ok (.aload_n 0, 1) := dk_42 (dk_at dksX1_mossDay_1 22 rfl rfl)
theorem dX1_mossDay_46 : decode cX1_mossDay 46 = .ok (.getfield 74, 3) := dk_180 0 74 (dk_at dksX1_mossDay_2 0 rfl rfl)
theorem dX1_mossDay_49 : decode cX1_mossDay 49 = .ok (.iconst 3, 1) := dk_6 (dk_at dksX1_mossDay_2 3 rfl rfl)
theorem dX1_mossDay_50 : decode cX1_mossDay 50 = .ok (.if_icmp .lt 23, 3) := dk_161 0 23 (dk_at dksX1_mossDay_2 4 rfl rfl)
theorem dX1_mossDay_53 : decode cX1_mossDay 53 = .ok (.aload_n 0, 1) := dk_42 (dk_at dksX1_mossDay_2 7 rfl rfl)
theorem dX1_mossDay_54 : decode cX1_mossDay 54 = .ok (.iload_n 1, 1) := dk_27 (dk_at dksX1_mossDay_2 8 rfl rfl)
theorem dX1_mossDay_55 : decode cX1_mossDay 55 = .ok (.aload_n 0, 1) := dk_42 (dk_at dksX1_mossDay_2 9 rfl rfl)
theorem dX1_mossDay_56 : decode cX1_mossDay 56 = .ok (.getfield 9, 3) := dk_180 0 9 (dk_at dksX1_mossDay_2 10 rfl rfl)
theorem dX1_mossDay_59 : decode cX1_mossDay 59 = .ok (.iload_n 1, 1) := dk_27 (dk_at dksX1_mossDay_2 13 rfl rfl)
theorem dX1_mossDay_60 : decode cX1_mossDay 60 = .ok (.iaload, 1) := dk_46 (dk_at dksX1_mossDay_2 14 rfl rfl)
theorem dX1_mossDay_61 : decode cX1_mossDay 61 = .ok (.iconst 3, 1) := dk_6 (dk_at dksX1_mossDay_2 15 rfl rfl)
theorem dX1_mossDay_62 : decode cX1_mossDay 62 = .ok (.if_icmp .lt 7, 3) := dk_161 0 7 (dk_at dksX1_mossDay_2 16 rfl rfl)
theorem dX1_mossDay_65 : decode cX1_mossDay 65 = .ok (.iconst 2, 1) := dk_5 (dk_at dksX1_mossDay_2 19 rfl rfl)
theorem dX1_mossDay_66 : decode cX1_mossDay 66 = .ok (.goto 4, 3) := dk_167 0 4 (dk_at dksX1_mossDay_2 20 rfl rfl)
theorem dX1_mossDay_69 : decode cX1_mossDay 69 = .ok (.iconst 1, 1) := dk_4 (dk_at dksX1_mossDay_2 23 rfl rfl)
theorem dX1_mossDay_70 : decode cX1_mossDay 70 = .ok (.invokevirtual 130, 3) := dk_182 0 130 (dk_at dksX1_mossDay_3 0 rfl rfl)
theorem dX1_mossDay_73 : decode cX1_mossDay 73 = .ok (.return_, 1) := dk_177 (dk_at dksX1_mossDay_3 3 rfl rfl)
abbrev cX1_digs : ByteArray := prog_18_method_9_code
def yX1_digs : MethodName := ⟨RX1, "digs", "(LMossLawn$Mole;)I"⟩
def dkwX1_digs_5 : List UInt8 := [153, 0, 7, 4, 167, 0, 4, 3, 172]
abbrev dktX1_digs_5 : List UInt8 := dkwX1_digs_5 ++ []
def dkwX1_digs_4 : List UInt8 := [3, 181, 0, 155, 43, 180, 0, 155, 153, 0, 11, 42, 180, 0, 30, 29, 182, 0, 168, 43, 180, 0, 155]
abbrev dktX1_digs_4 : List UInt8 := dkwX1_digs_4 ++ dktX1_digs_5
def dkwX1_digs_3 : List UInt8 := [29, 181, 0, 159, 43, 29, 155, 0, 18, 42, 180, 0, 30, 29, 182, 0, 151, 153, 0, 7, 4, 167, 0, 4]
abbrev dktX1_digs_3 : List UInt8 := dkwX1_digs_3 ++ dktX1_digs_4
def dkwX1_digs_2 : List UInt8 := [182, 0, 126, 42, 43, 180, 0, 159, 182, 0, 165, 62, 43, 29, 156, 0, 10, 43, 180, 0, 159, 167, 0, 4]
abbrev dktX1_digs_2 : List UInt8 := dkwX1_digs_2 ++ dktX1_digs_3
def dkwX1_digs_1 : List UInt8 := [180, 0, 159, 46, 5, 108, 100, 61, 43, 89, 180, 0, 162, 28, 96, 181, 0, 162, 42, 43, 180, 0, 159, 28]
abbrev dktX1_digs_1 : List UInt8 := dkwX1_digs_1 ++ dktX1_digs_2
def dkwX1_digs_0 : List UInt8 := [43, 180, 0, 155, 153, 0, 5, 3, 172, 42, 180, 0, 15, 43, 180, 0, 159, 46, 42, 180, 0, 15, 43]
abbrev dktX1_digs_0 : List UInt8 := dkwX1_digs_0 ++ dktX1_digs_1
theorem dksX1_digs_0 : cX1_digs.data.toList.drop 0 = dktX1_digs_0 := by decide +kernel
theorem dksX1_digs_1 : cX1_digs.data.toList.drop 23 = dktX1_digs_1 := dk_seg dksX1_digs_0 23 rfl rfl
theorem dksX1_digs_2 : cX1_digs.data.toList.drop 47 = dktX1_digs_2 := dk_seg dksX1_digs_1 24 rfl rfl
theorem dksX1_digs_3 : cX1_digs.data.toList.drop 71 = dktX1_digs_3 := dk_seg dksX1_digs_2 24 rfl rfl
theorem dksX1_digs_4 : cX1_digs.data.toList.drop 95 = dktX1_digs_4 := dk_seg dksX1_digs_3 24 rfl rfl
theorem dksX1_digs_5 : cX1_digs.data.toList.drop 118 = dktX1_digs_5 := dk_seg dksX1_digs_4 23 rfl rfl
theorem dX1_digs_0 : decode cX1_digs 0 = .ok (.aload_n 1, 1) := dk_43 (dk_at dksX1_digs_0 0 rfl rfl)
theorem dX1_digs_1 : decode cX1_digs 1 = .ok (.getfield 155, 3) := dk_180 0 155 (dk_at dksX1_digs_0 1 rfl rfl)
theorem dX1_digs_4 : decode cX1_digs 4 = .ok (.ifCond .eq 5, 3) := dk_153 0 5 (dk_at dksX1_digs_0 4 rfl rfl)
theorem dX1_digs_7 : decode cX1_digs 7 = .ok (.iconst 0, 1) := dk_3 (dk_at dksX1_digs_0 7 rfl rfl)
theorem dX1_digs_8 : decode cX1_digs 8 = .ok (.ireturn, 1) := dk_172 (dk_at dksX1_digs_0 8 rfl rfl)
theorem dX1_digs_9 : decode cX1_digs 9 = .ok (.aload_n 0, 1) := dk_42 (dk_at dksX1_digs_0 9 rfl rfl)
theorem dX1_digs_10 : decode cX1_digs 10 = .ok (.getfield 15, 3) := dk_180 0 15 (dk_at dksX1_digs_0 10 rfl rfl)
theorem dX1_digs_13 : decode cX1_digs 13 = .ok (.aload_n 1, 1) := dk_43 (dk_at dksX1_digs_0 13 rfl rfl)
theorem dX1_digs_14 : decode cX1_digs 14 = .ok (.getfield 159, 3) := dk_180 0 159 (dk_at dksX1_digs_0 14 rfl rfl)
theorem dX1_digs_17 : decode cX1_digs 17 = .ok (.iaload, 1) := dk_46 (dk_at dksX1_digs_0 17 rfl rfl)
theorem dX1_digs_18 : decode cX1_digs 18 = .ok (.aload_n 0, 1) := dk_42 (dk_at dksX1_digs_0 18 rfl rfl)
theorem dX1_digs_19 : decode cX1_digs 19 = .ok (.getfield 15, 3) := dk_180 0 15 (dk_at dksX1_digs_0 19 rfl rfl)
theorem dX1_digs_22 : decode cX1_digs 22 = .ok (.aload_n 1, 1) := dk_43 (dk_at dksX1_digs_0 22 rfl rfl)
theorem dX1_digs_23 : decode cX1_digs 23 = .ok (.getfield 159, 3) := dk_180 0 159 (dk_at dksX1_digs_1 0 rfl rfl)
theorem dX1_digs_26 : decode cX1_digs 26 = .ok (.iaload, 1) := dk_46 (dk_at dksX1_digs_1 3 rfl rfl)
theorem dX1_digs_27 : decode cX1_digs 27 = .ok (.iconst 2, 1) := dk_5 (dk_at dksX1_digs_1 4 rfl rfl)
theorem dX1_digs_28 : decode cX1_digs 28 = .ok (.idiv, 1) := dk_108 (dk_at dksX1_digs_1 5 rfl rfl)
theorem dX1_digs_29 : decode cX1_digs 29 = .ok (.isub, 1) := dk_100 (dk_at dksX1_digs_1 6 rfl rfl)
theorem dX1_digs_30 : decode cX1_digs 30 = .ok (.istore_n 2, 1) := dk_61 (dk_at dksX1_digs_1 7 rfl rfl)
theorem dX1_digs_31 : decode cX1_digs 31 = .ok (.aload_n 1, 1) := dk_43 (dk_at dksX1_digs_1 8 rfl rfl)
theorem dX1_digs_32 : decode cX1_digs 32 = .ok (.dup, 1) := dk_89 (dk_at dksX1_digs_1 9 rfl rfl)
theorem dX1_digs_33 : decode cX1_digs 33 = .ok (.getfield 162, 3) := dk_180 0 162 (dk_at dksX1_digs_1 10 rfl rfl)
theorem dX1_digs_36 : decode cX1_digs 36 = .ok (.iload_n 2, 1) := dk_28 (dk_at dksX1_digs_1 13 rfl rfl)
theorem dX1_digs_37 : decode cX1_digs 37 = .ok (.iadd, 1) := dk_96 (dk_at dksX1_digs_1 14 rfl rfl)
theorem dX1_digs_38 : decode cX1_digs 38 = .ok (.putfield 162, 3) := dk_181 0 162 (dk_at dksX1_digs_1 15 rfl rfl)
theorem dX1_digs_41 : decode cX1_digs 41 = .ok (.aload_n 0, 1) := dk_42 (dk_at dksX1_digs_1 18 rfl rfl)
theorem dX1_digs_42 : decode cX1_digs 42 = .ok (.aload_n 1, 1) := dk_43 (dk_at dksX1_digs_1 19 rfl rfl)
theorem dX1_digs_43 : decode cX1_digs 43 = .ok (.getfield 159, 3) := dk_180 0 159 (dk_at dksX1_digs_1 20 rfl rfl)
theorem dX1_digs_46 : decode cX1_digs 46 = .ok (.iload_n 2, 1) := dk_28 (dk_at dksX1_digs_1 23 rfl rfl)
theorem dX1_digs_47 : decode cX1_digs 47 = .ok (.invokevirtual 126, 3) := dk_182 0 126 (dk_at dksX1_digs_2 0 rfl rfl)
theorem dX1_digs_50 : decode cX1_digs 50 = .ok (.aload_n 0, 1) := dk_42 (dk_at dksX1_digs_2 3 rfl rfl)
theorem dX1_digs_51 : decode cX1_digs 51 = .ok (.aload_n 1, 1) := dk_43 (dk_at dksX1_digs_2 4 rfl rfl)
theorem dX1_digs_52 : decode cX1_digs 52 = .ok (.getfield 159, 3) := dk_180 0 159 (dk_at dksX1_digs_2 5 rfl rfl)
theorem dX1_digs_55 : decode cX1_digs 55 = .ok (.invokevirtual 165, 3) := dk_182 0 165 (dk_at dksX1_digs_2 8 rfl rfl)
theorem dX1_digs_58 : decode cX1_digs 58 = .ok (.istore_n 3, 1) := dk_62 (dk_at dksX1_digs_2 11 rfl rfl)
theorem dX1_digs_59 : decode cX1_digs 59 = .ok (.aload_n 1, 1) := dk_43 (dk_at dksX1_digs_2 12 rfl rfl)
theorem dX1_digs_60 : decode cX1_digs 60 = .ok (.iload_n 3, 1) := dk_29 (dk_at dksX1_digs_2 13 rfl rfl)
theorem dX1_digs_61 : decode cX1_digs 61 = .ok (.ifCond .ge 10, 3) := dk_156 0 10 (dk_at dksX1_digs_2 14 rfl rfl)
theorem dX1_digs_64 : decode cX1_digs 64 = .ok (.aload_n 1, 1) := dk_43 (dk_at dksX1_digs_2 17 rfl rfl)
theorem dX1_digs_65 : decode cX1_digs 65 = .ok (.getfield 159, 3) := dk_180 0 159 (dk_at dksX1_digs_2 18 rfl rfl)
theorem dX1_digs_68 : decode cX1_digs 68 = .ok (.goto 4, 3) := dk_167 0 4 (dk_at dksX1_digs_2 21 rfl rfl)
theorem dX1_digs_71 : decode cX1_digs 71 = .ok (.iload_n 3, 1) := dk_29 (dk_at dksX1_digs_3 0 rfl rfl)
theorem dX1_digs_72 : decode cX1_digs 72 = .ok (.putfield 159, 3) := dk_181 0 159 (dk_at dksX1_digs_3 1 rfl rfl)
theorem dX1_digs_75 : decode cX1_digs 75 = .ok (.aload_n 1, 1) := dk_43 (dk_at dksX1_digs_3 4 rfl rfl)
theorem dX1_digs_76 : decode cX1_digs 76 = .ok (.iload_n 3, 1) := dk_29 (dk_at dksX1_digs_3 5 rfl rfl)
theorem dX1_digs_77 : decode cX1_digs 77 = .ok (.ifCond .lt 18, 3) := dk_155 0 18 (dk_at dksX1_digs_3 6 rfl rfl)
theorem dX1_digs_80 : decode cX1_digs 80 = .ok (.aload_n 0, 1) := dk_42 (dk_at dksX1_digs_3 9 rfl rfl)
theorem dX1_digs_81 : decode cX1_digs 81 = .ok (.getfield 30, 3) := dk_180 0 30 (dk_at dksX1_digs_3 10 rfl rfl)
theorem dX1_digs_84 : decode cX1_digs 84 = .ok (.iload_n 3, 1) := dk_29 (dk_at dksX1_digs_3 13 rfl rfl)
theorem dX1_digs_85 : decode cX1_digs 85 = .ok (.invokevirtual 151, 3) := dk_182 0 151 (dk_at dksX1_digs_3 14 rfl rfl)
theorem dX1_digs_88 : decode cX1_digs 88 = .ok (.ifCond .eq 7, 3) := dk_153 0 7 (dk_at dksX1_digs_3 17 rfl rfl)
theorem dX1_digs_91 : decode cX1_digs 91 = .ok (.iconst 1, 1) := dk_4 (dk_at dksX1_digs_3 20 rfl rfl)
theorem dX1_digs_92 : decode cX1_digs 92 = .ok (.goto 4, 3) := dk_167 0 4 (dk_at dksX1_digs_3 21 rfl rfl)
theorem dX1_digs_95 : decode cX1_digs 95 = .ok (.iconst 0, 1) := dk_3 (dk_at dksX1_digs_4 0 rfl rfl)
theorem dX1_digs_96 : decode cX1_digs 96 = .ok (.putfield 155, 3) := dk_181 0 155 (dk_at dksX1_digs_4 1 rfl rfl)
theorem dX1_digs_99 : decode cX1_digs 99 = .ok (.aload_n 1, 1) := dk_43 (dk_at dksX1_digs_4 4 rfl rfl)
theorem dX1_digs_100 : decode cX1_digs 100 = .ok (.getfield 155, 3) := dk_180 0 155 (dk_at dksX1_digs_4 5 rfl rfl)
theorem dX1_digs_103 : decode cX1_digs 103 = .ok (.ifCond .eq 11, 3) := dk_153 0 11 (dk_at dksX1_digs_4 8 rfl rfl)
theorem dX1_digs_106 : decode cX1_digs 106 = .ok (.aload_n 0, 1) := dk_42 (dk_at dksX1_digs_4 11 rfl rfl)
theorem dX1_digs_107 : decode cX1_digs 107 = .ok (.getfield 30, 3) := dk_180 0 30 (dk_at dksX1_digs_4 12 rfl rfl)
theorem dX1_digs_110 : decode cX1_digs 110 = .ok (.iload_n 3, 1) := dk_29 (dk_at dksX1_digs_4 15 rfl rfl)
theorem dX1_digs_111 : decode cX1_digs 111 = .ok (.invokevirtual 168, 3) := dk_182 0 168 (dk_at dksX1_digs_4 16 rfl rfl)
theorem dX1_digs_114 : decode cX1_digs 114 = .ok (.aload_n 1, 1) := dk_43 (dk_at dksX1_digs_4 19 rfl rfl)
theorem dX1_digs_115 : decode cX1_digs 115 = .ok (.getfield 155, 3) := dk_180 0 155 (dk_at dksX1_digs_4 20 rfl rfl)
theorem dX1_digs_118 : decode cX1_digs 118 = .ok (.ifCond .eq 7, 3) := dk_153 0 7 (dk_at dksX1_digs_5 0 rfl rfl)
theorem dX1_digs_121 : decode cX1_digs 121 = .ok (.iconst 1, 1) := dk_4 (dk_at dksX1_digs_5 3 rfl rfl)
theorem dX1_digs_122 : decode cX1_digs 122 = .ok (.goto 4, 3) := dk_167 0 4 (dk_at dksX1_digs_5 4 rfl rfl)
theorem dX1_digs_125 : decode cX1_digs 125 = .ok (.iconst 0, 1) := dk_3 (dk_at dksX1_digs_5 7 rfl rfl)
theorem dX1_digs_126 : decode cX1_digs 126 = .ok (.ireturn, 1) := dk_172 (dk_at dksX1_digs_5 8 rfl rfl)
abbrev cX1_goal : ByteArray := prog_18_method_8_code
def yX1_goal : MethodName := ⟨RX1, "goal", "(I)I"⟩
def dkwX1_goal_4 : List UInt8 := [162, 0, 8, 21, 4, 167, 0, 4, 28, 61, 132, 3, 1, 167, 255, 155, 28, 172]
abbrev dktX1_goal_4 : List UInt8 := dkwX1_goal_4 ++ []
def dkwX1_goal_3 : List UInt8 := [163, 0, 25, 42, 180, 0, 15, 21, 4, 46, 42, 180, 0, 15, 28, 46, 160, 0, 14, 21, 4, 28]
abbrev dktX1_goal_3 : List UInt8 := dkwX1_goal_3 ++ dktX1_goal_4
def dkwX1_goal_2 : List UInt8 := [21, 5, 153, 0, 50, 28, 155, 0, 41, 42, 180, 0, 15, 21, 4, 46, 42, 180, 0, 15, 28, 46]
abbrev dktX1_goal_2 : List UInt8 := dkwX1_goal_2 ++ dktX1_goal_3
def dkwX1_goal_1 : List UInt8 := [21, 4, 155, 0, 19, 42, 180, 0, 26, 21, 4, 182, 0, 151, 154, 0, 7, 4, 167, 0, 4, 3, 54, 5]
abbrev dktX1_goal_1 : List UInt8 := dkwX1_goal_1 ++ dktX1_goal_2
def dkwX1_goal_0 : List UInt8 := [2, 61, 3, 62, 29, 7, 162, 0, 102, 18, 133, 29, 182, 0, 135, 184, 0, 141, 27, 182, 0, 147, 54, 4]
abbrev dktX1_goal_0 : List UInt8 := dkwX1_goal_0 ++ dktX1_goal_1
theorem dksX1_goal_0 : cX1_goal.data.toList.drop 0 = dktX1_goal_0 := by decide +kernel
theorem dksX1_goal_1 : cX1_goal.data.toList.drop 24 = dktX1_goal_1 := dk_seg dksX1_goal_0 24 rfl rfl
theorem dksX1_goal_2 : cX1_goal.data.toList.drop 48 = dktX1_goal_2 := dk_seg dksX1_goal_1 24 rfl rfl
theorem dksX1_goal_3 : cX1_goal.data.toList.drop 70 = dktX1_goal_3 := dk_seg dksX1_goal_2 22 rfl rfl
theorem dksX1_goal_4 : cX1_goal.data.toList.drop 92 = dktX1_goal_4 := dk_seg dksX1_goal_3 22 rfl rfl
theorem dX1_goal_0 : decode cX1_goal 0 = .ok (.iconst (-1), 1) := dk_2 (dk_at dksX1_goal_0 0 rfl rfl)
theorem dX1_goal_1 : decode cX1_goal 1 = .ok (.istore_n 2, 1) := dk_61 (dk_at dksX1_goal_0 1 rfl rfl)
theorem dX1_goal_2 : decode cX1_goal 2 = .ok (.iconst 0, 1) := dk_3 (dk_at dksX1_goal_0 2 rfl rfl)
theorem dX1_goal_3 : decode cX1_goal 3 = .ok (.istore_n 3, 1) := dk_62 (dk_at dksX1_goal_0 3 rfl rfl)
theorem dX1_goal_4 : decode cX1_goal 4 = .ok (.iload_n 3, 1) := dk_29 (dk_at dksX1_goal_0 4 rfl rfl)
theorem dX1_goal_5 : decode cX1_goal 5 = .ok (.iconst 4, 1) := dk_7 (dk_at dksX1_goal_0 5 rfl rfl)
theorem dX1_goal_6 : decode cX1_goal 6 = .ok (.if_icmp .ge 102, 3) := dk_162 0 102 (dk_at dksX1_goal_0 6 rfl rfl)
theorem dX1_goal_9 : decode cX1_goal 9 = .ok (.ldc 133, 2) := dk_18 133 (dk_at dksX1_goal_0 9 rfl rfl)
theorem dX1_goal_11 : decode cX1_goal 11 = .ok (.iload_n 3, 1) := dk_29 (dk_at dksX1_goal_0 11 rfl rfl)
theorem dX1_goal_12 : decode cX1_goal 12 = .ok (.invokevirtual 135, 3) := dk_182 0 135 (dk_at dksX1_goal_0 12 rfl rfl)
theorem dX1_goal_15 : decode cX1_goal 15 = .ok (.invokestatic 141, 3) := dk_184 0 141 (dk_at dksX1_goal_0 15 rfl rfl)
theorem dX1_goal_18 : decode cX1_goal 18 = .ok (.iload_n 1, 1) := dk_27 (dk_at dksX1_goal_0 18 rfl rfl)
theorem dX1_goal_19 : decode cX1_goal 19 = .ok (.invokevirtual 147, 3) := dk_182 0 147 (dk_at dksX1_goal_0 19 rfl rfl)
theorem dX1_goal_22 : decode cX1_goal 22 = .ok (.istore 4, 2) := dk_54 4 (dk_at dksX1_goal_0 22 rfl rfl)
theorem dX1_goal_24 : decode cX1_goal 24 = .ok (.iload 4, 2) := dk_21 4 (dk_at dksX1_goal_1 0 rfl rfl)
theorem dX1_goal_26 : decode cX1_goal 26 = .ok (.ifCond .lt 19, 3) := dk_155 0 19 (dk_at dksX1_goal_1 2 rfl rfl)
theorem dX1_goal_29 : decode cX1_goal 29 = .ok (.aload_n 0, 1) := dk_42 (dk_at dksX1_goal_1 5 rfl rfl)
theorem dX1_goal_30 : decode cX1_goal 30 = .ok (.getfield 26, 3) := dk_180 0 26 (dk_at dksX1_goal_1 6 rfl rfl)
theorem dX1_goal_33 : decode cX1_goal 33 = .ok (.iload 4, 2) := dk_21 4 (dk_at dksX1_goal_1 9 rfl rfl)
theorem dX1_goal_35 : decode cX1_goal 35 = .ok (.invokevirtual 151, 3) := dk_182 0 151 (dk_at dksX1_goal_1 11 rfl rfl)
theorem dX1_goal_38 : decode cX1_goal 38 = .ok (.ifCond .ne 7, 3) := dk_154 0 7 (dk_at dksX1_goal_1 14 rfl rfl)
theorem dX1_goal_41 : decode cX1_goal 41 = .ok (.iconst 1, 1) := dk_4 (dk_at dksX1_goal_1 17 rfl rfl)
theorem dX1_goal_42 : decode cX1_goal 42 = .ok (.goto 4, 3) := dk_167 0 4 (dk_at dksX1_goal_1 18 rfl rfl)
theorem dX1_goal_45 : decode cX1_goal 45 = .ok (.iconst 0, 1) := dk_3 (dk_at dksX1_goal_1 21 rfl rfl)
theorem dX1_goal_46 : decode cX1_goal 46 = .ok (.istore 5, 2) := dk_54 5 (dk_at dksX1_goal_1 22 rfl rfl)
theorem dX1_goal_48 : decode cX1_goal 48 = .ok (.iload 5, 2) := dk_21 5 (dk_at dksX1_goal_2 0 rfl rfl)
theorem dX1_goal_50 : decode cX1_goal 50 = .ok (.ifCond .eq 50, 3) := dk_153 0 50 (dk_at dksX1_goal_2 2 rfl rfl)
theorem dX1_goal_53 : decode cX1_goal 53 = .ok (.iload_n 2, 1) := dk_28 (dk_at dksX1_goal_2 5 rfl rfl)
theorem dX1_goal_54 : decode cX1_goal 54 = .ok (.ifCond .lt 41, 3) := dk_155 0 41 (dk_at dksX1_goal_2 6 rfl rfl)
theorem dX1_goal_57 : decode cX1_goal 57 = .ok (.aload_n 0, 1) := dk_42 (dk_at dksX1_goal_2 9 rfl rfl)
theorem dX1_goal_58 : decode cX1_goal 58 = .ok (.getfield 15, 3) := dk_180 0 15 (dk_at dksX1_goal_2 10 rfl rfl)
theorem dX1_goal_61 : decode cX1_goal 61 = .ok (.iload 4, 2) := dk_21 4 (dk_at dksX1_goal_2 13 rfl rfl)
theorem dX1_goal_63 : decode cX1_goal 63 = .ok (.iaload, 1) := dk_46 (dk_at dksX1_goal_2 15 rfl rfl)
theorem dX1_goal_64 : decode cX1_goal 64 = .ok (.aload_n 0, 1) := dk_42 (dk_at dksX1_goal_2 16 rfl rfl)
theorem dX1_goal_65 : decode cX1_goal 65 = .ok (.getfield 15, 3) := dk_180 0 15 (dk_at dksX1_goal_2 17 rfl rfl)
theorem dX1_goal_68 : decode cX1_goal 68 = .ok (.iload_n 2, 1) := dk_28 (dk_at dksX1_goal_2 20 rfl rfl)
theorem dX1_goal_69 : decode cX1_goal 69 = .ok (.iaload, 1) := dk_46 (dk_at dksX1_goal_2 21 rfl rfl)
theorem dX1_goal_70 : decode cX1_goal 70 = .ok (.if_icmp .gt 25, 3) := dk_163 0 25 (dk_at dksX1_goal_3 0 rfl rfl)
theorem dX1_goal_73 : decode cX1_goal 73 = .ok (.aload_n 0, 1) := dk_42 (dk_at dksX1_goal_3 3 rfl rfl)
theorem dX1_goal_74 : decode cX1_goal 74 = .ok (.getfield 15, 3) := dk_180 0 15 (dk_at dksX1_goal_3 4 rfl rfl)
theorem dX1_goal_77 : decode cX1_goal 77 = .ok (.iload 4, 2) := dk_21 4 (dk_at dksX1_goal_3 7 rfl rfl)
theorem dX1_goal_79 : decode cX1_goal 79 = .ok (.iaload, 1) := dk_46 (dk_at dksX1_goal_3 9 rfl rfl)
theorem dX1_goal_80 : decode cX1_goal 80 = .ok (.aload_n 0, 1) := dk_42 (dk_at dksX1_goal_3 10 rfl rfl)
theorem dX1_goal_81 : decode cX1_goal 81 = .ok (.getfield 15, 3) := dk_180 0 15 (dk_at dksX1_goal_3 11 rfl rfl)
theorem dX1_goal_84 : decode cX1_goal 84 = .ok (.iload_n 2, 1) := dk_28 (dk_at dksX1_goal_3 14 rfl rfl)
theorem dX1_goal_85 : decode cX1_goal 85 = .ok (.iaload, 1) := dk_46 (dk_at dksX1_goal_3 15 rfl rfl)
theorem dX1_goal_86 : decode cX1_goal 86 = .ok (.if_icmp .ne 14, 3) := dk_160 0 14 (dk_at dksX1_goal_3 16 rfl rfl)
theorem dX1_goal_89 : decode cX1_goal 89 = .ok (.iload 4, 2) := dk_21 4 (dk_at dksX1_goal_3 19 rfl rfl)
theorem dX1_goal_91 : decode cX1_goal 91 = .ok (.iload_n 2, 1) := dk_28 (dk_at dksX1_goal_3 21 rfl rfl)
theorem dX1_goal_92 : decode cX1_goal 92 = .ok (.if_icmp .ge 8, 3) := dk_162 0 8 (dk_at dksX1_goal_4 0 rfl rfl)
theorem dX1_goal_95 : decode cX1_goal 95 = .ok (.iload 4, 2) := dk_21 4 (dk_at dksX1_goal_4 3 rfl rfl)
theorem dX1_goal_97 : decode cX1_goal 97 = .ok (.goto 4, 3) := dk_167 0 4 (dk_at dksX1_goal_4 5 rfl rfl)
theorem dX1_goal_100 : decode cX1_goal 100 = .ok (.iload_n 2, 1) := dk_28 (dk_at dksX1_goal_4 8 rfl rfl)
theorem dX1_goal_101 : decode cX1_goal 101 = .ok (.istore_n 2, 1) := dk_61 (dk_at dksX1_goal_4 9 rfl rfl)
theorem dX1_goal_102 : decode cX1_goal 102 = .ok (.iinc 3 1, 3) := dk_132 3 1 (dk_at dksX1_goal_4 10 rfl rfl)
theorem dX1_goal_105 : decode cX1_goal 105 = .ok (.goto (-101), 3) := dk_167 255 155 (dk_at dksX1_goal_4 13 rfl rfl)
theorem dX1_goal_108 : decode cX1_goal 108 = .ok (.iload_n 2, 1) := dk_28 (dk_at dksX1_goal_4 16 rfl rfl)
theorem dX1_goal_109 : decode cX1_goal 109 = .ok (.ireturn, 1) := dk_172 (dk_at dksX1_goal_4 17 rfl rfl)
abbrev cX1_mayBeTrodden : ByteArray := prog_18_method_4_code
def yX1_mayBeTrodden : MethodName := ⟨RX1, "mayBeTrodden", "(I)Z"⟩
def dkwX1_mayBeTrodden_0 : List UInt8 := [42, 180, 0, 15, 27, 46, 4, 8, 184, 0, 116, 154, 0, 7, 4, 167, 0, 4, 3, 172]
abbrev dktX1_mayBeTrodden_0 : List UInt8 := dkwX1_mayBeTrodden_0 ++ []
theorem dksX1_mayBeTrodden_0 : cX1_mayBeTrodden.data.toList.drop 0 = dktX1_mayBeTrodden_0 := by decide +kernel
theorem dX1_mayBeTrodden_0 : decode cX1_mayBeTrodden 0 = .ok (.aload_n 0, 1) := dk_42 (dk_at dksX1_mayBeTrodden_0 0 rfl rfl)
theorem dX1_mayBeTrodden_1 : decode cX1_mayBeTrodden 1 = .ok (.getfield 15, 3) := dk_180 0 15 (dk_at dksX1_mayBeTrodden_0 1 rfl rfl)
theorem dX1_mayBeTrodden_4 : decode cX1_mayBeTrodden 4 = .ok (.iload_n 1, 1) := dk_27 (dk_at dksX1_mayBeTrodden_0 4 rfl rfl)
theorem dX1_mayBeTrodden_5 : decode cX1_mayBeTrodden 5 = .ok (.iaload, 1) := dk_46 (dk_at dksX1_mayBeTrodden_0 5 rfl rfl)
theorem dX1_mayBeTrodden_6 : decode cX1_mayBeTrodden 6 = .ok (.iconst 1, 1) := dk_4 (dk_at dksX1_mayBeTrodden_0 6 rfl rfl)
theorem dX1_mayBeTrodden_7 : decode cX1_mayBeTrodden 7 = .ok (.iconst 5, 1) := dk_8 (dk_at dksX1_mayBeTrodden_0 7 rfl rfl)
theorem dX1_mayBeTrodden_8 : decode cX1_mayBeTrodden 8 = .ok (.invokestatic 116, 3) := dk_184 0 116 (dk_at dksX1_mayBeTrodden_0 8 rfl rfl)
theorem dX1_mayBeTrodden_11 : decode cX1_mayBeTrodden 11 = .ok (.ifCond .ne 7, 3) := dk_154 0 7 (dk_at dksX1_mayBeTrodden_0 11 rfl rfl)
theorem dX1_mayBeTrodden_14 : decode cX1_mayBeTrodden 14 = .ok (.iconst 1, 1) := dk_4 (dk_at dksX1_mayBeTrodden_0 14 rfl rfl)
theorem dX1_mayBeTrodden_15 : decode cX1_mayBeTrodden 15 = .ok (.goto 4, 3) := dk_167 0 4 (dk_at dksX1_mayBeTrodden_0 15 rfl rfl)
theorem dX1_mayBeTrodden_18 : decode cX1_mayBeTrodden 18 = .ok (.iconst 0, 1) := dk_3 (dk_at dksX1_mayBeTrodden_0 18 rfl rfl)
theorem dX1_mayBeTrodden_19 : decode cX1_mayBeTrodden 19 = .ok (.ireturn, 1) := dk_172 (dk_at dksX1_mayBeTrodden_0 19 rfl rfl)
theorem q116 : (Jvm.Cond.initialized "MossLawn$State") ∈ lw_all := lw_g (lw_at lw_m1 2 rfl) rfl
theorem q175 : (Jvm.Cond.instantiable "MossLawn$State" (19 : Nat)) ∈ lw_all := lw_g (lw_at lw_m1 61 rfl) rfl
theorem q177 : (Jvm.Cond.instanceMethod ({ cls := "MossLawn$State", name := "<init>", desc := "()V" } : Jvm.MethodName)) ∈ lw_all := lw_g (lw_at lw_m1 63 rfl) rfl
theorem q178 : (Jvm.Cond.code ({ cls := "MossLawn$State", name := "<init>", desc := "()V" } : Jvm.MethodName) prog_18_method_1_code (2 : Nat) (Option.none : Option Jvm.ClassFile.FieldType)) ∈ lw_all := lw_g (lw_at lw_m1 64 rfl) rfl
theorem q179 : (Jvm.Cond.methodLink "MossLawn$State" (3 : Nat) ({ cls := "java/lang/Object", name := "<init>", desc := "()V" } : Jvm.MethodName)) ∈ lw_all := lw_g (lw_at lw_m1 65 rfl) rfl
theorem q180 : (Jvm.Cond.classLink "MossLawn$State" (21 : Nat) "java/util/BitSet") ∈ lw_all := lw_g (lw_at lw_m1 66 rfl) rfl
theorem q182 : (Jvm.Cond.methodLink "MossLawn$State" (23 : Nat) ({ cls := "java/util/BitSet", name := "<init>", desc := "(I)V" } : Jvm.MethodName)) ∈ lw_all := lw_g (lw_at lw_m1 68 rfl) rfl
theorem q205 : (Jvm.Cond.classLink "MossLawn$State" (33 : Nat) "MossLawn$Gardener") ∈ lw_all := lw_g (lw_at lw_m1 91 rfl) rfl
theorem q207 : (Jvm.Cond.classLink "MossLawn$State" (39 : Nat) "MossLawn$Mole") ∈ lw_all := lw_g (lw_at lw_m1 93 rfl) rfl
theorem q209 : (Jvm.Cond.classLink "MossLawn$State" (48 : Nat) "java/util/LinkedList") ∈ lw_all := lw_g (lw_at lw_m1 95 rfl) rfl
theorem q211 : (Jvm.Cond.methodLink "MossLawn$State" (50 : Nat) ({ cls := "java/util/LinkedList", name := "<init>", desc := "()V" } : Jvm.MethodName)) ∈ lw_all := lw_g (lw_at lw_m1 97 rfl) rfl
theorem q243 : (Jvm.Cond.methodLinkNest "MossLawn$State" (55 : Nat) ({ cls := "MossLawn$Gardener", name := "<init>", desc := "()V" } : Jvm.MethodName) "MossLawn") ∈ lw_tbl := lw_at lw_m1 129 rfl
theorem q250 : (Jvm.Cond.fieldLinkNest "MossLawn$State" (177 : Nat) "MossLawn$Gardener" "hours" "I" "MossLawn") ∈ lw_tbl := lw_at lw_m1 136 rfl
theorem q270 : (Jvm.Cond.methodLinkNest "MossLawn$State" (56 : Nat) ({ cls := "MossLawn$Mole", name := "<init>", desc := "()V" } : Jvm.MethodName) "MossLawn") ∈ lw_tbl := lw_at lw_m1 156 rfl
theorem q275 : (Jvm.Cond.fieldLinkNest "MossLawn$State" (159 : Nat) "MossLawn$Mole" "square" "I" "MossLawn") ∈ lw_tbl := lw_at lw_m1 161 rfl
theorem q278 : (Jvm.Cond.fieldLinkNest "MossLawn$State" (155 : Nat) "MossLawn$Mole" "isCaught" "Z" "MossLawn") ∈ lw_tbl := lw_at lw_m1 164 rfl
theorem q281 : (Jvm.Cond.fieldLinkNest "MossLawn$State" (162 : Nat) "MossLawn$Mole" "took" "I" "MossLawn") ∈ lw_tbl := lw_at lw_m1 167 rfl
theorem q290 : (Jvm.Cond.methodLink "MossLawn$State" (57 : Nat) ({ cls := "MossLawn$State", name := "empties", desc := "()V" } : Jvm.MethodName)) ∈ lw_all := lw_g (lw_at lw_m1 176 rfl) rfl
theorem q291 : (Jvm.Cond.instanceMethod ({ cls := "MossLawn$State", name := "empties", desc := "()V" } : Jvm.MethodName)) ∈ lw_all := lw_g (lw_at lw_m1 177 rfl) rfl
theorem q292 : (Jvm.Cond.selects "MossLawn$State" ({ cls := "MossLawn$State", name := "empties", desc := "()V" } : Jvm.MethodName) ({ cls := "MossLawn$State", name := "empties", desc := "()V" } : Jvm.MethodName)) ∈ lw_all := lw_g (lw_at lw_m1 178 rfl) rfl
theorem q293 : (Jvm.Cond.code ({ cls := "MossLawn$State", name := "empties", desc := "()V" } : Jvm.MethodName) prog_18_method_2_code (2 : Nat) (Option.none : Option Jvm.ClassFile.FieldType)) ∈ lw_all := lw_g (lw_at lw_m1 179 rfl) rfl
theorem q294 : (Jvm.Cond.methodLink "MossLawn$State" (60 : Nat) ({ cls := "java/util/BitSet", name := "clear", desc := "()V" } : Jvm.MethodName)) ∈ lw_all := lw_g (lw_at lw_m1 180 rfl) rfl
theorem q298 : (Jvm.Cond.methodLink "MossLawn$State" (70 : Nat) ({ cls := "java/util/LinkedList", name := "clear", desc := "()V" } : Jvm.MethodName)) ∈ lw_all := lw_g (lw_at lw_m1 184 rfl) rfl
theorem q302 : (Jvm.Cond.fieldLink "MossLawn$State" (9 : Nat) "MossLawn$State" "shade" "[I") ∈ lw_all := lw_g (lw_at lw_m1 188 rfl) rfl
theorem q304 : (Jvm.Cond.fieldLink "MossLawn$State" (15 : Nat) "MossLawn$State" "moss" "[I") ∈ lw_all := lw_g (lw_at lw_m1 190 rfl) rfl
theorem q306 : (Jvm.Cond.fieldLink "MossLawn$State" (18 : Nat) "MossLawn$State" "leaves" "[I") ∈ lw_all := lw_g (lw_at lw_m1 192 rfl) rfl
theorem q308 : (Jvm.Cond.fieldLink "MossLawn$State" (26 : Nat) "MossLawn$State" "stones" "Ljava/util/BitSet;") ∈ lw_all := lw_g (lw_at lw_m1 194 rfl) rfl
theorem q310 : (Jvm.Cond.fieldLink "MossLawn$State" (30 : Nat) "MossLawn$State" "traps" "Ljava/util/BitSet;") ∈ lw_all := lw_g (lw_at lw_m1 196 rfl) rfl
theorem q312 : (Jvm.Cond.fieldLink "MossLawn$State" (35 : Nat) "MossLawn$State" "gardeners" "[LMossLawn$Gardener;") ∈ lw_all := lw_g (lw_at lw_m1 198 rfl) rfl
theorem q314 : (Jvm.Cond.fieldLink "MossLawn$State" (63 : Nat) "MossLawn$State" "gardenerMany" "I") ∈ lw_all := lw_g (lw_at lw_m1 200 rfl) rfl
theorem q316 : (Jvm.Cond.fieldLink "MossLawn$State" (41 : Nat) "MossLawn$State" "moles" "[LMossLawn$Mole;") ∈ lw_all := lw_g (lw_at lw_m1 202 rfl) rfl
theorem q318 : (Jvm.Cond.fieldLink "MossLawn$State" (67 : Nat) "MossLawn$State" "moleMany" "I") ∈ lw_all := lw_g (lw_at lw_m1 204 rfl) rfl
theorem q320 : (Jvm.Cond.fieldLink "MossLawn$State" (45 : Nat) "MossLawn$State" "pairs" "[I") ∈ lw_all := lw_g (lw_at lw_m1 206 rfl) rfl
theorem q322 : (Jvm.Cond.fieldLink "MossLawn$State" (51 : Nat) "MossLawn$State" "walks" "Ljava/util/LinkedList;") ∈ lw_all := lw_g (lw_at lw_m1 208 rfl) rfl
theorem q324 : (Jvm.Cond.fieldLink "MossLawn$State" (71 : Nat) "MossLawn$State" "trapsLeft" "I") ∈ lw_all := lw_g (lw_at lw_m1 210 rfl) rfl
theorem q326 : (Jvm.Cond.fieldLink "MossLawn$State" (74 : Nat) "MossLawn$State" "rain" "I") ∈ lw_all := lw_g (lw_at lw_m1 212 rfl) rfl
theorem q328 : (Jvm.Cond.fieldLink "MossLawn$State" (77 : Nat) "MossLawn$State" "day" "I") ∈ lw_all := lw_g (lw_at lw_m1 214 rfl) rfl
theorem q330 : (Jvm.Cond.fieldLink "MossLawn$State" (80 : Nat) "MossLawn$State" "grown" "I") ∈ lw_all := lw_g (lw_at lw_m1 216 rfl) rfl
theorem q332 : (Jvm.Cond.fieldLink "MossLawn$State" (83 : Nat) "MossLawn$State" "lost" "I") ∈ lw_all := lw_g (lw_at lw_m1 218 rfl) rfl
theorem q334 : (Jvm.Cond.fieldLink "MossLawn$State" (86 : Nat) "MossLawn$State" "pilgrims" "I") ∈ lw_all := lw_g (lw_at lw_m1 220 rfl) rfl
theorem q336 : (Jvm.Cond.fieldLink "MossLawn$State" (89 : Nat) "MossLawn$State" "coins" "I") ∈ lw_all := lw_g (lw_at lw_m1 222 rfl) rfl
theorem q338 : (Jvm.Cond.fieldLink "MossLawn$State" (92 : Nat) "MossLawn$State" "strokes" "I") ∈ lw_all := lw_g (lw_at lw_m1 224 rfl) rfl
theorem q340 : (Jvm.Cond.laysFinal "MossLawn$State" "MossLawn$State" "shade" "[I") ∈ lw_all := lw_g (lw_at lw_m1 226 rfl) rfl
theorem q341 : (Jvm.Cond.soleField "MossLawn$State" "shade") ∈ lw_all := lw_g (lw_at lw_m1 227 rfl) rfl
theorem q342 : (Jvm.Cond.laysFinal "MossLawn$State" "MossLawn$State" "moss" "[I") ∈ lw_all := lw_g (lw_at lw_m1 228 rfl) rfl
theorem q343 : (Jvm.Cond.soleField "MossLawn$State" "moss") ∈ lw_all := lw_g (lw_at lw_m1 229 rfl) rfl
theorem q344 : (Jvm.Cond.laysFinal "MossLawn$State" "MossLawn$State" "leaves" "[I") ∈ lw_all := lw_g (lw_at lw_m1 230 rfl) rfl
theorem q345 : (Jvm.Cond.soleField "MossLawn$State" "leaves") ∈ lw_all := lw_g (lw_at lw_m1 231 rfl) rfl
theorem q346 : (Jvm.Cond.laysFinal "MossLawn$State" "MossLawn$State" "stones" "Ljava/util/BitSet;") ∈ lw_all := lw_g (lw_at lw_m1 232 rfl) rfl
theorem q347 : (Jvm.Cond.soleField "MossLawn$State" "stones") ∈ lw_all := lw_g (lw_at lw_m1 233 rfl) rfl
theorem q348 : (Jvm.Cond.laysFinal "MossLawn$State" "MossLawn$State" "traps" "Ljava/util/BitSet;") ∈ lw_all := lw_g (lw_at lw_m1 234 rfl) rfl
theorem q349 : (Jvm.Cond.soleField "MossLawn$State" "traps") ∈ lw_all := lw_g (lw_at lw_m1 235 rfl) rfl
theorem q350 : (Jvm.Cond.laysFinal "MossLawn$State" "MossLawn$State" "gardeners" "[LMossLawn$Gardener;") ∈ lw_all := lw_g (lw_at lw_m1 236 rfl) rfl
theorem q351 : (Jvm.Cond.soleField "MossLawn$State" "gardeners") ∈ lw_all := lw_g (lw_at lw_m1 237 rfl) rfl
theorem q352 : (Jvm.Cond.lays "MossLawn$State" "MossLawn$State" "gardenerMany" "I") ∈ lw_all := lw_g (lw_at lw_m1 238 rfl) rfl
theorem q353 : (Jvm.Cond.soleField "MossLawn$State" "gardenerMany") ∈ lw_all := lw_g (lw_at lw_m1 239 rfl) rfl
theorem q354 : (Jvm.Cond.laysFinal "MossLawn$State" "MossLawn$State" "moles" "[LMossLawn$Mole;") ∈ lw_all := lw_g (lw_at lw_m2 0 rfl) rfl
theorem q355 : (Jvm.Cond.soleField "MossLawn$State" "moles") ∈ lw_all := lw_g (lw_at lw_m2 1 rfl) rfl
theorem q356 : (Jvm.Cond.lays "MossLawn$State" "MossLawn$State" "moleMany" "I") ∈ lw_all := lw_g (lw_at lw_m2 2 rfl) rfl
theorem q357 : (Jvm.Cond.soleField "MossLawn$State" "moleMany") ∈ lw_all := lw_g (lw_at lw_m2 3 rfl) rfl
theorem q358 : (Jvm.Cond.laysFinal "MossLawn$State" "MossLawn$State" "pairs" "[I") ∈ lw_all := lw_g (lw_at lw_m2 4 rfl) rfl
theorem q359 : (Jvm.Cond.soleField "MossLawn$State" "pairs") ∈ lw_all := lw_g (lw_at lw_m2 5 rfl) rfl
theorem q360 : (Jvm.Cond.laysFinal "MossLawn$State" "MossLawn$State" "walks" "Ljava/util/LinkedList;") ∈ lw_all := lw_g (lw_at lw_m2 6 rfl) rfl
theorem q361 : (Jvm.Cond.soleField "MossLawn$State" "walks") ∈ lw_all := lw_g (lw_at lw_m2 7 rfl) rfl
theorem q362 : (Jvm.Cond.lays "MossLawn$State" "MossLawn$State" "trapsLeft" "I") ∈ lw_all := lw_g (lw_at lw_m2 8 rfl) rfl
theorem q363 : (Jvm.Cond.soleField "MossLawn$State" "trapsLeft") ∈ lw_all := lw_g (lw_at lw_m2 9 rfl) rfl
theorem q364 : (Jvm.Cond.lays "MossLawn$State" "MossLawn$State" "rain" "I") ∈ lw_all := lw_g (lw_at lw_m2 10 rfl) rfl
theorem q365 : (Jvm.Cond.soleField "MossLawn$State" "rain") ∈ lw_all := lw_g (lw_at lw_m2 11 rfl) rfl
theorem q366 : (Jvm.Cond.lays "MossLawn$State" "MossLawn$State" "day" "I") ∈ lw_all := lw_g (lw_at lw_m2 12 rfl) rfl
theorem q367 : (Jvm.Cond.soleField "MossLawn$State" "day") ∈ lw_all := lw_g (lw_at lw_m2 13 rfl) rfl
theorem q368 : (Jvm.Cond.lays "MossLawn$State" "MossLawn$State" "grown" "I") ∈ lw_all := lw_g (lw_at lw_m2 14 rfl) rfl
theorem q369 : (Jvm.Cond.soleField "MossLawn$State" "grown") ∈ lw_all := lw_g (lw_at lw_m2 15 rfl) rfl
theorem q370 : (Jvm.Cond.lays "MossLawn$State" "MossLawn$State" "lost" "I") ∈ lw_all := lw_g (lw_at lw_m2 16 rfl) rfl
theorem q371 : (Jvm.Cond.soleField "MossLawn$State" "lost") ∈ lw_all := lw_g (lw_at lw_m2 17 rfl) rfl
theorem q372 : (Jvm.Cond.lays "MossLawn$State" "MossLawn$State" "pilgrims" "I") ∈ lw_all := lw_g (lw_at lw_m2 18 rfl) rfl
theorem q373 : (Jvm.Cond.soleField "MossLawn$State" "pilgrims") ∈ lw_all := lw_g (lw_at lw_m2 19 rfl) rfl
theorem q374 : (Jvm.Cond.lays "MossLawn$State" "MossLawn$State" "coins" "I") ∈ lw_all := lw_g (lw_at lw_m2 20 rfl) rfl
theorem q375 : (Jvm.Cond.soleField "MossLawn$State" "coins") ∈ lw_all := lw_g (lw_at lw_m2 21 rfl) rfl
theorem q376 : (Jvm.Cond.lays "MossLawn$State" "MossLawn$State" "strokes" "I") ∈ lw_all := lw_g (lw_at lw_m2 22 rfl) rfl
theorem q377 : (Jvm.Cond.soleField "MossLawn$State" "strokes") ∈ lw_all := lw_g (lw_at lw_m2 23 rfl) rfl
theorem q378 : (Jvm.Cond.superclass "MossLawn$State" "java/lang/Object") ∈ lw_all := lw_g (lw_at lw_m2 24 rfl) rfl
theorem q441 : (Jvm.Cond.selects "MossLawn$State" ({ cls := "java/lang/Object", name := "getClass", desc := "()Ljava/lang/Class;" } : Jvm.MethodName) ({ cls := "java/lang/Object", name := "getClass", desc := "()Ljava/lang/Class;" } : Jvm.MethodName)) ∈ lw_all := lw_g (lw_at lw_m2 87 rfl) rfl
theorem q641 : (Jvm.Cond.instanceMethod ({ cls := "MossLawn$State", name := "like", desc := "(LMossLawn$State;)V" } : Jvm.MethodName)) ∈ lw_all := lw_g (lw_at lw_m3 47 rfl) rfl
theorem q642 : (Jvm.Cond.selects "MossLawn$State" ({ cls := "MossLawn$State", name := "like", desc := "(LMossLawn$State;)V" } : Jvm.MethodName) ({ cls := "MossLawn$State", name := "like", desc := "(LMossLawn$State;)V" } : Jvm.MethodName)) ∈ lw_all := lw_g (lw_at lw_m3 48 rfl) rfl
theorem q643 : (Jvm.Cond.code ({ cls := "MossLawn$State", name := "like", desc := "(LMossLawn$State;)V" } : Jvm.MethodName) prog_18_method_3_code (3 : Nat) (Option.none : Option Jvm.ClassFile.FieldType)) ∈ lw_all := lw_g (lw_at lw_m3 49 rfl) rfl
theorem q644 : (Jvm.Cond.methodLink "MossLawn$State" (95 : Nat) ({ cls := "java/lang/System", name := "arraycopy", desc := "(Ljava/lang/Object;ILjava/lang/Object;II)V" } : Jvm.MethodName)) ∈ lw_all := lw_g (lw_at lw_m3 50 rfl) rfl
theorem q647 : (Jvm.Cond.methodLink "MossLawn$State" (101 : Nat) ({ cls := "java/util/BitSet", name := "or", desc := "(Ljava/util/BitSet;)V" } : Jvm.MethodName)) ∈ lw_all := lw_g (lw_at lw_m3 53 rfl) rfl
theorem q680 : (Jvm.Cond.methodLink "MossLawn$State" (105 : Nat) ({ cls := "MossLawn$Gardener", name := "like", desc := "(LMossLawn$Gardener;)V" } : Jvm.MethodName)) ∈ lw_all := lw_g (lw_at lw_m3 86 rfl) rfl
theorem q684 : (Jvm.Cond.methodLink "MossLawn$State" (109 : Nat) ({ cls := "MossLawn$Mole", name := "like", desc := "(LMossLawn$Mole;)V" } : Jvm.MethodName)) ∈ lw_all := lw_g (lw_at lw_m3 90 rfl) rfl
theorem q688 : (Jvm.Cond.methodLink "MossLawn$State" (112 : Nat) ({ cls := "java/util/LinkedList", name := "addAll", desc := "(Ljava/util/Collection;)Z" } : Jvm.MethodName)) ∈ lw_all := lw_g (lw_at lw_m3 94 rfl) rfl
theorem q918 : (Jvm.Cond.instanceMethod ({ cls := "MossLawn$State", name := "loses", desc := "(II)V" } : Jvm.MethodName)) ∈ lw_all := lw_g (lw_at lw_m4 84 rfl) rfl
theorem q919 : (Jvm.Cond.selects "MossLawn$State" ({ cls := "MossLawn$State", name := "loses", desc := "(II)V" } : Jvm.MethodName) ({ cls := "MossLawn$State", name := "loses", desc := "(II)V" } : Jvm.MethodName)) ∈ lw_all := lw_g (lw_at lw_m4 85 rfl) rfl
theorem q920 : (Jvm.Cond.code ({ cls := "MossLawn$State", name := "loses", desc := "(II)V" } : Jvm.MethodName) prog_18_method_5_code (3 : Nat) (Option.none : Option Jvm.ClassFile.FieldType)) ∈ lw_all := lw_g (lw_at lw_m4 86 rfl) rfl
theorem q1038 : (Jvm.Cond.instanceMethod ({ cls := "MossLawn$State", name := "grows", desc := "(II)V" } : Jvm.MethodName)) ∈ lw_all := lw_g (lw_at lw_m4 204 rfl) rfl
theorem q1039 : (Jvm.Cond.selects "MossLawn$State" ({ cls := "MossLawn$State", name := "grows", desc := "(II)V" } : Jvm.MethodName) ({ cls := "MossLawn$State", name := "grows", desc := "(II)V" } : Jvm.MethodName)) ∈ lw_all := lw_g (lw_at lw_m4 205 rfl) rfl
theorem q1040 : (Jvm.Cond.code ({ cls := "MossLawn$State", name := "grows", desc := "(II)V" } : Jvm.MethodName) prog_18_method_6_code (4 : Nat) (Option.none : Option Jvm.ClassFile.FieldType)) ∈ lw_all := lw_g (lw_at lw_m4 206 rfl) rfl
theorem q1041 : (Jvm.Cond.methodLink "MossLawn$State" (120 : Nat) ({ cls := "java/lang/Math", name := "min", desc := "(II)I" } : Jvm.MethodName)) ∈ lw_all := lw_g (lw_at lw_m4 207 rfl) rfl
theorem q1063 : (Jvm.Cond.instanceMethod ({ cls := "MossLawn$State", name := "ends", desc := "()I" } : Jvm.MethodName)) ∈ lw_all := lw_g (lw_at lw_m4 229 rfl) rfl
theorem q1064 : (Jvm.Cond.selects "MossLawn$State" ({ cls := "MossLawn$State", name := "ends", desc := "()I" } : Jvm.MethodName) ({ cls := "MossLawn$State", name := "ends", desc := "()I" } : Jvm.MethodName)) ∈ lw_all := lw_g (lw_at lw_m4 230 rfl) rfl
theorem q1065 : (Jvm.Cond.code ({ cls := "MossLawn$State", name := "ends", desc := "()I" } : Jvm.MethodName) prog_18_method_10_code (3 : Nat) (Option.some Jvm.ClassFile.FieldType.int)) ∈ lw_all := lw_g (lw_at lw_m4 231 rfl) rfl
theorem q1066 : (Jvm.Cond.methodLink "MossLawn$State" (170 : Nat) ({ cls := "MossLawn$State", name := "mossDay", desc := "(I)V" } : Jvm.MethodName)) ∈ lw_all := lw_g (lw_at lw_m4 232 rfl) rfl
theorem q1067 : (Jvm.Cond.instanceMethod ({ cls := "MossLawn$State", name := "mossDay", desc := "(I)V" } : Jvm.MethodName)) ∈ lw_all := lw_g (lw_at lw_m4 233 rfl) rfl
theorem q1068 : (Jvm.Cond.selects "MossLawn$State" ({ cls := "MossLawn$State", name := "mossDay", desc := "(I)V" } : Jvm.MethodName) ({ cls := "MossLawn$State", name := "mossDay", desc := "(I)V" } : Jvm.MethodName)) ∈ lw_all := lw_g (lw_at lw_m4 234 rfl) rfl
theorem q1069 : (Jvm.Cond.code ({ cls := "MossLawn$State", name := "mossDay", desc := "(I)V" } : Jvm.MethodName) prog_18_method_7_code (2 : Nat) (Option.none : Option Jvm.ClassFile.FieldType)) ∈ lw_all := lw_g (lw_at lw_m4 235 rfl) rfl
theorem q1070 : (Jvm.Cond.methodLink "MossLawn$State" (126 : Nat) ({ cls := "MossLawn$State", name := "loses", desc := "(II)V" } : Jvm.MethodName)) ∈ lw_all := lw_g (lw_at lw_m4 236 rfl) rfl
theorem q1071 : (Jvm.Cond.methodLink "MossLawn$State" (130 : Nat) ({ cls := "MossLawn$State", name := "grows", desc := "(II)V" } : Jvm.MethodName)) ∈ lw_all := lw_g (lw_at lw_m4 237 rfl) rfl
theorem q1072 : (Jvm.Cond.methodLink "MossLawn$State" (151 : Nat) ({ cls := "java/util/BitSet", name := "get", desc := "(I)Z" } : Jvm.MethodName)) ∈ lw_all := lw_g (lw_at lw_m4 238 rfl) rfl
theorem q1073 : (Jvm.Cond.methodLink "MossLawn$State" (173 : Nat) ({ cls := "MossLawn$State", name := "digs", desc := "(LMossLawn$Mole;)I" } : Jvm.MethodName)) ∈ lw_all := lw_g (lw_at lw_m4 239 rfl) rfl
theorem q1074 : (Jvm.Cond.instanceMethod ({ cls := "MossLawn$State", name := "digs", desc := "(LMossLawn$Mole;)I" } : Jvm.MethodName)) ∈ lw_all := lw_g (lw_at lw_m5 0 rfl) rfl
theorem q1075 : (Jvm.Cond.selects "MossLawn$State" ({ cls := "MossLawn$State", name := "digs", desc := "(LMossLawn$Mole;)I" } : Jvm.MethodName) ({ cls := "MossLawn$State", name := "digs", desc := "(LMossLawn$Mole;)I" } : Jvm.MethodName)) ∈ lw_all := lw_g (lw_at lw_m5 1 rfl) rfl
theorem q1076 : (Jvm.Cond.code ({ cls := "MossLawn$State", name := "digs", desc := "(LMossLawn$Mole;)I" } : Jvm.MethodName) prog_18_method_9_code (4 : Nat) (Option.some Jvm.ClassFile.FieldType.int)) ∈ lw_all := lw_g (lw_at lw_m5 2 rfl) rfl
theorem q1077 : (Jvm.Cond.methodLink "MossLawn$State" (165 : Nat) ({ cls := "MossLawn$State", name := "goal", desc := "(I)I" } : Jvm.MethodName)) ∈ lw_all := lw_g (lw_at lw_m5 3 rfl) rfl
theorem q1078 : (Jvm.Cond.privateMethod ({ cls := "MossLawn$State", name := "goal", desc := "(I)I" } : Jvm.MethodName)) ∈ lw_tbl := lw_at lw_m5 4 rfl
theorem q1079 : (Jvm.Cond.instanceMethod ({ cls := "MossLawn$State", name := "goal", desc := "(I)I" } : Jvm.MethodName)) ∈ lw_all := lw_g (lw_at lw_m5 5 rfl) rfl
theorem q1080 : (Jvm.Cond.code ({ cls := "MossLawn$State", name := "goal", desc := "(I)I" } : Jvm.MethodName) prog_18_method_8_code (6 : Nat) (Option.some Jvm.ClassFile.FieldType.int)) ∈ lw_all := lw_g (lw_at lw_m5 6 rfl) rfl
theorem q1081 : (Jvm.Cond.stringRef "MossLawn$State" (133 : Nat) "nwes") ∈ lw_tbl := lw_at lw_m5 7 rfl
theorem q1082 : (Jvm.Cond.methodLink "MossLawn$State" (135 : Nat) ({ cls := "java/lang/String", name := "charAt", desc := "(I)C" } : Jvm.MethodName)) ∈ lw_all := lw_g (lw_at lw_m5 8 rfl) rfl
theorem q1121 : (Jvm.Cond.methodLink "MossLawn$State" (141 : Nat) ({ cls := "MossLawn$Side", name := "of", desc := "(C)LMossLawn$Side;" } : Jvm.MethodName)) ∈ lw_all := lw_g (lw_at lw_m5 47 rfl) rfl
theorem q1122 : (Jvm.Cond.methodLink "MossLawn$State" (147 : Nat) ({ cls := "MossLawn$Side", name := "from", desc := "(I)I" } : Jvm.MethodName)) ∈ lw_all := lw_g (lw_at lw_m5 48 rfl) rfl
theorem q1123 : (Jvm.Cond.methodLink "MossLawn$State" (168 : Nat) ({ cls := "java/util/BitSet", name := "clear", desc := "(I)V" } : Jvm.MethodName)) ∈ lw_all := lw_g (lw_at lw_m5 49 rfl) rfl
theorem q1161 : (Jvm.Cond.instanceMethod ({ cls := "MossLawn$State", name := "mayBeTrodden", desc := "(I)Z" } : Jvm.MethodName)) ∈ lw_all := lw_g (lw_at lw_m5 87 rfl) rfl
theorem q1162 : (Jvm.Cond.selects "MossLawn$State" ({ cls := "MossLawn$State", name := "mayBeTrodden", desc := "(I)Z" } : Jvm.MethodName) ({ cls := "MossLawn$State", name := "mayBeTrodden", desc := "(I)Z" } : Jvm.MethodName)) ∈ lw_all := lw_g (lw_at lw_m5 88 rfl) rfl
theorem q1163 : (Jvm.Cond.code ({ cls := "MossLawn$State", name := "mayBeTrodden", desc := "(I)Z" } : Jvm.MethodName) prog_18_method_4_code (2 : Nat) (Option.some Jvm.ClassFile.FieldType.boolean)) ∈ lw_all := lw_g (lw_at lw_m5 89 rfl) rfl
theorem q1164 : (Jvm.Cond.methodLinkNest "MossLawn$State" (116 : Nat) ({ cls := "MossLawn", name := "within", desc := "(III)Z" } : Jvm.MethodName) "MossLawn") ∈ lw_tbl := lw_at lw_m5 90 rfl
theorem q2448 : (Jvm.Cond.castable "MossLawn$State" "java/lang/Object") ∈ lw_tbl := lw_at lw_m10 174 rfl
theorem in_X1 : ∀ w ∈ wsX10, w ∈ lw_all := lw_in wsX10 [340, 342, 344, 346, 348, 350, 352, 354, 356, 358, 360, 362, 364, 366, 368, 370, 372, 374, 376] (by decide +kernel) (by decide +kernel)
/-! MossLawn$Gardener -/
set_option maxRecDepth 100000
def RX2 : String := "MossLawn$Gardener"
def TX2 : u_T := fun k => match k with
  | 0 => ("MossLawn$Gardener", "square", "I", false)
  | 1 => ("MossLawn$Gardener", "hours", "I", false)
  | 2 => ("MossLawn$Gardener", "bamboo", "I", false)
  | 3 => ("MossLawn$Gardener", "swept", "I", false)
  | _ => ("MossLawn$Gardener", "steps", "I", false)
def tyX2 : Nat → FieldType := fun k => match k with
  | 0 => .int
  | 1 => .int
  | 2 => .int
  | 3 => .int
  | _ => .int
abbrev wsX20 : List Cond := u_ws RX2 TX2 5
theorem nmX2 : ∀ a, a < 5 → ∀ b, b < 5 → a ≠ b → (TX2 a).2.1 ≠ (TX2 b).2.1 := by decide +kernel
theorem tyX2_ok : ∀ k, k < 5 → parseFieldDescriptor (TX2 k).2.2.1 = some (tyX2 k) := by decide +kernel
abbrev cX2_init : ByteArray := prog_7_method_1_code
def yX2_init : MethodName := ⟨RX2, "<init>", "()V"⟩
theorem dX2_init_0 : decode cX2_init 0 = .ok (.aload_n 0, 1) := by decide +kernel
theorem dX2_init_1 : decode cX2_init 1 = .ok (.invokespecial 3, 3) := by decide +kernel
theorem dX2_init_4 : decode cX2_init 4 = .ok (.return_, 1) := by decide +kernel
abbrev cX2_like : ByteArray := prog_7_method_3_code
def yX2_like : MethodName := ⟨RX2, "like", "(LMossLawn$Gardener;)V"⟩
def dkwX2_like_1 : List UInt8 := [42, 43, 180, 0, 21, 181, 0, 21, 42, 43, 180, 0, 24, 181, 0, 24, 177]
abbrev dktX2_like_1 : List UInt8 := dkwX2_like_1 ++ []
def dkwX2_like_0 : List UInt8 := [42, 43, 180, 0, 9, 181, 0, 9, 42, 43, 180, 0, 15, 181, 0, 15, 42, 43, 180, 0, 18, 181, 0, 18]
abbrev dktX2_like_0 : List UInt8 := dkwX2_like_0 ++ dktX2_like_1
theorem dksX2_like_0 : cX2_like.data.toList.drop 0 = dktX2_like_0 := by decide +kernel
theorem dksX2_like_1 : cX2_like.data.toList.drop 24 = dktX2_like_1 := dk_seg dksX2_like_0 24 rfl rfl
theorem dX2_like_0 : decode cX2_like 0 = .ok (.aload_n 0, 1) := dk_42 (dk_at dksX2_like_0 0 rfl rfl)
theorem dX2_like_1 : decode cX2_like 1 = .ok (.aload_n 1, 1) := dk_43 (dk_at dksX2_like_0 1 rfl rfl)
theorem dX2_like_2 : decode cX2_like 2 = .ok (.getfield 9, 3) := dk_180 0 9 (dk_at dksX2_like_0 2 rfl rfl)
theorem dX2_like_5 : decode cX2_like 5 = .ok (.putfield 9, 3) := dk_181 0 9 (dk_at dksX2_like_0 5 rfl rfl)
theorem dX2_like_8 : decode cX2_like 8 = .ok (.aload_n 0, 1) := dk_42 (dk_at dksX2_like_0 8 rfl rfl)
theorem dX2_like_9 : decode cX2_like 9 = .ok (.aload_n 1, 1) := dk_43 (dk_at dksX2_like_0 9 rfl rfl)
theorem dX2_like_10 : decode cX2_like 10 = .ok (.getfield 15, 3) := dk_180 0 15 (dk_at dksX2_like_0 10 rfl rfl)
theorem dX2_like_13 : decode cX2_like 13 = .ok (.putfield 15, 3) := dk_181 0 15 (dk_at dksX2_like_0 13 rfl rfl)
theorem dX2_like_16 : decode cX2_like 16 = .ok (.aload_n 0, 1) := dk_42 (dk_at dksX2_like_0 16 rfl rfl)
theorem dX2_like_17 : decode cX2_like 17 = .ok (.aload_n 1, 1) := dk_43 (dk_at dksX2_like_0 17 rfl rfl)
theorem dX2_like_18 : decode cX2_like 18 = .ok (.getfield 18, 3) := dk_180 0 18 (dk_at dksX2_like_0 18 rfl rfl)
theorem dX2_like_21 : decode cX2_like 21 = .ok (.putfield 18, 3) := dk_181 0 18 (dk_at dksX2_like_0 21 rfl rfl)
theorem dX2_like_24 : decode cX2_like 24 = .ok (.aload_n 0, 1) := dk_42 (dk_at dksX2_like_1 0 rfl rfl)
theorem dX2_like_25 : decode cX2_like 25 = .ok (.aload_n 1, 1) := dk_43 (dk_at dksX2_like_1 1 rfl rfl)
theorem dX2_like_26 : decode cX2_like 26 = .ok (.getfield 21, 3) := dk_180 0 21 (dk_at dksX2_like_1 2 rfl rfl)
theorem dX2_like_29 : decode cX2_like 29 = .ok (.putfield 21, 3) := dk_181 0 21 (dk_at dksX2_like_1 5 rfl rfl)
theorem dX2_like_32 : decode cX2_like 32 = .ok (.aload_n 0, 1) := dk_42 (dk_at dksX2_like_1 8 rfl rfl)
theorem dX2_like_33 : decode cX2_like 33 = .ok (.aload_n 1, 1) := dk_43 (dk_at dksX2_like_1 9 rfl rfl)
theorem dX2_like_34 : decode cX2_like 34 = .ok (.getfield 24, 3) := dk_180 0 24 (dk_at dksX2_like_1 10 rfl rfl)
theorem dX2_like_37 : decode cX2_like 37 = .ok (.putfield 24, 3) := dk_181 0 24 (dk_at dksX2_like_1 13 rfl rfl)
theorem dX2_like_40 : decode cX2_like 40 = .ok (.return_, 1) := dk_177 (dk_at dksX2_like_1 16 rfl rfl)
abbrev cX2_becomes : ByteArray := prog_7_method_2_code
def yX2_becomes : MethodName := ⟨RX2, "becomes", "(I)V"⟩
def dkwX2_becomes_1 : List UInt8 := [181, 0, 24, 177]
abbrev dktX2_becomes_1 : List UInt8 := dkwX2_becomes_1 ++ []
def dkwX2_becomes_0 : List UInt8 := [42, 27, 181, 0, 9, 42, 16, 6, 181, 0, 15, 42, 16, 12, 181, 0, 18, 42, 3, 181, 0, 21, 42, 3]
abbrev dktX2_becomes_0 : List UInt8 := dkwX2_becomes_0 ++ dktX2_becomes_1
theorem dksX2_becomes_0 : cX2_becomes.data.toList.drop 0 = dktX2_becomes_0 := by decide +kernel
theorem dksX2_becomes_1 : cX2_becomes.data.toList.drop 24 = dktX2_becomes_1 := dk_seg dksX2_becomes_0 24 rfl rfl
theorem dX2_becomes_0 : decode cX2_becomes 0 = .ok (.aload_n 0, 1) := dk_42 (dk_at dksX2_becomes_0 0 rfl rfl)
theorem dX2_becomes_1 : decode cX2_becomes 1 = .ok (.iload_n 1, 1) := dk_27 (dk_at dksX2_becomes_0 1 rfl rfl)
theorem dX2_becomes_2 : decode cX2_becomes 2 = .ok (.putfield 9, 3) := dk_181 0 9 (dk_at dksX2_becomes_0 2 rfl rfl)
theorem dX2_becomes_5 : decode cX2_becomes 5 = .ok (.aload_n 0, 1) := dk_42 (dk_at dksX2_becomes_0 5 rfl rfl)
theorem dX2_becomes_6 : decode cX2_becomes 6 = .ok (.bipush 6, 2) := dk_16 6 (dk_at dksX2_becomes_0 6 rfl rfl)
theorem dX2_becomes_8 : decode cX2_becomes 8 = .ok (.putfield 15, 3) := dk_181 0 15 (dk_at dksX2_becomes_0 8 rfl rfl)
theorem dX2_becomes_11 : decode cX2_becomes 11 = .ok (.aload_n 0, 1) := dk_42 (dk_at dksX2_becomes_0 11 rfl rfl)
theorem dX2_becomes_12 : decode cX2_becomes 12 = .ok (.bipush 12, 2) := dk_16 12 (dk_at dksX2_becomes_0 12 rfl rfl)
theorem dX2_becomes_14 : decode cX2_becomes 14 = .ok (.putfield 18, 3) := dk_181 0 18 (dk_at dksX2_becomes_0 14 rfl rfl)
theorem dX2_becomes_17 : decode cX2_becomes 17 = .ok (.aload_n 0, 1) := dk_42 (dk_at dksX2_becomes_0 17 rfl rfl)
theorem dX2_becomes_18 : decode cX2_becomes 18 = .ok (.iconst 0, 1) := dk_3 (dk_at dksX2_becomes_0 18 rfl rfl)
theorem dX2_becomes_19 : decode cX2_becomes 19 = .ok (.putfield 21, 3) := dk_181 0 21 (dk_at dksX2_becomes_0 19 rfl rfl)
theorem dX2_becomes_22 : decode cX2_becomes 22 = .ok (.aload_n 0, 1) := dk_42 (dk_at dksX2_becomes_0 22 rfl rfl)
theorem dX2_becomes_23 : decode cX2_becomes 23 = .ok (.iconst 0, 1) := dk_3 (dk_at dksX2_becomes_0 23 rfl rfl)
theorem dX2_becomes_24 : decode cX2_becomes 24 = .ok (.putfield 24, 3) := dk_181 0 24 (dk_at dksX2_becomes_1 0 rfl rfl)
theorem dX2_becomes_27 : decode cX2_becomes 27 = .ok (.return_, 1) := dk_177 (dk_at dksX2_becomes_1 3 rfl rfl)
abbrev cX2_works : ByteArray := prog_7_method_4_code
def yX2_works : MethodName := ⟨RX2, "works", "(I)V"⟩
def dkwX2_works_1 : List UInt8 := [180, 0, 15, 27, 100, 181, 0, 15, 177]
abbrev dktX2_works_1 : List UInt8 := dkwX2_works_1 ++ []
def dkwX2_works_0 : List UInt8 := [42, 180, 0, 15, 27, 161, 0, 7, 4, 167, 0, 4, 3, 7, 42, 180, 0, 15, 184, 0, 27, 42, 89]
abbrev dktX2_works_0 : List UInt8 := dkwX2_works_0 ++ dktX2_works_1
theorem dksX2_works_0 : cX2_works.data.toList.drop 0 = dktX2_works_0 := by decide +kernel
theorem dksX2_works_1 : cX2_works.data.toList.drop 23 = dktX2_works_1 := dk_seg dksX2_works_0 23 rfl rfl
theorem dX2_works_0 : decode cX2_works 0 = .ok (.aload_n 0, 1) := dk_42 (dk_at dksX2_works_0 0 rfl rfl)
theorem dX2_works_1 : decode cX2_works 1 = .ok (.getfield 15, 3) := dk_180 0 15 (dk_at dksX2_works_0 1 rfl rfl)
theorem dX2_works_4 : decode cX2_works 4 = .ok (.iload_n 1, 1) := dk_27 (dk_at dksX2_works_0 4 rfl rfl)
theorem dX2_works_5 : decode cX2_works 5 = .ok (.if_icmp .lt 7, 3) := dk_161 0 7 (dk_at dksX2_works_0 5 rfl rfl)
theorem dX2_works_8 : decode cX2_works 8 = .ok (.iconst 1, 1) := dk_4 (dk_at dksX2_works_0 8 rfl rfl)
theorem dX2_works_9 : decode cX2_works 9 = .ok (.goto 4, 3) := dk_167 0 4 (dk_at dksX2_works_0 9 rfl rfl)
theorem dX2_works_12 : decode cX2_works 12 = .ok (.iconst 0, 1) := dk_3 (dk_at dksX2_works_0 12 rfl rfl)
theorem dX2_works_13 : decode cX2_works 13 = .ok (.iconst 4, 1) := dk_7 (dk_at dksX2_works_0 13 rfl rfl)
theorem dX2_works_14 : decode cX2_works 14 = .ok (.aload_n 0, 1) := dk_42 (dk_at dksX2_works_0 14 rfl rfl)
theorem dX2_works_15 : decode cX2_works 15 = .ok (.getfield 15, 3) := dk_180 0 15 (dk_at dksX2_works_0 15 rfl rfl)
theorem dX2_works_18 : decode cX2_works 18 = .ok (.invokestatic 27, 3) := dk_184 0 27 (dk_at dksX2_works_0 18 rfl rfl)
theorem dX2_works_21 : decode cX2_works 21 = .ok (.aload_n 0, 1) := dk_42 (dk_at dksX2_works_0 21 rfl rfl)
theorem dX2_works_22 : decode cX2_works 22 = .ok (.dup, 1) := dk_89 (dk_at dksX2_works_0 22 rfl rfl)
theorem dX2_works_23 : decode cX2_works 23 = .ok (.getfield 15, 3) := dk_180 0 15 (dk_at dksX2_works_1 0 rfl rfl)
theorem dX2_works_26 : decode cX2_works 26 = .ok (.iload_n 1, 1) := dk_27 (dk_at dksX2_works_1 3 rfl rfl)
theorem dX2_works_27 : decode cX2_works 27 = .ok (.isub, 1) := dk_100 (dk_at dksX2_works_1 4 rfl rfl)
theorem dX2_works_28 : decode cX2_works 28 = .ok (.putfield 15, 3) := dk_181 0 15 (dk_at dksX2_works_1 5 rfl rfl)
theorem dX2_works_31 : decode cX2_works 31 = .ok (.return_, 1) := dk_177 (dk_at dksX2_works_1 8 rfl rfl)
theorem q122 : (Jvm.Cond.initialized "MossLawn$Gardener") ∈ lw_all := lw_g (lw_at lw_m1 8 rfl) rfl
theorem q242 : (Jvm.Cond.instantiable "MossLawn$Gardener" (5 : Nat)) ∈ lw_all := lw_g (lw_at lw_m1 128 rfl) rfl
theorem q244 : (Jvm.Cond.instanceMethod ({ cls := "MossLawn$Gardener", name := "<init>", desc := "()V" } : Jvm.MethodName)) ∈ lw_all := lw_g (lw_at lw_m1 130 rfl) rfl
theorem q245 : (Jvm.Cond.code ({ cls := "MossLawn$Gardener", name := "<init>", desc := "()V" } : Jvm.MethodName) prog_7_method_1_code (1 : Nat) (Option.none : Option Jvm.ClassFile.FieldType)) ∈ lw_all := lw_g (lw_at lw_m1 131 rfl) rfl
theorem q246 : (Jvm.Cond.methodLink "MossLawn$Gardener" (3 : Nat) ({ cls := "java/lang/Object", name := "<init>", desc := "()V" } : Jvm.MethodName)) ∈ lw_all := lw_g (lw_at lw_m1 132 rfl) rfl
theorem q247 : (Jvm.Cond.fieldLink "MossLawn$Gardener" (9 : Nat) "MossLawn$Gardener" "square" "I") ∈ lw_all := lw_g (lw_at lw_m1 133 rfl) rfl
theorem q249 : (Jvm.Cond.fieldLink "MossLawn$Gardener" (15 : Nat) "MossLawn$Gardener" "hours" "I") ∈ lw_all := lw_g (lw_at lw_m1 135 rfl) rfl
theorem q252 : (Jvm.Cond.fieldLink "MossLawn$Gardener" (18 : Nat) "MossLawn$Gardener" "bamboo" "I") ∈ lw_all := lw_g (lw_at lw_m1 138 rfl) rfl
theorem q254 : (Jvm.Cond.fieldLink "MossLawn$Gardener" (21 : Nat) "MossLawn$Gardener" "swept" "I") ∈ lw_all := lw_g (lw_at lw_m1 140 rfl) rfl
theorem q256 : (Jvm.Cond.fieldLink "MossLawn$Gardener" (24 : Nat) "MossLawn$Gardener" "steps" "I") ∈ lw_all := lw_g (lw_at lw_m1 142 rfl) rfl
theorem q258 : (Jvm.Cond.lays "MossLawn$Gardener" "MossLawn$Gardener" "square" "I") ∈ lw_all := lw_g (lw_at lw_m1 144 rfl) rfl
theorem q259 : (Jvm.Cond.soleField "MossLawn$Gardener" "square") ∈ lw_all := lw_g (lw_at lw_m1 145 rfl) rfl
theorem q260 : (Jvm.Cond.lays "MossLawn$Gardener" "MossLawn$Gardener" "hours" "I") ∈ lw_all := lw_g (lw_at lw_m1 146 rfl) rfl
theorem q261 : (Jvm.Cond.soleField "MossLawn$Gardener" "hours") ∈ lw_all := lw_g (lw_at lw_m1 147 rfl) rfl
theorem q262 : (Jvm.Cond.lays "MossLawn$Gardener" "MossLawn$Gardener" "bamboo" "I") ∈ lw_all := lw_g (lw_at lw_m1 148 rfl) rfl
theorem q263 : (Jvm.Cond.soleField "MossLawn$Gardener" "bamboo") ∈ lw_all := lw_g (lw_at lw_m1 149 rfl) rfl
theorem q264 : (Jvm.Cond.lays "MossLawn$Gardener" "MossLawn$Gardener" "swept" "I") ∈ lw_all := lw_g (lw_at lw_m1 150 rfl) rfl
theorem q265 : (Jvm.Cond.soleField "MossLawn$Gardener" "swept") ∈ lw_all := lw_g (lw_at lw_m1 151 rfl) rfl
theorem q266 : (Jvm.Cond.lays "MossLawn$Gardener" "MossLawn$Gardener" "steps" "I") ∈ lw_all := lw_g (lw_at lw_m1 152 rfl) rfl
theorem q267 : (Jvm.Cond.soleField "MossLawn$Gardener" "steps") ∈ lw_all := lw_g (lw_at lw_m1 153 rfl) rfl
theorem q268 : (Jvm.Cond.superclass "MossLawn$Gardener" "java/lang/Object") ∈ lw_all := lw_g (lw_at lw_m1 154 rfl) rfl
theorem q432 : (Jvm.Cond.selects "MossLawn$Gardener" ({ cls := "java/lang/Object", name := "getClass", desc := "()Ljava/lang/Class;" } : Jvm.MethodName) ({ cls := "java/lang/Object", name := "getClass", desc := "()Ljava/lang/Class;" } : Jvm.MethodName)) ∈ lw_all := lw_g (lw_at lw_m2 78 rfl) rfl
theorem q681 : (Jvm.Cond.instanceMethod ({ cls := "MossLawn$Gardener", name := "like", desc := "(LMossLawn$Gardener;)V" } : Jvm.MethodName)) ∈ lw_all := lw_g (lw_at lw_m3 87 rfl) rfl
theorem q682 : (Jvm.Cond.selects "MossLawn$Gardener" ({ cls := "MossLawn$Gardener", name := "like", desc := "(LMossLawn$Gardener;)V" } : Jvm.MethodName) ({ cls := "MossLawn$Gardener", name := "like", desc := "(LMossLawn$Gardener;)V" } : Jvm.MethodName)) ∈ lw_all := lw_g (lw_at lw_m3 88 rfl) rfl
theorem q683 : (Jvm.Cond.code ({ cls := "MossLawn$Gardener", name := "like", desc := "(LMossLawn$Gardener;)V" } : Jvm.MethodName) prog_7_method_3_code (2 : Nat) (Option.none : Option Jvm.ClassFile.FieldType)) ∈ lw_all := lw_g (lw_at lw_m3 89 rfl) rfl
theorem q959 : (Jvm.Cond.instanceMethod ({ cls := "MossLawn$Gardener", name := "becomes", desc := "(I)V" } : Jvm.MethodName)) ∈ lw_all := lw_g (lw_at lw_m4 125 rfl) rfl
theorem q960 : (Jvm.Cond.selects "MossLawn$Gardener" ({ cls := "MossLawn$Gardener", name := "becomes", desc := "(I)V" } : Jvm.MethodName) ({ cls := "MossLawn$Gardener", name := "becomes", desc := "(I)V" } : Jvm.MethodName)) ∈ lw_all := lw_g (lw_at lw_m4 126 rfl) rfl
theorem q961 : (Jvm.Cond.code ({ cls := "MossLawn$Gardener", name := "becomes", desc := "(I)V" } : Jvm.MethodName) prog_7_method_2_code (2 : Nat) (Option.none : Option Jvm.ClassFile.FieldType)) ∈ lw_all := lw_g (lw_at lw_m4 127 rfl) rfl
theorem q1001 : (Jvm.Cond.instanceMethod ({ cls := "MossLawn$Gardener", name := "works", desc := "(I)V" } : Jvm.MethodName)) ∈ lw_all := lw_g (lw_at lw_m4 167 rfl) rfl
theorem q1002 : (Jvm.Cond.selects "MossLawn$Gardener" ({ cls := "MossLawn$Gardener", name := "works", desc := "(I)V" } : Jvm.MethodName) ({ cls := "MossLawn$Gardener", name := "works", desc := "(I)V" } : Jvm.MethodName)) ∈ lw_all := lw_g (lw_at lw_m4 168 rfl) rfl
theorem q1003 : (Jvm.Cond.code ({ cls := "MossLawn$Gardener", name := "works", desc := "(I)V" } : Jvm.MethodName) prog_7_method_4_code (2 : Nat) (Option.none : Option Jvm.ClassFile.FieldType)) ∈ lw_all := lw_g (lw_at lw_m4 169 rfl) rfl
theorem q1004 : (Jvm.Cond.methodLinkNest "MossLawn$Gardener" (27 : Nat) ({ cls := "MossLawn", name := "allow", desc := "(ZII)V" } : Jvm.MethodName) "MossLawn") ∈ lw_tbl := lw_at lw_m4 170 rfl
theorem q2446 : (Jvm.Cond.castable "MossLawn$Gardener" "java/lang/Object") ∈ lw_tbl := lw_at lw_m10 172 rfl
theorem in_X2 : ∀ w ∈ wsX20, w ∈ lw_all := lw_in wsX20 [258, 260, 262, 264, 266] (by decide +kernel) (by decide +kernel)
/-! MossLawn$Mole -/
set_option maxRecDepth 100000
def RX3 : String := "MossLawn$Mole"
def TX3 : u_T := fun k => match k with
  | 0 => ("MossLawn$Mole", "square", "I", false)
  | 1 => ("MossLawn$Mole", "isCaught", "Z", false)
  | _ => ("MossLawn$Mole", "took", "I", false)
def tyX3 : Nat → FieldType := fun k => match k with
  | 0 => .int
  | 1 => .boolean
  | _ => .int
abbrev wsX30 : List Cond := u_ws RX3 TX3 3
theorem nmX3 : ∀ a, a < 3 → ∀ b, b < 3 → a ≠ b → (TX3 a).2.1 ≠ (TX3 b).2.1 := by decide +kernel
theorem tyX3_ok : ∀ k, k < 3 → parseFieldDescriptor (TX3 k).2.2.1 = some (tyX3 k) := by decide +kernel
abbrev cX3_init : ByteArray := prog_9_method_1_code
def yX3_init : MethodName := ⟨RX3, "<init>", "()V"⟩
theorem dX3_init_0 : decode cX3_init 0 = .ok (.aload_n 0, 1) := by decide +kernel
theorem dX3_init_1 : decode cX3_init 1 = .ok (.invokespecial 1, 3) := by decide +kernel
theorem dX3_init_4 : decode cX3_init 4 = .ok (.return_, 1) := by decide +kernel
abbrev cX3_like : ByteArray := prog_9_method_3_code
def yX3_like : MethodName := ⟨RX3, "like", "(LMossLawn$Mole;)V"⟩
def dkwX3_like_1 : List UInt8 := [177]
abbrev dktX3_like_1 : List UInt8 := dkwX3_like_1 ++ []
def dkwX3_like_0 : List UInt8 := [42, 43, 180, 0, 7, 181, 0, 7, 42, 43, 180, 0, 13, 181, 0, 13, 42, 43, 180, 0, 17, 181, 0, 17]
abbrev dktX3_like_0 : List UInt8 := dkwX3_like_0 ++ dktX3_like_1
theorem dksX3_like_0 : cX3_like.data.toList.drop 0 = dktX3_like_0 := by decide +kernel
theorem dksX3_like_1 : cX3_like.data.toList.drop 24 = dktX3_like_1 := dk_seg dksX3_like_0 24 rfl rfl
theorem dX3_like_0 : decode cX3_like 0 = .ok (.aload_n 0, 1) := dk_42 (dk_at dksX3_like_0 0 rfl rfl)
theorem dX3_like_1 : decode cX3_like 1 = .ok (.aload_n 1, 1) := dk_43 (dk_at dksX3_like_0 1 rfl rfl)
theorem dX3_like_2 : decode cX3_like 2 = .ok (.getfield 7, 3) := dk_180 0 7 (dk_at dksX3_like_0 2 rfl rfl)
theorem dX3_like_5 : decode cX3_like 5 = .ok (.putfield 7, 3) := dk_181 0 7 (dk_at dksX3_like_0 5 rfl rfl)
theorem dX3_like_8 : decode cX3_like 8 = .ok (.aload_n 0, 1) := dk_42 (dk_at dksX3_like_0 8 rfl rfl)
theorem dX3_like_9 : decode cX3_like 9 = .ok (.aload_n 1, 1) := dk_43 (dk_at dksX3_like_0 9 rfl rfl)
theorem dX3_like_10 : decode cX3_like 10 = .ok (.getfield 13, 3) := dk_180 0 13 (dk_at dksX3_like_0 10 rfl rfl)
theorem dX3_like_13 : decode cX3_like 13 = .ok (.putfield 13, 3) := dk_181 0 13 (dk_at dksX3_like_0 13 rfl rfl)
theorem dX3_like_16 : decode cX3_like 16 = .ok (.aload_n 0, 1) := dk_42 (dk_at dksX3_like_0 16 rfl rfl)
theorem dX3_like_17 : decode cX3_like 17 = .ok (.aload_n 1, 1) := dk_43 (dk_at dksX3_like_0 17 rfl rfl)
theorem dX3_like_18 : decode cX3_like 18 = .ok (.getfield 17, 3) := dk_180 0 17 (dk_at dksX3_like_0 18 rfl rfl)
theorem dX3_like_21 : decode cX3_like 21 = .ok (.putfield 17, 3) := dk_181 0 17 (dk_at dksX3_like_0 21 rfl rfl)
theorem dX3_like_24 : decode cX3_like 24 = .ok (.return_, 1) := dk_177 (dk_at dksX3_like_1 0 rfl rfl)
abbrev cX3_isOn : ByteArray := prog_9_method_4_code
def yX3_isOn : MethodName := ⟨RX3, "isOn", "(I)Z"⟩
def dkwX3_isOn_0 : List UInt8 := [42, 180, 0, 13, 154, 0, 15, 42, 180, 0, 7, 27, 160, 0, 7, 4, 167, 0, 4, 3, 172]
abbrev dktX3_isOn_0 : List UInt8 := dkwX3_isOn_0 ++ []
theorem dksX3_isOn_0 : cX3_isOn.data.toList.drop 0 = dktX3_isOn_0 := by decide +kernel
theorem dX3_isOn_0 : decode cX3_isOn 0 = .ok (.aload_n 0, 1) := dk_42 (dk_at dksX3_isOn_0 0 rfl rfl)
theorem dX3_isOn_1 : decode cX3_isOn 1 = .ok (.getfield 13, 3) := dk_180 0 13 (dk_at dksX3_isOn_0 1 rfl rfl)
theorem dX3_isOn_4 : decode cX3_isOn 4 = .ok (.ifCond .ne 15, 3) := dk_154 0 15 (dk_at dksX3_isOn_0 4 rfl rfl)
theorem dX3_isOn_7 : decode cX3_isOn 7 = .ok (.aload_n 0, 1) := dk_42 (dk_at dksX3_isOn_0 7 rfl rfl)
theorem dX3_isOn_8 : decode cX3_isOn 8 = .ok (.getfield 7, 3) := dk_180 0 7 (dk_at dksX3_isOn_0 8 rfl rfl)
theorem dX3_isOn_11 : decode cX3_isOn 11 = .ok (.iload_n 1, 1) := dk_27 (dk_at dksX3_isOn_0 11 rfl rfl)
theorem dX3_isOn_12 : decode cX3_isOn 12 = .ok (.if_icmp .ne 7, 3) := dk_160 0 7 (dk_at dksX3_isOn_0 12 rfl rfl)
theorem dX3_isOn_15 : decode cX3_isOn 15 = .ok (.iconst 1, 1) := dk_4 (dk_at dksX3_isOn_0 15 rfl rfl)
theorem dX3_isOn_16 : decode cX3_isOn 16 = .ok (.goto 4, 3) := dk_167 0 4 (dk_at dksX3_isOn_0 16 rfl rfl)
theorem dX3_isOn_19 : decode cX3_isOn 19 = .ok (.iconst 0, 1) := dk_3 (dk_at dksX3_isOn_0 19 rfl rfl)
theorem dX3_isOn_20 : decode cX3_isOn 20 = .ok (.ireturn, 1) := dk_172 (dk_at dksX3_isOn_0 20 rfl rfl)
abbrev cX3_becomes : ByteArray := prog_9_method_2_code
def yX3_becomes : MethodName := ⟨RX3, "becomes", "(I)V"⟩
def dkwX3_becomes_0 : List UInt8 := [42, 27, 181, 0, 7, 42, 3, 181, 0, 13, 42, 3, 181, 0, 17, 177]
abbrev dktX3_becomes_0 : List UInt8 := dkwX3_becomes_0 ++ []
theorem dksX3_becomes_0 : cX3_becomes.data.toList.drop 0 = dktX3_becomes_0 := by decide +kernel
theorem dX3_becomes_0 : decode cX3_becomes 0 = .ok (.aload_n 0, 1) := dk_42 (dk_at dksX3_becomes_0 0 rfl rfl)
theorem dX3_becomes_1 : decode cX3_becomes 1 = .ok (.iload_n 1, 1) := dk_27 (dk_at dksX3_becomes_0 1 rfl rfl)
theorem dX3_becomes_2 : decode cX3_becomes 2 = .ok (.putfield 7, 3) := dk_181 0 7 (dk_at dksX3_becomes_0 2 rfl rfl)
theorem dX3_becomes_5 : decode cX3_becomes 5 = .ok (.aload_n 0, 1) := dk_42 (dk_at dksX3_becomes_0 5 rfl rfl)
theorem dX3_becomes_6 : decode cX3_becomes 6 = .ok (.iconst 0, 1) := dk_3 (dk_at dksX3_becomes_0 6 rfl rfl)
theorem dX3_becomes_7 : decode cX3_becomes 7 = .ok (.putfield 13, 3) := dk_181 0 13 (dk_at dksX3_becomes_0 7 rfl rfl)
theorem dX3_becomes_10 : decode cX3_becomes 10 = .ok (.aload_n 0, 1) := dk_42 (dk_at dksX3_becomes_0 10 rfl rfl)
theorem dX3_becomes_11 : decode cX3_becomes 11 = .ok (.iconst 0, 1) := dk_3 (dk_at dksX3_becomes_0 11 rfl rfl)
theorem dX3_becomes_12 : decode cX3_becomes 12 = .ok (.putfield 17, 3) := dk_181 0 17 (dk_at dksX3_becomes_0 12 rfl rfl)
theorem dX3_becomes_15 : decode cX3_becomes 15 = .ok (.return_, 1) := dk_177 (dk_at dksX3_becomes_0 15 rfl rfl)
theorem q123 : (Jvm.Cond.initialized "MossLawn$Mole") ∈ lw_all := lw_g (lw_at lw_m1 9 rfl) rfl
theorem q269 : (Jvm.Cond.instantiable "MossLawn$Mole" (3 : Nat)) ∈ lw_all := lw_g (lw_at lw_m1 155 rfl) rfl
theorem q271 : (Jvm.Cond.instanceMethod ({ cls := "MossLawn$Mole", name := "<init>", desc := "()V" } : Jvm.MethodName)) ∈ lw_all := lw_g (lw_at lw_m1 157 rfl) rfl
theorem q272 : (Jvm.Cond.code ({ cls := "MossLawn$Mole", name := "<init>", desc := "()V" } : Jvm.MethodName) prog_9_method_1_code (1 : Nat) (Option.none : Option Jvm.ClassFile.FieldType)) ∈ lw_all := lw_g (lw_at lw_m1 158 rfl) rfl
theorem q273 : (Jvm.Cond.methodLink "MossLawn$Mole" (1 : Nat) ({ cls := "java/lang/Object", name := "<init>", desc := "()V" } : Jvm.MethodName)) ∈ lw_all := lw_g (lw_at lw_m1 159 rfl) rfl
theorem q274 : (Jvm.Cond.fieldLink "MossLawn$Mole" (7 : Nat) "MossLawn$Mole" "square" "I") ∈ lw_all := lw_g (lw_at lw_m1 160 rfl) rfl
theorem q277 : (Jvm.Cond.fieldLink "MossLawn$Mole" (13 : Nat) "MossLawn$Mole" "isCaught" "Z") ∈ lw_all := lw_g (lw_at lw_m1 163 rfl) rfl
theorem q280 : (Jvm.Cond.fieldLink "MossLawn$Mole" (17 : Nat) "MossLawn$Mole" "took" "I") ∈ lw_all := lw_g (lw_at lw_m1 166 rfl) rfl
theorem q283 : (Jvm.Cond.lays "MossLawn$Mole" "MossLawn$Mole" "square" "I") ∈ lw_all := lw_g (lw_at lw_m1 169 rfl) rfl
theorem q284 : (Jvm.Cond.soleField "MossLawn$Mole" "square") ∈ lw_all := lw_g (lw_at lw_m1 170 rfl) rfl
theorem q285 : (Jvm.Cond.lays "MossLawn$Mole" "MossLawn$Mole" "isCaught" "Z") ∈ lw_all := lw_g (lw_at lw_m1 171 rfl) rfl
theorem q286 : (Jvm.Cond.soleField "MossLawn$Mole" "isCaught") ∈ lw_all := lw_g (lw_at lw_m1 172 rfl) rfl
theorem q287 : (Jvm.Cond.lays "MossLawn$Mole" "MossLawn$Mole" "took" "I") ∈ lw_all := lw_g (lw_at lw_m1 173 rfl) rfl
theorem q288 : (Jvm.Cond.soleField "MossLawn$Mole" "took") ∈ lw_all := lw_g (lw_at lw_m1 174 rfl) rfl
theorem q289 : (Jvm.Cond.superclass "MossLawn$Mole" "java/lang/Object") ∈ lw_all := lw_g (lw_at lw_m1 175 rfl) rfl
theorem q433 : (Jvm.Cond.selects "MossLawn$Mole" ({ cls := "java/lang/Object", name := "getClass", desc := "()Ljava/lang/Class;" } : Jvm.MethodName) ({ cls := "java/lang/Object", name := "getClass", desc := "()Ljava/lang/Class;" } : Jvm.MethodName)) ∈ lw_all := lw_g (lw_at lw_m2 79 rfl) rfl
theorem q685 : (Jvm.Cond.instanceMethod ({ cls := "MossLawn$Mole", name := "like", desc := "(LMossLawn$Mole;)V" } : Jvm.MethodName)) ∈ lw_all := lw_g (lw_at lw_m3 91 rfl) rfl
theorem q686 : (Jvm.Cond.selects "MossLawn$Mole" ({ cls := "MossLawn$Mole", name := "like", desc := "(LMossLawn$Mole;)V" } : Jvm.MethodName) ({ cls := "MossLawn$Mole", name := "like", desc := "(LMossLawn$Mole;)V" } : Jvm.MethodName)) ∈ lw_all := lw_g (lw_at lw_m3 92 rfl) rfl
theorem q687 : (Jvm.Cond.code ({ cls := "MossLawn$Mole", name := "like", desc := "(LMossLawn$Mole;)V" } : Jvm.MethodName) prog_9_method_3_code (2 : Nat) (Option.none : Option Jvm.ClassFile.FieldType)) ∈ lw_all := lw_g (lw_at lw_m3 93 rfl) rfl
theorem q914 : (Jvm.Cond.instanceMethod ({ cls := "MossLawn$Mole", name := "isOn", desc := "(I)Z" } : Jvm.MethodName)) ∈ lw_all := lw_g (lw_at lw_m4 80 rfl) rfl
theorem q915 : (Jvm.Cond.selects "MossLawn$Mole" ({ cls := "MossLawn$Mole", name := "isOn", desc := "(I)Z" } : Jvm.MethodName) ({ cls := "MossLawn$Mole", name := "isOn", desc := "(I)Z" } : Jvm.MethodName)) ∈ lw_all := lw_g (lw_at lw_m4 81 rfl) rfl
theorem q916 : (Jvm.Cond.code ({ cls := "MossLawn$Mole", name := "isOn", desc := "(I)Z" } : Jvm.MethodName) prog_9_method_4_code (2 : Nat) (Option.some Jvm.ClassFile.FieldType.boolean)) ∈ lw_all := lw_g (lw_at lw_m4 82 rfl) rfl
theorem q1051 : (Jvm.Cond.instanceMethod ({ cls := "MossLawn$Mole", name := "becomes", desc := "(I)V" } : Jvm.MethodName)) ∈ lw_all := lw_g (lw_at lw_m4 217 rfl) rfl
theorem q1052 : (Jvm.Cond.selects "MossLawn$Mole" ({ cls := "MossLawn$Mole", name := "becomes", desc := "(I)V" } : Jvm.MethodName) ({ cls := "MossLawn$Mole", name := "becomes", desc := "(I)V" } : Jvm.MethodName)) ∈ lw_all := lw_g (lw_at lw_m4 218 rfl) rfl
theorem q1053 : (Jvm.Cond.code ({ cls := "MossLawn$Mole", name := "becomes", desc := "(I)V" } : Jvm.MethodName) prog_9_method_2_code (2 : Nat) (Option.none : Option Jvm.ClassFile.FieldType)) ∈ lw_all := lw_g (lw_at lw_m4 219 rfl) rfl
theorem q2447 : (Jvm.Cond.castable "MossLawn$Mole" "java/lang/Object") ∈ lw_tbl := lw_at lw_m10 173 rfl
theorem in_X3 : ∀ w ∈ wsX30, w ∈ lw_all := lw_in wsX30 [283, 285, 287] (by decide +kernel) (by decide +kernel)
/-! MossLawn$Pebble -/
set_option maxRecDepth 100000
def RX4 : String := "MossLawn$Pebble"
abbrev cX4_init : ByteArray := prog_11_method_1_code
def yX4_init : MethodName := ⟨RX4, "<init>", "()V"⟩
theorem dX4_init_0 : decode cX4_init 0 = .ok (.aload_n 0, 1) := by decide +kernel
theorem dX4_init_1 : decode cX4_init 1 = .ok (.invokespecial 1, 3) := by decide +kernel
theorem dX4_init_4 : decode cX4_init 4 = .ok (.return_, 1) := by decide +kernel
abbrev cX4_sign : ByteArray := prog_11_method_2_code
def yX4_sign : MethodName := ⟨RX4, "sign", "()C"⟩
theorem dX4_sign_0 : decode cX4_sign 0 = .ok (.bipush 35, 2) := by decide +kernel
theorem dX4_sign_2 : decode cX4_sign 2 = .ok (.ireturn, 1) := by decide +kernel
theorem q124 : (Jvm.Cond.initialized "MossLawn$Pebble") ∈ lw_all := lw_g (lw_at lw_m1 10 rfl) rfl
theorem q381 : (Jvm.Cond.instantiable "MossLawn$Pebble" (0 : Nat)) ∈ lw_all := lw_g (lw_at lw_m2 27 rfl) rfl
theorem q383 : (Jvm.Cond.instanceMethod ({ cls := "MossLawn$Pebble", name := "<init>", desc := "()V" } : Jvm.MethodName)) ∈ lw_all := lw_g (lw_at lw_m2 29 rfl) rfl
theorem q384 : (Jvm.Cond.code ({ cls := "MossLawn$Pebble", name := "<init>", desc := "()V" } : Jvm.MethodName) prog_11_method_1_code (1 : Nat) (Option.none : Option Jvm.ClassFile.FieldType)) ∈ lw_all := lw_g (lw_at lw_m2 30 rfl) rfl
theorem q385 : (Jvm.Cond.methodLink "MossLawn$Pebble" (1 : Nat) ({ cls := "java/lang/Object", name := "<init>", desc := "()V" } : Jvm.MethodName)) ∈ lw_all := lw_g (lw_at lw_m2 31 rfl) rfl
theorem q386 : (Jvm.Cond.superclass "MossLawn$Pebble" "java/lang/Object") ∈ lw_all := lw_g (lw_at lw_m2 32 rfl) rfl
theorem q435 : (Jvm.Cond.selects "MossLawn$Pebble" ({ cls := "java/lang/Object", name := "getClass", desc := "()Ljava/lang/Class;" } : Jvm.MethodName) ({ cls := "java/lang/Object", name := "getClass", desc := "()Ljava/lang/Class;" } : Jvm.MethodName)) ∈ lw_all := lw_g (lw_at lw_m2 81 rfl) rfl
theorem q1915 : (Jvm.Cond.castable "MossLawn$Pebble" "MossLawn$Ground") ∈ lw_tbl := lw_at lw_m8 121 rfl
theorem q1916 : (Jvm.Cond.selects "MossLawn$Pebble" ({ cls := "MossLawn$Ground", name := "sign", desc := "()C" } : Jvm.MethodName) ({ cls := "MossLawn$Pebble", name := "sign", desc := "()C" } : Jvm.MethodName)) ∈ lw_all := lw_g (lw_at lw_m8 122 rfl) rfl
theorem q1917 : (Jvm.Cond.unhidden "MossLawn$Pebble" "sign" "()C") ∈ lw_tbl := lw_at lw_m8 123 rfl
theorem q1918 : (Jvm.Cond.instanceMethod ({ cls := "MossLawn$Pebble", name := "sign", desc := "()C" } : Jvm.MethodName)) ∈ lw_all := lw_g (lw_at lw_m8 124 rfl) rfl
theorem q1919 : (Jvm.Cond.publicMethod ({ cls := "MossLawn$Pebble", name := "sign", desc := "()C" } : Jvm.MethodName)) ∈ lw_tbl := lw_at lw_m8 125 rfl
theorem q1920 : (Jvm.Cond.code ({ cls := "MossLawn$Pebble", name := "sign", desc := "()C" } : Jvm.MethodName) prog_11_method_2_code (1 : Nat) (Option.some Jvm.ClassFile.FieldType.char)) ∈ lw_all := lw_g (lw_at lw_m8 126 rfl) rfl
theorem q2453 : (Jvm.Cond.castable "MossLawn$Pebble" "java/lang/Object") ∈ lw_tbl := lw_at lw_m10 179 rfl
/-! MossLawn$Bare -/
set_option maxRecDepth 100000
def RX5 : String := "MossLawn$Bare"
abbrev cX5_init : ByteArray := prog_2_method_1_code
def yX5_init : MethodName := ⟨RX5, "<init>", "()V"⟩
theorem dX5_init_0 : decode cX5_init 0 = .ok (.aload_n 0, 1) := by decide +kernel
theorem dX5_init_1 : decode cX5_init 1 = .ok (.invokespecial 1, 3) := by decide +kernel
theorem dX5_init_4 : decode cX5_init 4 = .ok (.return_, 1) := by decide +kernel
abbrev cX5_sign : ByteArray := prog_2_method_2_code
def yX5_sign : MethodName := ⟨RX5, "sign", "()C"⟩
theorem dX5_sign_0 : decode cX5_sign 0 = .ok (.bipush 46, 2) := by decide +kernel
theorem dX5_sign_2 : decode cX5_sign 2 = .ok (.ireturn, 1) := by decide +kernel
theorem q125 : (Jvm.Cond.initialized "MossLawn$Bare") ∈ lw_all := lw_g (lw_at lw_m1 11 rfl) rfl
theorem q388 : (Jvm.Cond.instantiable "MossLawn$Bare" (0 : Nat)) ∈ lw_all := lw_g (lw_at lw_m2 34 rfl) rfl
theorem q390 : (Jvm.Cond.instanceMethod ({ cls := "MossLawn$Bare", name := "<init>", desc := "()V" } : Jvm.MethodName)) ∈ lw_all := lw_g (lw_at lw_m2 36 rfl) rfl
theorem q391 : (Jvm.Cond.code ({ cls := "MossLawn$Bare", name := "<init>", desc := "()V" } : Jvm.MethodName) prog_2_method_1_code (1 : Nat) (Option.none : Option Jvm.ClassFile.FieldType)) ∈ lw_all := lw_g (lw_at lw_m2 37 rfl) rfl
theorem q392 : (Jvm.Cond.methodLink "MossLawn$Bare" (1 : Nat) ({ cls := "java/lang/Object", name := "<init>", desc := "()V" } : Jvm.MethodName)) ∈ lw_all := lw_g (lw_at lw_m2 38 rfl) rfl
theorem q393 : (Jvm.Cond.superclass "MossLawn$Bare" "java/lang/Object") ∈ lw_all := lw_g (lw_at lw_m2 39 rfl) rfl
theorem q430 : (Jvm.Cond.selects "MossLawn$Bare" ({ cls := "java/lang/Object", name := "getClass", desc := "()Ljava/lang/Class;" } : Jvm.MethodName) ({ cls := "java/lang/Object", name := "getClass", desc := "()Ljava/lang/Class;" } : Jvm.MethodName)) ∈ lw_all := lw_g (lw_at lw_m2 76 rfl) rfl
theorem q1903 : (Jvm.Cond.castable "MossLawn$Bare" "MossLawn$Ground") ∈ lw_tbl := lw_at lw_m8 109 rfl
theorem q1904 : (Jvm.Cond.selects "MossLawn$Bare" ({ cls := "MossLawn$Ground", name := "sign", desc := "()C" } : Jvm.MethodName) ({ cls := "MossLawn$Bare", name := "sign", desc := "()C" } : Jvm.MethodName)) ∈ lw_all := lw_g (lw_at lw_m8 110 rfl) rfl
theorem q1905 : (Jvm.Cond.unhidden "MossLawn$Bare" "sign" "()C") ∈ lw_tbl := lw_at lw_m8 111 rfl
theorem q1906 : (Jvm.Cond.instanceMethod ({ cls := "MossLawn$Bare", name := "sign", desc := "()C" } : Jvm.MethodName)) ∈ lw_all := lw_g (lw_at lw_m8 112 rfl) rfl
theorem q1907 : (Jvm.Cond.publicMethod ({ cls := "MossLawn$Bare", name := "sign", desc := "()C" } : Jvm.MethodName)) ∈ lw_tbl := lw_at lw_m8 113 rfl
theorem q1908 : (Jvm.Cond.code ({ cls := "MossLawn$Bare", name := "sign", desc := "()C" } : Jvm.MethodName) prog_2_method_2_code (1 : Nat) (Option.some Jvm.ClassFile.FieldType.char)) ∈ lw_all := lw_g (lw_at lw_m8 114 rfl) rfl
theorem q2454 : (Jvm.Cond.castable "MossLawn$Bare" "java/lang/Object") ∈ lw_tbl := lw_at lw_m10 180 rfl
/-! MossLawn$YoungMoss -/
set_option maxRecDepth 100000
def RX6 : String := "MossLawn$YoungMoss"
abbrev cX6_init : ByteArray := prog_21_method_1_code
def yX6_init : MethodName := ⟨RX6, "<init>", "()V"⟩
theorem dX6_init_0 : decode cX6_init 0 = .ok (.aload_n 0, 1) := by decide +kernel
theorem dX6_init_1 : decode cX6_init 1 = .ok (.invokespecial 1, 3) := by decide +kernel
theorem dX6_init_4 : decode cX6_init 4 = .ok (.return_, 1) := by decide +kernel
abbrev cX6_sign : ByteArray := prog_21_method_2_code
def yX6_sign : MethodName := ⟨RX6, "sign", "()C"⟩
theorem dX6_sign_0 : decode cX6_sign 0 = .ok (.bipush 121, 2) := by decide +kernel
theorem dX6_sign_2 : decode cX6_sign 2 = .ok (.ireturn, 1) := by decide +kernel
theorem q126 : (Jvm.Cond.initialized "MossLawn$YoungMoss") ∈ lw_all := lw_g (lw_at lw_m1 12 rfl) rfl
theorem q395 : (Jvm.Cond.instantiable "MossLawn$YoungMoss" (0 : Nat)) ∈ lw_all := lw_g (lw_at lw_m2 41 rfl) rfl
theorem q397 : (Jvm.Cond.instanceMethod ({ cls := "MossLawn$YoungMoss", name := "<init>", desc := "()V" } : Jvm.MethodName)) ∈ lw_all := lw_g (lw_at lw_m2 43 rfl) rfl
theorem q398 : (Jvm.Cond.code ({ cls := "MossLawn$YoungMoss", name := "<init>", desc := "()V" } : Jvm.MethodName) prog_21_method_1_code (1 : Nat) (Option.none : Option Jvm.ClassFile.FieldType)) ∈ lw_all := lw_g (lw_at lw_m2 44 rfl) rfl
theorem q399 : (Jvm.Cond.methodLink "MossLawn$YoungMoss" (1 : Nat) ({ cls := "java/lang/Object", name := "<init>", desc := "()V" } : Jvm.MethodName)) ∈ lw_all := lw_g (lw_at lw_m2 45 rfl) rfl
theorem q400 : (Jvm.Cond.superclass "MossLawn$YoungMoss" "java/lang/Object") ∈ lw_all := lw_g (lw_at lw_m2 46 rfl) rfl
theorem q444 : (Jvm.Cond.selects "MossLawn$YoungMoss" ({ cls := "java/lang/Object", name := "getClass", desc := "()Ljava/lang/Class;" } : Jvm.MethodName) ({ cls := "java/lang/Object", name := "getClass", desc := "()Ljava/lang/Class;" } : Jvm.MethodName)) ∈ lw_all := lw_g (lw_at lw_m2 90 rfl) rfl
theorem q1921 : (Jvm.Cond.castable "MossLawn$YoungMoss" "MossLawn$Ground") ∈ lw_tbl := lw_at lw_m8 127 rfl
theorem q1922 : (Jvm.Cond.selects "MossLawn$YoungMoss" ({ cls := "MossLawn$Ground", name := "sign", desc := "()C" } : Jvm.MethodName) ({ cls := "MossLawn$YoungMoss", name := "sign", desc := "()C" } : Jvm.MethodName)) ∈ lw_all := lw_g (lw_at lw_m8 128 rfl) rfl
theorem q1923 : (Jvm.Cond.unhidden "MossLawn$YoungMoss" "sign" "()C") ∈ lw_tbl := lw_at lw_m8 129 rfl
theorem q1924 : (Jvm.Cond.instanceMethod ({ cls := "MossLawn$YoungMoss", name := "sign", desc := "()C" } : Jvm.MethodName)) ∈ lw_all := lw_g (lw_at lw_m8 130 rfl) rfl
theorem q1925 : (Jvm.Cond.publicMethod ({ cls := "MossLawn$YoungMoss", name := "sign", desc := "()C" } : Jvm.MethodName)) ∈ lw_tbl := lw_at lw_m8 131 rfl
theorem q1926 : (Jvm.Cond.code ({ cls := "MossLawn$YoungMoss", name := "sign", desc := "()C" } : Jvm.MethodName) prog_21_method_2_code (1 : Nat) (Option.some Jvm.ClassFile.FieldType.char)) ∈ lw_all := lw_g (lw_at lw_m8 132 rfl) rfl
theorem q2455 : (Jvm.Cond.castable "MossLawn$YoungMoss" "java/lang/Object") ∈ lw_tbl := lw_at lw_m10 181 rfl
/-! MossLawn$OldMoss -/
set_option maxRecDepth 100000
def RX7 : String := "MossLawn$OldMoss"
abbrev cX7_init : ByteArray := prog_10_method_1_code
def yX7_init : MethodName := ⟨RX7, "<init>", "()V"⟩
theorem dX7_init_0 : decode cX7_init 0 = .ok (.aload_n 0, 1) := by decide +kernel
theorem dX7_init_1 : decode cX7_init 1 = .ok (.invokespecial 1, 3) := by decide +kernel
theorem dX7_init_4 : decode cX7_init 4 = .ok (.return_, 1) := by decide +kernel
abbrev cX7_sign : ByteArray := prog_10_method_2_code
def yX7_sign : MethodName := ⟨RX7, "sign", "()C"⟩
theorem dX7_sign_0 : decode cX7_sign 0 = .ok (.bipush 111, 2) := by decide +kernel
theorem dX7_sign_2 : decode cX7_sign 2 = .ok (.ireturn, 1) := by decide +kernel
theorem q127 : (Jvm.Cond.initialized "MossLawn$OldMoss") ∈ lw_all := lw_g (lw_at lw_m1 13 rfl) rfl
theorem q402 : (Jvm.Cond.instantiable "MossLawn$OldMoss" (0 : Nat)) ∈ lw_all := lw_g (lw_at lw_m2 48 rfl) rfl
theorem q404 : (Jvm.Cond.instanceMethod ({ cls := "MossLawn$OldMoss", name := "<init>", desc := "()V" } : Jvm.MethodName)) ∈ lw_all := lw_g (lw_at lw_m2 50 rfl) rfl
theorem q405 : (Jvm.Cond.code ({ cls := "MossLawn$OldMoss", name := "<init>", desc := "()V" } : Jvm.MethodName) prog_10_method_1_code (1 : Nat) (Option.none : Option Jvm.ClassFile.FieldType)) ∈ lw_all := lw_g (lw_at lw_m2 51 rfl) rfl
theorem q406 : (Jvm.Cond.methodLink "MossLawn$OldMoss" (1 : Nat) ({ cls := "java/lang/Object", name := "<init>", desc := "()V" } : Jvm.MethodName)) ∈ lw_all := lw_g (lw_at lw_m2 52 rfl) rfl
theorem q407 : (Jvm.Cond.superclass "MossLawn$OldMoss" "java/lang/Object") ∈ lw_all := lw_g (lw_at lw_m2 53 rfl) rfl
theorem q434 : (Jvm.Cond.selects "MossLawn$OldMoss" ({ cls := "java/lang/Object", name := "getClass", desc := "()Ljava/lang/Class;" } : Jvm.MethodName) ({ cls := "java/lang/Object", name := "getClass", desc := "()Ljava/lang/Class;" } : Jvm.MethodName)) ∈ lw_all := lw_g (lw_at lw_m2 80 rfl) rfl
theorem q1909 : (Jvm.Cond.castable "MossLawn$OldMoss" "MossLawn$Ground") ∈ lw_tbl := lw_at lw_m8 115 rfl
theorem q1910 : (Jvm.Cond.selects "MossLawn$OldMoss" ({ cls := "MossLawn$Ground", name := "sign", desc := "()C" } : Jvm.MethodName) ({ cls := "MossLawn$OldMoss", name := "sign", desc := "()C" } : Jvm.MethodName)) ∈ lw_all := lw_g (lw_at lw_m8 116 rfl) rfl
theorem q1911 : (Jvm.Cond.unhidden "MossLawn$OldMoss" "sign" "()C") ∈ lw_tbl := lw_at lw_m8 117 rfl
theorem q1912 : (Jvm.Cond.instanceMethod ({ cls := "MossLawn$OldMoss", name := "sign", desc := "()C" } : Jvm.MethodName)) ∈ lw_all := lw_g (lw_at lw_m8 118 rfl) rfl
theorem q1913 : (Jvm.Cond.publicMethod ({ cls := "MossLawn$OldMoss", name := "sign", desc := "()C" } : Jvm.MethodName)) ∈ lw_tbl := lw_at lw_m8 119 rfl
theorem q1914 : (Jvm.Cond.code ({ cls := "MossLawn$OldMoss", name := "sign", desc := "()C" } : Jvm.MethodName) prog_10_method_2_code (1 : Nat) (Option.some Jvm.ClassFile.FieldType.char)) ∈ lw_all := lw_g (lw_at lw_m8 120 rfl) rfl
theorem q2456 : (Jvm.Cond.castable "MossLawn$OldMoss" "java/lang/Object") ∈ lw_tbl := lw_at lw_m10 182 rfl
/-! MossLawn$Side -/
set_option maxRecDepth 100000
def RX8 : String := "MossLawn$Side"
abbrev cX8_of : ByteArray := prog_13_method_5_code
def yX8_of : MethodName := ⟨RX8, "of", "(C)LMossLawn$Side;"⟩
def dkwX8_of_2 : List UInt8 := [178, 0, 3, 176, 178, 0, 10, 176, 178, 0, 13, 176, 178, 0, 7, 176, 1, 176]
abbrev dktX8_of_2 : List UInt8 := dkwX8_of_2 ++ []
def dkwX8_of_1 : List UInt8 := [171, 0, 0, 0, 0, 0, 59, 0, 0, 0, 4, 0, 0, 0, 101, 0, 0, 0, 47, 0, 0, 0, 110, 0, 0, 0, 43, 0, 0, 0, 115, 0, 0, 0, 51, 0, 0, 0, 119, 0, 0, 0, 55]
abbrev dktX8_of_1 : List UInt8 := dkwX8_of_1 ++ dktX8_of_2
def dkwX8_of_0 : List UInt8 := [26]
abbrev dktX8_of_0 : List UInt8 := dkwX8_of_0 ++ dktX8_of_1
theorem dksX8_of_0 : cX8_of.data.toList.drop 0 = dktX8_of_0 := by decide +kernel
theorem dksX8_of_1 : cX8_of.data.toList.drop 1 = dktX8_of_1 := dk_seg dksX8_of_0 1 rfl rfl
theorem dksX8_of_2 : cX8_of.data.toList.drop 44 = dktX8_of_2 := dk_seg dksX8_of_1 43 rfl rfl
theorem dX8_of_0 : decode cX8_of 0 = .ok (.iload_n 0, 1) := dk_26 (dk_at dksX8_of_0 0 rfl rfl)
theorem dX8_of_1 : decode cX8_of 1 = .ok (.lookupswitch 59 #[(101, 47), (110, 43), (115, 51), (119, 55)], 43) := by decide +kernel
theorem dX8_of_44 : decode cX8_of 44 = .ok (.getstatic 3, 3) := dk_178 0 3 (dk_at dksX8_of_2 0 rfl rfl)
theorem dX8_of_47 : decode cX8_of 47 = .ok (.areturn, 1) := dk_176 (dk_at dksX8_of_2 3 rfl rfl)
theorem dX8_of_48 : decode cX8_of 48 = .ok (.getstatic 10, 3) := dk_178 0 10 (dk_at dksX8_of_2 4 rfl rfl)
theorem dX8_of_51 : decode cX8_of 51 = .ok (.areturn, 1) := dk_176 (dk_at dksX8_of_2 7 rfl rfl)
theorem dX8_of_52 : decode cX8_of 52 = .ok (.getstatic 13, 3) := dk_178 0 13 (dk_at dksX8_of_2 8 rfl rfl)
theorem dX8_of_55 : decode cX8_of 55 = .ok (.areturn, 1) := dk_176 (dk_at dksX8_of_2 11 rfl rfl)
theorem dX8_of_56 : decode cX8_of 56 = .ok (.getstatic 7, 3) := dk_178 0 7 (dk_at dksX8_of_2 12 rfl rfl)
theorem dX8_of_59 : decode cX8_of 59 = .ok (.areturn, 1) := dk_176 (dk_at dksX8_of_2 15 rfl rfl)
theorem dX8_of_60 : decode cX8_of 60 = .ok (.aconst_null, 1) := dk_1 (dk_at dksX8_of_2 16 rfl rfl)
theorem dX8_of_61 : decode cX8_of 61 = .ok (.areturn, 1) := dk_176 (dk_at dksX8_of_2 17 rfl rfl)
theorem q129 : (Jvm.Cond.initialized "MossLawn$Side") ∈ lw_all := lw_g (lw_at lw_m1 15 rfl) rfl
theorem q409 : (Jvm.Cond.laysStatic "MossLawn$Side" "NORTH" "LMossLawn$Side;") ∈ lw_tbl := lw_at lw_m2 55 rfl
theorem q411 : (Jvm.Cond.laysStatic "MossLawn$Side" "WEST" "LMossLawn$Side;") ∈ lw_tbl := lw_at lw_m2 57 rfl
theorem q413 : (Jvm.Cond.laysStatic "MossLawn$Side" "EAST" "LMossLawn$Side;") ∈ lw_tbl := lw_at lw_m2 59 rfl
theorem q415 : (Jvm.Cond.laysStatic "MossLawn$Side" "SOUTH" "LMossLawn$Side;") ∈ lw_tbl := lw_at lw_m2 61 rfl
theorem q979 : (Jvm.Cond.static ({ cls := "MossLawn$Side", name := "of", desc := "(C)LMossLawn$Side;" } : Jvm.MethodName)) ∈ lw_all := lw_g (lw_at lw_m4 145 rfl) rfl
theorem q980 : (Jvm.Cond.code ({ cls := "MossLawn$Side", name := "of", desc := "(C)LMossLawn$Side;" } : Jvm.MethodName) prog_13_method_5_code (1 : Nat) (Option.some (Jvm.ClassFile.FieldType.object "MossLawn$Side"))) ∈ lw_all := lw_g (lw_at lw_m4 146 rfl) rfl
theorem q981 : (Jvm.Cond.fieldLink "MossLawn$Side" (3 : Nat) "MossLawn$Side" "NORTH" "LMossLawn$Side;") ∈ lw_all := lw_g (lw_at lw_m4 147 rfl) rfl
theorem q982 : (Jvm.Cond.fieldLink "MossLawn$Side" (10 : Nat) "MossLawn$Side" "EAST" "LMossLawn$Side;") ∈ lw_all := lw_g (lw_at lw_m4 148 rfl) rfl
theorem q983 : (Jvm.Cond.fieldLink "MossLawn$Side" (13 : Nat) "MossLawn$Side" "SOUTH" "LMossLawn$Side;") ∈ lw_all := lw_g (lw_at lw_m4 149 rfl) rfl
theorem q984 : (Jvm.Cond.fieldLink "MossLawn$Side" (7 : Nat) "MossLawn$Side" "WEST" "LMossLawn$Side;") ∈ lw_all := lw_g (lw_at lw_m4 150 rfl) rfl
theorem q986 : (Jvm.Cond.declares ({ cls := "MossLawn$Side", name := "from", desc := "(I)I" } : Jvm.MethodName)) ∈ lw_tbl := lw_at lw_m4 152 rfl
theorem q987 : (Jvm.Cond.sameMethod "MossLawn$Side" "MossLawn$Side" "from" "(I)I") ∈ lw_all := lw_g (lw_at lw_m4 153 rfl) rfl
theorem q2481 : (Jvm.Cond.castable "MossLawn$Side" "java/lang/Object") ∈ lw_tbl := lw_at lw_m10 207 rfl
/-! MossLawn$Wrong -/
set_option maxRecDepth 100000
def RX10 : String := "MossLawn$Wrong"
def TX10 : u_T := fun k => match k with
  | 0 => ("java/lang/Throwable", "cause", "Ljava/lang/Throwable;", false)
  | 1 => ("java/lang/Throwable", "stackTrace", "[Ljava/lang/StackTraceElement;", false)
  | 2 => ("java/lang/Throwable", "suppressedExceptions", "Ljava/util/List;", false)
  | 3 => ("java/lang/Throwable", "detailMessage", "Ljava/lang/String;", false)
  | 4 => ("java/lang/Throwable", "backtrace", "Ljava/lang/Object;", false)
  | 5 => ("java/lang/Throwable", "depth", "I", false)
  | _ => ("MossLawn$Wrong", "code", "I", true)
def tyX10 : Nat → FieldType := fun k => match k with
  | 0 => .object "java/lang/Throwable"
  | 1 => .array (.object "java/lang/StackTraceElement")
  | 2 => .object "java/util/List"
  | 3 => .object "java/lang/String"
  | 4 => .object "java/lang/Object"
  | 5 => .int
  | _ => .int
abbrev wsX100 : List Cond := u_ws RX10 TX10 7
theorem nmX10 : ∀ a, a < 7 → ∀ b, b < 7 → a ≠ b → (TX10 a).2.1 ≠ (TX10 b).2.1 := by decide +kernel
theorem tyX10_ok : ∀ k, k < 7 → parseFieldDescriptor (TX10 k).2.2.1 = some (tyX10 k) := by decide +kernel
abbrev cX10_init : ByteArray := prog_20_method_1_code
def yX10_init : MethodName := ⟨RX10, "<init>", "(I)V"⟩
def dkwX10_init_0 : List UInt8 := [42, 1, 1, 3, 3, 183, 0, 1, 42, 27, 181, 0, 7, 177]
abbrev dktX10_init_0 : List UInt8 := dkwX10_init_0 ++ []
theorem dksX10_init_0 : cX10_init.data.toList.drop 0 = dktX10_init_0 := by decide +kernel
theorem dX10_init_0 : decode cX10_init 0 = .ok (.aload_n 0, 1) := dk_42 (dk_at dksX10_init_0 0 rfl rfl)
theorem dX10_init_1 : decode cX10_init 1 = .ok (.aconst_null, 1) := dk_1 (dk_at dksX10_init_0 1 rfl rfl)
theorem dX10_init_2 : decode cX10_init 2 = .ok (.aconst_null, 1) := dk_1 (dk_at dksX10_init_0 2 rfl rfl)
theorem dX10_init_3 : decode cX10_init 3 = .ok (.iconst 0, 1) := dk_3 (dk_at dksX10_init_0 3 rfl rfl)
theorem dX10_init_4 : decode cX10_init 4 = .ok (.iconst 0, 1) := dk_3 (dk_at dksX10_init_0 4 rfl rfl)
theorem dX10_init_5 : decode cX10_init 5 = .ok (.invokespecial 1, 3) := dk_183 0 1 (dk_at dksX10_init_0 5 rfl rfl)
theorem dX10_init_8 : decode cX10_init 8 = .ok (.aload_n 0, 1) := dk_42 (dk_at dksX10_init_0 8 rfl rfl)
theorem dX10_init_9 : decode cX10_init 9 = .ok (.iload_n 1, 1) := dk_27 (dk_at dksX10_init_0 9 rfl rfl)
theorem dX10_init_10 : decode cX10_init 10 = .ok (.putfield 7, 3) := dk_181 0 7 (dk_at dksX10_init_0 10 rfl rfl)
theorem dX10_init_13 : decode cX10_init 13 = .ok (.return_, 1) := dk_177 (dk_at dksX10_init_0 13 rfl rfl)
theorem q152 : (Jvm.Cond.initialized "MossLawn$Wrong") ∈ lw_all := lw_g (lw_at lw_m1 38 rfl) rfl
theorem q443 : (Jvm.Cond.selects "MossLawn$Wrong" ({ cls := "java/lang/Object", name := "getClass", desc := "()Ljava/lang/Class;" } : Jvm.MethodName) ({ cls := "java/lang/Object", name := "getClass", desc := "()Ljava/lang/Class;" } : Jvm.MethodName)) ∈ lw_all := lw_g (lw_at lw_m2 89 rfl) rfl
theorem q795 : (Jvm.Cond.instantiable "MossLawn$Wrong" (7 : Nat)) ∈ lw_all := lw_g (lw_at lw_m3 201 rfl) rfl
theorem q796 : (Jvm.Cond.castable "MossLawn$Wrong" "MossLawn$Wrong") ∈ lw_tbl := lw_at lw_m3 202 rfl
theorem q801 : (Jvm.Cond.selects "MossLawn$Wrong" ({ cls := "java/lang/Throwable", name := "fillInStackTrace", desc := "(I)Ljava/lang/Throwable;" } : Jvm.MethodName) ({ cls := "java/lang/Throwable", name := "fillInStackTrace", desc := "(I)Ljava/lang/Throwable;" } : Jvm.MethodName)) ∈ lw_all := lw_g (lw_at lw_m3 207 rfl) rfl
theorem q802 : (Jvm.Cond.selects "MossLawn$Wrong" ({ cls := "java/lang/Throwable", name := "fillInStackTrace", desc := "()Ljava/lang/Throwable;" } : Jvm.MethodName) ({ cls := "java/lang/Throwable", name := "fillInStackTrace", desc := "()Ljava/lang/Throwable;" } : Jvm.MethodName)) ∈ lw_all := lw_g (lw_at lw_m3 208 rfl) rfl
theorem q803 : (Jvm.Cond.lays "MossLawn$Wrong" "java/lang/Throwable" "cause" "Ljava/lang/Throwable;") ∈ lw_all := lw_g (lw_at lw_m3 209 rfl) rfl
theorem q805 : (Jvm.Cond.lays "MossLawn$Wrong" "java/lang/Throwable" "stackTrace" "[Ljava/lang/StackTraceElement;") ∈ lw_all := lw_g (lw_at lw_m3 211 rfl) rfl
theorem q807 : (Jvm.Cond.lays "MossLawn$Wrong" "java/lang/Throwable" "suppressedExceptions" "Ljava/util/List;") ∈ lw_all := lw_g (lw_at lw_m3 213 rfl) rfl
theorem q809 : (Jvm.Cond.lays "MossLawn$Wrong" "java/lang/Throwable" "detailMessage" "Ljava/lang/String;") ∈ lw_all := lw_g (lw_at lw_m3 215 rfl) rfl
theorem q811 : (Jvm.Cond.lays "MossLawn$Wrong" "java/lang/Throwable" "backtrace" "Ljava/lang/Object;") ∈ lw_all := lw_g (lw_at lw_m3 217 rfl) rfl
theorem q835 : (Jvm.Cond.instanceMethod ({ cls := "MossLawn$Wrong", name := "<init>", desc := "(I)V" } : Jvm.MethodName)) ∈ lw_all := lw_g (lw_at lw_m4 1 rfl) rfl
theorem q836 : (Jvm.Cond.code ({ cls := "MossLawn$Wrong", name := "<init>", desc := "(I)V" } : Jvm.MethodName) prog_20_method_1_code (2 : Nat) (Option.none : Option Jvm.ClassFile.FieldType)) ∈ lw_all := lw_g (lw_at lw_m4 2 rfl) rfl
theorem q837 : (Jvm.Cond.methodLink "MossLawn$Wrong" (1 : Nat) ({ cls := "java/lang/Exception", name := "<init>", desc := "(Ljava/lang/String;Ljava/lang/Throwable;ZZ)V" } : Jvm.MethodName)) ∈ lw_all := lw_g (lw_at lw_m4 3 rfl) rfl
theorem q843 : (Jvm.Cond.fieldLink "MossLawn$Wrong" (7 : Nat) "MossLawn$Wrong" "code" "I") ∈ lw_all := lw_g (lw_at lw_m4 9 rfl) rfl
theorem q850 : (Jvm.Cond.laysFinal "MossLawn$Wrong" "MossLawn$Wrong" "code" "I") ∈ lw_all := lw_g (lw_at lw_m4 16 rfl) rfl
theorem q851 : (Jvm.Cond.soleField "MossLawn$Wrong" "code") ∈ lw_all := lw_g (lw_at lw_m4 17 rfl) rfl
theorem q856 : (Jvm.Cond.lays "MossLawn$Wrong" "java/lang/Throwable" "depth" "I") ∈ lw_all := lw_g (lw_at lw_m4 22 rfl) rfl
theorem q859 : (Jvm.Cond.superclass "MossLawn$Wrong" "java/lang/Exception") ∈ lw_all := lw_g (lw_at lw_m4 25 rfl) rfl
theorem q1392 : (Jvm.Cond.selects "MossLawn$Wrong" ({ cls := "java/lang/Throwable", name := "toString", desc := "()Ljava/lang/String;" } : Jvm.MethodName) ({ cls := "java/lang/Throwable", name := "toString", desc := "()Ljava/lang/String;" } : Jvm.MethodName)) ∈ lw_all := lw_g (lw_at lw_m6 78 rfl) rfl
theorem q1401 : (Jvm.Cond.selects "MossLawn$Wrong" ({ cls := "java/lang/Throwable", name := "getLocalizedMessage", desc := "()Ljava/lang/String;" } : Jvm.MethodName) ({ cls := "java/lang/Throwable", name := "getLocalizedMessage", desc := "()Ljava/lang/String;" } : Jvm.MethodName)) ∈ lw_all := lw_g (lw_at lw_m6 87 rfl) rfl
theorem q1409 : (Jvm.Cond.selects "MossLawn$Wrong" ({ cls := "java/lang/Throwable", name := "getMessage", desc := "()Ljava/lang/String;" } : Jvm.MethodName) ({ cls := "java/lang/Throwable", name := "getMessage", desc := "()Ljava/lang/String;" } : Jvm.MethodName)) ∈ lw_all := lw_g (lw_at lw_m6 95 rfl) rfl
theorem q1830 : (Jvm.Cond.selects "MossLawn$Wrong" ({ cls := "java/lang/Throwable", name := "getCause", desc := "()Ljava/lang/Throwable;" } : Jvm.MethodName) ({ cls := "java/lang/Throwable", name := "getCause", desc := "()Ljava/lang/Throwable;" } : Jvm.MethodName)) ∈ lw_all := lw_g (lw_at lw_m8 36 rfl) rfl
theorem q2467 : (Jvm.Cond.castable "MossLawn$Wrong" "java/lang/Object") ∈ lw_tbl := lw_at lw_m10 193 rfl
theorem in_X10 : ∀ w ∈ wsX100, w ∈ lw_all := lw_in wsX100 [803, 805, 807, 809, 811, 856, 850] (by decide +kernel) (by decide +kernel)
/-! MossLawn$Refused -/
set_option maxRecDepth 100000
def RX11 : String := "MossLawn$Refused"
def TX11 : u_T := fun k => match k with
  | 0 => ("java/lang/Throwable", "cause", "Ljava/lang/Throwable;", false)
  | 1 => ("java/lang/Throwable", "stackTrace", "[Ljava/lang/StackTraceElement;", false)
  | 2 => ("java/lang/Throwable", "suppressedExceptions", "Ljava/util/List;", false)
  | 3 => ("java/lang/Throwable", "detailMessage", "Ljava/lang/String;", false)
  | 4 => ("java/lang/Throwable", "backtrace", "Ljava/lang/Object;", false)
  | 5 => ("java/lang/Throwable", "depth", "I", false)
  | 6 => ("MossLawn$Refused", "reason", "I", true)
  | _ => ("MossLawn$Refused", "detail", "I", true)
def tyX11 : Nat → FieldType := fun k => match k with
  | 0 => .object "java/lang/Throwable"
  | 1 => .array (.object "java/lang/StackTraceElement")
  | 2 => .object "java/util/List"
  | 3 => .object "java/lang/String"
  | 4 => .object "java/lang/Object"
  | 5 => .int
  | 6 => .int
  | _ => .int
abbrev wsX110 : List Cond := u_ws RX11 TX11 8
theorem nmX11 : ∀ a, a < 8 → ∀ b, b < 8 → a ≠ b → (TX11 a).2.1 ≠ (TX11 b).2.1 := by decide +kernel
theorem tyX11_ok : ∀ k, k < 8 → parseFieldDescriptor (TX11 k).2.2.1 = some (tyX11 k) := by decide +kernel
abbrev cX11_init : ByteArray := prog_12_method_1_code
def yX11_init : MethodName := ⟨RX11, "<init>", "(II)V"⟩
def dkwX11_init_0 : List UInt8 := [42, 27, 28, 1, 183, 0, 1, 177]
abbrev dktX11_init_0 : List UInt8 := dkwX11_init_0 ++ []
theorem dksX11_init_0 : cX11_init.data.toList.drop 0 = dktX11_init_0 := by decide +kernel
theorem dX11_init_0 : decode cX11_init 0 = .ok (.aload_n 0, 1) := dk_42 (dk_at dksX11_init_0 0 rfl rfl)
theorem dX11_init_1 : decode cX11_init 1 = .ok (.iload_n 1, 1) := dk_27 (dk_at dksX11_init_0 1 rfl rfl)
theorem dX11_init_2 : decode cX11_init 2 = .ok (.iload_n 2, 1) := dk_28 (dk_at dksX11_init_0 2 rfl rfl)
theorem dX11_init_3 : decode cX11_init 3 = .ok (.aconst_null, 1) := dk_1 (dk_at dksX11_init_0 3 rfl rfl)
theorem dX11_init_4 : decode cX11_init 4 = .ok (.invokespecial 1, 3) := dk_183 0 1 (dk_at dksX11_init_0 4 rfl rfl)
theorem dX11_init_7 : decode cX11_init 7 = .ok (.return_, 1) := dk_177 (dk_at dksX11_init_0 7 rfl rfl)
abbrev cX11_init_2 : ByteArray := prog_12_method_2_code
def yX11_init_2 : MethodName := ⟨RX11, "<init>", "(IILMossLawn$Refused;)V"⟩
def dkwX11_init_2_0 : List UInt8 := [42, 1, 45, 3, 3, 183, 0, 7, 42, 27, 181, 0, 12, 42, 28, 181, 0, 16, 177]
abbrev dktX11_init_2_0 : List UInt8 := dkwX11_init_2_0 ++ []
theorem dksX11_init_2_0 : cX11_init_2.data.toList.drop 0 = dktX11_init_2_0 := by decide +kernel
theorem dX11_init_2_0 : decode cX11_init_2 0 = .ok (.aload_n 0, 1) := dk_42 (dk_at dksX11_init_2_0 0 rfl rfl)
theorem dX11_init_2_1 : decode cX11_init_2 1 = .ok (.aconst_null, 1) := dk_1 (dk_at dksX11_init_2_0 1 rfl rfl)
theorem dX11_init_2_2 : decode cX11_init_2 2 = .ok (.aload_n 3, 1) := dk_45 (dk_at dksX11_init_2_0 2 rfl rfl)
theorem dX11_init_2_3 : decode cX11_init_2 3 = .ok (.iconst 0, 1) := dk_3 (dk_at dksX11_init_2_0 3 rfl rfl)
theorem dX11_init_2_4 : decode cX11_init_2 4 = .ok (.iconst 0, 1) := dk_3 (dk_at dksX11_init_2_0 4 rfl rfl)
theorem dX11_init_2_5 : decode cX11_init_2 5 = .ok (.invokespecial 7, 3) := dk_183 0 7 (dk_at dksX11_init_2_0 5 rfl rfl)
theorem dX11_init_2_8 : decode cX11_init_2 8 = .ok (.aload_n 0, 1) := dk_42 (dk_at dksX11_init_2_0 8 rfl rfl)
theorem dX11_init_2_9 : decode cX11_init_2 9 = .ok (.iload_n 1, 1) := dk_27 (dk_at dksX11_init_2_0 9 rfl rfl)
theorem dX11_init_2_10 : decode cX11_init_2 10 = .ok (.putfield 12, 3) := dk_181 0 12 (dk_at dksX11_init_2_0 10 rfl rfl)
theorem dX11_init_2_13 : decode cX11_init_2 13 = .ok (.aload_n 0, 1) := dk_42 (dk_at dksX11_init_2_0 13 rfl rfl)
theorem dX11_init_2_14 : decode cX11_init_2 14 = .ok (.iload_n 2, 1) := dk_28 (dk_at dksX11_init_2_0 14 rfl rfl)
theorem dX11_init_2_15 : decode cX11_init_2 15 = .ok (.putfield 16, 3) := dk_181 0 16 (dk_at dksX11_init_2_0 15 rfl rfl)
theorem dX11_init_2_18 : decode cX11_init_2 18 = .ok (.return_, 1) := dk_177 (dk_at dksX11_init_2_0 18 rfl rfl)
abbrev cX11_behind : ByteArray := prog_12_method_3_code
def yX11_behind : MethodName := ⟨RX11, "behind", "(I)LMossLawn$Refused;"⟩
def dkwX11_behind_1 : List UInt8 := [44, 193, 0, 2, 153, 0, 10, 44, 192, 0, 2, 167, 0, 4, 1, 176]
abbrev dktX11_behind_1 : List UInt8 := dkwX11_behind_1 ++ []
def dkwX11_behind_0 : List UInt8 := [42, 77, 3, 62, 29, 27, 162, 0, 18, 44, 198, 0, 14, 44, 182, 0, 19, 77, 132, 3, 1, 167, 255, 239]
abbrev dktX11_behind_0 : List UInt8 := dkwX11_behind_0 ++ dktX11_behind_1
theorem dksX11_behind_0 : cX11_behind.data.toList.drop 0 = dktX11_behind_0 := by decide +kernel
theorem dksX11_behind_1 : cX11_behind.data.toList.drop 24 = dktX11_behind_1 := dk_seg dksX11_behind_0 24 rfl rfl
theorem dX11_behind_0 : decode cX11_behind 0 = .ok (.aload_n 0, 1) := dk_42 (dk_at dksX11_behind_0 0 rfl rfl)
theorem dX11_behind_1 : decode cX11_behind 1 = .ok (.astore_n 2, 1) := dk_77 (dk_at dksX11_behind_0 1 rfl rfl)
theorem dX11_behind_2 : decode cX11_behind 2 = .ok (.iconst 0, 1) := dk_3 (dk_at dksX11_behind_0 2 rfl rfl)
theorem dX11_behind_3 : decode cX11_behind 3 = .ok (.istore_n 3, 1) := dk_62 (dk_at dksX11_behind_0 3 rfl rfl)
theorem dX11_behind_4 : decode cX11_behind 4 = .ok (.iload_n 3, 1) := dk_29 (dk_at dksX11_behind_0 4 rfl rfl)
theorem dX11_behind_5 : decode cX11_behind 5 = .ok (.iload_n 1, 1) := dk_27 (dk_at dksX11_behind_0 5 rfl rfl)
theorem dX11_behind_6 : decode cX11_behind 6 = .ok (.if_icmp .ge 18, 3) := dk_162 0 18 (dk_at dksX11_behind_0 6 rfl rfl)
theorem dX11_behind_9 : decode cX11_behind 9 = .ok (.aload_n 2, 1) := dk_44 (dk_at dksX11_behind_0 9 rfl rfl)
theorem dX11_behind_10 : decode cX11_behind 10 = .ok (.ifnull 14, 3) := dk_198 0 14 (dk_at dksX11_behind_0 10 rfl rfl)
theorem dX11_behind_13 : decode cX11_behind 13 = .ok (.aload_n 2, 1) := dk_44 (dk_at dksX11_behind_0 13 rfl rfl)
theorem dX11_behind_14 : decode cX11_behind 14 = .ok (.invokevirtual 19, 3) := dk_182 0 19 (dk_at dksX11_behind_0 14 rfl rfl)
theorem dX11_behind_17 : decode cX11_behind 17 = .ok (.astore_n 2, 1) := dk_77 (dk_at dksX11_behind_0 17 rfl rfl)
theorem dX11_behind_18 : decode cX11_behind 18 = .ok (.iinc 3 1, 3) := dk_132 3 1 (dk_at dksX11_behind_0 18 rfl rfl)
theorem dX11_behind_21 : decode cX11_behind 21 = .ok (.goto (-17), 3) := dk_167 255 239 (dk_at dksX11_behind_0 21 rfl rfl)
theorem dX11_behind_24 : decode cX11_behind 24 = .ok (.aload_n 2, 1) := dk_44 (dk_at dksX11_behind_1 0 rfl rfl)
theorem dX11_behind_25 : decode cX11_behind 25 = .ok (.instanceof 2, 3) := dk_193 0 2 (dk_at dksX11_behind_1 1 rfl rfl)
theorem dX11_behind_28 : decode cX11_behind 28 = .ok (.ifCond .eq 10, 3) := dk_153 0 10 (dk_at dksX11_behind_1 4 rfl rfl)
theorem dX11_behind_31 : decode cX11_behind 31 = .ok (.aload_n 2, 1) := dk_44 (dk_at dksX11_behind_1 7 rfl rfl)
theorem dX11_behind_32 : decode cX11_behind 32 = .ok (.checkcast 2, 3) := dk_192 0 2 (dk_at dksX11_behind_1 8 rfl rfl)
theorem dX11_behind_35 : decode cX11_behind 35 = .ok (.goto 4, 3) := dk_167 0 4 (dk_at dksX11_behind_1 11 rfl rfl)
theorem dX11_behind_38 : decode cX11_behind 38 = .ok (.aconst_null, 1) := dk_1 (dk_at dksX11_behind_1 14 rfl rfl)
theorem dX11_behind_39 : decode cX11_behind 39 = .ok (.areturn, 1) := dk_176 (dk_at dksX11_behind_1 15 rfl rfl)
theorem q153 : (Jvm.Cond.initialized "MossLawn$Refused") ∈ lw_all := lw_g (lw_at lw_m1 39 rfl) rfl
theorem q436 : (Jvm.Cond.selects "MossLawn$Refused" ({ cls := "java/lang/Object", name := "getClass", desc := "()Ljava/lang/Class;" } : Jvm.MethodName) ({ cls := "java/lang/Object", name := "getClass", desc := "()Ljava/lang/Class;" } : Jvm.MethodName)) ∈ lw_all := lw_g (lw_at lw_m2 82 rfl) rfl
theorem q826 : (Jvm.Cond.selects "MossLawn$Refused" ({ cls := "java/lang/Throwable", name := "fillInStackTrace", desc := "()Ljava/lang/Throwable;" } : Jvm.MethodName) ({ cls := "java/lang/Throwable", name := "fillInStackTrace", desc := "()Ljava/lang/Throwable;" } : Jvm.MethodName)) ∈ lw_all := lw_g (lw_at lw_m3 232 rfl) rfl
theorem q867 : (Jvm.Cond.instantiable "MossLawn$Refused" (8 : Nat)) ∈ lw_all := lw_g (lw_at lw_m4 33 rfl) rfl
theorem q868 : (Jvm.Cond.castable "MossLawn$Refused" "MossLawn$Refused") ∈ lw_tbl := lw_at lw_m4 34 rfl
theorem q869 : (Jvm.Cond.selects "MossLawn$Refused" ({ cls := "java/lang/Throwable", name := "fillInStackTrace", desc := "(I)Ljava/lang/Throwable;" } : Jvm.MethodName) ({ cls := "java/lang/Throwable", name := "fillInStackTrace", desc := "(I)Ljava/lang/Throwable;" } : Jvm.MethodName)) ∈ lw_all := lw_g (lw_at lw_m4 35 rfl) rfl
theorem q870 : (Jvm.Cond.lays "MossLawn$Refused" "java/lang/Throwable" "cause" "Ljava/lang/Throwable;") ∈ lw_all := lw_g (lw_at lw_m4 36 rfl) rfl
theorem q871 : (Jvm.Cond.lays "MossLawn$Refused" "java/lang/Throwable" "stackTrace" "[Ljava/lang/StackTraceElement;") ∈ lw_all := lw_g (lw_at lw_m4 37 rfl) rfl
theorem q872 : (Jvm.Cond.lays "MossLawn$Refused" "java/lang/Throwable" "suppressedExceptions" "Ljava/util/List;") ∈ lw_all := lw_g (lw_at lw_m4 38 rfl) rfl
theorem q873 : (Jvm.Cond.lays "MossLawn$Refused" "java/lang/Throwable" "detailMessage" "Ljava/lang/String;") ∈ lw_all := lw_g (lw_at lw_m4 39 rfl) rfl
theorem q874 : (Jvm.Cond.lays "MossLawn$Refused" "java/lang/Throwable" "backtrace" "Ljava/lang/Object;") ∈ lw_all := lw_g (lw_at lw_m4 40 rfl) rfl
theorem q876 : (Jvm.Cond.instanceMethod ({ cls := "MossLawn$Refused", name := "<init>", desc := "(II)V" } : Jvm.MethodName)) ∈ lw_all := lw_g (lw_at lw_m4 42 rfl) rfl
theorem q877 : (Jvm.Cond.code ({ cls := "MossLawn$Refused", name := "<init>", desc := "(II)V" } : Jvm.MethodName) prog_12_method_1_code (3 : Nat) (Option.none : Option Jvm.ClassFile.FieldType)) ∈ lw_all := lw_g (lw_at lw_m4 43 rfl) rfl
theorem q878 : (Jvm.Cond.methodLink "MossLawn$Refused" (1 : Nat) ({ cls := "MossLawn$Refused", name := "<init>", desc := "(IILMossLawn$Refused;)V" } : Jvm.MethodName)) ∈ lw_all := lw_g (lw_at lw_m4 44 rfl) rfl
theorem q879 : (Jvm.Cond.instanceMethod ({ cls := "MossLawn$Refused", name := "<init>", desc := "(IILMossLawn$Refused;)V" } : Jvm.MethodName)) ∈ lw_all := lw_g (lw_at lw_m4 45 rfl) rfl
theorem q880 : (Jvm.Cond.code ({ cls := "MossLawn$Refused", name := "<init>", desc := "(IILMossLawn$Refused;)V" } : Jvm.MethodName) prog_12_method_2_code (4 : Nat) (Option.none : Option Jvm.ClassFile.FieldType)) ∈ lw_all := lw_g (lw_at lw_m4 46 rfl) rfl
theorem q881 : (Jvm.Cond.methodLink "MossLawn$Refused" (7 : Nat) ({ cls := "java/lang/Exception", name := "<init>", desc := "(Ljava/lang/String;Ljava/lang/Throwable;ZZ)V" } : Jvm.MethodName)) ∈ lw_all := lw_g (lw_at lw_m4 47 rfl) rfl
theorem q882 : (Jvm.Cond.fieldLink "MossLawn$Refused" (12 : Nat) "MossLawn$Refused" "reason" "I") ∈ lw_all := lw_g (lw_at lw_m4 48 rfl) rfl
theorem q884 : (Jvm.Cond.fieldLink "MossLawn$Refused" (16 : Nat) "MossLawn$Refused" "detail" "I") ∈ lw_all := lw_g (lw_at lw_m4 50 rfl) rfl
theorem q886 : (Jvm.Cond.laysFinal "MossLawn$Refused" "MossLawn$Refused" "reason" "I") ∈ lw_all := lw_g (lw_at lw_m4 52 rfl) rfl
theorem q887 : (Jvm.Cond.soleField "MossLawn$Refused" "reason") ∈ lw_all := lw_g (lw_at lw_m4 53 rfl) rfl
theorem q888 : (Jvm.Cond.laysFinal "MossLawn$Refused" "MossLawn$Refused" "detail" "I") ∈ lw_all := lw_g (lw_at lw_m4 54 rfl) rfl
theorem q889 : (Jvm.Cond.soleField "MossLawn$Refused" "detail") ∈ lw_all := lw_g (lw_at lw_m4 55 rfl) rfl
theorem q890 : (Jvm.Cond.lays "MossLawn$Refused" "java/lang/Throwable" "depth" "I") ∈ lw_all := lw_g (lw_at lw_m4 56 rfl) rfl
theorem q891 : (Jvm.Cond.superclass "MossLawn$Refused" "java/lang/Exception") ∈ lw_all := lw_g (lw_at lw_m4 57 rfl) rfl
theorem q1391 : (Jvm.Cond.selects "MossLawn$Refused" ({ cls := "java/lang/Throwable", name := "toString", desc := "()Ljava/lang/String;" } : Jvm.MethodName) ({ cls := "java/lang/Throwable", name := "toString", desc := "()Ljava/lang/String;" } : Jvm.MethodName)) ∈ lw_all := lw_g (lw_at lw_m6 77 rfl) rfl
theorem q1400 : (Jvm.Cond.selects "MossLawn$Refused" ({ cls := "java/lang/Throwable", name := "getLocalizedMessage", desc := "()Ljava/lang/String;" } : Jvm.MethodName) ({ cls := "java/lang/Throwable", name := "getLocalizedMessage", desc := "()Ljava/lang/String;" } : Jvm.MethodName)) ∈ lw_all := lw_g (lw_at lw_m6 86 rfl) rfl
theorem q1408 : (Jvm.Cond.selects "MossLawn$Refused" ({ cls := "java/lang/Throwable", name := "getMessage", desc := "()Ljava/lang/String;" } : Jvm.MethodName) ({ cls := "java/lang/Throwable", name := "getMessage", desc := "()Ljava/lang/String;" } : Jvm.MethodName)) ∈ lw_all := lw_g (lw_at lw_m6 94 rfl) rfl
theorem q1822 : (Jvm.Cond.instanceMethod ({ cls := "MossLawn$Refused", name := "behind", desc := "(I)LMossLawn$Refused;" } : Jvm.MethodName)) ∈ lw_all := lw_g (lw_at lw_m8 28 rfl) rfl
theorem q1823 : (Jvm.Cond.selects "MossLawn$Refused" ({ cls := "MossLawn$Refused", name := "behind", desc := "(I)LMossLawn$Refused;" } : Jvm.MethodName) ({ cls := "MossLawn$Refused", name := "behind", desc := "(I)LMossLawn$Refused;" } : Jvm.MethodName)) ∈ lw_all := lw_g (lw_at lw_m8 29 rfl) rfl
theorem q1824 : (Jvm.Cond.code ({ cls := "MossLawn$Refused", name := "behind", desc := "(I)LMossLawn$Refused;" } : Jvm.MethodName) prog_12_method_3_code (4 : Nat) (Option.some (Jvm.ClassFile.FieldType.object "MossLawn$Refused"))) ∈ lw_all := lw_g (lw_at lw_m8 30 rfl) rfl
theorem q1825 : (Jvm.Cond.methodLink "MossLawn$Refused" (19 : Nat) ({ cls := "java/lang/Throwable", name := "getCause", desc := "()Ljava/lang/Throwable;" } : Jvm.MethodName)) ∈ lw_all := lw_g (lw_at lw_m8 31 rfl) rfl
theorem q1829 : (Jvm.Cond.selects "MossLawn$Refused" ({ cls := "java/lang/Throwable", name := "getCause", desc := "()Ljava/lang/Throwable;" } : Jvm.MethodName) ({ cls := "java/lang/Throwable", name := "getCause", desc := "()Ljava/lang/Throwable;" } : Jvm.MethodName)) ∈ lw_all := lw_g (lw_at lw_m8 35 rfl) rfl
theorem q1833 : (Jvm.Cond.classLink "MossLawn$Refused" (2 : Nat) "MossLawn$Refused") ∈ lw_all := lw_g (lw_at lw_m8 39 rfl) rfl
theorem q2468 : (Jvm.Cond.castable "MossLawn$Refused" "java/lang/Object") ∈ lw_tbl := lw_at lw_m10 194 rfl
theorem in_X11 : ∀ w ∈ wsX110, w ∈ lw_all := lw_in wsX110 [870, 871, 872, 873, 874, 890, 886, 888] (by decide +kernel) (by decide +kernel)
/-! MossLawn$Walk -/
set_option maxRecDepth 100000
def RX12 : String := "MossLawn$Walk"
def TX12 : u_T := fun k => match k with
  | 0 => ("MossLawn$Walk", "size", "I", true)
  | 1 => ("MossLawn$Walk", "from", "I", true)
  | 2 => ("MossLawn$Walk", "to", "I", true)
  | _ => ("MossLawn$Walk", "steps", "I", true)
def tyX12 : Nat → FieldType := fun k => match k with
  | 0 => .int
  | 1 => .int
  | 2 => .int
  | _ => .int
abbrev wsX120 : List Cond := u_ws RX12 TX12 4
theorem nmX12 : ∀ a, a < 4 → ∀ b, b < 4 → a ≠ b → (TX12 a).2.1 ≠ (TX12 b).2.1 := by decide +kernel
theorem tyX12_ok : ∀ k, k < 4 → parseFieldDescriptor (TX12 k).2.2.1 = some (tyX12 k) := by decide +kernel
abbrev cX12_init : ByteArray := prog_19_method_1_code
def yX12_init : MethodName := ⟨RX12, "<init>", "(IIII)V"⟩
def dkwX12_init_1 : List UInt8 := [181, 0, 19, 177]
abbrev dktX12_init_1 : List UInt8 := dkwX12_init_1 ++ []
def dkwX12_init_0 : List UInt8 := [42, 183, 0, 1, 42, 27, 181, 0, 7, 42, 28, 181, 0, 13, 42, 29, 181, 0, 16, 42, 21, 4]
abbrev dktX12_init_0 : List UInt8 := dkwX12_init_0 ++ dktX12_init_1
theorem dksX12_init_0 : cX12_init.data.toList.drop 0 = dktX12_init_0 := by decide +kernel
theorem dksX12_init_1 : cX12_init.data.toList.drop 22 = dktX12_init_1 := dk_seg dksX12_init_0 22 rfl rfl
theorem dX12_init_0 : decode cX12_init 0 = .ok (.aload_n 0, 1) := dk_42 (dk_at dksX12_init_0 0 rfl rfl)
theorem dX12_init_1 : decode cX12_init 1 = .ok (.invokespecial 1, 3) := dk_183 0 1 (dk_at dksX12_init_0 1 rfl rfl)
theorem dX12_init_4 : decode cX12_init 4 = .ok (.aload_n 0, 1) := dk_42 (dk_at dksX12_init_0 4 rfl rfl)
theorem dX12_init_5 : decode cX12_init 5 = .ok (.iload_n 1, 1) := dk_27 (dk_at dksX12_init_0 5 rfl rfl)
theorem dX12_init_6 : decode cX12_init 6 = .ok (.putfield 7, 3) := dk_181 0 7 (dk_at dksX12_init_0 6 rfl rfl)
theorem dX12_init_9 : decode cX12_init 9 = .ok (.aload_n 0, 1) := dk_42 (dk_at dksX12_init_0 9 rfl rfl)
theorem dX12_init_10 : decode cX12_init 10 = .ok (.iload_n 2, 1) := dk_28 (dk_at dksX12_init_0 10 rfl rfl)
theorem dX12_init_11 : decode cX12_init 11 = .ok (.putfield 13, 3) := dk_181 0 13 (dk_at dksX12_init_0 11 rfl rfl)
theorem dX12_init_14 : decode cX12_init 14 = .ok (.aload_n 0, 1) := dk_42 (dk_at dksX12_init_0 14 rfl rfl)
theorem dX12_init_15 : decode cX12_init 15 = .ok (.iload_n 3, 1) := dk_29 (dk_at dksX12_init_0 15 rfl rfl)
theorem dX12_init_16 : decode cX12_init 16 = .ok (.putfield 16, 3) := dk_181 0 16 (dk_at dksX12_init_0 16 rfl rfl)
theorem dX12_init_19 : decode cX12_init 19 = .ok (.aload_n 0, 1) := dk_42 (dk_at dksX12_init_0 19 rfl rfl)
theorem dX12_init_20 : decode cX12_init 20 = .ok (.iload 4, 2) := dk_21 4 (dk_at dksX12_init_0 20 rfl rfl)
theorem dX12_init_22 : decode cX12_init 22 = .ok (.putfield 19, 3) := dk_181 0 19 (dk_at dksX12_init_1 0 rfl rfl)
theorem dX12_init_25 : decode cX12_init 25 = .ok (.return_, 1) := dk_177 (dk_at dksX12_init_1 3 rfl rfl)
theorem q163 : (Jvm.Cond.initialized "MossLawn$Walk") ∈ lw_all := lw_g (lw_at lw_m1 49 rfl) rfl
theorem q442 : (Jvm.Cond.selects "MossLawn$Walk" ({ cls := "java/lang/Object", name := "getClass", desc := "()Ljava/lang/Class;" } : Jvm.MethodName) ({ cls := "java/lang/Object", name := "getClass", desc := "()Ljava/lang/Class;" } : Jvm.MethodName)) ∈ lw_all := lw_g (lw_at lw_m2 88 rfl) rfl
theorem q1627 : (Jvm.Cond.instantiable "MossLawn$Walk" (4 : Nat)) ∈ lw_all := lw_g (lw_at lw_m7 73 rfl) rfl
theorem q1629 : (Jvm.Cond.instanceMethod ({ cls := "MossLawn$Walk", name := "<init>", desc := "(IIII)V" } : Jvm.MethodName)) ∈ lw_all := lw_g (lw_at lw_m7 75 rfl) rfl
theorem q1630 : (Jvm.Cond.code ({ cls := "MossLawn$Walk", name := "<init>", desc := "(IIII)V" } : Jvm.MethodName) prog_19_method_1_code (5 : Nat) (Option.none : Option Jvm.ClassFile.FieldType)) ∈ lw_all := lw_g (lw_at lw_m7 76 rfl) rfl
theorem q1631 : (Jvm.Cond.methodLink "MossLawn$Walk" (1 : Nat) ({ cls := "java/lang/Object", name := "<init>", desc := "()V" } : Jvm.MethodName)) ∈ lw_all := lw_g (lw_at lw_m7 77 rfl) rfl
theorem q1632 : (Jvm.Cond.fieldLink "MossLawn$Walk" (7 : Nat) "MossLawn$Walk" "size" "I") ∈ lw_all := lw_g (lw_at lw_m7 78 rfl) rfl
theorem q1634 : (Jvm.Cond.fieldLink "MossLawn$Walk" (13 : Nat) "MossLawn$Walk" "from" "I") ∈ lw_all := lw_g (lw_at lw_m7 80 rfl) rfl
theorem q1636 : (Jvm.Cond.fieldLink "MossLawn$Walk" (16 : Nat) "MossLawn$Walk" "to" "I") ∈ lw_all := lw_g (lw_at lw_m7 82 rfl) rfl
theorem q1638 : (Jvm.Cond.fieldLink "MossLawn$Walk" (19 : Nat) "MossLawn$Walk" "steps" "I") ∈ lw_all := lw_g (lw_at lw_m7 84 rfl) rfl
theorem q1640 : (Jvm.Cond.laysFinal "MossLawn$Walk" "MossLawn$Walk" "size" "I") ∈ lw_all := lw_g (lw_at lw_m7 86 rfl) rfl
theorem q1641 : (Jvm.Cond.soleField "MossLawn$Walk" "size") ∈ lw_all := lw_g (lw_at lw_m7 87 rfl) rfl
theorem q1642 : (Jvm.Cond.laysFinal "MossLawn$Walk" "MossLawn$Walk" "from" "I") ∈ lw_all := lw_g (lw_at lw_m7 88 rfl) rfl
theorem q1643 : (Jvm.Cond.soleField "MossLawn$Walk" "from") ∈ lw_all := lw_g (lw_at lw_m7 89 rfl) rfl
theorem q1644 : (Jvm.Cond.laysFinal "MossLawn$Walk" "MossLawn$Walk" "to" "I") ∈ lw_all := lw_g (lw_at lw_m7 90 rfl) rfl
theorem q1645 : (Jvm.Cond.soleField "MossLawn$Walk" "to") ∈ lw_all := lw_g (lw_at lw_m7 91 rfl) rfl
theorem q1646 : (Jvm.Cond.laysFinal "MossLawn$Walk" "MossLawn$Walk" "steps" "I") ∈ lw_all := lw_g (lw_at lw_m7 92 rfl) rfl
theorem q1647 : (Jvm.Cond.soleField "MossLawn$Walk" "steps") ∈ lw_all := lw_g (lw_at lw_m7 93 rfl) rfl
theorem q1648 : (Jvm.Cond.superclass "MossLawn$Walk" "java/lang/Object") ∈ lw_all := lw_g (lw_at lw_m7 94 rfl) rfl
theorem q2475 : (Jvm.Cond.castable "MossLawn$Walk" "java/lang/Object") ∈ lw_tbl := lw_at lw_m10 201 rfl
theorem in_X12 : ∀ w ∈ wsX120, w ∈ lw_all := lw_in wsX120 [1640, 1642, 1644, 1646] (by decide +kernel) (by decide +kernel)
/-! MossLawn$Fault -/
set_option maxRecDepth 100000
def RX13 : String := "MossLawn$Fault"
def TX13 : u_T := fun k => match k with
  | 0 => ("java/lang/Throwable", "cause", "Ljava/lang/Throwable;", false)
  | 1 => ("java/lang/Throwable", "stackTrace", "[Ljava/lang/StackTraceElement;", false)
  | 2 => ("java/lang/Throwable", "suppressedExceptions", "Ljava/util/List;", false)
  | 3 => ("java/lang/Throwable", "detailMessage", "Ljava/lang/String;", false)
  | 4 => ("java/lang/Throwable", "backtrace", "Ljava/lang/Object;", false)
  | _ => ("java/lang/Throwable", "depth", "I", false)
def tyX13 : Nat → FieldType := fun k => match k with
  | 0 => .object "java/lang/Throwable"
  | 1 => .array (.object "java/lang/StackTraceElement")
  | 2 => .object "java/util/List"
  | 3 => .object "java/lang/String"
  | 4 => .object "java/lang/Object"
  | _ => .int
abbrev wsX130 : List Cond := u_ws RX13 TX13 6
theorem nmX13 : ∀ a, a < 6 → ∀ b, b < 6 → a ≠ b → (TX13 a).2.1 ≠ (TX13 b).2.1 := by decide +kernel
theorem tyX13_ok : ∀ k, k < 6 → parseFieldDescriptor (TX13 k).2.2.1 = some (tyX13 k) := by decide +kernel
abbrev cX13_init : ByteArray := prog_6_method_1_code
def yX13_init : MethodName := ⟨RX13, "<init>", "()V"⟩
def dkwX13_init_0 : List UInt8 := [42, 1, 1, 3, 3, 183, 0, 1, 177]
abbrev dktX13_init_0 : List UInt8 := dkwX13_init_0 ++ []
theorem dksX13_init_0 : cX13_init.data.toList.drop 0 = dktX13_init_0 := by decide +kernel
theorem dX13_init_0 : decode cX13_init 0 = .ok (.aload_n 0, 1) := dk_42 (dk_at dksX13_init_0 0 rfl rfl)
theorem dX13_init_1 : decode cX13_init 1 = .ok (.aconst_null, 1) := dk_1 (dk_at dksX13_init_0 1 rfl rfl)
theorem dX13_init_2 : decode cX13_init 2 = .ok (.aconst_null, 1) := dk_1 (dk_at dksX13_init_0 2 rfl rfl)
theorem dX13_init_3 : decode cX13_init 3 = .ok (.iconst 0, 1) := dk_3 (dk_at dksX13_init_0 3 rfl rfl)
theorem dX13_init_4 : decode cX13_init 4 = .ok (.iconst 0, 1) := dk_3 (dk_at dksX13_init_0 4 rfl rfl)
theorem dX13_init_5 : decode cX13_init 5 = .ok (.invokespecial 1, 3) := dk_183 0 1 (dk_at dksX13_init_0 5 rfl rfl)
theorem dX13_init_8 : decode cX13_init 8 = .ok (.return_, 1) := dk_177 (dk_at dksX13_init_0 8 rfl rfl)
theorem q164 : (Jvm.Cond.initialized "MossLawn$Fault") ∈ lw_all := lw_g (lw_at lw_m1 50 rfl) rfl
theorem q431 : (Jvm.Cond.selects "MossLawn$Fault" ({ cls := "java/lang/Object", name := "getClass", desc := "()Ljava/lang/Class;" } : Jvm.MethodName) ({ cls := "java/lang/Object", name := "getClass", desc := "()Ljava/lang/Class;" } : Jvm.MethodName)) ∈ lw_all := lw_g (lw_at lw_m2 77 rfl) rfl
theorem q825 : (Jvm.Cond.selects "MossLawn$Fault" ({ cls := "java/lang/Throwable", name := "fillInStackTrace", desc := "()Ljava/lang/Throwable;" } : Jvm.MethodName) ({ cls := "java/lang/Throwable", name := "fillInStackTrace", desc := "()Ljava/lang/Throwable;" } : Jvm.MethodName)) ∈ lw_all := lw_g (lw_at lw_m3 231 rfl) rfl
theorem q1390 : (Jvm.Cond.selects "MossLawn$Fault" ({ cls := "java/lang/Throwable", name := "toString", desc := "()Ljava/lang/String;" } : Jvm.MethodName) ({ cls := "java/lang/Throwable", name := "toString", desc := "()Ljava/lang/String;" } : Jvm.MethodName)) ∈ lw_all := lw_g (lw_at lw_m6 76 rfl) rfl
theorem q1399 : (Jvm.Cond.selects "MossLawn$Fault" ({ cls := "java/lang/Throwable", name := "getLocalizedMessage", desc := "()Ljava/lang/String;" } : Jvm.MethodName) ({ cls := "java/lang/Throwable", name := "getLocalizedMessage", desc := "()Ljava/lang/String;" } : Jvm.MethodName)) ∈ lw_all := lw_g (lw_at lw_m6 85 rfl) rfl
theorem q1407 : (Jvm.Cond.selects "MossLawn$Fault" ({ cls := "java/lang/Throwable", name := "getMessage", desc := "()Ljava/lang/String;" } : Jvm.MethodName) ({ cls := "java/lang/Throwable", name := "getMessage", desc := "()Ljava/lang/String;" } : Jvm.MethodName)) ∈ lw_all := lw_g (lw_at lw_m6 93 rfl) rfl
theorem q1701 : (Jvm.Cond.instantiable "MossLawn$Fault" (6 : Nat)) ∈ lw_all := lw_g (lw_at lw_m7 147 rfl) rfl
theorem q1702 : (Jvm.Cond.castable "MossLawn$Fault" "MossLawn$Fault") ∈ lw_tbl := lw_at lw_m7 148 rfl
theorem q1703 : (Jvm.Cond.selects "MossLawn$Fault" ({ cls := "java/lang/Throwable", name := "fillInStackTrace", desc := "(I)Ljava/lang/Throwable;" } : Jvm.MethodName) ({ cls := "java/lang/Throwable", name := "fillInStackTrace", desc := "(I)Ljava/lang/Throwable;" } : Jvm.MethodName)) ∈ lw_all := lw_g (lw_at lw_m7 149 rfl) rfl
theorem q1704 : (Jvm.Cond.lays "MossLawn$Fault" "java/lang/Throwable" "cause" "Ljava/lang/Throwable;") ∈ lw_all := lw_g (lw_at lw_m7 150 rfl) rfl
theorem q1705 : (Jvm.Cond.lays "MossLawn$Fault" "java/lang/Throwable" "stackTrace" "[Ljava/lang/StackTraceElement;") ∈ lw_all := lw_g (lw_at lw_m7 151 rfl) rfl
theorem q1706 : (Jvm.Cond.lays "MossLawn$Fault" "java/lang/Throwable" "suppressedExceptions" "Ljava/util/List;") ∈ lw_all := lw_g (lw_at lw_m7 152 rfl) rfl
theorem q1707 : (Jvm.Cond.lays "MossLawn$Fault" "java/lang/Throwable" "detailMessage" "Ljava/lang/String;") ∈ lw_all := lw_g (lw_at lw_m7 153 rfl) rfl
theorem q1708 : (Jvm.Cond.lays "MossLawn$Fault" "java/lang/Throwable" "backtrace" "Ljava/lang/Object;") ∈ lw_all := lw_g (lw_at lw_m7 154 rfl) rfl
theorem q1710 : (Jvm.Cond.instanceMethod ({ cls := "MossLawn$Fault", name := "<init>", desc := "()V" } : Jvm.MethodName)) ∈ lw_all := lw_g (lw_at lw_m7 156 rfl) rfl
theorem q1711 : (Jvm.Cond.code ({ cls := "MossLawn$Fault", name := "<init>", desc := "()V" } : Jvm.MethodName) prog_6_method_1_code (1 : Nat) (Option.none : Option Jvm.ClassFile.FieldType)) ∈ lw_all := lw_g (lw_at lw_m7 157 rfl) rfl
theorem q1712 : (Jvm.Cond.methodLink "MossLawn$Fault" (1 : Nat) ({ cls := "java/lang/Exception", name := "<init>", desc := "(Ljava/lang/String;Ljava/lang/Throwable;ZZ)V" } : Jvm.MethodName)) ∈ lw_all := lw_g (lw_at lw_m7 158 rfl) rfl
theorem q1713 : (Jvm.Cond.lays "MossLawn$Fault" "java/lang/Throwable" "depth" "I") ∈ lw_all := lw_g (lw_at lw_m7 159 rfl) rfl
theorem q1714 : (Jvm.Cond.superclass "MossLawn$Fault" "java/lang/Exception") ∈ lw_all := lw_g (lw_at lw_m7 160 rfl) rfl
theorem q1828 : (Jvm.Cond.selects "MossLawn$Fault" ({ cls := "java/lang/Throwable", name := "getCause", desc := "()Ljava/lang/Throwable;" } : Jvm.MethodName) ({ cls := "java/lang/Throwable", name := "getCause", desc := "()Ljava/lang/Throwable;" } : Jvm.MethodName)) ∈ lw_all := lw_g (lw_at lw_m8 34 rfl) rfl
theorem q2476 : (Jvm.Cond.castable "MossLawn$Fault" "java/lang/Object") ∈ lw_tbl := lw_at lw_m10 202 rfl
theorem in_X13 : ∀ w ∈ wsX130, w ∈ lw_all := lw_in wsX130 [1704, 1705, 1706, 1707, 1708, 1713] (by decide +kernel) (by decide +kernel)
/-! MossLawn$Side$1 -/
set_option maxRecDepth 100000
def RX14 : String := "MossLawn$Side$1"
abbrev cX14_from : ByteArray := prog_14_method_2_code
def yX14_from : MethodName := ⟨RX14, "from", "(I)I"⟩
def dkwX14_from_0 : List UInt8 := [27, 16, 6, 161, 0, 10, 27, 16, 6, 100, 167, 0, 4, 2, 172]
abbrev dktX14_from_0 : List UInt8 := dkwX14_from_0 ++ []
theorem dksX14_from_0 : cX14_from.data.toList.drop 0 = dktX14_from_0 := by decide +kernel
theorem dX14_from_0 : decode cX14_from 0 = .ok (.iload_n 1, 1) := dk_27 (dk_at dksX14_from_0 0 rfl rfl)
theorem dX14_from_1 : decode cX14_from 1 = .ok (.bipush 6, 2) := dk_16 6 (dk_at dksX14_from_0 1 rfl rfl)
theorem dX14_from_3 : decode cX14_from 3 = .ok (.if_icmp .lt 10, 3) := dk_161 0 10 (dk_at dksX14_from_0 3 rfl rfl)
theorem dX14_from_6 : decode cX14_from 6 = .ok (.iload_n 1, 1) := dk_27 (dk_at dksX14_from_0 6 rfl rfl)
theorem dX14_from_7 : decode cX14_from 7 = .ok (.bipush 6, 2) := dk_16 6 (dk_at dksX14_from_0 7 rfl rfl)
theorem dX14_from_9 : decode cX14_from 9 = .ok (.isub, 1) := dk_100 (dk_at dksX14_from_0 9 rfl rfl)
theorem dX14_from_10 : decode cX14_from 10 = .ok (.goto 4, 3) := dk_167 0 4 (dk_at dksX14_from_0 10 rfl rfl)
theorem dX14_from_13 : decode cX14_from 13 = .ok (.iconst (-1), 1) := dk_2 (dk_at dksX14_from_0 13 rfl rfl)
theorem dX14_from_14 : decode cX14_from 14 = .ok (.ireturn, 1) := dk_172 (dk_at dksX14_from_0 14 rfl rfl)
theorem q437 : (Jvm.Cond.selects "MossLawn$Side$1" ({ cls := "java/lang/Object", name := "getClass", desc := "()Ljava/lang/Class;" } : Jvm.MethodName) ({ cls := "java/lang/Object", name := "getClass", desc := "()Ljava/lang/Class;" } : Jvm.MethodName)) ∈ lw_all := lw_g (lw_at lw_m2 83 rfl) rfl
theorem q988 : (Jvm.Cond.selects "MossLawn$Side$1" ({ cls := "MossLawn$Side", name := "from", desc := "(I)I" } : Jvm.MethodName) ({ cls := "MossLawn$Side$1", name := "from", desc := "(I)I" } : Jvm.MethodName)) ∈ lw_all := lw_g (lw_at lw_m4 154 rfl) rfl
theorem q989 : (Jvm.Cond.instanceMethod ({ cls := "MossLawn$Side$1", name := "from", desc := "(I)I" } : Jvm.MethodName)) ∈ lw_all := lw_g (lw_at lw_m4 155 rfl) rfl
theorem q990 : (Jvm.Cond.code ({ cls := "MossLawn$Side$1", name := "from", desc := "(I)I" } : Jvm.MethodName) prog_14_method_2_code (2 : Nat) (Option.some Jvm.ClassFile.FieldType.int)) ∈ lw_all := lw_g (lw_at lw_m4 156 rfl) rfl
theorem q2442 : (Jvm.Cond.castable "MossLawn$Side$1" "MossLawn$Side") ∈ lw_tbl := lw_at lw_m10 168 rfl
theorem q2457 : (Jvm.Cond.castable "MossLawn$Side$1" "java/lang/Object") ∈ lw_tbl := lw_at lw_m10 183 rfl
/-! MossLawn$Side$2 -/
set_option maxRecDepth 100000
def RX15 : String := "MossLawn$Side$2"
abbrev cX15_from : ByteArray := prog_15_method_2_code
def yX15_from : MethodName := ⟨RX15, "from", "(I)I"⟩
def dkwX15_from_0 : List UInt8 := [27, 16, 6, 112, 158, 0, 9, 27, 4, 100, 167, 0, 4, 2, 172]
abbrev dktX15_from_0 : List UInt8 := dkwX15_from_0 ++ []
theorem dksX15_from_0 : cX15_from.data.toList.drop 0 = dktX15_from_0 := by decide +kernel
theorem dX15_from_0 : decode cX15_from 0 = .ok (.iload_n 1, 1) := dk_27 (dk_at dksX15_from_0 0 rfl rfl)
theorem dX15_from_1 : decode cX15_from 1 = .ok (.bipush 6, 2) := dk_16 6 (dk_at dksX15_from_0 1 rfl rfl)
theorem dX15_from_3 : decode cX15_from 3 = .ok (.irem, 1) := dk_112 (dk_at dksX15_from_0 3 rfl rfl)
theorem dX15_from_4 : decode cX15_from 4 = .ok (.ifCond .le 9, 3) := dk_158 0 9 (dk_at dksX15_from_0 4 rfl rfl)
theorem dX15_from_7 : decode cX15_from 7 = .ok (.iload_n 1, 1) := dk_27 (dk_at dksX15_from_0 7 rfl rfl)
theorem dX15_from_8 : decode cX15_from 8 = .ok (.iconst 1, 1) := dk_4 (dk_at dksX15_from_0 8 rfl rfl)
theorem dX15_from_9 : decode cX15_from 9 = .ok (.isub, 1) := dk_100 (dk_at dksX15_from_0 9 rfl rfl)
theorem dX15_from_10 : decode cX15_from 10 = .ok (.goto 4, 3) := dk_167 0 4 (dk_at dksX15_from_0 10 rfl rfl)
theorem dX15_from_13 : decode cX15_from 13 = .ok (.iconst (-1), 1) := dk_2 (dk_at dksX15_from_0 13 rfl rfl)
theorem dX15_from_14 : decode cX15_from 14 = .ok (.ireturn, 1) := dk_172 (dk_at dksX15_from_0 14 rfl rfl)
theorem q438 : (Jvm.Cond.selects "MossLawn$Side$2" ({ cls := "java/lang/Object", name := "getClass", desc := "()Ljava/lang/Class;" } : Jvm.MethodName) ({ cls := "java/lang/Object", name := "getClass", desc := "()Ljava/lang/Class;" } : Jvm.MethodName)) ∈ lw_all := lw_g (lw_at lw_m2 84 rfl) rfl
theorem q991 : (Jvm.Cond.selects "MossLawn$Side$2" ({ cls := "MossLawn$Side", name := "from", desc := "(I)I" } : Jvm.MethodName) ({ cls := "MossLawn$Side$2", name := "from", desc := "(I)I" } : Jvm.MethodName)) ∈ lw_all := lw_g (lw_at lw_m4 157 rfl) rfl
theorem q992 : (Jvm.Cond.instanceMethod ({ cls := "MossLawn$Side$2", name := "from", desc := "(I)I" } : Jvm.MethodName)) ∈ lw_all := lw_g (lw_at lw_m4 158 rfl) rfl
theorem q993 : (Jvm.Cond.code ({ cls := "MossLawn$Side$2", name := "from", desc := "(I)I" } : Jvm.MethodName) prog_15_method_2_code (2 : Nat) (Option.some Jvm.ClassFile.FieldType.int)) ∈ lw_all := lw_g (lw_at lw_m4 159 rfl) rfl
theorem q2443 : (Jvm.Cond.castable "MossLawn$Side$2" "MossLawn$Side") ∈ lw_tbl := lw_at lw_m10 169 rfl
theorem q2458 : (Jvm.Cond.castable "MossLawn$Side$2" "java/lang/Object") ∈ lw_tbl := lw_at lw_m10 184 rfl
/-! MossLawn$Side$3 -/
set_option maxRecDepth 100000
def RX16 : String := "MossLawn$Side$3"
abbrev cX16_from : ByteArray := prog_16_method_2_code
def yX16_from : MethodName := ⟨RX16, "from", "(I)I"⟩
def dkwX16_from_0 : List UInt8 := [27, 16, 6, 112, 8, 162, 0, 9, 27, 4, 96, 167, 0, 4, 2, 172]
abbrev dktX16_from_0 : List UInt8 := dkwX16_from_0 ++ []
theorem dksX16_from_0 : cX16_from.data.toList.drop 0 = dktX16_from_0 := by decide +kernel
theorem dX16_from_0 : decode cX16_from 0 = .ok (.iload_n 1, 1) := dk_27 (dk_at dksX16_from_0 0 rfl rfl)
theorem dX16_from_1 : decode cX16_from 1 = .ok (.bipush 6, 2) := dk_16 6 (dk_at dksX16_from_0 1 rfl rfl)
theorem dX16_from_3 : decode cX16_from 3 = .ok (.irem, 1) := dk_112 (dk_at dksX16_from_0 3 rfl rfl)
theorem dX16_from_4 : decode cX16_from 4 = .ok (.iconst 5, 1) := dk_8 (dk_at dksX16_from_0 4 rfl rfl)
theorem dX16_from_5 : decode cX16_from 5 = .ok (.if_icmp .ge 9, 3) := dk_162 0 9 (dk_at dksX16_from_0 5 rfl rfl)
theorem dX16_from_8 : decode cX16_from 8 = .ok (.iload_n 1, 1) := dk_27 (dk_at dksX16_from_0 8 rfl rfl)
theorem dX16_from_9 : decode cX16_from 9 = .ok (.iconst 1, 1) := dk_4 (dk_at dksX16_from_0 9 rfl rfl)
theorem dX16_from_10 : decode cX16_from 10 = .ok (.iadd, 1) := dk_96 (dk_at dksX16_from_0 10 rfl rfl)
theorem dX16_from_11 : decode cX16_from 11 = .ok (.goto 4, 3) := dk_167 0 4 (dk_at dksX16_from_0 11 rfl rfl)
theorem dX16_from_14 : decode cX16_from 14 = .ok (.iconst (-1), 1) := dk_2 (dk_at dksX16_from_0 14 rfl rfl)
theorem dX16_from_15 : decode cX16_from 15 = .ok (.ireturn, 1) := dk_172 (dk_at dksX16_from_0 15 rfl rfl)
theorem q439 : (Jvm.Cond.selects "MossLawn$Side$3" ({ cls := "java/lang/Object", name := "getClass", desc := "()Ljava/lang/Class;" } : Jvm.MethodName) ({ cls := "java/lang/Object", name := "getClass", desc := "()Ljava/lang/Class;" } : Jvm.MethodName)) ∈ lw_all := lw_g (lw_at lw_m2 85 rfl) rfl
theorem q994 : (Jvm.Cond.selects "MossLawn$Side$3" ({ cls := "MossLawn$Side", name := "from", desc := "(I)I" } : Jvm.MethodName) ({ cls := "MossLawn$Side$3", name := "from", desc := "(I)I" } : Jvm.MethodName)) ∈ lw_all := lw_g (lw_at lw_m4 160 rfl) rfl
theorem q995 : (Jvm.Cond.instanceMethod ({ cls := "MossLawn$Side$3", name := "from", desc := "(I)I" } : Jvm.MethodName)) ∈ lw_all := lw_g (lw_at lw_m4 161 rfl) rfl
theorem q996 : (Jvm.Cond.code ({ cls := "MossLawn$Side$3", name := "from", desc := "(I)I" } : Jvm.MethodName) prog_16_method_2_code (2 : Nat) (Option.some Jvm.ClassFile.FieldType.int)) ∈ lw_all := lw_g (lw_at lw_m4 162 rfl) rfl
theorem q2444 : (Jvm.Cond.castable "MossLawn$Side$3" "MossLawn$Side") ∈ lw_tbl := lw_at lw_m10 170 rfl
theorem q2459 : (Jvm.Cond.castable "MossLawn$Side$3" "java/lang/Object") ∈ lw_tbl := lw_at lw_m10 185 rfl
/-! MossLawn$Side$4 -/
set_option maxRecDepth 100000
def RX17 : String := "MossLawn$Side$4"
abbrev cX17_from : ByteArray := prog_17_method_2_code
def yX17_from : MethodName := ⟨RX17, "from", "(I)I"⟩
def dkwX17_from_0 : List UInt8 := [27, 16, 6, 96, 16, 30, 162, 0, 10, 27, 16, 6, 96, 167, 0, 4, 2, 172]
abbrev dktX17_from_0 : List UInt8 := dkwX17_from_0 ++ []
theorem dksX17_from_0 : cX17_from.data.toList.drop 0 = dktX17_from_0 := by decide +kernel
theorem dX17_from_0 : decode cX17_from 0 = .ok (.iload_n 1, 1) := dk_27 (dk_at dksX17_from_0 0 rfl rfl)
theorem dX17_from_1 : decode cX17_from 1 = .ok (.bipush 6, 2) := dk_16 6 (dk_at dksX17_from_0 1 rfl rfl)
theorem dX17_from_3 : decode cX17_from 3 = .ok (.iadd, 1) := dk_96 (dk_at dksX17_from_0 3 rfl rfl)
theorem dX17_from_4 : decode cX17_from 4 = .ok (.bipush 30, 2) := dk_16 30 (dk_at dksX17_from_0 4 rfl rfl)
theorem dX17_from_6 : decode cX17_from 6 = .ok (.if_icmp .ge 10, 3) := dk_162 0 10 (dk_at dksX17_from_0 6 rfl rfl)
theorem dX17_from_9 : decode cX17_from 9 = .ok (.iload_n 1, 1) := dk_27 (dk_at dksX17_from_0 9 rfl rfl)
theorem dX17_from_10 : decode cX17_from 10 = .ok (.bipush 6, 2) := dk_16 6 (dk_at dksX17_from_0 10 rfl rfl)
theorem dX17_from_12 : decode cX17_from 12 = .ok (.iadd, 1) := dk_96 (dk_at dksX17_from_0 12 rfl rfl)
theorem dX17_from_13 : decode cX17_from 13 = .ok (.goto 4, 3) := dk_167 0 4 (dk_at dksX17_from_0 13 rfl rfl)
theorem dX17_from_16 : decode cX17_from 16 = .ok (.iconst (-1), 1) := dk_2 (dk_at dksX17_from_0 16 rfl rfl)
theorem dX17_from_17 : decode cX17_from 17 = .ok (.ireturn, 1) := dk_172 (dk_at dksX17_from_0 17 rfl rfl)
theorem q440 : (Jvm.Cond.selects "MossLawn$Side$4" ({ cls := "java/lang/Object", name := "getClass", desc := "()Ljava/lang/Class;" } : Jvm.MethodName) ({ cls := "java/lang/Object", name := "getClass", desc := "()Ljava/lang/Class;" } : Jvm.MethodName)) ∈ lw_all := lw_g (lw_at lw_m2 86 rfl) rfl
theorem q997 : (Jvm.Cond.selects "MossLawn$Side$4" ({ cls := "MossLawn$Side", name := "from", desc := "(I)I" } : Jvm.MethodName) ({ cls := "MossLawn$Side$4", name := "from", desc := "(I)I" } : Jvm.MethodName)) ∈ lw_all := lw_g (lw_at lw_m4 163 rfl) rfl
theorem q998 : (Jvm.Cond.instanceMethod ({ cls := "MossLawn$Side$4", name := "from", desc := "(I)I" } : Jvm.MethodName)) ∈ lw_all := lw_g (lw_at lw_m4 164 rfl) rfl
theorem q999 : (Jvm.Cond.code ({ cls := "MossLawn$Side$4", name := "from", desc := "(I)I" } : Jvm.MethodName) prog_17_method_2_code (2 : Nat) (Option.some Jvm.ClassFile.FieldType.int)) ∈ lw_all := lw_g (lw_at lw_m4 165 rfl) rfl
theorem q2445 : (Jvm.Cond.castable "MossLawn$Side$4" "MossLawn$Side") ∈ lw_tbl := lw_at lw_m10 171 rfl
theorem q2460 : (Jvm.Cond.castable "MossLawn$Side$4" "java/lang/Object") ∈ lw_tbl := lw_at lw_m10 186 rfl
