/-! MossLawn -/
set_option maxRecDepth 100000
def RX0 : String := "MossLawn"
def TX0 : u_T := fun k => match k with
  | 0 => ("MossLawn", "now", "LMossLawn$State;", true)
  | 1 => ("MossLawn", "before", "LMossLawn$State;", true)
  | 2 => ("MossLawn", "aside", "LMossLawn$State;", true)
  | 3 => ("MossLawn", "saved", "LMossLawn$State;", true)
  | 4 => ("MossLawn", "isSaved", "Z", false)
  | 5 => ("MossLawn", "past", "[LMossLawn$State;", true)
  | 6 => ("MossLawn", "pastMany", "I", false)
  | 7 => ("MossLawn", "pebble", "LMossLawn$Ground;", true)
  | 8 => ("MossLawn", "bare", "LMossLawn$Ground;", true)
  | 9 => ("MossLawn", "youngMoss", "LMossLawn$Ground;", true)
  | 10 => ("MossLawn", "oldMoss", "LMossLawn$Ground;", true)
  | 11 => ("MossLawn", "sides", "Ljava/util/List;", true)
  | 12 => ("MossLawn", "refused", "LMossLawn$Refused;", false)
  | 13 => ("MossLawn", "faultAt", "I", false)
  | 14 => ("MossLawn", "input", "Ljava/lang/StringBuilder;", true)
  | 15 => ("MossLawn", "line", "Ljava/lang/StringBuilder;", true)
  | 16 => ("MossLawn", "far", "[I", true)
  | 17 => ("MossLawn", "reached", "Ljava/util/ArrayDeque;", true)
  | 18 => ("MossLawn", "orders", "[LMossLawn$Done;", true)
  | 19 => ("MossLawn", "orderMany", "I", false)
  | _ => ("MossLawn", "readAt", "I", false)
def tyX0 : Nat → FieldType := fun k => match k with
  | 0 => .object "MossLawn$State"
  | 1 => .object "MossLawn$State"
  | 2 => .object "MossLawn$State"
  | 3 => .object "MossLawn$State"
  | 4 => .boolean
  | 5 => .array (.object "MossLawn$State")
  | 6 => .int
  | 7 => .object "MossLawn$Ground"
  | 8 => .object "MossLawn$Ground"
  | 9 => .object "MossLawn$Ground"
  | 10 => .object "MossLawn$Ground"
  | 11 => .object "java/util/List"
  | 12 => .object "MossLawn$Refused"
  | 13 => .int
  | 14 => .object "java/lang/StringBuilder"
  | 15 => .object "java/lang/StringBuilder"
  | 16 => .array .int
  | 17 => .object "java/util/ArrayDeque"
  | 18 => .array (.object "MossLawn$Done")
  | 19 => .int
  | _ => .int
abbrev wsX00 : List Cond := u_ws RX0 TX0 21
set_option maxRecDepth 100000 in
theorem nmX0 : ∀ a, a < 21 → ∀ b, b < 21 → a ≠ b → (TX0 a).2.1 ≠ (TX0 b).2.1 := by decide +kernel
set_option maxRecDepth 100000 in
theorem tyX0_ok : ∀ k, k < 21 → parseFieldDescriptor (TX0 k).2.2.1 = some (tyX0 k) := by decide +kernel
abbrev cX0_init : ByteArray := prog_1_method_4_code
def yX0_init : MethodName := ⟨RX0, "<init>", "()V"⟩
def dkwX0_init_9 : List UInt8 := [181, 0, 116, 177]
abbrev dktX0_init_9 : List UInt8 := dkwX0_init_9 ++ []
def dkwX0_init_8 : List UInt8 := [181, 0, 103, 42, 187, 0, 107, 89, 16, 32, 183, 0, 109, 181, 0, 110, 42, 16, 60, 189, 0, 114]
abbrev dktX0_init_8 : List UInt8 := dkwX0_init_8 ++ dktX0_init_9
def dkwX0_init_7 : List UInt8 := [42, 180, 0, 35, 27, 187, 0, 17, 89, 183, 0, 19, 83, 132, 1, 1, 167, 255, 234, 42, 16, 30, 188, 10]
abbrev dktX0_init_7 : List UInt8 := dkwX0_init_7 ++ dktX0_init_8
def dkwX0_init_6 : List UInt8 := [181, 0, 96, 42, 187, 0, 93, 89, 16, 20, 183, 0, 95, 181, 0, 100, 3, 60, 27, 16, 8, 162, 0, 22]
abbrev dktX0_init_6 : List UInt8 := dkwX0_init_6 ++ dktX0_init_7
def dkwX0_init_5 : List UInt8 := [184, 0, 79, 181, 0, 85, 42, 16, 252, 181, 0, 89, 42, 187, 0, 93, 89, 16, 60, 183, 0, 95]
abbrev dktX0_init_5 : List UInt8 := dkwX0_init_5 ++ dktX0_init_6
def dkwX0_init_4 : List UInt8 := [187, 0, 58, 89, 183, 0, 60, 181, 0, 61, 42, 178, 0, 64, 178, 0, 70, 178, 0, 73, 178, 0, 76]
abbrev dktX0_init_4 : List UInt8 := dkwX0_init_4 ++ dktX0_init_5
def dkwX0_init_3 : List UInt8 := [187, 0, 46, 89, 183, 0, 48, 181, 0, 49, 42, 187, 0, 52, 89, 183, 0, 54, 181, 0, 55, 42]
abbrev dktX0_init_3 : List UInt8 := dkwX0_init_3 ++ dktX0_init_4
def dkwX0_init_2 : List UInt8 := [181, 0, 32, 42, 16, 8, 189, 0, 17, 181, 0, 35, 42, 187, 0, 39, 89, 183, 0, 41, 181, 0, 42, 42]
abbrev dktX0_init_2 : List UInt8 := dkwX0_init_2 ++ dktX0_init_3
def dkwX0_init_1 : List UInt8 := [181, 0, 26, 42, 187, 0, 17, 89, 183, 0, 19, 181, 0, 29, 42, 187, 0, 17, 89, 183, 0, 19]
abbrev dktX0_init_1 : List UInt8 := dkwX0_init_1 ++ dktX0_init_2
def dkwX0_init_0 : List UInt8 := [42, 183, 0, 12, 42, 187, 0, 17, 89, 183, 0, 19, 181, 0, 20, 42, 187, 0, 17, 89, 183, 0, 19]
abbrev dktX0_init_0 : List UInt8 := dkwX0_init_0 ++ dktX0_init_1
theorem dksX0_init_0 : cX0_init.data.toList.drop 0 = dktX0_init_0 := by decide +kernel
theorem dksX0_init_1 : cX0_init.data.toList.drop 23 = dktX0_init_1 := dk_seg dksX0_init_0 23 rfl rfl
theorem dksX0_init_2 : cX0_init.data.toList.drop 45 = dktX0_init_2 := dk_seg dksX0_init_1 22 rfl rfl
theorem dksX0_init_3 : cX0_init.data.toList.drop 69 = dktX0_init_3 := dk_seg dksX0_init_2 24 rfl rfl
theorem dksX0_init_4 : cX0_init.data.toList.drop 91 = dktX0_init_4 := dk_seg dksX0_init_3 22 rfl rfl
theorem dksX0_init_5 : cX0_init.data.toList.drop 114 = dktX0_init_5 := dk_seg dksX0_init_4 23 rfl rfl
theorem dksX0_init_6 : cX0_init.data.toList.drop 136 = dktX0_init_6 := dk_seg dksX0_init_5 22 rfl rfl
theorem dksX0_init_7 : cX0_init.data.toList.drop 160 = dktX0_init_7 := dk_seg dksX0_init_6 24 rfl rfl
theorem dksX0_init_8 : cX0_init.data.toList.drop 184 = dktX0_init_8 := dk_seg dksX0_init_7 24 rfl rfl
theorem dksX0_init_9 : cX0_init.data.toList.drop 206 = dktX0_init_9 := dk_seg dksX0_init_8 22 rfl rfl
theorem dX0_init_0 : decode cX0_init 0 = .ok (.aload_n 0, 1) := dk_42 (dk_at dksX0_init_0 0 rfl rfl)
theorem dX0_init_1 : decode cX0_init 1 = .ok (.invokespecial 12, 3) := dk_183 0 12 (dk_at dksX0_init_0 1 rfl rfl)
theorem dX0_init_4 : decode cX0_init 4 = .ok (.aload_n 0, 1) := dk_42 (dk_at dksX0_init_0 4 rfl rfl)
theorem dX0_init_5 : decode cX0_init 5 = .ok (.new 17, 3) := dk_187 0 17 (dk_at dksX0_init_0 5 rfl rfl)
theorem dX0_init_8 : decode cX0_init 8 = .ok (.dup, 1) := dk_89 (dk_at dksX0_init_0 8 rfl rfl)
theorem dX0_init_9 : decode cX0_init 9 = .ok (.invokespecial 19, 3) := dk_183 0 19 (dk_at dksX0_init_0 9 rfl rfl)
theorem dX0_init_12 : decode cX0_init 12 = .ok (.putfield 20, 3) := dk_181 0 20 (dk_at dksX0_init_0 12 rfl rfl)
theorem dX0_init_15 : decode cX0_init 15 = .ok (.aload_n 0, 1) := dk_42 (dk_at dksX0_init_0 15 rfl rfl)
theorem dX0_init_16 : decode cX0_init 16 = .ok (.new 17, 3) := dk_187 0 17 (dk_at dksX0_init_0 16 rfl rfl)
theorem dX0_init_19 : decode cX0_init 19 = .ok (.dup, 1) := dk_89 (dk_at dksX0_init_0 19 rfl rfl)
theorem dX0_init_20 : decode cX0_init 20 = .ok (.invokespecial 19, 3) := dk_183 0 19 (dk_at dksX0_init_0 20 rfl rfl)
theorem dX0_init_23 : decode cX0_init 23 = .ok (.putfield 26, 3) := dk_181 0 26 (dk_at dksX0_init_1 0 rfl rfl)
theorem dX0_init_26 : decode cX0_init 26 = .ok (.aload_n 0, 1) := dk_42 (dk_at dksX0_init_1 3 rfl rfl)
theorem dX0_init_27 : decode cX0_init 27 = .ok (.new 17, 3) := dk_187 0 17 (dk_at dksX0_init_1 4 rfl rfl)
theorem dX0_init_30 : decode cX0_init 30 = .ok (.dup, 1) := dk_89 (dk_at dksX0_init_1 7 rfl rfl)
theorem dX0_init_31 : decode cX0_init 31 = .ok (.invokespecial 19, 3) := dk_183 0 19 (dk_at dksX0_init_1 8 rfl rfl)
theorem dX0_init_34 : decode cX0_init 34 = .ok (.putfield 29, 3) := dk_181 0 29 (dk_at dksX0_init_1 11 rfl rfl)
theorem dX0_init_37 : decode cX0_init 37 = .ok (.aload_n 0, 1) := dk_42 (dk_at dksX0_init_1 14 rfl rfl)
theorem dX0_init_38 : decode cX0_init 38 = .ok (.new 17, 3) := dk_187 0 17 (dk_at dksX0_init_1 15 rfl rfl)
theorem dX0_init_41 : decode cX0_init 41 = .ok (.dup, 1) := dk_89 (dk_at dksX0_init_1 18 rfl rfl)
theorem dX0_init_42 : decode cX0_init 42 = .ok (.invokespecial 19, 3) := dk_183 0 19 (dk_at dksX0_init_1 19 rfl rfl)
theorem dX0_init_45 : decode cX0_init 45 = .ok (.putfield 32, 3) := dk_181 0 32 (dk_at dksX0_init_2 0 rfl rfl)
theorem dX0_init_48 : decode cX0_init 48 = .ok (.aload_n 0, 1) := dk_42 (dk_at dksX0_init_2 3 rfl rfl)
theorem dX0_init_49 : decode cX0_init 49 = .ok (.bipush 8, 2) := dk_16 8 (dk_at dksX0_init_2 4 rfl rfl)
theorem dX0_init_51 : decode cX0_init 51 = .ok (.anewarray 17, 3) := dk_189 0 17 (dk_at dksX0_init_2 6 rfl rfl)
theorem dX0_init_54 : decode cX0_init 54 = .ok (.putfield 35, 3) := dk_181 0 35 (dk_at dksX0_init_2 9 rfl rfl)
theorem dX0_init_57 : decode cX0_init 57 = .ok (.aload_n 0, 1) := dk_42 (dk_at dksX0_init_2 12 rfl rfl)
theorem dX0_init_58 : decode cX0_init 58 = .ok (.new 39, 3) := dk_187 0 39 (dk_at dksX0_init_2 13 rfl rfl)
theorem dX0_init_61 : decode cX0_init 61 = .ok (.dup, 1) := dk_89 (dk_at dksX0_init_2 16 rfl rfl)
theorem dX0_init_62 : decode cX0_init 62 = .ok (.invokespecial 41, 3) := dk_183 0 41 (dk_at dksX0_init_2 17 rfl rfl)
theorem dX0_init_65 : decode cX0_init 65 = .ok (.putfield 42, 3) := dk_181 0 42 (dk_at dksX0_init_2 20 rfl rfl)
theorem dX0_init_68 : decode cX0_init 68 = .ok (.aload_n 0, 1) := dk_42 (dk_at dksX0_init_2 23 rfl rfl)
theorem dX0_init_69 : decode cX0_init 69 = .ok (.new 46, 3) := dk_187 0 46 (dk_at dksX0_init_3 0 rfl rfl)
theorem dX0_init_72 : decode cX0_init 72 = .ok (.dup, 1) := dk_89 (dk_at dksX0_init_3 3 rfl rfl)
theorem dX0_init_73 : decode cX0_init 73 = .ok (.invokespecial 48, 3) := dk_183 0 48 (dk_at dksX0_init_3 4 rfl rfl)
theorem dX0_init_76 : decode cX0_init 76 = .ok (.putfield 49, 3) := dk_181 0 49 (dk_at dksX0_init_3 7 rfl rfl)
theorem dX0_init_79 : decode cX0_init 79 = .ok (.aload_n 0, 1) := dk_42 (dk_at dksX0_init_3 10 rfl rfl)
theorem dX0_init_80 : decode cX0_init 80 = .ok (.new 52, 3) := dk_187 0 52 (dk_at dksX0_init_3 11 rfl rfl)
theorem dX0_init_83 : decode cX0_init 83 = .ok (.dup, 1) := dk_89 (dk_at dksX0_init_3 14 rfl rfl)
theorem dX0_init_84 : decode cX0_init 84 = .ok (.invokespecial 54, 3) := dk_183 0 54 (dk_at dksX0_init_3 15 rfl rfl)
theorem dX0_init_87 : decode cX0_init 87 = .ok (.putfield 55, 3) := dk_181 0 55 (dk_at dksX0_init_3 18 rfl rfl)
theorem dX0_init_90 : decode cX0_init 90 = .ok (.aload_n 0, 1) := dk_42 (dk_at dksX0_init_3 21 rfl rfl)
theorem dX0_init_91 : decode cX0_init 91 = .ok (.new 58, 3) := dk_187 0 58 (dk_at dksX0_init_4 0 rfl rfl)
theorem dX0_init_94 : decode cX0_init 94 = .ok (.dup, 1) := dk_89 (dk_at dksX0_init_4 3 rfl rfl)
theorem dX0_init_95 : decode cX0_init 95 = .ok (.invokespecial 60, 3) := dk_183 0 60 (dk_at dksX0_init_4 4 rfl rfl)
theorem dX0_init_98 : decode cX0_init 98 = .ok (.putfield 61, 3) := dk_181 0 61 (dk_at dksX0_init_4 7 rfl rfl)
theorem dX0_init_101 : decode cX0_init 101 = .ok (.aload_n 0, 1) := dk_42 (dk_at dksX0_init_4 10 rfl rfl)
theorem dX0_init_102 : decode cX0_init 102 = .ok (.getstatic 64, 3) := dk_178 0 64 (dk_at dksX0_init_4 11 rfl rfl)
theorem dX0_init_105 : decode cX0_init 105 = .ok (.getstatic 70, 3) := dk_178 0 70 (dk_at dksX0_init_4 14 rfl rfl)
theorem dX0_init_108 : decode cX0_init 108 = .ok (.getstatic 73, 3) := dk_178 0 73 (dk_at dksX0_init_4 17 rfl rfl)
theorem dX0_init_111 : decode cX0_init 111 = .ok (.getstatic 76, 3) := dk_178 0 76 (dk_at dksX0_init_4 20 rfl rfl)
theorem dX0_init_114 : decode cX0_init 114 = .ok (.invokestatic 79, 3) := dk_184 0 79 (dk_at dksX0_init_5 0 rfl rfl)
theorem dX0_init_117 : decode cX0_init 117 = .ok (.putfield 85, 3) := dk_181 0 85 (dk_at dksX0_init_5 3 rfl rfl)
theorem dX0_init_120 : decode cX0_init 120 = .ok (.aload_n 0, 1) := dk_42 (dk_at dksX0_init_5 6 rfl rfl)
theorem dX0_init_121 : decode cX0_init 121 = .ok (.bipush (-4), 2) := dk_16 252 (dk_at dksX0_init_5 7 rfl rfl)
theorem dX0_init_123 : decode cX0_init 123 = .ok (.putfield 89, 3) := dk_181 0 89 (dk_at dksX0_init_5 9 rfl rfl)
theorem dX0_init_126 : decode cX0_init 126 = .ok (.aload_n 0, 1) := dk_42 (dk_at dksX0_init_5 12 rfl rfl)
theorem dX0_init_127 : decode cX0_init 127 = .ok (.new 93, 3) := dk_187 0 93 (dk_at dksX0_init_5 13 rfl rfl)
theorem dX0_init_130 : decode cX0_init 130 = .ok (.dup, 1) := dk_89 (dk_at dksX0_init_5 16 rfl rfl)
theorem dX0_init_131 : decode cX0_init 131 = .ok (.bipush 60, 2) := dk_16 60 (dk_at dksX0_init_5 17 rfl rfl)
theorem dX0_init_133 : decode cX0_init 133 = .ok (.invokespecial 95, 3) := dk_183 0 95 (dk_at dksX0_init_5 19 rfl rfl)
theorem dX0_init_136 : decode cX0_init 136 = .ok (.putfield 96, 3) := dk_181 0 96 (dk_at dksX0_init_6 0 rfl rfl)
theorem dX0_init_139 : decode cX0_init 139 = .ok (.aload_n 0, 1) := dk_42 (dk_at dksX0_init_6 3 rfl rfl)
theorem dX0_init_140 : decode cX0_init 140 = .ok (.new 93, 3) := dk_187 0 93 (dk_at dksX0_init_6 4 rfl rfl)
theorem dX0_init_143 : decode cX0_init 143 = .ok (.dup, 1) := dk_89 (dk_at dksX0_init_6 7 rfl rfl)
theorem dX0_init_144 : decode cX0_init 144 = .ok (.bipush 20, 2) := dk_16 20 (dk_at dksX0_init_6 8 rfl rfl)
theorem dX0_init_146 : decode cX0_init 146 = .ok (.invokespecial 95, 3) := dk_183 0 95 (dk_at dksX0_init_6 10 rfl rfl)
theorem dX0_init_149 : decode cX0_init 149 = .ok (.putfield 100, 3) := dk_181 0 100 (dk_at dksX0_init_6 13 rfl rfl)
theorem dX0_init_152 : decode cX0_init 152 = .ok (.iconst 0, 1) := dk_3 (dk_at dksX0_init_6 16 rfl rfl)
theorem dX0_init_153 : decode cX0_init 153 = .ok (.istore_n 1, 1) := dk_60 (dk_at dksX0_init_6 17 rfl rfl)
theorem dX0_init_154 : decode cX0_init 154 = .ok (.iload_n 1, 1) := dk_27 (dk_at dksX0_init_6 18 rfl rfl)
theorem dX0_init_155 : decode cX0_init 155 = .ok (.bipush 8, 2) := dk_16 8 (dk_at dksX0_init_6 19 rfl rfl)
theorem dX0_init_157 : decode cX0_init 157 = .ok (.if_icmp .ge 22, 3) := dk_162 0 22 (dk_at dksX0_init_6 21 rfl rfl)
theorem dX0_init_160 : decode cX0_init 160 = .ok (.aload_n 0, 1) := dk_42 (dk_at dksX0_init_7 0 rfl rfl)
theorem dX0_init_161 : decode cX0_init 161 = .ok (.getfield 35, 3) := dk_180 0 35 (dk_at dksX0_init_7 1 rfl rfl)
theorem dX0_init_164 : decode cX0_init 164 = .ok (.iload_n 1, 1) := dk_27 (dk_at dksX0_init_7 4 rfl rfl)
theorem dX0_init_165 : decode cX0_init 165 = .ok (.new 17, 3) := dk_187 0 17 (dk_at dksX0_init_7 5 rfl rfl)
theorem dX0_init_168 : decode cX0_init 168 = .ok (.dup, 1) := dk_89 (dk_at dksX0_init_7 8 rfl rfl)
theorem dX0_init_169 : decode cX0_init 169 = .ok (.invokespecial 19, 3) := dk_183 0 19 (dk_at dksX0_init_7 9 rfl rfl)
theorem dX0_init_172 : decode cX0_init 172 = .ok (.aastore, 1) := dk_83 (dk_at dksX0_init_7 12 rfl rfl)
theorem dX0_init_173 : decode cX0_init 173 = .ok (.iinc 1 1, 3) := dk_132 1 1 (dk_at dksX0_init_7 13 rfl rfl)
theorem dX0_init_176 : decode cX0_init 176 = .ok (.goto (-22), 3) := dk_167 255 234 (dk_at dksX0_init_7 16 rfl rfl)
theorem dX0_init_179 : decode cX0_init 179 = .ok (.aload_n 0, 1) := dk_42 (dk_at dksX0_init_7 19 rfl rfl)
theorem dX0_init_180 : decode cX0_init 180 = .ok (.bipush 30, 2) := dk_16 30 (dk_at dksX0_init_7 20 rfl rfl)
theorem dX0_init_182 : decode cX0_init 182 = .ok (.newarray .int, 2) := dk_188_10 (dk_at dksX0_init_7 22 rfl rfl)
theorem dX0_init_184 : decode cX0_init 184 = .ok (.putfield 103, 3) := dk_181 0 103 (dk_at dksX0_init_8 0 rfl rfl)
theorem dX0_init_187 : decode cX0_init 187 = .ok (.aload_n 0, 1) := dk_42 (dk_at dksX0_init_8 3 rfl rfl)
theorem dX0_init_188 : decode cX0_init 188 = .ok (.new 107, 3) := dk_187 0 107 (dk_at dksX0_init_8 4 rfl rfl)
theorem dX0_init_191 : decode cX0_init 191 = .ok (.dup, 1) := dk_89 (dk_at dksX0_init_8 7 rfl rfl)
theorem dX0_init_192 : decode cX0_init 192 = .ok (.bipush 32, 2) := dk_16 32 (dk_at dksX0_init_8 8 rfl rfl)
theorem dX0_init_194 : decode cX0_init 194 = .ok (.invokespecial 109, 3) := dk_183 0 109 (dk_at dksX0_init_8 10 rfl rfl)
theorem dX0_init_197 : decode cX0_init 197 = .ok (.putfield 110, 3) := dk_181 0 110 (dk_at dksX0_init_8 13 rfl rfl)
theorem dX0_init_200 : decode cX0_init 200 = .ok (.aload_n 0, 1) := dk_42 (dk_at dksX0_init_8 16 rfl rfl)
theorem dX0_init_201 : decode cX0_init 201 = .ok (.bipush 60, 2) := dk_16 60 (dk_at dksX0_init_8 17 rfl rfl)
theorem dX0_init_203 : decode cX0_init 203 = .ok (.anewarray 114, 3) := dk_189 0 114 (dk_at dksX0_init_8 19 rfl rfl)
theorem dX0_init_206 : decode cX0_init 206 = .ok (.putfield 116, 3) := dk_181 0 116 (dk_at dksX0_init_9 0 rfl rfl)
theorem dX0_init_209 : decode cX0_init 209 = .ok (.return_, 1) := dk_177 (dk_at dksX0_init_9 3 rfl rfl)
abbrev cX0_clear : ByteArray := prog_1_method_10_code
def yX0_clear : MethodName := ⟨RX0, "clear", "()I"⟩
def dkwX0_clear_0 : List UInt8 := [42, 180, 0, 20, 180, 0, 157, 60, 42, 180, 0, 20, 182, 0, 160, 42, 3, 181, 0, 124, 27, 172]
abbrev dktX0_clear_0 : List UInt8 := dkwX0_clear_0 ++ []
theorem dksX0_clear_0 : cX0_clear.data.toList.drop 0 = dktX0_clear_0 := by decide +kernel
theorem dX0_clear_0 : decode cX0_clear 0 = .ok (.aload_n 0, 1) := dk_42 (dk_at dksX0_clear_0 0 rfl rfl)
theorem dX0_clear_1 : decode cX0_clear 1 = .ok (.getfield 20, 3) := dk_180 0 20 (dk_at dksX0_clear_0 1 rfl rfl)
theorem dX0_clear_4 : decode cX0_clear 4 = .ok (.getfield 157, 3) := dk_180 0 157 (dk_at dksX0_clear_0 4 rfl rfl)
theorem dX0_clear_7 : decode cX0_clear 7 = .ok (.istore_n 1, 1) := dk_60 (dk_at dksX0_clear_0 7 rfl rfl)
theorem dX0_clear_8 : decode cX0_clear 8 = .ok (.aload_n 0, 1) := dk_42 (dk_at dksX0_clear_0 8 rfl rfl)
theorem dX0_clear_9 : decode cX0_clear 9 = .ok (.getfield 20, 3) := dk_180 0 20 (dk_at dksX0_clear_0 9 rfl rfl)
theorem dX0_clear_12 : decode cX0_clear 12 = .ok (.invokevirtual 160, 3) := dk_182 0 160 (dk_at dksX0_clear_0 12 rfl rfl)
theorem dX0_clear_15 : decode cX0_clear 15 = .ok (.aload_n 0, 1) := dk_42 (dk_at dksX0_clear_0 15 rfl rfl)
theorem dX0_clear_16 : decode cX0_clear 16 = .ok (.iconst 0, 1) := dk_3 (dk_at dksX0_clear_0 16 rfl rfl)
theorem dX0_clear_17 : decode cX0_clear 17 = .ok (.putfield 124, 3) := dk_181 0 124 (dk_at dksX0_clear_0 17 rfl rfl)
theorem dX0_clear_20 : decode cX0_clear 20 = .ok (.iload_n 1, 1) := dk_27 (dk_at dksX0_clear_0 20 rfl rfl)
theorem dX0_clear_21 : decode cX0_clear 21 = .ok (.ireturn, 1) := dk_172 (dk_at dksX0_clear_0 21 rfl rfl)
abbrev cX0_shade : ByteArray := prog_1_method_11_code
def yX0_shade : MethodName := ⟨RX0, "shade", "(II)I"⟩
def dkwX0_shade_2 : List UInt8 := [29, 182, 0, 172, 172]
abbrev dktX0_shade_2 : List UInt8 := dkwX0_shade_2 ++ []
def dkwX0_shade_1 : List UInt8 := [182, 0, 166, 42, 180, 0, 20, 180, 0, 169, 27, 46, 62, 42, 180, 0, 20, 180, 0, 169, 27, 28, 79, 42]
abbrev dktX0_shade_1 : List UInt8 := dkwX0_shade_1 ++ dktX0_shade_2
def dkwX0_shade_0 : List UInt8 := [27, 184, 0, 163, 154, 0, 5, 2, 172, 28, 3, 7, 184, 0, 140, 154, 0, 6, 16, 254, 172, 42]
abbrev dktX0_shade_0 : List UInt8 := dkwX0_shade_0 ++ dktX0_shade_1
theorem dksX0_shade_0 : cX0_shade.data.toList.drop 0 = dktX0_shade_0 := by decide +kernel
theorem dksX0_shade_1 : cX0_shade.data.toList.drop 22 = dktX0_shade_1 := dk_seg dksX0_shade_0 22 rfl rfl
theorem dksX0_shade_2 : cX0_shade.data.toList.drop 46 = dktX0_shade_2 := dk_seg dksX0_shade_1 24 rfl rfl
theorem dX0_shade_0 : decode cX0_shade 0 = .ok (.iload_n 1, 1) := dk_27 (dk_at dksX0_shade_0 0 rfl rfl)
theorem dX0_shade_1 : decode cX0_shade 1 = .ok (.invokestatic 163, 3) := dk_184 0 163 (dk_at dksX0_shade_0 1 rfl rfl)
theorem dX0_shade_4 : decode cX0_shade 4 = .ok (.ifCond .ne 5, 3) := dk_154 0 5 (dk_at dksX0_shade_0 4 rfl rfl)
theorem dX0_shade_7 : decode cX0_shade 7 = .ok (.iconst (-1), 1) := dk_2 (dk_at dksX0_shade_0 7 rfl rfl)
theorem dX0_shade_8 : decode cX0_shade 8 = .ok (.ireturn, 1) := dk_172 (dk_at dksX0_shade_0 8 rfl rfl)
theorem dX0_shade_9 : decode cX0_shade 9 = .ok (.iload_n 2, 1) := dk_28 (dk_at dksX0_shade_0 9 rfl rfl)
theorem dX0_shade_10 : decode cX0_shade 10 = .ok (.iconst 0, 1) := dk_3 (dk_at dksX0_shade_0 10 rfl rfl)
theorem dX0_shade_11 : decode cX0_shade 11 = .ok (.iconst 4, 1) := dk_7 (dk_at dksX0_shade_0 11 rfl rfl)
theorem dX0_shade_12 : decode cX0_shade 12 = .ok (.invokestatic 140, 3) := dk_184 0 140 (dk_at dksX0_shade_0 12 rfl rfl)
theorem dX0_shade_15 : decode cX0_shade 15 = .ok (.ifCond .ne 6, 3) := dk_154 0 6 (dk_at dksX0_shade_0 15 rfl rfl)
theorem dX0_shade_18 : decode cX0_shade 18 = .ok (.bipush (-2), 2) := dk_16 254 (dk_at dksX0_shade_0 18 rfl rfl)
theorem dX0_shade_20 : decode cX0_shade 20 = .ok (.ireturn, 1) := dk_172 (dk_at dksX0_shade_0 20 rfl rfl)
theorem dX0_shade_21 : decode cX0_shade 21 = .ok (.aload_n 0, 1) := dk_42 (dk_at dksX0_shade_0 21 rfl rfl)
theorem dX0_shade_22 : decode cX0_shade 22 = .ok (.invokevirtual 166, 3) := dk_182 0 166 (dk_at dksX0_shade_1 0 rfl rfl)
theorem dX0_shade_25 : decode cX0_shade 25 = .ok (.aload_n 0, 1) := dk_42 (dk_at dksX0_shade_1 3 rfl rfl)
theorem dX0_shade_26 : decode cX0_shade 26 = .ok (.getfield 20, 3) := dk_180 0 20 (dk_at dksX0_shade_1 4 rfl rfl)
theorem dX0_shade_29 : decode cX0_shade 29 = .ok (.getfield 169, 3) := dk_180 0 169 (dk_at dksX0_shade_1 7 rfl rfl)
theorem dX0_shade_32 : decode cX0_shade 32 = .ok (.iload_n 1, 1) := dk_27 (dk_at dksX0_shade_1 10 rfl rfl)
theorem dX0_shade_33 : decode cX0_shade 33 = .ok (.iaload, 1) := dk_46 (dk_at dksX0_shade_1 11 rfl rfl)
theorem dX0_shade_34 : decode cX0_shade 34 = .ok (.istore_n 3, 1) := dk_62 (dk_at dksX0_shade_1 12 rfl rfl)
theorem dX0_shade_35 : decode cX0_shade 35 = .ok (.aload_n 0, 1) := dk_42 (dk_at dksX0_shade_1 13 rfl rfl)
theorem dX0_shade_36 : decode cX0_shade 36 = .ok (.getfield 20, 3) := dk_180 0 20 (dk_at dksX0_shade_1 14 rfl rfl)
theorem dX0_shade_39 : decode cX0_shade 39 = .ok (.getfield 169, 3) := dk_180 0 169 (dk_at dksX0_shade_1 17 rfl rfl)
theorem dX0_shade_42 : decode cX0_shade 42 = .ok (.iload_n 1, 1) := dk_27 (dk_at dksX0_shade_1 20 rfl rfl)
theorem dX0_shade_43 : decode cX0_shade 43 = .ok (.iload_n 2, 1) := dk_28 (dk_at dksX0_shade_1 21 rfl rfl)
theorem dX0_shade_44 : decode cX0_shade 44 = .ok (.iastore, 1) := dk_79 (dk_at dksX0_shade_1 22 rfl rfl)
theorem dX0_shade_45 : decode cX0_shade 45 = .ok (.aload_n 0, 1) := dk_42 (dk_at dksX0_shade_1 23 rfl rfl)
theorem dX0_shade_46 : decode cX0_shade 46 = .ok (.iload_n 3, 1) := dk_29 (dk_at dksX0_shade_2 0 rfl rfl)
theorem dX0_shade_47 : decode cX0_shade 47 = .ok (.invokevirtual 172, 3) := dk_182 0 172 (dk_at dksX0_shade_2 1 rfl rfl)
theorem dX0_shade_50 : decode cX0_shade 50 = .ok (.ireturn, 1) := dk_172 (dk_at dksX0_shade_2 4 rfl rfl)
abbrev cX0_isSquare : ByteArray := prog_1_method_8_code
def yX0_isSquare : MethodName := ⟨RX0, "isSquare", "(I)Z"⟩
def dkwX0_isSquare_0 : List UInt8 := [26, 3, 16, 29, 184, 0, 140, 172]
abbrev dktX0_isSquare_0 : List UInt8 := dkwX0_isSquare_0 ++ []
theorem dksX0_isSquare_0 : cX0_isSquare.data.toList.drop 0 = dktX0_isSquare_0 := by decide +kernel
theorem dX0_isSquare_0 : decode cX0_isSquare 0 = .ok (.iload_n 0, 1) := dk_26 (dk_at dksX0_isSquare_0 0 rfl rfl)
theorem dX0_isSquare_1 : decode cX0_isSquare 1 = .ok (.iconst 0, 1) := dk_3 (dk_at dksX0_isSquare_0 1 rfl rfl)
theorem dX0_isSquare_2 : decode cX0_isSquare 2 = .ok (.bipush 29, 2) := dk_16 29 (dk_at dksX0_isSquare_0 2 rfl rfl)
theorem dX0_isSquare_4 : decode cX0_isSquare 4 = .ok (.invokestatic 140, 3) := dk_184 0 140 (dk_at dksX0_isSquare_0 4 rfl rfl)
theorem dX0_isSquare_7 : decode cX0_isSquare 7 = .ok (.ireturn, 1) := dk_172 (dk_at dksX0_isSquare_0 7 rfl rfl)
abbrev cX0_within : ByteArray := prog_1_method_1_code
def yX0_within : MethodName := ⟨RX0, "within", "(III)Z"⟩
def dkwX0_within_0 : List UInt8 := [26, 27, 161, 0, 12, 26, 28, 163, 0, 7, 4, 167, 0, 4, 3, 172]
abbrev dktX0_within_0 : List UInt8 := dkwX0_within_0 ++ []
theorem dksX0_within_0 : cX0_within.data.toList.drop 0 = dktX0_within_0 := by decide +kernel
theorem dX0_within_0 : decode cX0_within 0 = .ok (.iload_n 0, 1) := dk_26 (dk_at dksX0_within_0 0 rfl rfl)
theorem dX0_within_1 : decode cX0_within 1 = .ok (.iload_n 1, 1) := dk_27 (dk_at dksX0_within_0 1 rfl rfl)
theorem dX0_within_2 : decode cX0_within 2 = .ok (.if_icmp .lt 12, 3) := dk_161 0 12 (dk_at dksX0_within_0 2 rfl rfl)
theorem dX0_within_5 : decode cX0_within 5 = .ok (.iload_n 0, 1) := dk_26 (dk_at dksX0_within_0 5 rfl rfl)
theorem dX0_within_6 : decode cX0_within 6 = .ok (.iload_n 2, 1) := dk_28 (dk_at dksX0_within_0 6 rfl rfl)
theorem dX0_within_7 : decode cX0_within 7 = .ok (.if_icmp .gt 7, 3) := dk_163 0 7 (dk_at dksX0_within_0 7 rfl rfl)
theorem dX0_within_10 : decode cX0_within 10 = .ok (.iconst 1, 1) := dk_4 (dk_at dksX0_within_0 10 rfl rfl)
theorem dX0_within_11 : decode cX0_within 11 = .ok (.goto 4, 3) := dk_167 0 4 (dk_at dksX0_within_0 11 rfl rfl)
theorem dX0_within_14 : decode cX0_within 14 = .ok (.iconst 0, 1) := dk_3 (dk_at dksX0_within_0 14 rfl rfl)
theorem dX0_within_15 : decode cX0_within 15 = .ok (.ireturn, 1) := dk_172 (dk_at dksX0_within_0 15 rfl rfl)
abbrev cX0_begins : ByteArray := prog_1_method_5_code
def yX0_begins : MethodName := ⟨RX0, "begins", "()V"⟩
def dkwX0_begins_0 : List UInt8 := [42, 180, 0, 26, 42, 180, 0, 20, 182, 0, 120, 177]
abbrev dktX0_begins_0 : List UInt8 := dkwX0_begins_0 ++ []
theorem dksX0_begins_0 : cX0_begins.data.toList.drop 0 = dktX0_begins_0 := by decide +kernel
theorem dX0_begins_0 : decode cX0_begins 0 = .ok (.aload_n 0, 1) := dk_42 (dk_at dksX0_begins_0 0 rfl rfl)
theorem dX0_begins_1 : decode cX0_begins 1 = .ok (.getfield 26, 3) := dk_180 0 26 (dk_at dksX0_begins_0 1 rfl rfl)
theorem dX0_begins_4 : decode cX0_begins 4 = .ok (.aload_n 0, 1) := dk_42 (dk_at dksX0_begins_0 4 rfl rfl)
theorem dX0_begins_5 : decode cX0_begins 5 = .ok (.getfield 20, 3) := dk_180 0 20 (dk_at dksX0_begins_0 5 rfl rfl)
theorem dX0_begins_8 : decode cX0_begins 8 = .ok (.invokevirtual 120, 3) := dk_182 0 120 (dk_at dksX0_begins_0 8 rfl rfl)
theorem dX0_begins_11 : decode cX0_begins 11 = .ok (.return_, 1) := dk_177 (dk_at dksX0_begins_0 11 rfl rfl)
abbrev cX0_changed : ByteArray := prog_1_method_6_code
def yX0_changed : MethodName := ⟨RX0, "changed", "(I)I"⟩
def dkwX0_changed_3 : List UInt8 := [4, 96, 181, 0, 124, 27, 172]
abbrev dktX0_changed_3 : List UInt8 := dkwX0_changed_3 ++ []
def dkwX0_changed_2 : List UInt8 := [181, 0, 124, 42, 180, 0, 35, 42, 180, 0, 124, 50, 42, 180, 0, 26, 182, 0, 120, 42, 89, 180, 0, 124]
abbrev dktX0_changed_2 : List UInt8 := dkwX0_changed_2 ++ dktX0_changed_3
def dkwX0_changed_1 : List UInt8 := [180, 0, 35, 3, 16, 7, 184, 0, 127, 42, 180, 0, 35, 16, 7, 44, 83, 42, 89, 180, 0, 124, 4, 100]
abbrev dktX0_changed_1 : List UInt8 := dkwX0_changed_1 ++ dktX0_changed_2
def dkwX0_changed_0 : List UInt8 := [42, 180, 0, 124, 16, 8, 160, 0, 43, 42, 180, 0, 35, 3, 50, 77, 42, 180, 0, 35, 4, 42]
abbrev dktX0_changed_0 : List UInt8 := dkwX0_changed_0 ++ dktX0_changed_1
theorem dksX0_changed_0 : cX0_changed.data.toList.drop 0 = dktX0_changed_0 := by decide +kernel
theorem dksX0_changed_1 : cX0_changed.data.toList.drop 22 = dktX0_changed_1 := dk_seg dksX0_changed_0 22 rfl rfl
theorem dksX0_changed_2 : cX0_changed.data.toList.drop 46 = dktX0_changed_2 := dk_seg dksX0_changed_1 24 rfl rfl
theorem dksX0_changed_3 : cX0_changed.data.toList.drop 70 = dktX0_changed_3 := dk_seg dksX0_changed_2 24 rfl rfl
theorem dX0_changed_0 : decode cX0_changed 0 = .ok (.aload_n 0, 1) := dk_42 (dk_at dksX0_changed_0 0 rfl rfl)
theorem dX0_changed_1 : decode cX0_changed 1 = .ok (.getfield 124, 3) := dk_180 0 124 (dk_at dksX0_changed_0 1 rfl rfl)
theorem dX0_changed_4 : decode cX0_changed 4 = .ok (.bipush 8, 2) := dk_16 8 (dk_at dksX0_changed_0 4 rfl rfl)
theorem dX0_changed_6 : decode cX0_changed 6 = .ok (.if_icmp .ne 43, 3) := dk_160 0 43 (dk_at dksX0_changed_0 6 rfl rfl)
theorem dX0_changed_9 : decode cX0_changed 9 = .ok (.aload_n 0, 1) := dk_42 (dk_at dksX0_changed_0 9 rfl rfl)
theorem dX0_changed_10 : decode cX0_changed 10 = .ok (.getfield 35, 3) := dk_180 0 35 (dk_at dksX0_changed_0 10 rfl rfl)
theorem dX0_changed_13 : decode cX0_changed 13 = .ok (.iconst 0, 1) := dk_3 (dk_at dksX0_changed_0 13 rfl rfl)
theorem dX0_changed_14 : decode cX0_changed 14 = .ok (.aaload, 1) := dk_50 (dk_at dksX0_changed_0 14 rfl rfl)
theorem dX0_changed_15 : decode cX0_changed 15 = .ok (.astore_n 2, 1) := dk_77 (dk_at dksX0_changed_0 15 rfl rfl)
theorem dX0_changed_16 : decode cX0_changed 16 = .ok (.aload_n 0, 1) := dk_42 (dk_at dksX0_changed_0 16 rfl rfl)
theorem dX0_changed_17 : decode cX0_changed 17 = .ok (.getfield 35, 3) := dk_180 0 35 (dk_at dksX0_changed_0 17 rfl rfl)
theorem dX0_changed_20 : decode cX0_changed 20 = .ok (.iconst 1, 1) := dk_4 (dk_at dksX0_changed_0 20 rfl rfl)
theorem dX0_changed_21 : decode cX0_changed 21 = .ok (.aload_n 0, 1) := dk_42 (dk_at dksX0_changed_0 21 rfl rfl)
theorem dX0_changed_22 : decode cX0_changed 22 = .ok (.getfield 35, 3) := dk_180 0 35 (dk_at dksX0_changed_1 0 rfl rfl)
theorem dX0_changed_25 : decode cX0_changed 25 = .ok (.iconst 0, 1) := dk_3 (dk_at dksX0_changed_1 3 rfl rfl)
theorem dX0_changed_26 : decode cX0_changed 26 = .ok (.bipush 7, 2) := dk_16 7 (dk_at dksX0_changed_1 4 rfl rfl)
theorem dX0_changed_28 : decode cX0_changed 28 = .ok (.invokestatic 127, 3) := dk_184 0 127 (dk_at dksX0_changed_1 6 rfl rfl)
theorem dX0_changed_31 : decode cX0_changed 31 = .ok (.aload_n 0, 1) := dk_42 (dk_at dksX0_changed_1 9 rfl rfl)
theorem dX0_changed_32 : decode cX0_changed 32 = .ok (.getfield 35, 3) := dk_180 0 35 (dk_at dksX0_changed_1 10 rfl rfl)
theorem dX0_changed_35 : decode cX0_changed 35 = .ok (.bipush 7, 2) := dk_16 7 (dk_at dksX0_changed_1 13 rfl rfl)
theorem dX0_changed_37 : decode cX0_changed 37 = .ok (.aload_n 2, 1) := dk_44 (dk_at dksX0_changed_1 15 rfl rfl)
theorem dX0_changed_38 : decode cX0_changed 38 = .ok (.aastore, 1) := dk_83 (dk_at dksX0_changed_1 16 rfl rfl)
theorem dX0_changed_39 : decode cX0_changed 39 = .ok (.aload_n 0, 1) := dk_42 (dk_at dksX0_changed_1 17 rfl rfl)
theorem dX0_changed_40 : decode cX0_changed 40 = .ok (.dup, 1) := dk_89 (dk_at dksX0_changed_1 18 rfl rfl)
theorem dX0_changed_41 : decode cX0_changed 41 = .ok (.getfield 124, 3) := dk_180 0 124 (dk_at dksX0_changed_1 19 rfl rfl)
theorem dX0_changed_44 : decode cX0_changed 44 = .ok (.iconst 1, 1) := dk_4 (dk_at dksX0_changed_1 22 rfl rfl)
theorem dX0_changed_45 : decode cX0_changed 45 = .ok (.isub, 1) := dk_100 (dk_at dksX0_changed_1 23 rfl rfl)
theorem dX0_changed_46 : decode cX0_changed 46 = .ok (.putfield 124, 3) := dk_181 0 124 (dk_at dksX0_changed_2 0 rfl rfl)
theorem dX0_changed_49 : decode cX0_changed 49 = .ok (.aload_n 0, 1) := dk_42 (dk_at dksX0_changed_2 3 rfl rfl)
theorem dX0_changed_50 : decode cX0_changed 50 = .ok (.getfield 35, 3) := dk_180 0 35 (dk_at dksX0_changed_2 4 rfl rfl)
theorem dX0_changed_53 : decode cX0_changed 53 = .ok (.aload_n 0, 1) := dk_42 (dk_at dksX0_changed_2 7 rfl rfl)
theorem dX0_changed_54 : decode cX0_changed 54 = .ok (.getfield 124, 3) := dk_180 0 124 (dk_at dksX0_changed_2 8 rfl rfl)
theorem dX0_changed_57 : decode cX0_changed 57 = .ok (.aaload, 1) := dk_50 (dk_at dksX0_changed_2 11 rfl rfl)
theorem dX0_changed_58 : decode cX0_changed 58 = .ok (.aload_n 0, 1) := dk_42 (dk_at dksX0_changed_2 12 rfl rfl)
theorem dX0_changed_59 : decode cX0_changed 59 = .ok (.getfield 26, 3) := dk_180 0 26 (dk_at dksX0_changed_2 13 rfl rfl)
theorem dX0_changed_62 : decode cX0_changed 62 = .ok (.invokevirtual 120, 3) := dk_182 0 120 (dk_at dksX0_changed_2 16 rfl rfl)
theorem dX0_changed_65 : decode cX0_changed 65 = .ok (.aload_n 0, 1) := dk_42 (dk_at dksX0_changed_2 19 rfl rfl)
theorem dX0_changed_66 : decode cX0_changed 66 = .ok (.dup, 1) := dk_89 (dk_at dksX0_changed_2 20 rfl rfl)
theorem dX0_changed_67 : decode cX0_changed 67 = .ok (.getfield 124, 3) := dk_180 0 124 (dk_at dksX0_changed_2 21 rfl rfl)
theorem dX0_changed_70 : decode cX0_changed 70 = .ok (.iconst 1, 1) := dk_4 (dk_at dksX0_changed_3 0 rfl rfl)
theorem dX0_changed_71 : decode cX0_changed 71 = .ok (.iadd, 1) := dk_96 (dk_at dksX0_changed_3 1 rfl rfl)
theorem dX0_changed_72 : decode cX0_changed 72 = .ok (.putfield 124, 3) := dk_181 0 124 (dk_at dksX0_changed_3 2 rfl rfl)
theorem dX0_changed_75 : decode cX0_changed 75 = .ok (.iload_n 1, 1) := dk_27 (dk_at dksX0_changed_3 5 rfl rfl)
theorem dX0_changed_76 : decode cX0_changed 76 = .ok (.ireturn, 1) := dk_172 (dk_at dksX0_changed_3 6 rfl rfl)
abbrev cX0_stone : ByteArray := prog_1_method_16_code
def yX0_stone : MethodName := ⟨RX0, "stone", "(I)I"⟩
def dkwX0_stone_0 : List UInt8 := [42, 182, 0, 166, 42, 42, 27, 182, 0, 221, 182, 0, 172, 172, 77, 42, 44, 182, 0, 224, 172]
abbrev dktX0_stone_0 : List UInt8 := dkwX0_stone_0 ++ []
theorem dksX0_stone_0 : cX0_stone.data.toList.drop 0 = dktX0_stone_0 := by decide +kernel
theorem dX0_stone_0 : decode cX0_stone 0 = .ok (.aload_n 0, 1) := dk_42 (dk_at dksX0_stone_0 0 rfl rfl)
theorem dX0_stone_1 : decode cX0_stone 1 = .ok (.invokevirtual 166, 3) := dk_182 0 166 (dk_at dksX0_stone_0 1 rfl rfl)
theorem dX0_stone_4 : decode cX0_stone 4 = .ok (.aload_n 0, 1) := dk_42 (dk_at dksX0_stone_0 4 rfl rfl)
theorem dX0_stone_5 : decode cX0_stone 5 = .ok (.aload_n 0, 1) := dk_42 (dk_at dksX0_stone_0 5 rfl rfl)
theorem dX0_stone_6 : decode cX0_stone 6 = .ok (.iload_n 1, 1) := dk_27 (dk_at dksX0_stone_0 6 rfl rfl)
theorem dX0_stone_7 : decode cX0_stone 7 = .ok (.invokevirtual 221, 3) := dk_182 0 221 (dk_at dksX0_stone_0 7 rfl rfl)
theorem dX0_stone_10 : decode cX0_stone 10 = .ok (.invokevirtual 172, 3) := dk_182 0 172 (dk_at dksX0_stone_0 10 rfl rfl)
theorem dX0_stone_13 : decode cX0_stone 13 = .ok (.ireturn, 1) := dk_172 (dk_at dksX0_stone_0 13 rfl rfl)
theorem dX0_stone_14 : decode cX0_stone 14 = .ok (.astore_n 2, 1) := dk_77 (dk_at dksX0_stone_0 14 rfl rfl)
theorem dX0_stone_15 : decode cX0_stone 15 = .ok (.aload_n 0, 1) := dk_42 (dk_at dksX0_stone_0 15 rfl rfl)
theorem dX0_stone_16 : decode cX0_stone 16 = .ok (.aload_n 2, 1) := dk_44 (dk_at dksX0_stone_0 16 rfl rfl)
theorem dX0_stone_17 : decode cX0_stone 17 = .ok (.invokevirtual 224, 3) := dk_182 0 224 (dk_at dksX0_stone_0 17 rfl rfl)
theorem dX0_stone_20 : decode cX0_stone 20 = .ok (.ireturn, 1) := dk_172 (dk_at dksX0_stone_0 20 rfl rfl)
abbrev cX0_doStone : ByteArray := prog_1_method_15_code
def yX0_doStone : MethodName := ⟨RX0, "doStone", "(I)I"⟩
def dkwX0_doStone_4 : List UInt8 := [180, 0, 20, 180, 0, 215, 27, 3, 79, 42, 180, 0, 20, 180, 0, 144, 27, 182, 0, 218, 28, 172]
abbrev dktX0_doStone_4 : List UInt8 := dkwX0_doStone_4 ++ []
def dkwX0_doStone_3 : List UInt8 := [27, 184, 0, 199, 42, 180, 0, 20, 180, 0, 154, 27, 46, 61, 42, 180, 0, 20, 27, 28, 182, 0, 212, 42]
abbrev dktX0_doStone_3 : List UInt8 := dkwX0_doStone_3 ++ dktX0_doStone_4
def dkwX0_doStone_2 : List UInt8 := [154, 0, 21, 42, 180, 0, 20, 180, 0, 209, 27, 182, 0, 148, 154, 0, 7, 4, 167, 0, 4, 3, 16, 14]
abbrev dktX0_doStone_2 : List UInt8 := dkwX0_doStone_2 ++ dktX0_doStone_3
def dkwX0_doStone_1 : List UInt8 := [167, 0, 4, 3, 5, 27, 184, 0, 199, 42, 27, 182, 0, 203, 154, 0, 29, 42, 27, 182, 0, 206]
abbrev dktX0_doStone_1 : List UInt8 := dkwX0_doStone_1 ++ dktX0_doStone_2
def dkwX0_doStone_0 : List UInt8 := [27, 184, 0, 163, 2, 184, 0, 195, 42, 180, 0, 20, 180, 0, 144, 27, 182, 0, 148, 154, 0, 7, 4]
abbrev dktX0_doStone_0 : List UInt8 := dkwX0_doStone_0 ++ dktX0_doStone_1
theorem dksX0_doStone_0 : cX0_doStone.data.toList.drop 0 = dktX0_doStone_0 := by decide +kernel
theorem dksX0_doStone_1 : cX0_doStone.data.toList.drop 23 = dktX0_doStone_1 := dk_seg dksX0_doStone_0 23 rfl rfl
theorem dksX0_doStone_2 : cX0_doStone.data.toList.drop 45 = dktX0_doStone_2 := dk_seg dksX0_doStone_1 22 rfl rfl
theorem dksX0_doStone_3 : cX0_doStone.data.toList.drop 69 = dktX0_doStone_3 := dk_seg dksX0_doStone_2 24 rfl rfl
theorem dksX0_doStone_4 : cX0_doStone.data.toList.drop 93 = dktX0_doStone_4 := dk_seg dksX0_doStone_3 24 rfl rfl
theorem dX0_doStone_0 : decode cX0_doStone 0 = .ok (.iload_n 1, 1) := dk_27 (dk_at dksX0_doStone_0 0 rfl rfl)
theorem dX0_doStone_1 : decode cX0_doStone 1 = .ok (.invokestatic 163, 3) := dk_184 0 163 (dk_at dksX0_doStone_0 1 rfl rfl)
theorem dX0_doStone_4 : decode cX0_doStone 4 = .ok (.iconst (-1), 1) := dk_2 (dk_at dksX0_doStone_0 4 rfl rfl)
theorem dX0_doStone_5 : decode cX0_doStone 5 = .ok (.invokestatic 195, 3) := dk_184 0 195 (dk_at dksX0_doStone_0 5 rfl rfl)
theorem dX0_doStone_8 : decode cX0_doStone 8 = .ok (.aload_n 0, 1) := dk_42 (dk_at dksX0_doStone_0 8 rfl rfl)
theorem dX0_doStone_9 : decode cX0_doStone 9 = .ok (.getfield 20, 3) := dk_180 0 20 (dk_at dksX0_doStone_0 9 rfl rfl)
theorem dX0_doStone_12 : decode cX0_doStone 12 = .ok (.getfield 144, 3) := dk_180 0 144 (dk_at dksX0_doStone_0 12 rfl rfl)
theorem dX0_doStone_15 : decode cX0_doStone 15 = .ok (.iload_n 1, 1) := dk_27 (dk_at dksX0_doStone_0 15 rfl rfl)
theorem dX0_doStone_16 : decode cX0_doStone 16 = .ok (.invokevirtual 148, 3) := dk_182 0 148 (dk_at dksX0_doStone_0 16 rfl rfl)
theorem dX0_doStone_19 : decode cX0_doStone 19 = .ok (.ifCond .ne 7, 3) := dk_154 0 7 (dk_at dksX0_doStone_0 19 rfl rfl)
theorem dX0_doStone_22 : decode cX0_doStone 22 = .ok (.iconst 1, 1) := dk_4 (dk_at dksX0_doStone_0 22 rfl rfl)
theorem dX0_doStone_23 : decode cX0_doStone 23 = .ok (.goto 4, 3) := dk_167 0 4 (dk_at dksX0_doStone_1 0 rfl rfl)
theorem dX0_doStone_26 : decode cX0_doStone 26 = .ok (.iconst 0, 1) := dk_3 (dk_at dksX0_doStone_1 3 rfl rfl)
theorem dX0_doStone_27 : decode cX0_doStone 27 = .ok (.iconst 2, 1) := dk_5 (dk_at dksX0_doStone_1 4 rfl rfl)
theorem dX0_doStone_28 : decode cX0_doStone 28 = .ok (.iload_n 1, 1) := dk_27 (dk_at dksX0_doStone_1 5 rfl rfl)
theorem dX0_doStone_29 : decode cX0_doStone 29 = .ok (.invokestatic 199, 3) := dk_184 0 199 (dk_at dksX0_doStone_1 6 rfl rfl)
theorem dX0_doStone_32 : decode cX0_doStone 32 = .ok (.aload_n 0, 1) := dk_42 (dk_at dksX0_doStone_1 9 rfl rfl)
theorem dX0_doStone_33 : decode cX0_doStone 33 = .ok (.iload_n 1, 1) := dk_27 (dk_at dksX0_doStone_1 10 rfl rfl)
theorem dX0_doStone_34 : decode cX0_doStone 34 = .ok (.invokevirtual 203, 3) := dk_182 0 203 (dk_at dksX0_doStone_1 11 rfl rfl)
theorem dX0_doStone_37 : decode cX0_doStone 37 = .ok (.ifCond .ne 29, 3) := dk_154 0 29 (dk_at dksX0_doStone_1 14 rfl rfl)
theorem dX0_doStone_40 : decode cX0_doStone 40 = .ok (.aload_n 0, 1) := dk_42 (dk_at dksX0_doStone_1 17 rfl rfl)
theorem dX0_doStone_41 : decode cX0_doStone 41 = .ok (.iload_n 1, 1) := dk_27 (dk_at dksX0_doStone_1 18 rfl rfl)
theorem dX0_doStone_42 : decode cX0_doStone 42 = .ok (.invokevirtual 206, 3) := dk_182 0 206 (dk_at dksX0_doStone_1 19 rfl rfl)
theorem dX0_doStone_45 : decode cX0_doStone 45 = .ok (.ifCond .ne 21, 3) := dk_154 0 21 (dk_at dksX0_doStone_2 0 rfl rfl)
theorem dX0_doStone_48 : decode cX0_doStone 48 = .ok (.aload_n 0, 1) := dk_42 (dk_at dksX0_doStone_2 3 rfl rfl)
theorem dX0_doStone_49 : decode cX0_doStone 49 = .ok (.getfield 20, 3) := dk_180 0 20 (dk_at dksX0_doStone_2 4 rfl rfl)
theorem dX0_doStone_52 : decode cX0_doStone 52 = .ok (.getfield 209, 3) := dk_180 0 209 (dk_at dksX0_doStone_2 7 rfl rfl)
theorem dX0_doStone_55 : decode cX0_doStone 55 = .ok (.iload_n 1, 1) := dk_27 (dk_at dksX0_doStone_2 10 rfl rfl)
theorem dX0_doStone_56 : decode cX0_doStone 56 = .ok (.invokevirtual 148, 3) := dk_182 0 148 (dk_at dksX0_doStone_2 11 rfl rfl)
theorem dX0_doStone_59 : decode cX0_doStone 59 = .ok (.ifCond .ne 7, 3) := dk_154 0 7 (dk_at dksX0_doStone_2 14 rfl rfl)
theorem dX0_doStone_62 : decode cX0_doStone 62 = .ok (.iconst 1, 1) := dk_4 (dk_at dksX0_doStone_2 17 rfl rfl)
theorem dX0_doStone_63 : decode cX0_doStone 63 = .ok (.goto 4, 3) := dk_167 0 4 (dk_at dksX0_doStone_2 18 rfl rfl)
theorem dX0_doStone_66 : decode cX0_doStone 66 = .ok (.iconst 0, 1) := dk_3 (dk_at dksX0_doStone_2 21 rfl rfl)
theorem dX0_doStone_67 : decode cX0_doStone 67 = .ok (.bipush 14, 2) := dk_16 14 (dk_at dksX0_doStone_2 22 rfl rfl)
theorem dX0_doStone_69 : decode cX0_doStone 69 = .ok (.iload_n 1, 1) := dk_27 (dk_at dksX0_doStone_3 0 rfl rfl)
theorem dX0_doStone_70 : decode cX0_doStone 70 = .ok (.invokestatic 199, 3) := dk_184 0 199 (dk_at dksX0_doStone_3 1 rfl rfl)
theorem dX0_doStone_73 : decode cX0_doStone 73 = .ok (.aload_n 0, 1) := dk_42 (dk_at dksX0_doStone_3 4 rfl rfl)
theorem dX0_doStone_74 : decode cX0_doStone 74 = .ok (.getfield 20, 3) := dk_180 0 20 (dk_at dksX0_doStone_3 5 rfl rfl)
theorem dX0_doStone_77 : decode cX0_doStone 77 = .ok (.getfield 154, 3) := dk_180 0 154 (dk_at dksX0_doStone_3 8 rfl rfl)
theorem dX0_doStone_80 : decode cX0_doStone 80 = .ok (.iload_n 1, 1) := dk_27 (dk_at dksX0_doStone_3 11 rfl rfl)
theorem dX0_doStone_81 : decode cX0_doStone 81 = .ok (.iaload, 1) := dk_46 (dk_at dksX0_doStone_3 12 rfl rfl)
theorem dX0_doStone_82 : decode cX0_doStone 82 = .ok (.istore_n 2, 1) := dk_61 (dk_at dksX0_doStone_3 13 rfl rfl)
theorem dX0_doStone_83 : decode cX0_doStone 83 = .ok (.aload_n 0, 1) := dk_42 (dk_at dksX0_doStone_3 14 rfl rfl)
theorem dX0_doStone_84 : decode cX0_doStone 84 = .ok (.getfield 20, 3) := dk_180 0 20 (dk_at dksX0_doStone_3 15 rfl rfl)
theorem dX0_doStone_87 : decode cX0_doStone 87 = .ok (.iload_n 1, 1) := dk_27 (dk_at dksX0_doStone_3 18 rfl rfl)
theorem dX0_doStone_88 : decode cX0_doStone 88 = .ok (.iload_n 2, 1) := dk_28 (dk_at dksX0_doStone_3 19 rfl rfl)
theorem dX0_doStone_89 : decode cX0_doStone 89 = .ok (.invokevirtual 212, 3) := dk_182 0 212 (dk_at dksX0_doStone_3 20 rfl rfl)
theorem dX0_doStone_92 : decode cX0_doStone 92 = .ok (.aload_n 0, 1) := dk_42 (dk_at dksX0_doStone_3 23 rfl rfl)
theorem dX0_doStone_93 : decode cX0_doStone 93 = .ok (.getfield 20, 3) := dk_180 0 20 (dk_at dksX0_doStone_4 0 rfl rfl)
theorem dX0_doStone_96 : decode cX0_doStone 96 = .ok (.getfield 215, 3) := dk_180 0 215 (dk_at dksX0_doStone_4 3 rfl rfl)
theorem dX0_doStone_99 : decode cX0_doStone 99 = .ok (.iload_n 1, 1) := dk_27 (dk_at dksX0_doStone_4 6 rfl rfl)
theorem dX0_doStone_100 : decode cX0_doStone 100 = .ok (.iconst 0, 1) := dk_3 (dk_at dksX0_doStone_4 7 rfl rfl)
theorem dX0_doStone_101 : decode cX0_doStone 101 = .ok (.iastore, 1) := dk_79 (dk_at dksX0_doStone_4 8 rfl rfl)
theorem dX0_doStone_102 : decode cX0_doStone 102 = .ok (.aload_n 0, 1) := dk_42 (dk_at dksX0_doStone_4 9 rfl rfl)
theorem dX0_doStone_103 : decode cX0_doStone 103 = .ok (.getfield 20, 3) := dk_180 0 20 (dk_at dksX0_doStone_4 10 rfl rfl)
theorem dX0_doStone_106 : decode cX0_doStone 106 = .ok (.getfield 144, 3) := dk_180 0 144 (dk_at dksX0_doStone_4 13 rfl rfl)
theorem dX0_doStone_109 : decode cX0_doStone 109 = .ok (.iload_n 1, 1) := dk_27 (dk_at dksX0_doStone_4 16 rfl rfl)
theorem dX0_doStone_110 : decode cX0_doStone 110 = .ok (.invokevirtual 218, 3) := dk_182 0 218 (dk_at dksX0_doStone_4 17 rfl rfl)
theorem dX0_doStone_113 : decode cX0_doStone 113 = .ok (.iload_n 2, 1) := dk_28 (dk_at dksX0_doStone_4 20 rfl rfl)
theorem dX0_doStone_114 : decode cX0_doStone 114 = .ok (.ireturn, 1) := dk_172 (dk_at dksX0_doStone_4 21 rfl rfl)
abbrev cX0_want : ByteArray := prog_1_method_2_code
def yX0_want : MethodName := ⟨RX0, "want", "(ZI)V"⟩
def dkwX0_want_0 : List UInt8 := [26, 154, 0, 12, 187, 0, 1, 89, 27, 183, 0, 3, 191, 177]
abbrev dktX0_want_0 : List UInt8 := dkwX0_want_0 ++ []
theorem dksX0_want_0 : cX0_want.data.toList.drop 0 = dktX0_want_0 := by decide +kernel
theorem dX0_want_0 : decode cX0_want 0 = .ok (.iload_n 0, 1) := dk_26 (dk_at dksX0_want_0 0 rfl rfl)
theorem dX0_want_1 : decode cX0_want 1 = .ok (.ifCond .ne 12, 3) := dk_154 0 12 (dk_at dksX0_want_0 1 rfl rfl)
theorem dX0_want_4 : decode cX0_want 4 = .ok (.new 1, 3) := dk_187 0 1 (dk_at dksX0_want_0 4 rfl rfl)
theorem dX0_want_7 : decode cX0_want 7 = .ok (.dup, 1) := dk_89 (dk_at dksX0_want_0 7 rfl rfl)
theorem dX0_want_8 : decode cX0_want 8 = .ok (.iload_n 1, 1) := dk_27 (dk_at dksX0_want_0 8 rfl rfl)
theorem dX0_want_9 : decode cX0_want 9 = .ok (.invokespecial 3, 3) := dk_183 0 3 (dk_at dksX0_want_0 9 rfl rfl)
theorem dX0_want_12 : decode cX0_want 12 = .ok (.athrow, 1) := dk_191 (dk_at dksX0_want_0 12 rfl rfl)
theorem dX0_want_13 : decode cX0_want 13 = .ok (.return_, 1) := dk_177 (dk_at dksX0_want_0 13 rfl rfl)
abbrev cX0_allow : ByteArray := prog_1_method_3_code
def yX0_allow : MethodName := ⟨RX0, "allow", "(ZII)V"⟩
def dkwX0_allow_0 : List UInt8 := [26, 154, 0, 13, 187, 0, 7, 89, 27, 28, 183, 0, 9, 191, 177]
abbrev dktX0_allow_0 : List UInt8 := dkwX0_allow_0 ++ []
theorem dksX0_allow_0 : cX0_allow.data.toList.drop 0 = dktX0_allow_0 := by decide +kernel
theorem dX0_allow_0 : decode cX0_allow 0 = .ok (.iload_n 0, 1) := dk_26 (dk_at dksX0_allow_0 0 rfl rfl)
theorem dX0_allow_1 : decode cX0_allow 1 = .ok (.ifCond .ne 13, 3) := dk_154 0 13 (dk_at dksX0_allow_0 1 rfl rfl)
theorem dX0_allow_4 : decode cX0_allow 4 = .ok (.new 7, 3) := dk_187 0 7 (dk_at dksX0_allow_0 4 rfl rfl)
theorem dX0_allow_7 : decode cX0_allow 7 = .ok (.dup, 1) := dk_89 (dk_at dksX0_allow_0 7 rfl rfl)
theorem dX0_allow_8 : decode cX0_allow 8 = .ok (.iload_n 1, 1) := dk_27 (dk_at dksX0_allow_0 8 rfl rfl)
theorem dX0_allow_9 : decode cX0_allow 9 = .ok (.iload_n 2, 1) := dk_28 (dk_at dksX0_allow_0 9 rfl rfl)
theorem dX0_allow_10 : decode cX0_allow 10 = .ok (.invokespecial 9, 3) := dk_183 0 9 (dk_at dksX0_allow_0 10 rfl rfl)
theorem dX0_allow_13 : decode cX0_allow 13 = .ok (.athrow, 1) := dk_191 (dk_at dksX0_allow_0 13 rfl rfl)
theorem dX0_allow_14 : decode cX0_allow 14 = .ok (.return_, 1) := dk_177 (dk_at dksX0_allow_0 14 rfl rfl)
abbrev cX0_gardenersOn : ByteArray := prog_1_method_13_code
def yX0_gardenersOn : MethodName := ⟨RX0, "gardenersOn", "(I)I"⟩
def dkwX0_gardenersOn_0 : List UInt8 := [42, 180, 0, 20, 180, 0, 181, 42, 27, 186, 0, 184, 0, 0, 184, 0, 187, 172]
abbrev dktX0_gardenersOn_0 : List UInt8 := dkwX0_gardenersOn_0 ++ []
theorem dksX0_gardenersOn_0 : cX0_gardenersOn.data.toList.drop 0 = dktX0_gardenersOn_0 := by decide +kernel
theorem dX0_gardenersOn_0 : decode cX0_gardenersOn 0 = .ok (.aload_n 0, 1) := dk_42 (dk_at dksX0_gardenersOn_0 0 rfl rfl)
theorem dX0_gardenersOn_1 : decode cX0_gardenersOn 1 = .ok (.getfield 20, 3) := dk_180 0 20 (dk_at dksX0_gardenersOn_0 1 rfl rfl)
theorem dX0_gardenersOn_4 : decode cX0_gardenersOn 4 = .ok (.getfield 181, 3) := dk_180 0 181 (dk_at dksX0_gardenersOn_0 4 rfl rfl)
theorem dX0_gardenersOn_7 : decode cX0_gardenersOn 7 = .ok (.aload_n 0, 1) := dk_42 (dk_at dksX0_gardenersOn_0 7 rfl rfl)
theorem dX0_gardenersOn_8 : decode cX0_gardenersOn 8 = .ok (.iload_n 1, 1) := dk_27 (dk_at dksX0_gardenersOn_0 8 rfl rfl)
theorem dX0_gardenersOn_9 : decode cX0_gardenersOn 9 = .ok (.invokedynamic 184, 5) := by decide +kernel
theorem dX0_gardenersOn_14 : decode cX0_gardenersOn 14 = .ok (.invokestatic 187, 3) := dk_184 0 187 (dk_at dksX0_gardenersOn_0 14 rfl rfl)
theorem dX0_gardenersOn_17 : decode cX0_gardenersOn 17 = .ok (.ireturn, 1) := dk_172 (dk_at dksX0_gardenersOn_0 17 rfl rfl)
abbrev cX0_lambda_gardenersOn_0 : ByteArray := prog_1_method_100_code
def yX0_lambda_gardenersOn_0 : MethodName := ⟨RX0, "lambda$gardenersOn$0", "(II)Z"⟩
def dkwX0_lambda_gardenersOn_0_0 : List UInt8 := [42, 180, 0, 20, 180, 0, 244, 28, 50, 180, 1, 3, 27, 160, 0, 7, 4, 167, 0, 4, 3, 172]
abbrev dktX0_lambda_gardenersOn_0_0 : List UInt8 := dkwX0_lambda_gardenersOn_0_0 ++ []
theorem dksX0_lambda_gardenersOn_0_0 : cX0_lambda_gardenersOn_0.data.toList.drop 0 = dktX0_lambda_gardenersOn_0_0 := by decide +kernel
theorem dX0_lambda_gardenersOn_0_0 : decode cX0_lambda_gardenersOn_0 0 = .ok (.aload_n 0, 1) := dk_42 (dk_at dksX0_lambda_gardenersOn_0_0 0 rfl rfl)
theorem dX0_lambda_gardenersOn_0_1 : decode cX0_lambda_gardenersOn_0 1 = .ok (.getfield 20, 3) := dk_180 0 20 (dk_at dksX0_lambda_gardenersOn_0_0 1 rfl rfl)
theorem dX0_lambda_gardenersOn_0_4 : decode cX0_lambda_gardenersOn_0 4 = .ok (.getfield 244, 3) := dk_180 0 244 (dk_at dksX0_lambda_gardenersOn_0_0 4 rfl rfl)
theorem dX0_lambda_gardenersOn_0_7 : decode cX0_lambda_gardenersOn_0 7 = .ok (.iload_n 2, 1) := dk_28 (dk_at dksX0_lambda_gardenersOn_0_0 7 rfl rfl)
theorem dX0_lambda_gardenersOn_0_8 : decode cX0_lambda_gardenersOn_0 8 = .ok (.aaload, 1) := dk_50 (dk_at dksX0_lambda_gardenersOn_0_0 8 rfl rfl)
theorem dX0_lambda_gardenersOn_0_9 : decode cX0_lambda_gardenersOn_0 9 = .ok (.getfield 259, 3) := dk_180 1 3 (dk_at dksX0_lambda_gardenersOn_0_0 9 rfl rfl)
theorem dX0_lambda_gardenersOn_0_12 : decode cX0_lambda_gardenersOn_0 12 = .ok (.iload_n 1, 1) := dk_27 (dk_at dksX0_lambda_gardenersOn_0_0 12 rfl rfl)
theorem dX0_lambda_gardenersOn_0_13 : decode cX0_lambda_gardenersOn_0 13 = .ok (.if_icmp .ne 7, 3) := dk_160 0 7 (dk_at dksX0_lambda_gardenersOn_0_0 13 rfl rfl)
theorem dX0_lambda_gardenersOn_0_16 : decode cX0_lambda_gardenersOn_0 16 = .ok (.iconst 1, 1) := dk_4 (dk_at dksX0_lambda_gardenersOn_0_0 16 rfl rfl)
theorem dX0_lambda_gardenersOn_0_17 : decode cX0_lambda_gardenersOn_0 17 = .ok (.goto 4, 3) := dk_167 0 4 (dk_at dksX0_lambda_gardenersOn_0_0 17 rfl rfl)
theorem dX0_lambda_gardenersOn_0_20 : decode cX0_lambda_gardenersOn_0 20 = .ok (.iconst 0, 1) := dk_3 (dk_at dksX0_lambda_gardenersOn_0_0 20 rfl rfl)
theorem dX0_lambda_gardenersOn_0_21 : decode cX0_lambda_gardenersOn_0 21 = .ok (.ireturn, 1) := dk_172 (dk_at dksX0_lambda_gardenersOn_0_0 21 rfl rfl)
abbrev cX0_setOf : ByteArray := prog_1_method_12_code
def yX0_setOf : MethodName := ⟨RX0, "setOf", "(ILMossLawn$Chosen;)I"⟩
def dkwX0_setOf_1 : List UInt8 := [167, 0, 4, 3, 128, 61, 132, 3, 1, 167, 255, 228, 28, 172]
abbrev dktX0_setOf_1 : List UInt8 := dkwX0_setOf_1 ++ []
def dkwX0_setOf_0 : List UInt8 := [3, 61, 3, 62, 29, 26, 162, 0, 29, 28, 43, 29, 185, 0, 176, 2, 0, 153, 0, 9, 4, 29, 120]
abbrev dktX0_setOf_0 : List UInt8 := dkwX0_setOf_0 ++ dktX0_setOf_1
theorem dksX0_setOf_0 : cX0_setOf.data.toList.drop 0 = dktX0_setOf_0 := by decide +kernel
theorem dksX0_setOf_1 : cX0_setOf.data.toList.drop 23 = dktX0_setOf_1 := dk_seg dksX0_setOf_0 23 rfl rfl
theorem dX0_setOf_0 : decode cX0_setOf 0 = .ok (.iconst 0, 1) := dk_3 (dk_at dksX0_setOf_0 0 rfl rfl)
theorem dX0_setOf_1 : decode cX0_setOf 1 = .ok (.istore_n 2, 1) := dk_61 (dk_at dksX0_setOf_0 1 rfl rfl)
theorem dX0_setOf_2 : decode cX0_setOf 2 = .ok (.iconst 0, 1) := dk_3 (dk_at dksX0_setOf_0 2 rfl rfl)
theorem dX0_setOf_3 : decode cX0_setOf 3 = .ok (.istore_n 3, 1) := dk_62 (dk_at dksX0_setOf_0 3 rfl rfl)
theorem dX0_setOf_4 : decode cX0_setOf 4 = .ok (.iload_n 3, 1) := dk_29 (dk_at dksX0_setOf_0 4 rfl rfl)
theorem dX0_setOf_5 : decode cX0_setOf 5 = .ok (.iload_n 0, 1) := dk_26 (dk_at dksX0_setOf_0 5 rfl rfl)
theorem dX0_setOf_6 : decode cX0_setOf 6 = .ok (.if_icmp .ge 29, 3) := dk_162 0 29 (dk_at dksX0_setOf_0 6 rfl rfl)
theorem dX0_setOf_9 : decode cX0_setOf 9 = .ok (.iload_n 2, 1) := dk_28 (dk_at dksX0_setOf_0 9 rfl rfl)
theorem dX0_setOf_10 : decode cX0_setOf 10 = .ok (.aload_n 1, 1) := dk_43 (dk_at dksX0_setOf_0 10 rfl rfl)
theorem dX0_setOf_11 : decode cX0_setOf 11 = .ok (.iload_n 3, 1) := dk_29 (dk_at dksX0_setOf_0 11 rfl rfl)
theorem dX0_setOf_12 : decode cX0_setOf 12 = .ok (.invokeinterface 176 2, 5) := by decide +kernel
theorem dX0_setOf_17 : decode cX0_setOf 17 = .ok (.ifCond .eq 9, 3) := dk_153 0 9 (dk_at dksX0_setOf_0 17 rfl rfl)
theorem dX0_setOf_20 : decode cX0_setOf 20 = .ok (.iconst 1, 1) := dk_4 (dk_at dksX0_setOf_0 20 rfl rfl)
theorem dX0_setOf_21 : decode cX0_setOf 21 = .ok (.iload_n 3, 1) := dk_29 (dk_at dksX0_setOf_0 21 rfl rfl)
theorem dX0_setOf_22 : decode cX0_setOf 22 = .ok (.ishl, 1) := dk_120 (dk_at dksX0_setOf_0 22 rfl rfl)
theorem dX0_setOf_23 : decode cX0_setOf 23 = .ok (.goto 4, 3) := dk_167 0 4 (dk_at dksX0_setOf_1 0 rfl rfl)
theorem dX0_setOf_26 : decode cX0_setOf 26 = .ok (.iconst 0, 1) := dk_3 (dk_at dksX0_setOf_1 3 rfl rfl)
theorem dX0_setOf_27 : decode cX0_setOf 27 = .ok (.ior, 1) := dk_128 (dk_at dksX0_setOf_1 4 rfl rfl)
theorem dX0_setOf_28 : decode cX0_setOf 28 = .ok (.istore_n 2, 1) := dk_61 (dk_at dksX0_setOf_1 5 rfl rfl)
theorem dX0_setOf_29 : decode cX0_setOf 29 = .ok (.iinc 3 1, 3) := dk_132 3 1 (dk_at dksX0_setOf_1 6 rfl rfl)
theorem dX0_setOf_32 : decode cX0_setOf 32 = .ok (.goto (-28), 3) := dk_167 255 228 (dk_at dksX0_setOf_1 9 rfl rfl)
theorem dX0_setOf_35 : decode cX0_setOf 35 = .ok (.iload_n 2, 1) := dk_28 (dk_at dksX0_setOf_1 12 rfl rfl)
theorem dX0_setOf_36 : decode cX0_setOf 36 = .ok (.ireturn, 1) := dk_172 (dk_at dksX0_setOf_1 13 rfl rfl)
abbrev cX0_molesOn : ByteArray := prog_1_method_14_code
def yX0_molesOn : MethodName := ⟨RX0, "molesOn", "(I)I"⟩
def dkwX0_molesOn_0 : List UInt8 := [42, 180, 0, 20, 180, 0, 191, 42, 27, 186, 0, 194, 0, 0, 184, 0, 187, 172]
abbrev dktX0_molesOn_0 : List UInt8 := dkwX0_molesOn_0 ++ []
theorem dksX0_molesOn_0 : cX0_molesOn.data.toList.drop 0 = dktX0_molesOn_0 := by decide +kernel
theorem dX0_molesOn_0 : decode cX0_molesOn 0 = .ok (.aload_n 0, 1) := dk_42 (dk_at dksX0_molesOn_0 0 rfl rfl)
theorem dX0_molesOn_1 : decode cX0_molesOn 1 = .ok (.getfield 20, 3) := dk_180 0 20 (dk_at dksX0_molesOn_0 1 rfl rfl)
theorem dX0_molesOn_4 : decode cX0_molesOn 4 = .ok (.getfield 191, 3) := dk_180 0 191 (dk_at dksX0_molesOn_0 4 rfl rfl)
theorem dX0_molesOn_7 : decode cX0_molesOn 7 = .ok (.aload_n 0, 1) := dk_42 (dk_at dksX0_molesOn_0 7 rfl rfl)
theorem dX0_molesOn_8 : decode cX0_molesOn 8 = .ok (.iload_n 1, 1) := dk_27 (dk_at dksX0_molesOn_0 8 rfl rfl)
theorem dX0_molesOn_9 : decode cX0_molesOn 9 = .ok (.invokedynamic 194, 5) := by decide +kernel
theorem dX0_molesOn_14 : decode cX0_molesOn 14 = .ok (.invokestatic 187, 3) := dk_184 0 187 (dk_at dksX0_molesOn_0 14 rfl rfl)
theorem dX0_molesOn_17 : decode cX0_molesOn 17 = .ok (.ireturn, 1) := dk_172 (dk_at dksX0_molesOn_0 17 rfl rfl)
abbrev cX0_lambda_molesOn_1 : ByteArray := prog_1_method_99_code
def yX0_lambda_molesOn_1 : MethodName := ⟨RX0, "lambda$molesOn$1", "(II)Z"⟩
def dkwX0_lambda_molesOn_1_0 : List UInt8 := [42, 180, 0, 20, 180, 1, 51, 28, 50, 27, 182, 2, 74, 172]
abbrev dktX0_lambda_molesOn_1_0 : List UInt8 := dkwX0_lambda_molesOn_1_0 ++ []
theorem dksX0_lambda_molesOn_1_0 : cX0_lambda_molesOn_1.data.toList.drop 0 = dktX0_lambda_molesOn_1_0 := by decide +kernel
theorem dX0_lambda_molesOn_1_0 : decode cX0_lambda_molesOn_1 0 = .ok (.aload_n 0, 1) := dk_42 (dk_at dksX0_lambda_molesOn_1_0 0 rfl rfl)
theorem dX0_lambda_molesOn_1_1 : decode cX0_lambda_molesOn_1 1 = .ok (.getfield 20, 3) := dk_180 0 20 (dk_at dksX0_lambda_molesOn_1_0 1 rfl rfl)
theorem dX0_lambda_molesOn_1_4 : decode cX0_lambda_molesOn_1 4 = .ok (.getfield 307, 3) := dk_180 1 51 (dk_at dksX0_lambda_molesOn_1_0 4 rfl rfl)
theorem dX0_lambda_molesOn_1_7 : decode cX0_lambda_molesOn_1 7 = .ok (.iload_n 2, 1) := dk_28 (dk_at dksX0_lambda_molesOn_1_0 7 rfl rfl)
theorem dX0_lambda_molesOn_1_8 : decode cX0_lambda_molesOn_1 8 = .ok (.aaload, 1) := dk_50 (dk_at dksX0_lambda_molesOn_1_0 8 rfl rfl)
theorem dX0_lambda_molesOn_1_9 : decode cX0_lambda_molesOn_1 9 = .ok (.iload_n 1, 1) := dk_27 (dk_at dksX0_lambda_molesOn_1_0 9 rfl rfl)
theorem dX0_lambda_molesOn_1_10 : decode cX0_lambda_molesOn_1 10 = .ok (.invokevirtual 586, 3) := dk_182 2 74 (dk_at dksX0_lambda_molesOn_1_0 10 rfl rfl)
theorem dX0_lambda_molesOn_1_13 : decode cX0_lambda_molesOn_1 13 = .ok (.ireturn, 1) := dk_172 (dk_at dksX0_lambda_molesOn_1_0 13 rfl rfl)
abbrev cX0_notDone : ByteArray := prog_1_method_7_code
def yX0_notDone : MethodName := ⟨RX0, "notDone", "(Ljava/lang/Exception;)I"⟩
def dkwX0_notDone_1 : List UInt8 := [180, 0, 133, 172, 42, 43, 192, 0, 7, 181, 0, 136, 16, 253, 172]
abbrev dktX0_notDone_1 : List UInt8 := dkwX0_notDone_1 ++ []
def dkwX0_notDone_0 : List UInt8 := [42, 180, 0, 20, 42, 180, 0, 26, 182, 0, 120, 43, 193, 0, 1, 153, 0, 11, 43, 192, 0, 1]
abbrev dktX0_notDone_0 : List UInt8 := dkwX0_notDone_0 ++ dktX0_notDone_1
theorem dksX0_notDone_0 : cX0_notDone.data.toList.drop 0 = dktX0_notDone_0 := by decide +kernel
theorem dksX0_notDone_1 : cX0_notDone.data.toList.drop 22 = dktX0_notDone_1 := dk_seg dksX0_notDone_0 22 rfl rfl
theorem dX0_notDone_0 : decode cX0_notDone 0 = .ok (.aload_n 0, 1) := dk_42 (dk_at dksX0_notDone_0 0 rfl rfl)
theorem dX0_notDone_1 : decode cX0_notDone 1 = .ok (.getfield 20, 3) := dk_180 0 20 (dk_at dksX0_notDone_0 1 rfl rfl)
theorem dX0_notDone_4 : decode cX0_notDone 4 = .ok (.aload_n 0, 1) := dk_42 (dk_at dksX0_notDone_0 4 rfl rfl)
theorem dX0_notDone_5 : decode cX0_notDone 5 = .ok (.getfield 26, 3) := dk_180 0 26 (dk_at dksX0_notDone_0 5 rfl rfl)
theorem dX0_notDone_8 : decode cX0_notDone 8 = .ok (.invokevirtual 120, 3) := dk_182 0 120 (dk_at dksX0_notDone_0 8 rfl rfl)
theorem dX0_notDone_11 : decode cX0_notDone 11 = .ok (.aload_n 1, 1) := dk_43 (dk_at dksX0_notDone_0 11 rfl rfl)
theorem dX0_notDone_12 : decode cX0_notDone 12 = .ok (.instanceof 1, 3) := dk_193 0 1 (dk_at dksX0_notDone_0 12 rfl rfl)
theorem dX0_notDone_15 : decode cX0_notDone 15 = .ok (.ifCond .eq 11, 3) := dk_153 0 11 (dk_at dksX0_notDone_0 15 rfl rfl)
theorem dX0_notDone_18 : decode cX0_notDone 18 = .ok (.aload_n 1, 1) := dk_43 (dk_at dksX0_notDone_0 18 rfl rfl)
theorem dX0_notDone_19 : decode cX0_notDone 19 = .ok (.checkcast 1, 3) := dk_192 0 1 (dk_at dksX0_notDone_0 19 rfl rfl)
theorem dX0_notDone_22 : decode cX0_notDone 22 = .ok (.getfield 133, 3) := dk_180 0 133 (dk_at dksX0_notDone_1 0 rfl rfl)
theorem dX0_notDone_25 : decode cX0_notDone 25 = .ok (.ireturn, 1) := dk_172 (dk_at dksX0_notDone_1 3 rfl rfl)
theorem dX0_notDone_26 : decode cX0_notDone 26 = .ok (.aload_n 0, 1) := dk_42 (dk_at dksX0_notDone_1 4 rfl rfl)
theorem dX0_notDone_27 : decode cX0_notDone 27 = .ok (.aload_n 1, 1) := dk_43 (dk_at dksX0_notDone_1 5 rfl rfl)
theorem dX0_notDone_28 : decode cX0_notDone 28 = .ok (.checkcast 7, 3) := dk_192 0 7 (dk_at dksX0_notDone_1 6 rfl rfl)
theorem dX0_notDone_31 : decode cX0_notDone 31 = .ok (.putfield 136, 3) := dk_181 0 136 (dk_at dksX0_notDone_1 9 rfl rfl)
theorem dX0_notDone_34 : decode cX0_notDone 34 = .ok (.bipush (-3), 2) := dk_16 253 (dk_at dksX0_notDone_1 12 rfl rfl)
theorem dX0_notDone_36 : decode cX0_notDone 36 = .ok (.ireturn, 1) := dk_172 (dk_at dksX0_notDone_1 14 rfl rfl)
abbrev cX0_rain : ByteArray := prog_1_method_18_code
def yX0_rain : MethodName := ⟨RX0, "rain", "(I)I"⟩
def dkwX0_rain_0 : List UInt8 := [42, 182, 0, 166, 42, 42, 27, 182, 0, 231, 182, 0, 172, 172, 77, 42, 44, 182, 0, 224, 172]
abbrev dktX0_rain_0 : List UInt8 := dkwX0_rain_0 ++ []
theorem dksX0_rain_0 : cX0_rain.data.toList.drop 0 = dktX0_rain_0 := by decide +kernel
theorem dX0_rain_0 : decode cX0_rain 0 = .ok (.aload_n 0, 1) := dk_42 (dk_at dksX0_rain_0 0 rfl rfl)
theorem dX0_rain_1 : decode cX0_rain 1 = .ok (.invokevirtual 166, 3) := dk_182 0 166 (dk_at dksX0_rain_0 1 rfl rfl)
theorem dX0_rain_4 : decode cX0_rain 4 = .ok (.aload_n 0, 1) := dk_42 (dk_at dksX0_rain_0 4 rfl rfl)
theorem dX0_rain_5 : decode cX0_rain 5 = .ok (.aload_n 0, 1) := dk_42 (dk_at dksX0_rain_0 5 rfl rfl)
theorem dX0_rain_6 : decode cX0_rain 6 = .ok (.iload_n 1, 1) := dk_27 (dk_at dksX0_rain_0 6 rfl rfl)
theorem dX0_rain_7 : decode cX0_rain 7 = .ok (.invokevirtual 231, 3) := dk_182 0 231 (dk_at dksX0_rain_0 7 rfl rfl)
theorem dX0_rain_10 : decode cX0_rain 10 = .ok (.invokevirtual 172, 3) := dk_182 0 172 (dk_at dksX0_rain_0 10 rfl rfl)
theorem dX0_rain_13 : decode cX0_rain 13 = .ok (.ireturn, 1) := dk_172 (dk_at dksX0_rain_0 13 rfl rfl)
theorem dX0_rain_14 : decode cX0_rain 14 = .ok (.astore_n 2, 1) := dk_77 (dk_at dksX0_rain_0 14 rfl rfl)
theorem dX0_rain_15 : decode cX0_rain 15 = .ok (.aload_n 0, 1) := dk_42 (dk_at dksX0_rain_0 15 rfl rfl)
theorem dX0_rain_16 : decode cX0_rain 16 = .ok (.aload_n 2, 1) := dk_44 (dk_at dksX0_rain_0 16 rfl rfl)
theorem dX0_rain_17 : decode cX0_rain 17 = .ok (.invokevirtual 224, 3) := dk_182 0 224 (dk_at dksX0_rain_0 17 rfl rfl)
theorem dX0_rain_20 : decode cX0_rain 20 = .ok (.ireturn, 1) := dk_172 (dk_at dksX0_rain_0 20 rfl rfl)
abbrev cX0_doRain : ByteArray := prog_1_method_17_code
def yX0_doRain : MethodName := ⟨RX0, "doRain", "(I)I"⟩
def dkwX0_doRain_1 : List UInt8 := [181, 0, 228, 28, 172]
abbrev dktX0_doRain_1 : List UInt8 := dkwX0_doRain_1 ++ []
def dkwX0_doRain_0 : List UInt8 := [27, 3, 8, 184, 0, 140, 16, 254, 184, 0, 195, 42, 180, 0, 20, 180, 0, 228, 61, 42, 180, 0, 20, 27]
abbrev dktX0_doRain_0 : List UInt8 := dkwX0_doRain_0 ++ dktX0_doRain_1
theorem dksX0_doRain_0 : cX0_doRain.data.toList.drop 0 = dktX0_doRain_0 := by decide +kernel
theorem dksX0_doRain_1 : cX0_doRain.data.toList.drop 24 = dktX0_doRain_1 := dk_seg dksX0_doRain_0 24 rfl rfl
theorem dX0_doRain_0 : decode cX0_doRain 0 = .ok (.iload_n 1, 1) := dk_27 (dk_at dksX0_doRain_0 0 rfl rfl)
theorem dX0_doRain_1 : decode cX0_doRain 1 = .ok (.iconst 0, 1) := dk_3 (dk_at dksX0_doRain_0 1 rfl rfl)
theorem dX0_doRain_2 : decode cX0_doRain 2 = .ok (.iconst 5, 1) := dk_8 (dk_at dksX0_doRain_0 2 rfl rfl)
theorem dX0_doRain_3 : decode cX0_doRain 3 = .ok (.invokestatic 140, 3) := dk_184 0 140 (dk_at dksX0_doRain_0 3 rfl rfl)
theorem dX0_doRain_6 : decode cX0_doRain 6 = .ok (.bipush (-2), 2) := dk_16 254 (dk_at dksX0_doRain_0 6 rfl rfl)
theorem dX0_doRain_8 : decode cX0_doRain 8 = .ok (.invokestatic 195, 3) := dk_184 0 195 (dk_at dksX0_doRain_0 8 rfl rfl)
theorem dX0_doRain_11 : decode cX0_doRain 11 = .ok (.aload_n 0, 1) := dk_42 (dk_at dksX0_doRain_0 11 rfl rfl)
theorem dX0_doRain_12 : decode cX0_doRain 12 = .ok (.getfield 20, 3) := dk_180 0 20 (dk_at dksX0_doRain_0 12 rfl rfl)
theorem dX0_doRain_15 : decode cX0_doRain 15 = .ok (.getfield 228, 3) := dk_180 0 228 (dk_at dksX0_doRain_0 15 rfl rfl)
theorem dX0_doRain_18 : decode cX0_doRain 18 = .ok (.istore_n 2, 1) := dk_61 (dk_at dksX0_doRain_0 18 rfl rfl)
theorem dX0_doRain_19 : decode cX0_doRain 19 = .ok (.aload_n 0, 1) := dk_42 (dk_at dksX0_doRain_0 19 rfl rfl)
theorem dX0_doRain_20 : decode cX0_doRain 20 = .ok (.getfield 20, 3) := dk_180 0 20 (dk_at dksX0_doRain_0 20 rfl rfl)
theorem dX0_doRain_23 : decode cX0_doRain 23 = .ok (.iload_n 1, 1) := dk_27 (dk_at dksX0_doRain_0 23 rfl rfl)
theorem dX0_doRain_24 : decode cX0_doRain 24 = .ok (.putfield 228, 3) := dk_181 0 228 (dk_at dksX0_doRain_1 0 rfl rfl)
theorem dX0_doRain_27 : decode cX0_doRain 27 = .ok (.iload_n 2, 1) := dk_28 (dk_at dksX0_doRain_1 3 rfl rfl)
theorem dX0_doRain_28 : decode cX0_doRain 28 = .ok (.ireturn, 1) := dk_172 (dk_at dksX0_doRain_1 4 rfl rfl)
abbrev cX0_gardener : ByteArray := prog_1_method_21_code
def yX0_gardener : MethodName := ⟨RX0, "gardener", "(I)I"⟩
def dkwX0_gardener_0 : List UInt8 := [42, 182, 0, 166, 42, 42, 27, 182, 0, 253, 182, 0, 172, 172, 77, 42, 44, 182, 0, 224, 172]
abbrev dktX0_gardener_0 : List UInt8 := dkwX0_gardener_0 ++ []
theorem dksX0_gardener_0 : cX0_gardener.data.toList.drop 0 = dktX0_gardener_0 := by decide +kernel
theorem dX0_gardener_0 : decode cX0_gardener 0 = .ok (.aload_n 0, 1) := dk_42 (dk_at dksX0_gardener_0 0 rfl rfl)
theorem dX0_gardener_1 : decode cX0_gardener 1 = .ok (.invokevirtual 166, 3) := dk_182 0 166 (dk_at dksX0_gardener_0 1 rfl rfl)
theorem dX0_gardener_4 : decode cX0_gardener 4 = .ok (.aload_n 0, 1) := dk_42 (dk_at dksX0_gardener_0 4 rfl rfl)
theorem dX0_gardener_5 : decode cX0_gardener 5 = .ok (.aload_n 0, 1) := dk_42 (dk_at dksX0_gardener_0 5 rfl rfl)
theorem dX0_gardener_6 : decode cX0_gardener 6 = .ok (.iload_n 1, 1) := dk_27 (dk_at dksX0_gardener_0 6 rfl rfl)
theorem dX0_gardener_7 : decode cX0_gardener 7 = .ok (.invokevirtual 253, 3) := dk_182 0 253 (dk_at dksX0_gardener_0 7 rfl rfl)
theorem dX0_gardener_10 : decode cX0_gardener 10 = .ok (.invokevirtual 172, 3) := dk_182 0 172 (dk_at dksX0_gardener_0 10 rfl rfl)
theorem dX0_gardener_13 : decode cX0_gardener 13 = .ok (.ireturn, 1) := dk_172 (dk_at dksX0_gardener_0 13 rfl rfl)
theorem dX0_gardener_14 : decode cX0_gardener 14 = .ok (.astore_n 2, 1) := dk_77 (dk_at dksX0_gardener_0 14 rfl rfl)
theorem dX0_gardener_15 : decode cX0_gardener 15 = .ok (.aload_n 0, 1) := dk_42 (dk_at dksX0_gardener_0 15 rfl rfl)
theorem dX0_gardener_16 : decode cX0_gardener 16 = .ok (.aload_n 2, 1) := dk_44 (dk_at dksX0_gardener_0 16 rfl rfl)
theorem dX0_gardener_17 : decode cX0_gardener 17 = .ok (.invokevirtual 224, 3) := dk_182 0 224 (dk_at dksX0_gardener_0 17 rfl rfl)
theorem dX0_gardener_20 : decode cX0_gardener 20 = .ok (.ireturn, 1) := dk_172 (dk_at dksX0_gardener_0 20 rfl rfl)
abbrev cX0_doGardener : ByteArray := prog_1_method_20_code
def yX0_doGardener : MethodName := ⟨RX0, "doGardener", "(I)I"⟩
def dkwX0_doGardener_3 : List UInt8 := [180, 0, 181, 4, 100, 172]
abbrev dktX0_doGardener_3 : List UInt8 := dkwX0_doGardener_3 ++ []
def dkwX0_doGardener_2 : List UInt8 := [50, 27, 182, 0, 248, 42, 180, 0, 20, 89, 180, 0, 181, 4, 96, 181, 0, 181, 42, 180, 0, 20]
abbrev dktX0_doGardener_2 : List UInt8 := dkwX0_doGardener_2 ++ dktX0_doGardener_3
def dkwX0_doGardener_1 : List UInt8 := [4, 7, 184, 0, 199, 42, 27, 182, 0, 241, 42, 180, 0, 20, 180, 0, 244, 42, 180, 0, 20, 180, 0, 181]
abbrev dktX0_doGardener_1 : List UInt8 := dkwX0_doGardener_1 ++ dktX0_doGardener_2
def dkwX0_doGardener_0 : List UInt8 := [27, 184, 0, 163, 2, 184, 0, 195, 42, 180, 0, 20, 180, 0, 181, 7, 162, 0, 7, 4, 167, 0, 4, 3]
abbrev dktX0_doGardener_0 : List UInt8 := dkwX0_doGardener_0 ++ dktX0_doGardener_1
theorem dksX0_doGardener_0 : cX0_doGardener.data.toList.drop 0 = dktX0_doGardener_0 := by decide +kernel
theorem dksX0_doGardener_1 : cX0_doGardener.data.toList.drop 24 = dktX0_doGardener_1 := dk_seg dksX0_doGardener_0 24 rfl rfl
theorem dksX0_doGardener_2 : cX0_doGardener.data.toList.drop 48 = dktX0_doGardener_2 := dk_seg dksX0_doGardener_1 24 rfl rfl
theorem dksX0_doGardener_3 : cX0_doGardener.data.toList.drop 70 = dktX0_doGardener_3 := dk_seg dksX0_doGardener_2 22 rfl rfl
theorem dX0_doGardener_0 : decode cX0_doGardener 0 = .ok (.iload_n 1, 1) := dk_27 (dk_at dksX0_doGardener_0 0 rfl rfl)
theorem dX0_doGardener_1 : decode cX0_doGardener 1 = .ok (.invokestatic 163, 3) := dk_184 0 163 (dk_at dksX0_doGardener_0 1 rfl rfl)
theorem dX0_doGardener_4 : decode cX0_doGardener 4 = .ok (.iconst (-1), 1) := dk_2 (dk_at dksX0_doGardener_0 4 rfl rfl)
theorem dX0_doGardener_5 : decode cX0_doGardener 5 = .ok (.invokestatic 195, 3) := dk_184 0 195 (dk_at dksX0_doGardener_0 5 rfl rfl)
theorem dX0_doGardener_8 : decode cX0_doGardener 8 = .ok (.aload_n 0, 1) := dk_42 (dk_at dksX0_doGardener_0 8 rfl rfl)
theorem dX0_doGardener_9 : decode cX0_doGardener 9 = .ok (.getfield 20, 3) := dk_180 0 20 (dk_at dksX0_doGardener_0 9 rfl rfl)
theorem dX0_doGardener_12 : decode cX0_doGardener 12 = .ok (.getfield 181, 3) := dk_180 0 181 (dk_at dksX0_doGardener_0 12 rfl rfl)
theorem dX0_doGardener_15 : decode cX0_doGardener 15 = .ok (.iconst 4, 1) := dk_7 (dk_at dksX0_doGardener_0 15 rfl rfl)
theorem dX0_doGardener_16 : decode cX0_doGardener 16 = .ok (.if_icmp .ge 7, 3) := dk_162 0 7 (dk_at dksX0_doGardener_0 16 rfl rfl)
theorem dX0_doGardener_19 : decode cX0_doGardener 19 = .ok (.iconst 1, 1) := dk_4 (dk_at dksX0_doGardener_0 19 rfl rfl)
theorem dX0_doGardener_20 : decode cX0_doGardener 20 = .ok (.goto 4, 3) := dk_167 0 4 (dk_at dksX0_doGardener_0 20 rfl rfl)
theorem dX0_doGardener_23 : decode cX0_doGardener 23 = .ok (.iconst 0, 1) := dk_3 (dk_at dksX0_doGardener_0 23 rfl rfl)
theorem dX0_doGardener_24 : decode cX0_doGardener 24 = .ok (.iconst 1, 1) := dk_4 (dk_at dksX0_doGardener_1 0 rfl rfl)
theorem dX0_doGardener_25 : decode cX0_doGardener 25 = .ok (.iconst 4, 1) := dk_7 (dk_at dksX0_doGardener_1 1 rfl rfl)
theorem dX0_doGardener_26 : decode cX0_doGardener 26 = .ok (.invokestatic 199, 3) := dk_184 0 199 (dk_at dksX0_doGardener_1 2 rfl rfl)
theorem dX0_doGardener_29 : decode cX0_doGardener 29 = .ok (.aload_n 0, 1) := dk_42 (dk_at dksX0_doGardener_1 5 rfl rfl)
theorem dX0_doGardener_30 : decode cX0_doGardener 30 = .ok (.iload_n 1, 1) := dk_27 (dk_at dksX0_doGardener_1 6 rfl rfl)
theorem dX0_doGardener_31 : decode cX0_doGardener 31 = .ok (.invokevirtual 241, 3) := dk_182 0 241 (dk_at dksX0_doGardener_1 7 rfl rfl)
theorem dX0_doGardener_34 : decode cX0_doGardener 34 = .ok (.aload_n 0, 1) := dk_42 (dk_at dksX0_doGardener_1 10 rfl rfl)
theorem dX0_doGardener_35 : decode cX0_doGardener 35 = .ok (.getfield 20, 3) := dk_180 0 20 (dk_at dksX0_doGardener_1 11 rfl rfl)
theorem dX0_doGardener_38 : decode cX0_doGardener 38 = .ok (.getfield 244, 3) := dk_180 0 244 (dk_at dksX0_doGardener_1 14 rfl rfl)
theorem dX0_doGardener_41 : decode cX0_doGardener 41 = .ok (.aload_n 0, 1) := dk_42 (dk_at dksX0_doGardener_1 17 rfl rfl)
theorem dX0_doGardener_42 : decode cX0_doGardener 42 = .ok (.getfield 20, 3) := dk_180 0 20 (dk_at dksX0_doGardener_1 18 rfl rfl)
theorem dX0_doGardener_45 : decode cX0_doGardener 45 = .ok (.getfield 181, 3) := dk_180 0 181 (dk_at dksX0_doGardener_1 21 rfl rfl)
theorem dX0_doGardener_48 : decode cX0_doGardener 48 = .ok (.aaload, 1) := dk_50 (dk_at dksX0_doGardener_2 0 rfl rfl)
theorem dX0_doGardener_49 : decode cX0_doGardener 49 = .ok (.iload_n 1, 1) := dk_27 (dk_at dksX0_doGardener_2 1 rfl rfl)
theorem dX0_doGardener_50 : decode cX0_doGardener 50 = .ok (.invokevirtual 248, 3) := dk_182 0 248 (dk_at dksX0_doGardener_2 2 rfl rfl)
theorem dX0_doGardener_53 : decode cX0_doGardener 53 = .ok (.aload_n 0, 1) := dk_42 (dk_at dksX0_doGardener_2 5 rfl rfl)
theorem dX0_doGardener_54 : decode cX0_doGardener 54 = .ok (.getfield 20, 3) := dk_180 0 20 (dk_at dksX0_doGardener_2 6 rfl rfl)
theorem dX0_doGardener_57 : decode cX0_doGardener 57 = .ok (.dup, 1) := dk_89 (dk_at dksX0_doGardener_2 9 rfl rfl)
theorem dX0_doGardener_58 : decode cX0_doGardener 58 = .ok (.getfield 181, 3) := dk_180 0 181 (dk_at dksX0_doGardener_2 10 rfl rfl)
theorem dX0_doGardener_61 : decode cX0_doGardener 61 = .ok (.iconst 1, 1) := dk_4 (dk_at dksX0_doGardener_2 13 rfl rfl)
theorem dX0_doGardener_62 : decode cX0_doGardener 62 = .ok (.iadd, 1) := dk_96 (dk_at dksX0_doGardener_2 14 rfl rfl)
theorem dX0_doGardener_63 : decode cX0_doGardener 63 = .ok (.putfield 181, 3) := dk_181 0 181 (dk_at dksX0_doGardener_2 15 rfl rfl)
theorem dX0_doGardener_66 : decode cX0_doGardener 66 = .ok (.aload_n 0, 1) := dk_42 (dk_at dksX0_doGardener_2 18 rfl rfl)
theorem dX0_doGardener_67 : decode cX0_doGardener 67 = .ok (.getfield 20, 3) := dk_180 0 20 (dk_at dksX0_doGardener_2 19 rfl rfl)
theorem dX0_doGardener_70 : decode cX0_doGardener 70 = .ok (.getfield 181, 3) := dk_180 0 181 (dk_at dksX0_doGardener_3 0 rfl rfl)
theorem dX0_doGardener_73 : decode cX0_doGardener 73 = .ok (.iconst 1, 1) := dk_4 (dk_at dksX0_doGardener_3 3 rfl rfl)
theorem dX0_doGardener_74 : decode cX0_doGardener 74 = .ok (.isub, 1) := dk_100 (dk_at dksX0_doGardener_3 4 rfl rfl)
theorem dX0_doGardener_75 : decode cX0_doGardener 75 = .ok (.ireturn, 1) := dk_172 (dk_at dksX0_doGardener_3 5 rfl rfl)
abbrev cX0_tread : ByteArray := prog_1_method_19_code
def yX0_tread : MethodName := ⟨RX0, "tread", "(I)V"⟩
def dkwX0_tread_1 : List UInt8 := [180, 0, 20, 180, 0, 154, 27, 46, 183, 0, 9, 183, 0, 238, 191, 177]
abbrev dktX0_tread_1 : List UInt8 := dkwX0_tread_1 ++ []
def dkwX0_tread_0 : List UInt8 := [42, 27, 182, 0, 234, 193, 0, 52, 153, 0, 31, 187, 0, 7, 89, 6, 27, 187, 0, 7, 89, 16, 13, 42]
abbrev dktX0_tread_0 : List UInt8 := dkwX0_tread_0 ++ dktX0_tread_1
theorem dksX0_tread_0 : cX0_tread.data.toList.drop 0 = dktX0_tread_0 := by decide +kernel
theorem dksX0_tread_1 : cX0_tread.data.toList.drop 24 = dktX0_tread_1 := dk_seg dksX0_tread_0 24 rfl rfl
theorem dX0_tread_0 : decode cX0_tread 0 = .ok (.aload_n 0, 1) := dk_42 (dk_at dksX0_tread_0 0 rfl rfl)
theorem dX0_tread_1 : decode cX0_tread 1 = .ok (.iload_n 1, 1) := dk_27 (dk_at dksX0_tread_0 1 rfl rfl)
theorem dX0_tread_2 : decode cX0_tread 2 = .ok (.invokevirtual 234, 3) := dk_182 0 234 (dk_at dksX0_tread_0 2 rfl rfl)
theorem dX0_tread_5 : decode cX0_tread 5 = .ok (.instanceof 52, 3) := dk_193 0 52 (dk_at dksX0_tread_0 5 rfl rfl)
theorem dX0_tread_8 : decode cX0_tread 8 = .ok (.ifCond .eq 31, 3) := dk_153 0 31 (dk_at dksX0_tread_0 8 rfl rfl)
theorem dX0_tread_11 : decode cX0_tread 11 = .ok (.new 7, 3) := dk_187 0 7 (dk_at dksX0_tread_0 11 rfl rfl)
theorem dX0_tread_14 : decode cX0_tread 14 = .ok (.dup, 1) := dk_89 (dk_at dksX0_tread_0 14 rfl rfl)
theorem dX0_tread_15 : decode cX0_tread 15 = .ok (.iconst 3, 1) := dk_6 (dk_at dksX0_tread_0 15 rfl rfl)
theorem dX0_tread_16 : decode cX0_tread 16 = .ok (.iload_n 1, 1) := dk_27 (dk_at dksX0_tread_0 16 rfl rfl)
theorem dX0_tread_17 : decode cX0_tread 17 = .ok (.new 7, 3) := dk_187 0 7 (dk_at dksX0_tread_0 17 rfl rfl)
theorem dX0_tread_20 : decode cX0_tread 20 = .ok (.dup, 1) := dk_89 (dk_at dksX0_tread_0 20 rfl rfl)
theorem dX0_tread_21 : decode cX0_tread 21 = .ok (.bipush 13, 2) := dk_16 13 (dk_at dksX0_tread_0 21 rfl rfl)
theorem dX0_tread_23 : decode cX0_tread 23 = .ok (.aload_n 0, 1) := dk_42 (dk_at dksX0_tread_0 23 rfl rfl)
theorem dX0_tread_24 : decode cX0_tread 24 = .ok (.getfield 20, 3) := dk_180 0 20 (dk_at dksX0_tread_1 0 rfl rfl)
theorem dX0_tread_27 : decode cX0_tread 27 = .ok (.getfield 154, 3) := dk_180 0 154 (dk_at dksX0_tread_1 3 rfl rfl)
theorem dX0_tread_30 : decode cX0_tread 30 = .ok (.iload_n 1, 1) := dk_27 (dk_at dksX0_tread_1 6 rfl rfl)
theorem dX0_tread_31 : decode cX0_tread 31 = .ok (.iaload, 1) := dk_46 (dk_at dksX0_tread_1 7 rfl rfl)
theorem dX0_tread_32 : decode cX0_tread 32 = .ok (.invokespecial 9, 3) := dk_183 0 9 (dk_at dksX0_tread_1 8 rfl rfl)
theorem dX0_tread_35 : decode cX0_tread 35 = .ok (.invokespecial 238, 3) := dk_183 0 238 (dk_at dksX0_tread_1 11 rfl rfl)
theorem dX0_tread_38 : decode cX0_tread 38 = .ok (.athrow, 1) := dk_191 (dk_at dksX0_tread_1 14 rfl rfl)
theorem dX0_tread_39 : decode cX0_tread 39 = .ok (.return_, 1) := dk_177 (dk_at dksX0_tread_1 15 rfl rfl)
abbrev cX0_groundOf : ByteArray := prog_1_method_9_code
def yX0_groundOf : MethodName := ⟨RX0, "groundOf", "(I)LMossLawn$Ground;"⟩
def dkwX0_groundOf_2 : List UInt8 := [180, 0, 55, 167, 0, 7, 42, 180, 0, 61, 176]
abbrev dktX0_groundOf_2 : List UInt8 := dkwX0_groundOf_2 ++ []
def dkwX0_groundOf_1 : List UInt8 := [180, 0, 154, 27, 46, 61, 28, 154, 0, 10, 42, 180, 0, 49, 167, 0, 19, 28, 8, 163, 0, 10, 42]
abbrev dktX0_groundOf_1 : List UInt8 := dkwX0_groundOf_1 ++ dktX0_groundOf_2
def dkwX0_groundOf_0 : List UInt8 := [42, 180, 0, 20, 180, 0, 144, 27, 182, 0, 148, 153, 0, 8, 42, 180, 0, 42, 176, 42, 180, 0, 20]
abbrev dktX0_groundOf_0 : List UInt8 := dkwX0_groundOf_0 ++ dktX0_groundOf_1
theorem dksX0_groundOf_0 : cX0_groundOf.data.toList.drop 0 = dktX0_groundOf_0 := by decide +kernel
theorem dksX0_groundOf_1 : cX0_groundOf.data.toList.drop 23 = dktX0_groundOf_1 := dk_seg dksX0_groundOf_0 23 rfl rfl
theorem dksX0_groundOf_2 : cX0_groundOf.data.toList.drop 46 = dktX0_groundOf_2 := dk_seg dksX0_groundOf_1 23 rfl rfl
theorem dX0_groundOf_0 : decode cX0_groundOf 0 = .ok (.aload_n 0, 1) := dk_42 (dk_at dksX0_groundOf_0 0 rfl rfl)
theorem dX0_groundOf_1 : decode cX0_groundOf 1 = .ok (.getfield 20, 3) := dk_180 0 20 (dk_at dksX0_groundOf_0 1 rfl rfl)
theorem dX0_groundOf_4 : decode cX0_groundOf 4 = .ok (.getfield 144, 3) := dk_180 0 144 (dk_at dksX0_groundOf_0 4 rfl rfl)
theorem dX0_groundOf_7 : decode cX0_groundOf 7 = .ok (.iload_n 1, 1) := dk_27 (dk_at dksX0_groundOf_0 7 rfl rfl)
theorem dX0_groundOf_8 : decode cX0_groundOf 8 = .ok (.invokevirtual 148, 3) := dk_182 0 148 (dk_at dksX0_groundOf_0 8 rfl rfl)
theorem dX0_groundOf_11 : decode cX0_groundOf 11 = .ok (.ifCond .eq 8, 3) := dk_153 0 8 (dk_at dksX0_groundOf_0 11 rfl rfl)
theorem dX0_groundOf_14 : decode cX0_groundOf 14 = .ok (.aload_n 0, 1) := dk_42 (dk_at dksX0_groundOf_0 14 rfl rfl)
theorem dX0_groundOf_15 : decode cX0_groundOf 15 = .ok (.getfield 42, 3) := dk_180 0 42 (dk_at dksX0_groundOf_0 15 rfl rfl)
theorem dX0_groundOf_18 : decode cX0_groundOf 18 = .ok (.areturn, 1) := dk_176 (dk_at dksX0_groundOf_0 18 rfl rfl)
theorem dX0_groundOf_19 : decode cX0_groundOf 19 = .ok (.aload_n 0, 1) := dk_42 (dk_at dksX0_groundOf_0 19 rfl rfl)
theorem dX0_groundOf_20 : decode cX0_groundOf 20 = .ok (.getfield 20, 3) := dk_180 0 20 (dk_at dksX0_groundOf_0 20 rfl rfl)
theorem dX0_groundOf_23 : decode cX0_groundOf 23 = .ok (.getfield 154, 3) := dk_180 0 154 (dk_at dksX0_groundOf_1 0 rfl rfl)
theorem dX0_groundOf_26 : decode cX0_groundOf 26 = .ok (.iload_n 1, 1) := dk_27 (dk_at dksX0_groundOf_1 3 rfl rfl)
theorem dX0_groundOf_27 : decode cX0_groundOf 27 = .ok (.iaload, 1) := dk_46 (dk_at dksX0_groundOf_1 4 rfl rfl)
theorem dX0_groundOf_28 : decode cX0_groundOf 28 = .ok (.istore_n 2, 1) := dk_61 (dk_at dksX0_groundOf_1 5 rfl rfl)
theorem dX0_groundOf_29 : decode cX0_groundOf 29 = .ok (.iload_n 2, 1) := dk_28 (dk_at dksX0_groundOf_1 6 rfl rfl)
theorem dX0_groundOf_30 : decode cX0_groundOf 30 = .ok (.ifCond .ne 10, 3) := dk_154 0 10 (dk_at dksX0_groundOf_1 7 rfl rfl)
theorem dX0_groundOf_33 : decode cX0_groundOf 33 = .ok (.aload_n 0, 1) := dk_42 (dk_at dksX0_groundOf_1 10 rfl rfl)
theorem dX0_groundOf_34 : decode cX0_groundOf 34 = .ok (.getfield 49, 3) := dk_180 0 49 (dk_at dksX0_groundOf_1 11 rfl rfl)
theorem dX0_groundOf_37 : decode cX0_groundOf 37 = .ok (.goto 19, 3) := dk_167 0 19 (dk_at dksX0_groundOf_1 14 rfl rfl)
theorem dX0_groundOf_40 : decode cX0_groundOf 40 = .ok (.iload_n 2, 1) := dk_28 (dk_at dksX0_groundOf_1 17 rfl rfl)
theorem dX0_groundOf_41 : decode cX0_groundOf 41 = .ok (.iconst 5, 1) := dk_8 (dk_at dksX0_groundOf_1 18 rfl rfl)
theorem dX0_groundOf_42 : decode cX0_groundOf 42 = .ok (.if_icmp .gt 10, 3) := dk_163 0 10 (dk_at dksX0_groundOf_1 19 rfl rfl)
theorem dX0_groundOf_45 : decode cX0_groundOf 45 = .ok (.aload_n 0, 1) := dk_42 (dk_at dksX0_groundOf_1 22 rfl rfl)
theorem dX0_groundOf_46 : decode cX0_groundOf 46 = .ok (.getfield 55, 3) := dk_180 0 55 (dk_at dksX0_groundOf_2 0 rfl rfl)
theorem dX0_groundOf_49 : decode cX0_groundOf 49 = .ok (.goto 7, 3) := dk_167 0 7 (dk_at dksX0_groundOf_2 3 rfl rfl)
theorem dX0_groundOf_52 : decode cX0_groundOf 52 = .ok (.aload_n 0, 1) := dk_42 (dk_at dksX0_groundOf_2 6 rfl rfl)
theorem dX0_groundOf_53 : decode cX0_groundOf 53 = .ok (.getfield 61, 3) := dk_180 0 61 (dk_at dksX0_groundOf_2 7 rfl rfl)
theorem dX0_groundOf_56 : decode cX0_groundOf 56 = .ok (.areturn, 1) := dk_176 (dk_at dksX0_groundOf_2 10 rfl rfl)
abbrev cX0_walk : ByteArray := prog_1_method_25_code
def yX0_walk : MethodName := ⟨RX0, "walk", "(IC)I"⟩
def dkwX0_walk_0 : List UInt8 := [42, 182, 0, 166, 42, 42, 27, 28, 182, 1, 23, 182, 0, 172, 172, 78, 42, 45, 182, 0, 224, 172]
abbrev dktX0_walk_0 : List UInt8 := dkwX0_walk_0 ++ []
theorem dksX0_walk_0 : cX0_walk.data.toList.drop 0 = dktX0_walk_0 := by decide +kernel
theorem dX0_walk_0 : decode cX0_walk 0 = .ok (.aload_n 0, 1) := dk_42 (dk_at dksX0_walk_0 0 rfl rfl)
theorem dX0_walk_1 : decode cX0_walk 1 = .ok (.invokevirtual 166, 3) := dk_182 0 166 (dk_at dksX0_walk_0 1 rfl rfl)
theorem dX0_walk_4 : decode cX0_walk 4 = .ok (.aload_n 0, 1) := dk_42 (dk_at dksX0_walk_0 4 rfl rfl)
theorem dX0_walk_5 : decode cX0_walk 5 = .ok (.aload_n 0, 1) := dk_42 (dk_at dksX0_walk_0 5 rfl rfl)
theorem dX0_walk_6 : decode cX0_walk 6 = .ok (.iload_n 1, 1) := dk_27 (dk_at dksX0_walk_0 6 rfl rfl)
theorem dX0_walk_7 : decode cX0_walk 7 = .ok (.iload_n 2, 1) := dk_28 (dk_at dksX0_walk_0 7 rfl rfl)
theorem dX0_walk_8 : decode cX0_walk 8 = .ok (.invokevirtual 279, 3) := dk_182 1 23 (dk_at dksX0_walk_0 8 rfl rfl)
theorem dX0_walk_11 : decode cX0_walk 11 = .ok (.invokevirtual 172, 3) := dk_182 0 172 (dk_at dksX0_walk_0 11 rfl rfl)
theorem dX0_walk_14 : decode cX0_walk 14 = .ok (.ireturn, 1) := dk_172 (dk_at dksX0_walk_0 14 rfl rfl)
theorem dX0_walk_15 : decode cX0_walk 15 = .ok (.astore_n 3, 1) := dk_78 (dk_at dksX0_walk_0 15 rfl rfl)
theorem dX0_walk_16 : decode cX0_walk 16 = .ok (.aload_n 0, 1) := dk_42 (dk_at dksX0_walk_0 16 rfl rfl)
theorem dX0_walk_17 : decode cX0_walk 17 = .ok (.aload_n 3, 1) := dk_45 (dk_at dksX0_walk_0 17 rfl rfl)
theorem dX0_walk_18 : decode cX0_walk 18 = .ok (.invokevirtual 224, 3) := dk_182 0 224 (dk_at dksX0_walk_0 18 rfl rfl)
theorem dX0_walk_21 : decode cX0_walk 21 = .ok (.ireturn, 1) := dk_172 (dk_at dksX0_walk_0 21 rfl rfl)
abbrev cX0_doWalk : ByteArray := prog_1_method_24_code
def yX0_doWalk : MethodName := ⟨RX0, "doWalk", "(IC)I"⟩
def dkwX0_doWalk_1 : List UInt8 := [182, 1, 17, 45, 21, 4, 181, 1, 3, 45, 89, 180, 1, 20, 4, 96, 181, 1, 20, 21, 4, 172]
abbrev dktX0_doWalk_1 : List UInt8 := dkwX0_doWalk_1 ++ []
def dkwX0_doWalk_0 : List UInt8 := [42, 27, 182, 1, 9, 78, 42, 45, 28, 182, 1, 13, 54, 4, 42, 21, 4, 182, 0, 241, 45, 4]
abbrev dktX0_doWalk_0 : List UInt8 := dkwX0_doWalk_0 ++ dktX0_doWalk_1
theorem dksX0_doWalk_0 : cX0_doWalk.data.toList.drop 0 = dktX0_doWalk_0 := by decide +kernel
theorem dksX0_doWalk_1 : cX0_doWalk.data.toList.drop 22 = dktX0_doWalk_1 := dk_seg dksX0_doWalk_0 22 rfl rfl
theorem dX0_doWalk_0 : decode cX0_doWalk 0 = .ok (.aload_n 0, 1) := dk_42 (dk_at dksX0_doWalk_0 0 rfl rfl)
theorem dX0_doWalk_1 : decode cX0_doWalk 1 = .ok (.iload_n 1, 1) := dk_27 (dk_at dksX0_doWalk_0 1 rfl rfl)
theorem dX0_doWalk_2 : decode cX0_doWalk 2 = .ok (.invokevirtual 265, 3) := dk_182 1 9 (dk_at dksX0_doWalk_0 2 rfl rfl)
theorem dX0_doWalk_5 : decode cX0_doWalk 5 = .ok (.astore_n 3, 1) := dk_78 (dk_at dksX0_doWalk_0 5 rfl rfl)
theorem dX0_doWalk_6 : decode cX0_doWalk 6 = .ok (.aload_n 0, 1) := dk_42 (dk_at dksX0_doWalk_0 6 rfl rfl)
theorem dX0_doWalk_7 : decode cX0_doWalk 7 = .ok (.aload_n 3, 1) := dk_45 (dk_at dksX0_doWalk_0 7 rfl rfl)
theorem dX0_doWalk_8 : decode cX0_doWalk 8 = .ok (.iload_n 2, 1) := dk_28 (dk_at dksX0_doWalk_0 8 rfl rfl)
theorem dX0_doWalk_9 : decode cX0_doWalk 9 = .ok (.invokevirtual 269, 3) := dk_182 1 13 (dk_at dksX0_doWalk_0 9 rfl rfl)
theorem dX0_doWalk_12 : decode cX0_doWalk 12 = .ok (.istore 4, 2) := dk_54 4 (dk_at dksX0_doWalk_0 12 rfl rfl)
theorem dX0_doWalk_14 : decode cX0_doWalk 14 = .ok (.aload_n 0, 1) := dk_42 (dk_at dksX0_doWalk_0 14 rfl rfl)
theorem dX0_doWalk_15 : decode cX0_doWalk 15 = .ok (.iload 4, 2) := dk_21 4 (dk_at dksX0_doWalk_0 15 rfl rfl)
theorem dX0_doWalk_17 : decode cX0_doWalk 17 = .ok (.invokevirtual 241, 3) := dk_182 0 241 (dk_at dksX0_doWalk_0 17 rfl rfl)
theorem dX0_doWalk_20 : decode cX0_doWalk 20 = .ok (.aload_n 3, 1) := dk_45 (dk_at dksX0_doWalk_0 20 rfl rfl)
theorem dX0_doWalk_21 : decode cX0_doWalk 21 = .ok (.iconst 1, 1) := dk_4 (dk_at dksX0_doWalk_0 21 rfl rfl)
theorem dX0_doWalk_22 : decode cX0_doWalk 22 = .ok (.invokevirtual 273, 3) := dk_182 1 17 (dk_at dksX0_doWalk_1 0 rfl rfl)
theorem dX0_doWalk_25 : decode cX0_doWalk 25 = .ok (.aload_n 3, 1) := dk_45 (dk_at dksX0_doWalk_1 3 rfl rfl)
theorem dX0_doWalk_26 : decode cX0_doWalk 26 = .ok (.iload 4, 2) := dk_21 4 (dk_at dksX0_doWalk_1 4 rfl rfl)
theorem dX0_doWalk_28 : decode cX0_doWalk 28 = .ok (.putfield 259, 3) := dk_181 1 3 (dk_at dksX0_doWalk_1 6 rfl rfl)
theorem dX0_doWalk_31 : decode cX0_doWalk 31 = .ok (.aload_n 3, 1) := dk_45 (dk_at dksX0_doWalk_1 9 rfl rfl)
theorem dX0_doWalk_32 : decode cX0_doWalk 32 = .ok (.dup, 1) := dk_89 (dk_at dksX0_doWalk_1 10 rfl rfl)
theorem dX0_doWalk_33 : decode cX0_doWalk 33 = .ok (.getfield 276, 3) := dk_180 1 20 (dk_at dksX0_doWalk_1 11 rfl rfl)
theorem dX0_doWalk_36 : decode cX0_doWalk 36 = .ok (.iconst 1, 1) := dk_4 (dk_at dksX0_doWalk_1 14 rfl rfl)
theorem dX0_doWalk_37 : decode cX0_doWalk 37 = .ok (.iadd, 1) := dk_96 (dk_at dksX0_doWalk_1 15 rfl rfl)
theorem dX0_doWalk_38 : decode cX0_doWalk 38 = .ok (.putfield 276, 3) := dk_181 1 20 (dk_at dksX0_doWalk_1 16 rfl rfl)
theorem dX0_doWalk_41 : decode cX0_doWalk 41 = .ok (.iload 4, 2) := dk_21 4 (dk_at dksX0_doWalk_1 19 rfl rfl)
theorem dX0_doWalk_43 : decode cX0_doWalk 43 = .ok (.ireturn, 1) := dk_172 (dk_at dksX0_doWalk_1 21 rfl rfl)
abbrev cX0_gardenerAt : ByteArray := prog_1_method_22_code
def yX0_gardenerAt : MethodName := ⟨RX0, "gardenerAt", "(I)LMossLawn$Gardener;"⟩
def dkwX0_gardenerAt_1 : List UInt8 := [180, 0, 244, 27, 50, 176]
abbrev dktX0_gardenerAt_1 : List UInt8 := dkwX0_gardenerAt_1 ++ []
def dkwX0_gardenerAt_0 : List UInt8 := [27, 3, 42, 180, 0, 20, 180, 0, 181, 4, 100, 184, 0, 140, 2, 184, 0, 195, 42, 180, 0, 20]
abbrev dktX0_gardenerAt_0 : List UInt8 := dkwX0_gardenerAt_0 ++ dktX0_gardenerAt_1
theorem dksX0_gardenerAt_0 : cX0_gardenerAt.data.toList.drop 0 = dktX0_gardenerAt_0 := by decide +kernel
theorem dksX0_gardenerAt_1 : cX0_gardenerAt.data.toList.drop 22 = dktX0_gardenerAt_1 := dk_seg dksX0_gardenerAt_0 22 rfl rfl
theorem dX0_gardenerAt_0 : decode cX0_gardenerAt 0 = .ok (.iload_n 1, 1) := dk_27 (dk_at dksX0_gardenerAt_0 0 rfl rfl)
theorem dX0_gardenerAt_1 : decode cX0_gardenerAt 1 = .ok (.iconst 0, 1) := dk_3 (dk_at dksX0_gardenerAt_0 1 rfl rfl)
theorem dX0_gardenerAt_2 : decode cX0_gardenerAt 2 = .ok (.aload_n 0, 1) := dk_42 (dk_at dksX0_gardenerAt_0 2 rfl rfl)
theorem dX0_gardenerAt_3 : decode cX0_gardenerAt 3 = .ok (.getfield 20, 3) := dk_180 0 20 (dk_at dksX0_gardenerAt_0 3 rfl rfl)
theorem dX0_gardenerAt_6 : decode cX0_gardenerAt 6 = .ok (.getfield 181, 3) := dk_180 0 181 (dk_at dksX0_gardenerAt_0 6 rfl rfl)
theorem dX0_gardenerAt_9 : decode cX0_gardenerAt 9 = .ok (.iconst 1, 1) := dk_4 (dk_at dksX0_gardenerAt_0 9 rfl rfl)
theorem dX0_gardenerAt_10 : decode cX0_gardenerAt 10 = .ok (.isub, 1) := dk_100 (dk_at dksX0_gardenerAt_0 10 rfl rfl)
theorem dX0_gardenerAt_11 : decode cX0_gardenerAt 11 = .ok (.invokestatic 140, 3) := dk_184 0 140 (dk_at dksX0_gardenerAt_0 11 rfl rfl)
theorem dX0_gardenerAt_14 : decode cX0_gardenerAt 14 = .ok (.iconst (-1), 1) := dk_2 (dk_at dksX0_gardenerAt_0 14 rfl rfl)
theorem dX0_gardenerAt_15 : decode cX0_gardenerAt 15 = .ok (.invokestatic 195, 3) := dk_184 0 195 (dk_at dksX0_gardenerAt_0 15 rfl rfl)
theorem dX0_gardenerAt_18 : decode cX0_gardenerAt 18 = .ok (.aload_n 0, 1) := dk_42 (dk_at dksX0_gardenerAt_0 18 rfl rfl)
theorem dX0_gardenerAt_19 : decode cX0_gardenerAt 19 = .ok (.getfield 20, 3) := dk_180 0 20 (dk_at dksX0_gardenerAt_0 19 rfl rfl)
theorem dX0_gardenerAt_22 : decode cX0_gardenerAt 22 = .ok (.getfield 244, 3) := dk_180 0 244 (dk_at dksX0_gardenerAt_1 0 rfl rfl)
theorem dX0_gardenerAt_25 : decode cX0_gardenerAt 25 = .ok (.iload_n 1, 1) := dk_27 (dk_at dksX0_gardenerAt_1 3 rfl rfl)
theorem dX0_gardenerAt_26 : decode cX0_gardenerAt 26 = .ok (.aaload, 1) := dk_50 (dk_at dksX0_gardenerAt_1 4 rfl rfl)
theorem dX0_gardenerAt_27 : decode cX0_gardenerAt 27 = .ok (.areturn, 1) := dk_176 (dk_at dksX0_gardenerAt_1 5 rfl rfl)
abbrev cX0_beside : ByteArray := prog_1_method_23_code
def yX0_beside : MethodName := ⟨RX0, "beside", "(LMossLawn$Gardener;C)I"⟩
def dkwX0_beside_2 : List UInt8 := [21, 4, 172]
abbrev dktX0_beside_2 : List UInt8 := dkwX0_beside_2 ++ []
def dkwX0_beside_1 : List UInt8 := [182, 1, 6, 54, 4, 21, 4, 155, 0, 7, 4, 167, 0, 4, 3, 8, 43, 180, 1, 3, 184, 0, 199]
abbrev dktX0_beside_1 : List UInt8 := dkwX0_beside_1 ++ dktX0_beside_2
def dkwX0_beside_0 : List UInt8 := [28, 184, 1, 0, 78, 45, 198, 0, 7, 4, 167, 0, 4, 3, 16, 254, 184, 0, 195, 45, 43, 180, 1, 3]
abbrev dktX0_beside_0 : List UInt8 := dkwX0_beside_0 ++ dktX0_beside_1
theorem dksX0_beside_0 : cX0_beside.data.toList.drop 0 = dktX0_beside_0 := by decide +kernel
theorem dksX0_beside_1 : cX0_beside.data.toList.drop 24 = dktX0_beside_1 := dk_seg dksX0_beside_0 24 rfl rfl
theorem dksX0_beside_2 : cX0_beside.data.toList.drop 47 = dktX0_beside_2 := dk_seg dksX0_beside_1 23 rfl rfl
theorem dX0_beside_0 : decode cX0_beside 0 = .ok (.iload_n 2, 1) := dk_28 (dk_at dksX0_beside_0 0 rfl rfl)
theorem dX0_beside_1 : decode cX0_beside 1 = .ok (.invokestatic 256, 3) := dk_184 1 0 (dk_at dksX0_beside_0 1 rfl rfl)
theorem dX0_beside_4 : decode cX0_beside 4 = .ok (.astore_n 3, 1) := dk_78 (dk_at dksX0_beside_0 4 rfl rfl)
theorem dX0_beside_5 : decode cX0_beside 5 = .ok (.aload_n 3, 1) := dk_45 (dk_at dksX0_beside_0 5 rfl rfl)
theorem dX0_beside_6 : decode cX0_beside 6 = .ok (.ifnull 7, 3) := dk_198 0 7 (dk_at dksX0_beside_0 6 rfl rfl)
theorem dX0_beside_9 : decode cX0_beside 9 = .ok (.iconst 1, 1) := dk_4 (dk_at dksX0_beside_0 9 rfl rfl)
theorem dX0_beside_10 : decode cX0_beside 10 = .ok (.goto 4, 3) := dk_167 0 4 (dk_at dksX0_beside_0 10 rfl rfl)
theorem dX0_beside_13 : decode cX0_beside 13 = .ok (.iconst 0, 1) := dk_3 (dk_at dksX0_beside_0 13 rfl rfl)
theorem dX0_beside_14 : decode cX0_beside 14 = .ok (.bipush (-2), 2) := dk_16 254 (dk_at dksX0_beside_0 14 rfl rfl)
theorem dX0_beside_16 : decode cX0_beside 16 = .ok (.invokestatic 195, 3) := dk_184 0 195 (dk_at dksX0_beside_0 16 rfl rfl)
theorem dX0_beside_19 : decode cX0_beside 19 = .ok (.aload_n 3, 1) := dk_45 (dk_at dksX0_beside_0 19 rfl rfl)
theorem dX0_beside_20 : decode cX0_beside 20 = .ok (.aload_n 1, 1) := dk_43 (dk_at dksX0_beside_0 20 rfl rfl)
theorem dX0_beside_21 : decode cX0_beside 21 = .ok (.getfield 259, 3) := dk_180 1 3 (dk_at dksX0_beside_0 21 rfl rfl)
theorem dX0_beside_24 : decode cX0_beside 24 = .ok (.invokevirtual 262, 3) := dk_182 1 6 (dk_at dksX0_beside_1 0 rfl rfl)
theorem dX0_beside_27 : decode cX0_beside 27 = .ok (.istore 4, 2) := dk_54 4 (dk_at dksX0_beside_1 3 rfl rfl)
theorem dX0_beside_29 : decode cX0_beside 29 = .ok (.iload 4, 2) := dk_21 4 (dk_at dksX0_beside_1 5 rfl rfl)
theorem dX0_beside_31 : decode cX0_beside 31 = .ok (.ifCond .lt 7, 3) := dk_155 0 7 (dk_at dksX0_beside_1 7 rfl rfl)
theorem dX0_beside_34 : decode cX0_beside 34 = .ok (.iconst 1, 1) := dk_4 (dk_at dksX0_beside_1 10 rfl rfl)
theorem dX0_beside_35 : decode cX0_beside 35 = .ok (.goto 4, 3) := dk_167 0 4 (dk_at dksX0_beside_1 11 rfl rfl)
theorem dX0_beside_38 : decode cX0_beside 38 = .ok (.iconst 0, 1) := dk_3 (dk_at dksX0_beside_1 14 rfl rfl)
theorem dX0_beside_39 : decode cX0_beside 39 = .ok (.iconst 5, 1) := dk_8 (dk_at dksX0_beside_1 15 rfl rfl)
theorem dX0_beside_40 : decode cX0_beside 40 = .ok (.aload_n 1, 1) := dk_43 (dk_at dksX0_beside_1 16 rfl rfl)
theorem dX0_beside_41 : decode cX0_beside 41 = .ok (.getfield 259, 3) := dk_180 1 3 (dk_at dksX0_beside_1 17 rfl rfl)
theorem dX0_beside_44 : decode cX0_beside 44 = .ok (.invokestatic 199, 3) := dk_184 0 199 (dk_at dksX0_beside_1 20 rfl rfl)
theorem dX0_beside_47 : decode cX0_beside 47 = .ok (.iload 4, 2) := dk_21 4 (dk_at dksX0_beside_2 0 rfl rfl)
theorem dX0_beside_49 : decode cX0_beside 49 = .ok (.ireturn, 1) := dk_172 (dk_at dksX0_beside_2 2 rfl rfl)
abbrev cX0_sweep : ByteArray := prog_1_method_27_code
def yX0_sweep : MethodName := ⟨RX0, "sweep", "(I)I"⟩
def dkwX0_sweep_0 : List UInt8 := [42, 182, 0, 166, 42, 42, 27, 182, 1, 33, 182, 0, 172, 172, 77, 42, 44, 182, 0, 224, 172]
abbrev dktX0_sweep_0 : List UInt8 := dkwX0_sweep_0 ++ []
theorem dksX0_sweep_0 : cX0_sweep.data.toList.drop 0 = dktX0_sweep_0 := by decide +kernel
theorem dX0_sweep_0 : decode cX0_sweep 0 = .ok (.aload_n 0, 1) := dk_42 (dk_at dksX0_sweep_0 0 rfl rfl)
theorem dX0_sweep_1 : decode cX0_sweep 1 = .ok (.invokevirtual 166, 3) := dk_182 0 166 (dk_at dksX0_sweep_0 1 rfl rfl)
theorem dX0_sweep_4 : decode cX0_sweep 4 = .ok (.aload_n 0, 1) := dk_42 (dk_at dksX0_sweep_0 4 rfl rfl)
theorem dX0_sweep_5 : decode cX0_sweep 5 = .ok (.aload_n 0, 1) := dk_42 (dk_at dksX0_sweep_0 5 rfl rfl)
theorem dX0_sweep_6 : decode cX0_sweep 6 = .ok (.iload_n 1, 1) := dk_27 (dk_at dksX0_sweep_0 6 rfl rfl)
theorem dX0_sweep_7 : decode cX0_sweep 7 = .ok (.invokevirtual 289, 3) := dk_182 1 33 (dk_at dksX0_sweep_0 7 rfl rfl)
theorem dX0_sweep_10 : decode cX0_sweep 10 = .ok (.invokevirtual 172, 3) := dk_182 0 172 (dk_at dksX0_sweep_0 10 rfl rfl)
theorem dX0_sweep_13 : decode cX0_sweep 13 = .ok (.ireturn, 1) := dk_172 (dk_at dksX0_sweep_0 13 rfl rfl)
theorem dX0_sweep_14 : decode cX0_sweep 14 = .ok (.astore_n 2, 1) := dk_77 (dk_at dksX0_sweep_0 14 rfl rfl)
theorem dX0_sweep_15 : decode cX0_sweep 15 = .ok (.aload_n 0, 1) := dk_42 (dk_at dksX0_sweep_0 15 rfl rfl)
theorem dX0_sweep_16 : decode cX0_sweep 16 = .ok (.aload_n 2, 1) := dk_44 (dk_at dksX0_sweep_0 16 rfl rfl)
theorem dX0_sweep_17 : decode cX0_sweep 17 = .ok (.invokevirtual 224, 3) := dk_182 0 224 (dk_at dksX0_sweep_0 17 rfl rfl)
theorem dX0_sweep_20 : decode cX0_sweep 20 = .ok (.ireturn, 1) := dk_172 (dk_at dksX0_sweep_0 20 rfl rfl)
abbrev cX0_doSweep : ByteArray := prog_1_method_26_code
def yX0_doSweep : MethodName := ⟨RX0, "doSweep", "(I)I"⟩
def dkwX0_doSweep_4 : List UInt8 := [181, 1, 30, 42, 180, 0, 20, 180, 0, 215, 44, 180, 1, 3, 3, 79, 29, 172]
abbrev dktX0_doSweep_4 : List UInt8 := dkwX0_doSweep_4 ++ []
def dkwX0_doSweep_3 : List UInt8 := [100, 184, 0, 199, 44, 89, 180, 1, 27, 21, 4, 100, 181, 1, 27, 44, 89, 180, 1, 30, 29, 96]
abbrev dktX0_doSweep_3 : List UInt8 := dkwX0_doSweep_3 ++ dktX0_doSweep_4
def dkwX0_doSweep_2 : List UInt8 := [54, 4, 44, 180, 1, 27, 21, 4, 161, 0, 7, 4, 167, 0, 4, 3, 16, 7, 21, 4, 44, 180, 1, 27]
abbrev dktX0_doSweep_2 : List UInt8 := dkwX0_doSweep_2 ++ dktX0_doSweep_3
def dkwX0_doSweep_1 : List UInt8 := [167, 0, 4, 3, 16, 6, 44, 180, 1, 3, 184, 0, 199, 44, 4, 182, 1, 17, 29, 5, 96, 6, 108]
abbrev dktX0_doSweep_1 : List UInt8 := dkwX0_doSweep_1 ++ dktX0_doSweep_2
def dkwX0_doSweep_0 : List UInt8 := [42, 27, 182, 1, 9, 77, 42, 180, 0, 20, 180, 0, 215, 44, 180, 1, 3, 46, 62, 29, 158, 0, 7, 4]
abbrev dktX0_doSweep_0 : List UInt8 := dkwX0_doSweep_0 ++ dktX0_doSweep_1
theorem dksX0_doSweep_0 : cX0_doSweep.data.toList.drop 0 = dktX0_doSweep_0 := by decide +kernel
theorem dksX0_doSweep_1 : cX0_doSweep.data.toList.drop 24 = dktX0_doSweep_1 := dk_seg dksX0_doSweep_0 24 rfl rfl
theorem dksX0_doSweep_2 : cX0_doSweep.data.toList.drop 47 = dktX0_doSweep_2 := dk_seg dksX0_doSweep_1 23 rfl rfl
theorem dksX0_doSweep_3 : cX0_doSweep.data.toList.drop 71 = dktX0_doSweep_3 := dk_seg dksX0_doSweep_2 24 rfl rfl
theorem dksX0_doSweep_4 : cX0_doSweep.data.toList.drop 93 = dktX0_doSweep_4 := dk_seg dksX0_doSweep_3 22 rfl rfl
theorem dX0_doSweep_0 : decode cX0_doSweep 0 = .ok (.aload_n 0, 1) := dk_42 (dk_at dksX0_doSweep_0 0 rfl rfl)
theorem dX0_doSweep_1 : decode cX0_doSweep 1 = .ok (.iload_n 1, 1) := dk_27 (dk_at dksX0_doSweep_0 1 rfl rfl)
theorem dX0_doSweep_2 : decode cX0_doSweep 2 = .ok (.invokevirtual 265, 3) := dk_182 1 9 (dk_at dksX0_doSweep_0 2 rfl rfl)
theorem dX0_doSweep_5 : decode cX0_doSweep 5 = .ok (.astore_n 2, 1) := dk_77 (dk_at dksX0_doSweep_0 5 rfl rfl)
theorem dX0_doSweep_6 : decode cX0_doSweep 6 = .ok (.aload_n 0, 1) := dk_42 (dk_at dksX0_doSweep_0 6 rfl rfl)
theorem dX0_doSweep_7 : decode cX0_doSweep 7 = .ok (.getfield 20, 3) := dk_180 0 20 (dk_at dksX0_doSweep_0 7 rfl rfl)
theorem dX0_doSweep_10 : decode cX0_doSweep 10 = .ok (.getfield 215, 3) := dk_180 0 215 (dk_at dksX0_doSweep_0 10 rfl rfl)
theorem dX0_doSweep_13 : decode cX0_doSweep 13 = .ok (.aload_n 2, 1) := dk_44 (dk_at dksX0_doSweep_0 13 rfl rfl)
theorem dX0_doSweep_14 : decode cX0_doSweep 14 = .ok (.getfield 259, 3) := dk_180 1 3 (dk_at dksX0_doSweep_0 14 rfl rfl)
theorem dX0_doSweep_17 : decode cX0_doSweep 17 = .ok (.iaload, 1) := dk_46 (dk_at dksX0_doSweep_0 17 rfl rfl)
theorem dX0_doSweep_18 : decode cX0_doSweep 18 = .ok (.istore_n 3, 1) := dk_62 (dk_at dksX0_doSweep_0 18 rfl rfl)
theorem dX0_doSweep_19 : decode cX0_doSweep 19 = .ok (.iload_n 3, 1) := dk_29 (dk_at dksX0_doSweep_0 19 rfl rfl)
theorem dX0_doSweep_20 : decode cX0_doSweep 20 = .ok (.ifCond .le 7, 3) := dk_158 0 7 (dk_at dksX0_doSweep_0 20 rfl rfl)
theorem dX0_doSweep_23 : decode cX0_doSweep 23 = .ok (.iconst 1, 1) := dk_4 (dk_at dksX0_doSweep_0 23 rfl rfl)
theorem dX0_doSweep_24 : decode cX0_doSweep 24 = .ok (.goto 4, 3) := dk_167 0 4 (dk_at dksX0_doSweep_1 0 rfl rfl)
theorem dX0_doSweep_27 : decode cX0_doSweep 27 = .ok (.iconst 0, 1) := dk_3 (dk_at dksX0_doSweep_1 3 rfl rfl)
theorem dX0_doSweep_28 : decode cX0_doSweep 28 = .ok (.bipush 6, 2) := dk_16 6 (dk_at dksX0_doSweep_1 4 rfl rfl)
theorem dX0_doSweep_30 : decode cX0_doSweep 30 = .ok (.aload_n 2, 1) := dk_44 (dk_at dksX0_doSweep_1 6 rfl rfl)
theorem dX0_doSweep_31 : decode cX0_doSweep 31 = .ok (.getfield 259, 3) := dk_180 1 3 (dk_at dksX0_doSweep_1 7 rfl rfl)
theorem dX0_doSweep_34 : decode cX0_doSweep 34 = .ok (.invokestatic 199, 3) := dk_184 0 199 (dk_at dksX0_doSweep_1 10 rfl rfl)
theorem dX0_doSweep_37 : decode cX0_doSweep 37 = .ok (.aload_n 2, 1) := dk_44 (dk_at dksX0_doSweep_1 13 rfl rfl)
theorem dX0_doSweep_38 : decode cX0_doSweep 38 = .ok (.iconst 1, 1) := dk_4 (dk_at dksX0_doSweep_1 14 rfl rfl)
theorem dX0_doSweep_39 : decode cX0_doSweep 39 = .ok (.invokevirtual 273, 3) := dk_182 1 17 (dk_at dksX0_doSweep_1 15 rfl rfl)
theorem dX0_doSweep_42 : decode cX0_doSweep 42 = .ok (.iload_n 3, 1) := dk_29 (dk_at dksX0_doSweep_1 18 rfl rfl)
theorem dX0_doSweep_43 : decode cX0_doSweep 43 = .ok (.iconst 2, 1) := dk_5 (dk_at dksX0_doSweep_1 19 rfl rfl)
theorem dX0_doSweep_44 : decode cX0_doSweep 44 = .ok (.iadd, 1) := dk_96 (dk_at dksX0_doSweep_1 20 rfl rfl)
theorem dX0_doSweep_45 : decode cX0_doSweep 45 = .ok (.iconst 3, 1) := dk_6 (dk_at dksX0_doSweep_1 21 rfl rfl)
theorem dX0_doSweep_46 : decode cX0_doSweep 46 = .ok (.idiv, 1) := dk_108 (dk_at dksX0_doSweep_1 22 rfl rfl)
theorem dX0_doSweep_47 : decode cX0_doSweep 47 = .ok (.istore 4, 2) := dk_54 4 (dk_at dksX0_doSweep_2 0 rfl rfl)
theorem dX0_doSweep_49 : decode cX0_doSweep 49 = .ok (.aload_n 2, 1) := dk_44 (dk_at dksX0_doSweep_2 2 rfl rfl)
theorem dX0_doSweep_50 : decode cX0_doSweep 50 = .ok (.getfield 283, 3) := dk_180 1 27 (dk_at dksX0_doSweep_2 3 rfl rfl)
theorem dX0_doSweep_53 : decode cX0_doSweep 53 = .ok (.iload 4, 2) := dk_21 4 (dk_at dksX0_doSweep_2 6 rfl rfl)
theorem dX0_doSweep_55 : decode cX0_doSweep 55 = .ok (.if_icmp .lt 7, 3) := dk_161 0 7 (dk_at dksX0_doSweep_2 8 rfl rfl)
theorem dX0_doSweep_58 : decode cX0_doSweep 58 = .ok (.iconst 1, 1) := dk_4 (dk_at dksX0_doSweep_2 11 rfl rfl)
theorem dX0_doSweep_59 : decode cX0_doSweep 59 = .ok (.goto 4, 3) := dk_167 0 4 (dk_at dksX0_doSweep_2 12 rfl rfl)
theorem dX0_doSweep_62 : decode cX0_doSweep 62 = .ok (.iconst 0, 1) := dk_3 (dk_at dksX0_doSweep_2 15 rfl rfl)
theorem dX0_doSweep_63 : decode cX0_doSweep 63 = .ok (.bipush 7, 2) := dk_16 7 (dk_at dksX0_doSweep_2 16 rfl rfl)
theorem dX0_doSweep_65 : decode cX0_doSweep 65 = .ok (.iload 4, 2) := dk_21 4 (dk_at dksX0_doSweep_2 18 rfl rfl)
theorem dX0_doSweep_67 : decode cX0_doSweep 67 = .ok (.aload_n 2, 1) := dk_44 (dk_at dksX0_doSweep_2 20 rfl rfl)
theorem dX0_doSweep_68 : decode cX0_doSweep 68 = .ok (.getfield 283, 3) := dk_180 1 27 (dk_at dksX0_doSweep_2 21 rfl rfl)
theorem dX0_doSweep_71 : decode cX0_doSweep 71 = .ok (.isub, 1) := dk_100 (dk_at dksX0_doSweep_3 0 rfl rfl)
theorem dX0_doSweep_72 : decode cX0_doSweep 72 = .ok (.invokestatic 199, 3) := dk_184 0 199 (dk_at dksX0_doSweep_3 1 rfl rfl)
theorem dX0_doSweep_75 : decode cX0_doSweep 75 = .ok (.aload_n 2, 1) := dk_44 (dk_at dksX0_doSweep_3 4 rfl rfl)
theorem dX0_doSweep_76 : decode cX0_doSweep 76 = .ok (.dup, 1) := dk_89 (dk_at dksX0_doSweep_3 5 rfl rfl)
theorem dX0_doSweep_77 : decode cX0_doSweep 77 = .ok (.getfield 283, 3) := dk_180 1 27 (dk_at dksX0_doSweep_3 6 rfl rfl)
theorem dX0_doSweep_80 : decode cX0_doSweep 80 = .ok (.iload 4, 2) := dk_21 4 (dk_at dksX0_doSweep_3 9 rfl rfl)
theorem dX0_doSweep_82 : decode cX0_doSweep 82 = .ok (.isub, 1) := dk_100 (dk_at dksX0_doSweep_3 11 rfl rfl)
theorem dX0_doSweep_83 : decode cX0_doSweep 83 = .ok (.putfield 283, 3) := dk_181 1 27 (dk_at dksX0_doSweep_3 12 rfl rfl)
theorem dX0_doSweep_86 : decode cX0_doSweep 86 = .ok (.aload_n 2, 1) := dk_44 (dk_at dksX0_doSweep_3 15 rfl rfl)
theorem dX0_doSweep_87 : decode cX0_doSweep 87 = .ok (.dup, 1) := dk_89 (dk_at dksX0_doSweep_3 16 rfl rfl)
theorem dX0_doSweep_88 : decode cX0_doSweep 88 = .ok (.getfield 286, 3) := dk_180 1 30 (dk_at dksX0_doSweep_3 17 rfl rfl)
theorem dX0_doSweep_91 : decode cX0_doSweep 91 = .ok (.iload_n 3, 1) := dk_29 (dk_at dksX0_doSweep_3 20 rfl rfl)
theorem dX0_doSweep_92 : decode cX0_doSweep 92 = .ok (.iadd, 1) := dk_96 (dk_at dksX0_doSweep_3 21 rfl rfl)
theorem dX0_doSweep_93 : decode cX0_doSweep 93 = .ok (.putfield 286, 3) := dk_181 1 30 (dk_at dksX0_doSweep_4 0 rfl rfl)
theorem dX0_doSweep_96 : decode cX0_doSweep 96 = .ok (.aload_n 0, 1) := dk_42 (dk_at dksX0_doSweep_4 3 rfl rfl)
theorem dX0_doSweep_97 : decode cX0_doSweep 97 = .ok (.getfield 20, 3) := dk_180 0 20 (dk_at dksX0_doSweep_4 4 rfl rfl)
theorem dX0_doSweep_100 : decode cX0_doSweep 100 = .ok (.getfield 215, 3) := dk_180 0 215 (dk_at dksX0_doSweep_4 7 rfl rfl)
theorem dX0_doSweep_103 : decode cX0_doSweep 103 = .ok (.aload_n 2, 1) := dk_44 (dk_at dksX0_doSweep_4 10 rfl rfl)
theorem dX0_doSweep_104 : decode cX0_doSweep 104 = .ok (.getfield 259, 3) := dk_180 1 3 (dk_at dksX0_doSweep_4 11 rfl rfl)
theorem dX0_doSweep_107 : decode cX0_doSweep 107 = .ok (.iconst 0, 1) := dk_3 (dk_at dksX0_doSweep_4 14 rfl rfl)
theorem dX0_doSweep_108 : decode cX0_doSweep 108 = .ok (.iastore, 1) := dk_79 (dk_at dksX0_doSweep_4 15 rfl rfl)
theorem dX0_doSweep_109 : decode cX0_doSweep 109 = .ok (.iload_n 3, 1) := dk_29 (dk_at dksX0_doSweep_4 16 rfl rfl)
theorem dX0_doSweep_110 : decode cX0_doSweep 110 = .ok (.ireturn, 1) := dk_172 (dk_at dksX0_doSweep_4 17 rfl rfl)
abbrev cX0_bind : ByteArray := prog_1_method_29_code
def yX0_bind : MethodName := ⟨RX0, "bind", "(I)I"⟩
def dkwX0_bind_0 : List UInt8 := [42, 182, 0, 166, 42, 42, 27, 182, 1, 36, 182, 0, 172, 172, 77, 42, 44, 182, 0, 224, 172]
abbrev dktX0_bind_0 : List UInt8 := dkwX0_bind_0 ++ []
theorem dksX0_bind_0 : cX0_bind.data.toList.drop 0 = dktX0_bind_0 := by decide +kernel
theorem dX0_bind_0 : decode cX0_bind 0 = .ok (.aload_n 0, 1) := dk_42 (dk_at dksX0_bind_0 0 rfl rfl)
theorem dX0_bind_1 : decode cX0_bind 1 = .ok (.invokevirtual 166, 3) := dk_182 0 166 (dk_at dksX0_bind_0 1 rfl rfl)
theorem dX0_bind_4 : decode cX0_bind 4 = .ok (.aload_n 0, 1) := dk_42 (dk_at dksX0_bind_0 4 rfl rfl)
theorem dX0_bind_5 : decode cX0_bind 5 = .ok (.aload_n 0, 1) := dk_42 (dk_at dksX0_bind_0 5 rfl rfl)
theorem dX0_bind_6 : decode cX0_bind 6 = .ok (.iload_n 1, 1) := dk_27 (dk_at dksX0_bind_0 6 rfl rfl)
theorem dX0_bind_7 : decode cX0_bind 7 = .ok (.invokevirtual 292, 3) := dk_182 1 36 (dk_at dksX0_bind_0 7 rfl rfl)
theorem dX0_bind_10 : decode cX0_bind 10 = .ok (.invokevirtual 172, 3) := dk_182 0 172 (dk_at dksX0_bind_0 10 rfl rfl)
theorem dX0_bind_13 : decode cX0_bind 13 = .ok (.ireturn, 1) := dk_172 (dk_at dksX0_bind_0 13 rfl rfl)
theorem dX0_bind_14 : decode cX0_bind 14 = .ok (.astore_n 2, 1) := dk_77 (dk_at dksX0_bind_0 14 rfl rfl)
theorem dX0_bind_15 : decode cX0_bind 15 = .ok (.aload_n 0, 1) := dk_42 (dk_at dksX0_bind_0 15 rfl rfl)
theorem dX0_bind_16 : decode cX0_bind 16 = .ok (.aload_n 2, 1) := dk_44 (dk_at dksX0_bind_0 16 rfl rfl)
theorem dX0_bind_17 : decode cX0_bind 17 = .ok (.invokevirtual 224, 3) := dk_182 0 224 (dk_at dksX0_bind_0 17 rfl rfl)
theorem dX0_bind_20 : decode cX0_bind 20 = .ok (.ireturn, 1) := dk_172 (dk_at dksX0_bind_0 20 rfl rfl)
abbrev cX0_doBind : ByteArray := prog_1_method_28_code
def yX0_doBind : MethodName := ⟨RX0, "doBind", "(I)I"⟩
def dkwX0_doBind_0 : List UInt8 := [42, 27, 182, 1, 9, 77, 44, 5, 182, 1, 17, 44, 180, 1, 27, 62, 44, 16, 12, 181, 1, 27, 29, 172]
abbrev dktX0_doBind_0 : List UInt8 := dkwX0_doBind_0 ++ []
theorem dksX0_doBind_0 : cX0_doBind.data.toList.drop 0 = dktX0_doBind_0 := by decide +kernel
theorem dX0_doBind_0 : decode cX0_doBind 0 = .ok (.aload_n 0, 1) := dk_42 (dk_at dksX0_doBind_0 0 rfl rfl)
theorem dX0_doBind_1 : decode cX0_doBind 1 = .ok (.iload_n 1, 1) := dk_27 (dk_at dksX0_doBind_0 1 rfl rfl)
theorem dX0_doBind_2 : decode cX0_doBind 2 = .ok (.invokevirtual 265, 3) := dk_182 1 9 (dk_at dksX0_doBind_0 2 rfl rfl)
theorem dX0_doBind_5 : decode cX0_doBind 5 = .ok (.astore_n 2, 1) := dk_77 (dk_at dksX0_doBind_0 5 rfl rfl)
theorem dX0_doBind_6 : decode cX0_doBind 6 = .ok (.aload_n 2, 1) := dk_44 (dk_at dksX0_doBind_0 6 rfl rfl)
theorem dX0_doBind_7 : decode cX0_doBind 7 = .ok (.iconst 2, 1) := dk_5 (dk_at dksX0_doBind_0 7 rfl rfl)
theorem dX0_doBind_8 : decode cX0_doBind 8 = .ok (.invokevirtual 273, 3) := dk_182 1 17 (dk_at dksX0_doBind_0 8 rfl rfl)
theorem dX0_doBind_11 : decode cX0_doBind 11 = .ok (.aload_n 2, 1) := dk_44 (dk_at dksX0_doBind_0 11 rfl rfl)
theorem dX0_doBind_12 : decode cX0_doBind 12 = .ok (.getfield 283, 3) := dk_180 1 27 (dk_at dksX0_doBind_0 12 rfl rfl)
theorem dX0_doBind_15 : decode cX0_doBind 15 = .ok (.istore_n 3, 1) := dk_62 (dk_at dksX0_doBind_0 15 rfl rfl)
theorem dX0_doBind_16 : decode cX0_doBind 16 = .ok (.aload_n 2, 1) := dk_44 (dk_at dksX0_doBind_0 16 rfl rfl)
theorem dX0_doBind_17 : decode cX0_doBind 17 = .ok (.bipush 12, 2) := dk_16 12 (dk_at dksX0_doBind_0 17 rfl rfl)
theorem dX0_doBind_19 : decode cX0_doBind 19 = .ok (.putfield 283, 3) := dk_181 1 27 (dk_at dksX0_doBind_0 19 rfl rfl)
theorem dX0_doBind_22 : decode cX0_doBind 22 = .ok (.iload_n 3, 1) := dk_29 (dk_at dksX0_doBind_0 22 rfl rfl)
theorem dX0_doBind_23 : decode cX0_doBind 23 = .ok (.ireturn, 1) := dk_172 (dk_at dksX0_doBind_0 23 rfl rfl)
abbrev cX0_trap : ByteArray := prog_1_method_31_code
def yX0_trap : MethodName := ⟨RX0, "trap", "(I)I"⟩
def dkwX0_trap_0 : List UInt8 := [42, 182, 0, 166, 42, 42, 27, 182, 1, 42, 182, 0, 172, 172, 77, 42, 44, 182, 0, 224, 172]
abbrev dktX0_trap_0 : List UInt8 := dkwX0_trap_0 ++ []
theorem dksX0_trap_0 : cX0_trap.data.toList.drop 0 = dktX0_trap_0 := by decide +kernel
theorem dX0_trap_0 : decode cX0_trap 0 = .ok (.aload_n 0, 1) := dk_42 (dk_at dksX0_trap_0 0 rfl rfl)
theorem dX0_trap_1 : decode cX0_trap 1 = .ok (.invokevirtual 166, 3) := dk_182 0 166 (dk_at dksX0_trap_0 1 rfl rfl)
theorem dX0_trap_4 : decode cX0_trap 4 = .ok (.aload_n 0, 1) := dk_42 (dk_at dksX0_trap_0 4 rfl rfl)
theorem dX0_trap_5 : decode cX0_trap 5 = .ok (.aload_n 0, 1) := dk_42 (dk_at dksX0_trap_0 5 rfl rfl)
theorem dX0_trap_6 : decode cX0_trap 6 = .ok (.iload_n 1, 1) := dk_27 (dk_at dksX0_trap_0 6 rfl rfl)
theorem dX0_trap_7 : decode cX0_trap 7 = .ok (.invokevirtual 298, 3) := dk_182 1 42 (dk_at dksX0_trap_0 7 rfl rfl)
theorem dX0_trap_10 : decode cX0_trap 10 = .ok (.invokevirtual 172, 3) := dk_182 0 172 (dk_at dksX0_trap_0 10 rfl rfl)
theorem dX0_trap_13 : decode cX0_trap 13 = .ok (.ireturn, 1) := dk_172 (dk_at dksX0_trap_0 13 rfl rfl)
theorem dX0_trap_14 : decode cX0_trap 14 = .ok (.astore_n 2, 1) := dk_77 (dk_at dksX0_trap_0 14 rfl rfl)
theorem dX0_trap_15 : decode cX0_trap 15 = .ok (.aload_n 0, 1) := dk_42 (dk_at dksX0_trap_0 15 rfl rfl)
theorem dX0_trap_16 : decode cX0_trap 16 = .ok (.aload_n 2, 1) := dk_44 (dk_at dksX0_trap_0 16 rfl rfl)
theorem dX0_trap_17 : decode cX0_trap 17 = .ok (.invokevirtual 224, 3) := dk_182 0 224 (dk_at dksX0_trap_0 17 rfl rfl)
theorem dX0_trap_20 : decode cX0_trap 20 = .ok (.ireturn, 1) := dk_172 (dk_at dksX0_trap_0 20 rfl rfl)
abbrev cX0_doTrap : ByteArray := prog_1_method_30_code
def yX0_doTrap : MethodName := ⟨RX0, "doTrap", "(I)I"⟩
def dkwX0_doTrap_4 : List UInt8 := [182, 0, 218, 42, 180, 0, 20, 89, 180, 1, 39, 4, 100, 181, 1, 39, 42, 180, 0, 20, 180, 1, 39, 172]
abbrev dktX0_doTrap_4 : List UInt8 := dkwX0_doTrap_4 ++ []
def dkwX0_doTrap_3 : List UInt8 := [180, 1, 3, 184, 0, 199, 44, 4, 182, 1, 17, 42, 180, 0, 20, 180, 0, 209, 44, 180, 1, 3]
abbrev dktX0_doTrap_3 : List UInt8 := dkwX0_doTrap_3 ++ dktX0_doTrap_4
def dkwX0_doTrap_2 : List UInt8 := [180, 0, 20, 180, 0, 209, 44, 180, 1, 3, 182, 0, 148, 154, 0, 7, 4, 167, 0, 4, 3, 16, 9, 44]
abbrev dktX0_doTrap_2 : List UInt8 := dkwX0_doTrap_2 ++ dktX0_doTrap_3
def dkwX0_doTrap_1 : List UInt8 := [167, 0, 4, 3, 5, 44, 180, 1, 3, 184, 0, 199, 42, 180, 0, 20, 180, 1, 39, 158, 0, 24, 42]
abbrev dktX0_doTrap_1 : List UInt8 := dkwX0_doTrap_1 ++ dktX0_doTrap_2
def dkwX0_doTrap_0 : List UInt8 := [42, 27, 182, 1, 9, 77, 42, 180, 0, 20, 180, 0, 144, 44, 180, 1, 3, 182, 0, 148, 154, 0, 7, 4]
abbrev dktX0_doTrap_0 : List UInt8 := dkwX0_doTrap_0 ++ dktX0_doTrap_1
theorem dksX0_doTrap_0 : cX0_doTrap.data.toList.drop 0 = dktX0_doTrap_0 := by decide +kernel
theorem dksX0_doTrap_1 : cX0_doTrap.data.toList.drop 24 = dktX0_doTrap_1 := dk_seg dksX0_doTrap_0 24 rfl rfl
theorem dksX0_doTrap_2 : cX0_doTrap.data.toList.drop 47 = dktX0_doTrap_2 := dk_seg dksX0_doTrap_1 23 rfl rfl
theorem dksX0_doTrap_3 : cX0_doTrap.data.toList.drop 71 = dktX0_doTrap_3 := dk_seg dksX0_doTrap_2 24 rfl rfl
theorem dksX0_doTrap_4 : cX0_doTrap.data.toList.drop 93 = dktX0_doTrap_4 := dk_seg dksX0_doTrap_3 22 rfl rfl
theorem dX0_doTrap_0 : decode cX0_doTrap 0 = .ok (.aload_n 0, 1) := dk_42 (dk_at dksX0_doTrap_0 0 rfl rfl)
theorem dX0_doTrap_1 : decode cX0_doTrap 1 = .ok (.iload_n 1, 1) := dk_27 (dk_at dksX0_doTrap_0 1 rfl rfl)
theorem dX0_doTrap_2 : decode cX0_doTrap 2 = .ok (.invokevirtual 265, 3) := dk_182 1 9 (dk_at dksX0_doTrap_0 2 rfl rfl)
theorem dX0_doTrap_5 : decode cX0_doTrap 5 = .ok (.astore_n 2, 1) := dk_77 (dk_at dksX0_doTrap_0 5 rfl rfl)
theorem dX0_doTrap_6 : decode cX0_doTrap 6 = .ok (.aload_n 0, 1) := dk_42 (dk_at dksX0_doTrap_0 6 rfl rfl)
theorem dX0_doTrap_7 : decode cX0_doTrap 7 = .ok (.getfield 20, 3) := dk_180 0 20 (dk_at dksX0_doTrap_0 7 rfl rfl)
theorem dX0_doTrap_10 : decode cX0_doTrap 10 = .ok (.getfield 144, 3) := dk_180 0 144 (dk_at dksX0_doTrap_0 10 rfl rfl)
theorem dX0_doTrap_13 : decode cX0_doTrap 13 = .ok (.aload_n 2, 1) := dk_44 (dk_at dksX0_doTrap_0 13 rfl rfl)
theorem dX0_doTrap_14 : decode cX0_doTrap 14 = .ok (.getfield 259, 3) := dk_180 1 3 (dk_at dksX0_doTrap_0 14 rfl rfl)
theorem dX0_doTrap_17 : decode cX0_doTrap 17 = .ok (.invokevirtual 148, 3) := dk_182 0 148 (dk_at dksX0_doTrap_0 17 rfl rfl)
theorem dX0_doTrap_20 : decode cX0_doTrap 20 = .ok (.ifCond .ne 7, 3) := dk_154 0 7 (dk_at dksX0_doTrap_0 20 rfl rfl)
theorem dX0_doTrap_23 : decode cX0_doTrap 23 = .ok (.iconst 1, 1) := dk_4 (dk_at dksX0_doTrap_0 23 rfl rfl)
theorem dX0_doTrap_24 : decode cX0_doTrap 24 = .ok (.goto 4, 3) := dk_167 0 4 (dk_at dksX0_doTrap_1 0 rfl rfl)
theorem dX0_doTrap_27 : decode cX0_doTrap 27 = .ok (.iconst 0, 1) := dk_3 (dk_at dksX0_doTrap_1 3 rfl rfl)
theorem dX0_doTrap_28 : decode cX0_doTrap 28 = .ok (.iconst 2, 1) := dk_5 (dk_at dksX0_doTrap_1 4 rfl rfl)
theorem dX0_doTrap_29 : decode cX0_doTrap 29 = .ok (.aload_n 2, 1) := dk_44 (dk_at dksX0_doTrap_1 5 rfl rfl)
theorem dX0_doTrap_30 : decode cX0_doTrap 30 = .ok (.getfield 259, 3) := dk_180 1 3 (dk_at dksX0_doTrap_1 6 rfl rfl)
theorem dX0_doTrap_33 : decode cX0_doTrap 33 = .ok (.invokestatic 199, 3) := dk_184 0 199 (dk_at dksX0_doTrap_1 9 rfl rfl)
theorem dX0_doTrap_36 : decode cX0_doTrap 36 = .ok (.aload_n 0, 1) := dk_42 (dk_at dksX0_doTrap_1 12 rfl rfl)
theorem dX0_doTrap_37 : decode cX0_doTrap 37 = .ok (.getfield 20, 3) := dk_180 0 20 (dk_at dksX0_doTrap_1 13 rfl rfl)
theorem dX0_doTrap_40 : decode cX0_doTrap 40 = .ok (.getfield 295, 3) := dk_180 1 39 (dk_at dksX0_doTrap_1 16 rfl rfl)
theorem dX0_doTrap_43 : decode cX0_doTrap 43 = .ok (.ifCond .le 24, 3) := dk_158 0 24 (dk_at dksX0_doTrap_1 19 rfl rfl)
theorem dX0_doTrap_46 : decode cX0_doTrap 46 = .ok (.aload_n 0, 1) := dk_42 (dk_at dksX0_doTrap_1 22 rfl rfl)
theorem dX0_doTrap_47 : decode cX0_doTrap 47 = .ok (.getfield 20, 3) := dk_180 0 20 (dk_at dksX0_doTrap_2 0 rfl rfl)
theorem dX0_doTrap_50 : decode cX0_doTrap 50 = .ok (.getfield 209, 3) := dk_180 0 209 (dk_at dksX0_doTrap_2 3 rfl rfl)
theorem dX0_doTrap_53 : decode cX0_doTrap 53 = .ok (.aload_n 2, 1) := dk_44 (dk_at dksX0_doTrap_2 6 rfl rfl)
theorem dX0_doTrap_54 : decode cX0_doTrap 54 = .ok (.getfield 259, 3) := dk_180 1 3 (dk_at dksX0_doTrap_2 7 rfl rfl)
theorem dX0_doTrap_57 : decode cX0_doTrap 57 = .ok (.invokevirtual 148, 3) := dk_182 0 148 (dk_at dksX0_doTrap_2 10 rfl rfl)
theorem dX0_doTrap_60 : decode cX0_doTrap 60 = .ok (.ifCond .ne 7, 3) := dk_154 0 7 (dk_at dksX0_doTrap_2 13 rfl rfl)
theorem dX0_doTrap_63 : decode cX0_doTrap 63 = .ok (.iconst 1, 1) := dk_4 (dk_at dksX0_doTrap_2 16 rfl rfl)
theorem dX0_doTrap_64 : decode cX0_doTrap 64 = .ok (.goto 4, 3) := dk_167 0 4 (dk_at dksX0_doTrap_2 17 rfl rfl)
theorem dX0_doTrap_67 : decode cX0_doTrap 67 = .ok (.iconst 0, 1) := dk_3 (dk_at dksX0_doTrap_2 20 rfl rfl)
theorem dX0_doTrap_68 : decode cX0_doTrap 68 = .ok (.bipush 9, 2) := dk_16 9 (dk_at dksX0_doTrap_2 21 rfl rfl)
theorem dX0_doTrap_70 : decode cX0_doTrap 70 = .ok (.aload_n 2, 1) := dk_44 (dk_at dksX0_doTrap_2 23 rfl rfl)
theorem dX0_doTrap_71 : decode cX0_doTrap 71 = .ok (.getfield 259, 3) := dk_180 1 3 (dk_at dksX0_doTrap_3 0 rfl rfl)
theorem dX0_doTrap_74 : decode cX0_doTrap 74 = .ok (.invokestatic 199, 3) := dk_184 0 199 (dk_at dksX0_doTrap_3 3 rfl rfl)
theorem dX0_doTrap_77 : decode cX0_doTrap 77 = .ok (.aload_n 2, 1) := dk_44 (dk_at dksX0_doTrap_3 6 rfl rfl)
theorem dX0_doTrap_78 : decode cX0_doTrap 78 = .ok (.iconst 1, 1) := dk_4 (dk_at dksX0_doTrap_3 7 rfl rfl)
theorem dX0_doTrap_79 : decode cX0_doTrap 79 = .ok (.invokevirtual 273, 3) := dk_182 1 17 (dk_at dksX0_doTrap_3 8 rfl rfl)
theorem dX0_doTrap_82 : decode cX0_doTrap 82 = .ok (.aload_n 0, 1) := dk_42 (dk_at dksX0_doTrap_3 11 rfl rfl)
theorem dX0_doTrap_83 : decode cX0_doTrap 83 = .ok (.getfield 20, 3) := dk_180 0 20 (dk_at dksX0_doTrap_3 12 rfl rfl)
theorem dX0_doTrap_86 : decode cX0_doTrap 86 = .ok (.getfield 209, 3) := dk_180 0 209 (dk_at dksX0_doTrap_3 15 rfl rfl)
theorem dX0_doTrap_89 : decode cX0_doTrap 89 = .ok (.aload_n 2, 1) := dk_44 (dk_at dksX0_doTrap_3 18 rfl rfl)
theorem dX0_doTrap_90 : decode cX0_doTrap 90 = .ok (.getfield 259, 3) := dk_180 1 3 (dk_at dksX0_doTrap_3 19 rfl rfl)
theorem dX0_doTrap_93 : decode cX0_doTrap 93 = .ok (.invokevirtual 218, 3) := dk_182 0 218 (dk_at dksX0_doTrap_4 0 rfl rfl)
theorem dX0_doTrap_96 : decode cX0_doTrap 96 = .ok (.aload_n 0, 1) := dk_42 (dk_at dksX0_doTrap_4 3 rfl rfl)
theorem dX0_doTrap_97 : decode cX0_doTrap 97 = .ok (.getfield 20, 3) := dk_180 0 20 (dk_at dksX0_doTrap_4 4 rfl rfl)
theorem dX0_doTrap_100 : decode cX0_doTrap 100 = .ok (.dup, 1) := dk_89 (dk_at dksX0_doTrap_4 7 rfl rfl)
theorem dX0_doTrap_101 : decode cX0_doTrap 101 = .ok (.getfield 295, 3) := dk_180 1 39 (dk_at dksX0_doTrap_4 8 rfl rfl)
theorem dX0_doTrap_104 : decode cX0_doTrap 104 = .ok (.iconst 1, 1) := dk_4 (dk_at dksX0_doTrap_4 11 rfl rfl)
theorem dX0_doTrap_105 : decode cX0_doTrap 105 = .ok (.isub, 1) := dk_100 (dk_at dksX0_doTrap_4 12 rfl rfl)
theorem dX0_doTrap_106 : decode cX0_doTrap 106 = .ok (.putfield 295, 3) := dk_181 1 39 (dk_at dksX0_doTrap_4 13 rfl rfl)
theorem dX0_doTrap_109 : decode cX0_doTrap 109 = .ok (.aload_n 0, 1) := dk_42 (dk_at dksX0_doTrap_4 16 rfl rfl)
theorem dX0_doTrap_110 : decode cX0_doTrap 110 = .ok (.getfield 20, 3) := dk_180 0 20 (dk_at dksX0_doTrap_4 17 rfl rfl)
theorem dX0_doTrap_113 : decode cX0_doTrap 113 = .ok (.getfield 295, 3) := dk_180 1 39 (dk_at dksX0_doTrap_4 20 rfl rfl)
theorem dX0_doTrap_116 : decode cX0_doTrap 116 = .ok (.ireturn, 1) := dk_172 (dk_at dksX0_doTrap_4 23 rfl rfl)
abbrev cX0_plant : ByteArray := prog_1_method_33_code
def yX0_plant : MethodName := ⟨RX0, "plant", "(IC)I"⟩
def dkwX0_plant_0 : List UInt8 := [42, 182, 0, 166, 42, 42, 27, 28, 182, 1, 48, 182, 0, 172, 172, 78, 42, 45, 182, 0, 224, 172]
abbrev dktX0_plant_0 : List UInt8 := dkwX0_plant_0 ++ []
theorem dksX0_plant_0 : cX0_plant.data.toList.drop 0 = dktX0_plant_0 := by decide +kernel
theorem dX0_plant_0 : decode cX0_plant 0 = .ok (.aload_n 0, 1) := dk_42 (dk_at dksX0_plant_0 0 rfl rfl)
theorem dX0_plant_1 : decode cX0_plant 1 = .ok (.invokevirtual 166, 3) := dk_182 0 166 (dk_at dksX0_plant_0 1 rfl rfl)
theorem dX0_plant_4 : decode cX0_plant 4 = .ok (.aload_n 0, 1) := dk_42 (dk_at dksX0_plant_0 4 rfl rfl)
theorem dX0_plant_5 : decode cX0_plant 5 = .ok (.aload_n 0, 1) := dk_42 (dk_at dksX0_plant_0 5 rfl rfl)
theorem dX0_plant_6 : decode cX0_plant 6 = .ok (.iload_n 1, 1) := dk_27 (dk_at dksX0_plant_0 6 rfl rfl)
theorem dX0_plant_7 : decode cX0_plant 7 = .ok (.iload_n 2, 1) := dk_28 (dk_at dksX0_plant_0 7 rfl rfl)
theorem dX0_plant_8 : decode cX0_plant 8 = .ok (.invokevirtual 304, 3) := dk_182 1 48 (dk_at dksX0_plant_0 8 rfl rfl)
theorem dX0_plant_11 : decode cX0_plant 11 = .ok (.invokevirtual 172, 3) := dk_182 0 172 (dk_at dksX0_plant_0 11 rfl rfl)
theorem dX0_plant_14 : decode cX0_plant 14 = .ok (.ireturn, 1) := dk_172 (dk_at dksX0_plant_0 14 rfl rfl)
theorem dX0_plant_15 : decode cX0_plant 15 = .ok (.astore_n 3, 1) := dk_78 (dk_at dksX0_plant_0 15 rfl rfl)
theorem dX0_plant_16 : decode cX0_plant 16 = .ok (.aload_n 0, 1) := dk_42 (dk_at dksX0_plant_0 16 rfl rfl)
theorem dX0_plant_17 : decode cX0_plant 17 = .ok (.aload_n 3, 1) := dk_45 (dk_at dksX0_plant_0 17 rfl rfl)
theorem dX0_plant_18 : decode cX0_plant 18 = .ok (.invokevirtual 224, 3) := dk_182 0 224 (dk_at dksX0_plant_0 18 rfl rfl)
theorem dX0_plant_21 : decode cX0_plant 21 = .ok (.ireturn, 1) := dk_172 (dk_at dksX0_plant_0 21 rfl rfl)
abbrev cX0_doPlant : ByteArray := prog_1_method_32_code
def yX0_doPlant : MethodName := ⟨RX0, "doPlant", "(IC)I"⟩
def dkwX0_doPlant_3 : List UInt8 := [184, 0, 199, 45, 6, 182, 1, 17, 42, 180, 0, 20, 21, 4, 4, 182, 1, 45, 21, 4, 172]
abbrev dktX0_doPlant_3 : List UInt8 := dkwX0_doPlant_3 ++ []
def dkwX0_doPlant_2 : List UInt8 := [21, 4, 46, 154, 0, 7, 4, 167, 0, 4, 3, 16, 8, 42, 180, 0, 20, 180, 0, 154, 21, 4, 46]
abbrev dktX0_doPlant_2 : List UInt8 := dkwX0_doPlant_2 ++ dktX0_doPlant_3
def dkwX0_doPlant_1 : List UInt8 := [182, 0, 148, 154, 0, 7, 4, 167, 0, 4, 3, 5, 21, 4, 184, 0, 199, 42, 180, 0, 20, 180, 0, 154]
abbrev dktX0_doPlant_1 : List UInt8 := dkwX0_doPlant_1 ++ dktX0_doPlant_2
def dkwX0_doPlant_0 : List UInt8 := [42, 27, 182, 1, 9, 78, 42, 45, 28, 182, 1, 13, 54, 4, 42, 180, 0, 20, 180, 0, 144, 21, 4]
abbrev dktX0_doPlant_0 : List UInt8 := dkwX0_doPlant_0 ++ dktX0_doPlant_1
theorem dksX0_doPlant_0 : cX0_doPlant.data.toList.drop 0 = dktX0_doPlant_0 := by decide +kernel
theorem dksX0_doPlant_1 : cX0_doPlant.data.toList.drop 23 = dktX0_doPlant_1 := dk_seg dksX0_doPlant_0 23 rfl rfl
theorem dksX0_doPlant_2 : cX0_doPlant.data.toList.drop 47 = dktX0_doPlant_2 := dk_seg dksX0_doPlant_1 24 rfl rfl
theorem dksX0_doPlant_3 : cX0_doPlant.data.toList.drop 70 = dktX0_doPlant_3 := dk_seg dksX0_doPlant_2 23 rfl rfl
theorem dX0_doPlant_0 : decode cX0_doPlant 0 = .ok (.aload_n 0, 1) := dk_42 (dk_at dksX0_doPlant_0 0 rfl rfl)
theorem dX0_doPlant_1 : decode cX0_doPlant 1 = .ok (.iload_n 1, 1) := dk_27 (dk_at dksX0_doPlant_0 1 rfl rfl)
theorem dX0_doPlant_2 : decode cX0_doPlant 2 = .ok (.invokevirtual 265, 3) := dk_182 1 9 (dk_at dksX0_doPlant_0 2 rfl rfl)
theorem dX0_doPlant_5 : decode cX0_doPlant 5 = .ok (.astore_n 3, 1) := dk_78 (dk_at dksX0_doPlant_0 5 rfl rfl)
theorem dX0_doPlant_6 : decode cX0_doPlant 6 = .ok (.aload_n 0, 1) := dk_42 (dk_at dksX0_doPlant_0 6 rfl rfl)
theorem dX0_doPlant_7 : decode cX0_doPlant 7 = .ok (.aload_n 3, 1) := dk_45 (dk_at dksX0_doPlant_0 7 rfl rfl)
theorem dX0_doPlant_8 : decode cX0_doPlant 8 = .ok (.iload_n 2, 1) := dk_28 (dk_at dksX0_doPlant_0 8 rfl rfl)
theorem dX0_doPlant_9 : decode cX0_doPlant 9 = .ok (.invokevirtual 269, 3) := dk_182 1 13 (dk_at dksX0_doPlant_0 9 rfl rfl)
theorem dX0_doPlant_12 : decode cX0_doPlant 12 = .ok (.istore 4, 2) := dk_54 4 (dk_at dksX0_doPlant_0 12 rfl rfl)
theorem dX0_doPlant_14 : decode cX0_doPlant 14 = .ok (.aload_n 0, 1) := dk_42 (dk_at dksX0_doPlant_0 14 rfl rfl)
theorem dX0_doPlant_15 : decode cX0_doPlant 15 = .ok (.getfield 20, 3) := dk_180 0 20 (dk_at dksX0_doPlant_0 15 rfl rfl)
theorem dX0_doPlant_18 : decode cX0_doPlant 18 = .ok (.getfield 144, 3) := dk_180 0 144 (dk_at dksX0_doPlant_0 18 rfl rfl)
theorem dX0_doPlant_21 : decode cX0_doPlant 21 = .ok (.iload 4, 2) := dk_21 4 (dk_at dksX0_doPlant_0 21 rfl rfl)
theorem dX0_doPlant_23 : decode cX0_doPlant 23 = .ok (.invokevirtual 148, 3) := dk_182 0 148 (dk_at dksX0_doPlant_1 0 rfl rfl)
theorem dX0_doPlant_26 : decode cX0_doPlant 26 = .ok (.ifCond .ne 7, 3) := dk_154 0 7 (dk_at dksX0_doPlant_1 3 rfl rfl)
theorem dX0_doPlant_29 : decode cX0_doPlant 29 = .ok (.iconst 1, 1) := dk_4 (dk_at dksX0_doPlant_1 6 rfl rfl)
theorem dX0_doPlant_30 : decode cX0_doPlant 30 = .ok (.goto 4, 3) := dk_167 0 4 (dk_at dksX0_doPlant_1 7 rfl rfl)
theorem dX0_doPlant_33 : decode cX0_doPlant 33 = .ok (.iconst 0, 1) := dk_3 (dk_at dksX0_doPlant_1 10 rfl rfl)
theorem dX0_doPlant_34 : decode cX0_doPlant 34 = .ok (.iconst 2, 1) := dk_5 (dk_at dksX0_doPlant_1 11 rfl rfl)
theorem dX0_doPlant_35 : decode cX0_doPlant 35 = .ok (.iload 4, 2) := dk_21 4 (dk_at dksX0_doPlant_1 12 rfl rfl)
theorem dX0_doPlant_37 : decode cX0_doPlant 37 = .ok (.invokestatic 199, 3) := dk_184 0 199 (dk_at dksX0_doPlant_1 14 rfl rfl)
theorem dX0_doPlant_40 : decode cX0_doPlant 40 = .ok (.aload_n 0, 1) := dk_42 (dk_at dksX0_doPlant_1 17 rfl rfl)
theorem dX0_doPlant_41 : decode cX0_doPlant 41 = .ok (.getfield 20, 3) := dk_180 0 20 (dk_at dksX0_doPlant_1 18 rfl rfl)
theorem dX0_doPlant_44 : decode cX0_doPlant 44 = .ok (.getfield 154, 3) := dk_180 0 154 (dk_at dksX0_doPlant_1 21 rfl rfl)
theorem dX0_doPlant_47 : decode cX0_doPlant 47 = .ok (.iload 4, 2) := dk_21 4 (dk_at dksX0_doPlant_2 0 rfl rfl)
theorem dX0_doPlant_49 : decode cX0_doPlant 49 = .ok (.iaload, 1) := dk_46 (dk_at dksX0_doPlant_2 2 rfl rfl)
theorem dX0_doPlant_50 : decode cX0_doPlant 50 = .ok (.ifCond .ne 7, 3) := dk_154 0 7 (dk_at dksX0_doPlant_2 3 rfl rfl)
theorem dX0_doPlant_53 : decode cX0_doPlant 53 = .ok (.iconst 1, 1) := dk_4 (dk_at dksX0_doPlant_2 6 rfl rfl)
theorem dX0_doPlant_54 : decode cX0_doPlant 54 = .ok (.goto 4, 3) := dk_167 0 4 (dk_at dksX0_doPlant_2 7 rfl rfl)
theorem dX0_doPlant_57 : decode cX0_doPlant 57 = .ok (.iconst 0, 1) := dk_3 (dk_at dksX0_doPlant_2 10 rfl rfl)
theorem dX0_doPlant_58 : decode cX0_doPlant 58 = .ok (.bipush 8, 2) := dk_16 8 (dk_at dksX0_doPlant_2 11 rfl rfl)
theorem dX0_doPlant_60 : decode cX0_doPlant 60 = .ok (.aload_n 0, 1) := dk_42 (dk_at dksX0_doPlant_2 13 rfl rfl)
theorem dX0_doPlant_61 : decode cX0_doPlant 61 = .ok (.getfield 20, 3) := dk_180 0 20 (dk_at dksX0_doPlant_2 14 rfl rfl)
theorem dX0_doPlant_64 : decode cX0_doPlant 64 = .ok (.getfield 154, 3) := dk_180 0 154 (dk_at dksX0_doPlant_2 17 rfl rfl)
theorem dX0_doPlant_67 : decode cX0_doPlant 67 = .ok (.iload 4, 2) := dk_21 4 (dk_at dksX0_doPlant_2 20 rfl rfl)
theorem dX0_doPlant_69 : decode cX0_doPlant 69 = .ok (.iaload, 1) := dk_46 (dk_at dksX0_doPlant_2 22 rfl rfl)
theorem dX0_doPlant_70 : decode cX0_doPlant 70 = .ok (.invokestatic 199, 3) := dk_184 0 199 (dk_at dksX0_doPlant_3 0 rfl rfl)
theorem dX0_doPlant_73 : decode cX0_doPlant 73 = .ok (.aload_n 3, 1) := dk_45 (dk_at dksX0_doPlant_3 3 rfl rfl)
theorem dX0_doPlant_74 : decode cX0_doPlant 74 = .ok (.iconst 3, 1) := dk_6 (dk_at dksX0_doPlant_3 4 rfl rfl)
theorem dX0_doPlant_75 : decode cX0_doPlant 75 = .ok (.invokevirtual 273, 3) := dk_182 1 17 (dk_at dksX0_doPlant_3 5 rfl rfl)
theorem dX0_doPlant_78 : decode cX0_doPlant 78 = .ok (.aload_n 0, 1) := dk_42 (dk_at dksX0_doPlant_3 8 rfl rfl)
theorem dX0_doPlant_79 : decode cX0_doPlant 79 = .ok (.getfield 20, 3) := dk_180 0 20 (dk_at dksX0_doPlant_3 9 rfl rfl)
theorem dX0_doPlant_82 : decode cX0_doPlant 82 = .ok (.iload 4, 2) := dk_21 4 (dk_at dksX0_doPlant_3 12 rfl rfl)
theorem dX0_doPlant_84 : decode cX0_doPlant 84 = .ok (.iconst 1, 1) := dk_4 (dk_at dksX0_doPlant_3 14 rfl rfl)
theorem dX0_doPlant_85 : decode cX0_doPlant 85 = .ok (.invokevirtual 301, 3) := dk_182 1 45 (dk_at dksX0_doPlant_3 15 rfl rfl)
theorem dX0_doPlant_88 : decode cX0_doPlant 88 = .ok (.iload 4, 2) := dk_21 4 (dk_at dksX0_doPlant_3 18 rfl rfl)
theorem dX0_doPlant_90 : decode cX0_doPlant 90 = .ok (.ireturn, 1) := dk_172 (dk_at dksX0_doPlant_3 20 rfl rfl)
abbrev cX0_mole : ByteArray := prog_1_method_35_code
def yX0_mole : MethodName := ⟨RX0, "mole", "(I)I"⟩
def dkwX0_mole_0 : List UInt8 := [42, 182, 0, 166, 42, 42, 27, 182, 1, 58, 182, 0, 172, 172, 77, 42, 44, 182, 0, 224, 172]
abbrev dktX0_mole_0 : List UInt8 := dkwX0_mole_0 ++ []
theorem dksX0_mole_0 : cX0_mole.data.toList.drop 0 = dktX0_mole_0 := by decide +kernel
theorem dX0_mole_0 : decode cX0_mole 0 = .ok (.aload_n 0, 1) := dk_42 (dk_at dksX0_mole_0 0 rfl rfl)
theorem dX0_mole_1 : decode cX0_mole 1 = .ok (.invokevirtual 166, 3) := dk_182 0 166 (dk_at dksX0_mole_0 1 rfl rfl)
theorem dX0_mole_4 : decode cX0_mole 4 = .ok (.aload_n 0, 1) := dk_42 (dk_at dksX0_mole_0 4 rfl rfl)
theorem dX0_mole_5 : decode cX0_mole 5 = .ok (.aload_n 0, 1) := dk_42 (dk_at dksX0_mole_0 5 rfl rfl)
theorem dX0_mole_6 : decode cX0_mole 6 = .ok (.iload_n 1, 1) := dk_27 (dk_at dksX0_mole_0 6 rfl rfl)
theorem dX0_mole_7 : decode cX0_mole 7 = .ok (.invokevirtual 314, 3) := dk_182 1 58 (dk_at dksX0_mole_0 7 rfl rfl)
theorem dX0_mole_10 : decode cX0_mole 10 = .ok (.invokevirtual 172, 3) := dk_182 0 172 (dk_at dksX0_mole_0 10 rfl rfl)
theorem dX0_mole_13 : decode cX0_mole 13 = .ok (.ireturn, 1) := dk_172 (dk_at dksX0_mole_0 13 rfl rfl)
theorem dX0_mole_14 : decode cX0_mole 14 = .ok (.astore_n 2, 1) := dk_77 (dk_at dksX0_mole_0 14 rfl rfl)
theorem dX0_mole_15 : decode cX0_mole 15 = .ok (.aload_n 0, 1) := dk_42 (dk_at dksX0_mole_0 15 rfl rfl)
theorem dX0_mole_16 : decode cX0_mole 16 = .ok (.aload_n 2, 1) := dk_44 (dk_at dksX0_mole_0 16 rfl rfl)
theorem dX0_mole_17 : decode cX0_mole 17 = .ok (.invokevirtual 224, 3) := dk_182 0 224 (dk_at dksX0_mole_0 17 rfl rfl)
theorem dX0_mole_20 : decode cX0_mole 20 = .ok (.ireturn, 1) := dk_172 (dk_at dksX0_mole_0 20 rfl rfl)
abbrev cX0_doMole : ByteArray := prog_1_method_34_code
def yX0_doMole : MethodName := ⟨RX0, "doMole", "(I)I"⟩
def dkwX0_doMole_3 : List UInt8 := [42, 180, 0, 20, 89, 180, 0, 191, 4, 96, 181, 0, 191, 42, 180, 0, 20, 180, 0, 191, 4, 100, 172]
abbrev dktX0_doMole_3 : List UInt8 := dkwX0_doMole_3 ++ []
def dkwX0_doMole_2 : List UInt8 := [5, 27, 184, 0, 199, 42, 180, 0, 20, 180, 1, 51, 42, 180, 0, 20, 180, 0, 191, 50, 27, 182, 1, 55]
abbrev dktX0_doMole_2 : List UInt8 := dkwX0_doMole_2 ++ dktX0_doMole_3
def dkwX0_doMole_1 : List UInt8 := [4, 6, 184, 0, 199, 42, 180, 0, 20, 180, 0, 144, 27, 182, 0, 148, 154, 0, 7, 4, 167, 0, 4, 3]
abbrev dktX0_doMole_1 : List UInt8 := dkwX0_doMole_1 ++ dktX0_doMole_2
def dkwX0_doMole_0 : List UInt8 := [27, 184, 0, 163, 2, 184, 0, 195, 42, 180, 0, 20, 180, 0, 191, 6, 162, 0, 7, 4, 167, 0, 4, 3]
abbrev dktX0_doMole_0 : List UInt8 := dkwX0_doMole_0 ++ dktX0_doMole_1
theorem dksX0_doMole_0 : cX0_doMole.data.toList.drop 0 = dktX0_doMole_0 := by decide +kernel
theorem dksX0_doMole_1 : cX0_doMole.data.toList.drop 24 = dktX0_doMole_1 := dk_seg dksX0_doMole_0 24 rfl rfl
theorem dksX0_doMole_2 : cX0_doMole.data.toList.drop 48 = dktX0_doMole_2 := dk_seg dksX0_doMole_1 24 rfl rfl
theorem dksX0_doMole_3 : cX0_doMole.data.toList.drop 72 = dktX0_doMole_3 := dk_seg dksX0_doMole_2 24 rfl rfl
theorem dX0_doMole_0 : decode cX0_doMole 0 = .ok (.iload_n 1, 1) := dk_27 (dk_at dksX0_doMole_0 0 rfl rfl)
theorem dX0_doMole_1 : decode cX0_doMole 1 = .ok (.invokestatic 163, 3) := dk_184 0 163 (dk_at dksX0_doMole_0 1 rfl rfl)
theorem dX0_doMole_4 : decode cX0_doMole 4 = .ok (.iconst (-1), 1) := dk_2 (dk_at dksX0_doMole_0 4 rfl rfl)
theorem dX0_doMole_5 : decode cX0_doMole 5 = .ok (.invokestatic 195, 3) := dk_184 0 195 (dk_at dksX0_doMole_0 5 rfl rfl)
theorem dX0_doMole_8 : decode cX0_doMole 8 = .ok (.aload_n 0, 1) := dk_42 (dk_at dksX0_doMole_0 8 rfl rfl)
theorem dX0_doMole_9 : decode cX0_doMole 9 = .ok (.getfield 20, 3) := dk_180 0 20 (dk_at dksX0_doMole_0 9 rfl rfl)
theorem dX0_doMole_12 : decode cX0_doMole 12 = .ok (.getfield 191, 3) := dk_180 0 191 (dk_at dksX0_doMole_0 12 rfl rfl)
theorem dX0_doMole_15 : decode cX0_doMole 15 = .ok (.iconst 3, 1) := dk_6 (dk_at dksX0_doMole_0 15 rfl rfl)
theorem dX0_doMole_16 : decode cX0_doMole 16 = .ok (.if_icmp .ge 7, 3) := dk_162 0 7 (dk_at dksX0_doMole_0 16 rfl rfl)
theorem dX0_doMole_19 : decode cX0_doMole 19 = .ok (.iconst 1, 1) := dk_4 (dk_at dksX0_doMole_0 19 rfl rfl)
theorem dX0_doMole_20 : decode cX0_doMole 20 = .ok (.goto 4, 3) := dk_167 0 4 (dk_at dksX0_doMole_0 20 rfl rfl)
theorem dX0_doMole_23 : decode cX0_doMole 23 = .ok (.iconst 0, 1) := dk_3 (dk_at dksX0_doMole_0 23 rfl rfl)
theorem dX0_doMole_24 : decode cX0_doMole 24 = .ok (.iconst 1, 1) := dk_4 (dk_at dksX0_doMole_1 0 rfl rfl)
theorem dX0_doMole_25 : decode cX0_doMole 25 = .ok (.iconst 3, 1) := dk_6 (dk_at dksX0_doMole_1 1 rfl rfl)
theorem dX0_doMole_26 : decode cX0_doMole 26 = .ok (.invokestatic 199, 3) := dk_184 0 199 (dk_at dksX0_doMole_1 2 rfl rfl)
theorem dX0_doMole_29 : decode cX0_doMole 29 = .ok (.aload_n 0, 1) := dk_42 (dk_at dksX0_doMole_1 5 rfl rfl)
theorem dX0_doMole_30 : decode cX0_doMole 30 = .ok (.getfield 20, 3) := dk_180 0 20 (dk_at dksX0_doMole_1 6 rfl rfl)
theorem dX0_doMole_33 : decode cX0_doMole 33 = .ok (.getfield 144, 3) := dk_180 0 144 (dk_at dksX0_doMole_1 9 rfl rfl)
theorem dX0_doMole_36 : decode cX0_doMole 36 = .ok (.iload_n 1, 1) := dk_27 (dk_at dksX0_doMole_1 12 rfl rfl)
theorem dX0_doMole_37 : decode cX0_doMole 37 = .ok (.invokevirtual 148, 3) := dk_182 0 148 (dk_at dksX0_doMole_1 13 rfl rfl)
theorem dX0_doMole_40 : decode cX0_doMole 40 = .ok (.ifCond .ne 7, 3) := dk_154 0 7 (dk_at dksX0_doMole_1 16 rfl rfl)
theorem dX0_doMole_43 : decode cX0_doMole 43 = .ok (.iconst 1, 1) := dk_4 (dk_at dksX0_doMole_1 19 rfl rfl)
theorem dX0_doMole_44 : decode cX0_doMole 44 = .ok (.goto 4, 3) := dk_167 0 4 (dk_at dksX0_doMole_1 20 rfl rfl)
theorem dX0_doMole_47 : decode cX0_doMole 47 = .ok (.iconst 0, 1) := dk_3 (dk_at dksX0_doMole_1 23 rfl rfl)
theorem dX0_doMole_48 : decode cX0_doMole 48 = .ok (.iconst 2, 1) := dk_5 (dk_at dksX0_doMole_2 0 rfl rfl)
theorem dX0_doMole_49 : decode cX0_doMole 49 = .ok (.iload_n 1, 1) := dk_27 (dk_at dksX0_doMole_2 1 rfl rfl)
theorem dX0_doMole_50 : decode cX0_doMole 50 = .ok (.invokestatic 199, 3) := dk_184 0 199 (dk_at dksX0_doMole_2 2 rfl rfl)
theorem dX0_doMole_53 : decode cX0_doMole 53 = .ok (.aload_n 0, 1) := dk_42 (dk_at dksX0_doMole_2 5 rfl rfl)
theorem dX0_doMole_54 : decode cX0_doMole 54 = .ok (.getfield 20, 3) := dk_180 0 20 (dk_at dksX0_doMole_2 6 rfl rfl)
theorem dX0_doMole_57 : decode cX0_doMole 57 = .ok (.getfield 307, 3) := dk_180 1 51 (dk_at dksX0_doMole_2 9 rfl rfl)
theorem dX0_doMole_60 : decode cX0_doMole 60 = .ok (.aload_n 0, 1) := dk_42 (dk_at dksX0_doMole_2 12 rfl rfl)
theorem dX0_doMole_61 : decode cX0_doMole 61 = .ok (.getfield 20, 3) := dk_180 0 20 (dk_at dksX0_doMole_2 13 rfl rfl)
theorem dX0_doMole_64 : decode cX0_doMole 64 = .ok (.getfield 191, 3) := dk_180 0 191 (dk_at dksX0_doMole_2 16 rfl rfl)
theorem dX0_doMole_67 : decode cX0_doMole 67 = .ok (.aaload, 1) := dk_50 (dk_at dksX0_doMole_2 19 rfl rfl)
theorem dX0_doMole_68 : decode cX0_doMole 68 = .ok (.iload_n 1, 1) := dk_27 (dk_at dksX0_doMole_2 20 rfl rfl)
theorem dX0_doMole_69 : decode cX0_doMole 69 = .ok (.invokevirtual 311, 3) := dk_182 1 55 (dk_at dksX0_doMole_2 21 rfl rfl)
theorem dX0_doMole_72 : decode cX0_doMole 72 = .ok (.aload_n 0, 1) := dk_42 (dk_at dksX0_doMole_3 0 rfl rfl)
theorem dX0_doMole_73 : decode cX0_doMole 73 = .ok (.getfield 20, 3) := dk_180 0 20 (dk_at dksX0_doMole_3 1 rfl rfl)
theorem dX0_doMole_76 : decode cX0_doMole 76 = .ok (.dup, 1) := dk_89 (dk_at dksX0_doMole_3 4 rfl rfl)
theorem dX0_doMole_77 : decode cX0_doMole 77 = .ok (.getfield 191, 3) := dk_180 0 191 (dk_at dksX0_doMole_3 5 rfl rfl)
theorem dX0_doMole_80 : decode cX0_doMole 80 = .ok (.iconst 1, 1) := dk_4 (dk_at dksX0_doMole_3 8 rfl rfl)
theorem dX0_doMole_81 : decode cX0_doMole 81 = .ok (.iadd, 1) := dk_96 (dk_at dksX0_doMole_3 9 rfl rfl)
theorem dX0_doMole_82 : decode cX0_doMole 82 = .ok (.putfield 191, 3) := dk_181 0 191 (dk_at dksX0_doMole_3 10 rfl rfl)
theorem dX0_doMole_85 : decode cX0_doMole 85 = .ok (.aload_n 0, 1) := dk_42 (dk_at dksX0_doMole_3 13 rfl rfl)
theorem dX0_doMole_86 : decode cX0_doMole 86 = .ok (.getfield 20, 3) := dk_180 0 20 (dk_at dksX0_doMole_3 14 rfl rfl)
theorem dX0_doMole_89 : decode cX0_doMole 89 = .ok (.getfield 191, 3) := dk_180 0 191 (dk_at dksX0_doMole_3 17 rfl rfl)
theorem dX0_doMole_92 : decode cX0_doMole 92 = .ok (.iconst 1, 1) := dk_4 (dk_at dksX0_doMole_3 20 rfl rfl)
theorem dX0_doMole_93 : decode cX0_doMole 93 = .ok (.isub, 1) := dk_100 (dk_at dksX0_doMole_3 21 rfl rfl)
theorem dX0_doMole_94 : decode cX0_doMole 94 = .ok (.ireturn, 1) := dk_172 (dk_at dksX0_doMole_3 22 rfl rfl)
abbrev cX0_day : ByteArray := prog_1_method_37_code
def yX0_day : MethodName := ⟨RX0, "day", "(I)I"⟩
def dkwX0_day_0 : List UInt8 := [42, 182, 0, 166, 42, 42, 27, 182, 1, 65, 182, 0, 172, 172, 77, 42, 44, 182, 0, 224, 172]
abbrev dktX0_day_0 : List UInt8 := dkwX0_day_0 ++ []
theorem dksX0_day_0 : cX0_day.data.toList.drop 0 = dktX0_day_0 := by decide +kernel
theorem dX0_day_0 : decode cX0_day 0 = .ok (.aload_n 0, 1) := dk_42 (dk_at dksX0_day_0 0 rfl rfl)
theorem dX0_day_1 : decode cX0_day 1 = .ok (.invokevirtual 166, 3) := dk_182 0 166 (dk_at dksX0_day_0 1 rfl rfl)
theorem dX0_day_4 : decode cX0_day 4 = .ok (.aload_n 0, 1) := dk_42 (dk_at dksX0_day_0 4 rfl rfl)
theorem dX0_day_5 : decode cX0_day 5 = .ok (.aload_n 0, 1) := dk_42 (dk_at dksX0_day_0 5 rfl rfl)
theorem dX0_day_6 : decode cX0_day 6 = .ok (.iload_n 1, 1) := dk_27 (dk_at dksX0_day_0 6 rfl rfl)
theorem dX0_day_7 : decode cX0_day 7 = .ok (.invokevirtual 321, 3) := dk_182 1 65 (dk_at dksX0_day_0 7 rfl rfl)
theorem dX0_day_10 : decode cX0_day 10 = .ok (.invokevirtual 172, 3) := dk_182 0 172 (dk_at dksX0_day_0 10 rfl rfl)
theorem dX0_day_13 : decode cX0_day 13 = .ok (.ireturn, 1) := dk_172 (dk_at dksX0_day_0 13 rfl rfl)
theorem dX0_day_14 : decode cX0_day 14 = .ok (.astore_n 2, 1) := dk_77 (dk_at dksX0_day_0 14 rfl rfl)
theorem dX0_day_15 : decode cX0_day 15 = .ok (.aload_n 0, 1) := dk_42 (dk_at dksX0_day_0 15 rfl rfl)
theorem dX0_day_16 : decode cX0_day 16 = .ok (.aload_n 2, 1) := dk_44 (dk_at dksX0_day_0 16 rfl rfl)
theorem dX0_day_17 : decode cX0_day 17 = .ok (.invokevirtual 224, 3) := dk_182 0 224 (dk_at dksX0_day_0 17 rfl rfl)
theorem dX0_day_20 : decode cX0_day 20 = .ok (.ireturn, 1) := dk_172 (dk_at dksX0_day_0 20 rfl rfl)
abbrev cX0_doDay : ByteArray := prog_1_method_36_code
def yX0_doDay : MethodName := ⟨RX0, "doDay", "(I)I"⟩
def dkwX0_doDay_1 : List UInt8 := [180, 0, 20, 182, 1, 61, 96, 61, 132, 3, 1, 167, 255, 238, 28, 172]
abbrev dktX0_doDay_1 : List UInt8 := dkwX0_doDay_1 ++ []
def dkwX0_doDay_0 : List UInt8 := [27, 4, 16, 20, 184, 0, 140, 16, 254, 184, 0, 195, 3, 61, 3, 62, 29, 27, 162, 0, 19, 28, 42]
abbrev dktX0_doDay_0 : List UInt8 := dkwX0_doDay_0 ++ dktX0_doDay_1
theorem dksX0_doDay_0 : cX0_doDay.data.toList.drop 0 = dktX0_doDay_0 := by decide +kernel
theorem dksX0_doDay_1 : cX0_doDay.data.toList.drop 23 = dktX0_doDay_1 := dk_seg dksX0_doDay_0 23 rfl rfl
theorem dX0_doDay_0 : decode cX0_doDay 0 = .ok (.iload_n 1, 1) := dk_27 (dk_at dksX0_doDay_0 0 rfl rfl)
theorem dX0_doDay_1 : decode cX0_doDay 1 = .ok (.iconst 1, 1) := dk_4 (dk_at dksX0_doDay_0 1 rfl rfl)
theorem dX0_doDay_2 : decode cX0_doDay 2 = .ok (.bipush 20, 2) := dk_16 20 (dk_at dksX0_doDay_0 2 rfl rfl)
theorem dX0_doDay_4 : decode cX0_doDay 4 = .ok (.invokestatic 140, 3) := dk_184 0 140 (dk_at dksX0_doDay_0 4 rfl rfl)
theorem dX0_doDay_7 : decode cX0_doDay 7 = .ok (.bipush (-2), 2) := dk_16 254 (dk_at dksX0_doDay_0 7 rfl rfl)
theorem dX0_doDay_9 : decode cX0_doDay 9 = .ok (.invokestatic 195, 3) := dk_184 0 195 (dk_at dksX0_doDay_0 9 rfl rfl)
theorem dX0_doDay_12 : decode cX0_doDay 12 = .ok (.iconst 0, 1) := dk_3 (dk_at dksX0_doDay_0 12 rfl rfl)
theorem dX0_doDay_13 : decode cX0_doDay 13 = .ok (.istore_n 2, 1) := dk_61 (dk_at dksX0_doDay_0 13 rfl rfl)
theorem dX0_doDay_14 : decode cX0_doDay 14 = .ok (.iconst 0, 1) := dk_3 (dk_at dksX0_doDay_0 14 rfl rfl)
theorem dX0_doDay_15 : decode cX0_doDay 15 = .ok (.istore_n 3, 1) := dk_62 (dk_at dksX0_doDay_0 15 rfl rfl)
theorem dX0_doDay_16 : decode cX0_doDay 16 = .ok (.iload_n 3, 1) := dk_29 (dk_at dksX0_doDay_0 16 rfl rfl)
theorem dX0_doDay_17 : decode cX0_doDay 17 = .ok (.iload_n 1, 1) := dk_27 (dk_at dksX0_doDay_0 17 rfl rfl)
theorem dX0_doDay_18 : decode cX0_doDay 18 = .ok (.if_icmp .ge 19, 3) := dk_162 0 19 (dk_at dksX0_doDay_0 18 rfl rfl)
theorem dX0_doDay_21 : decode cX0_doDay 21 = .ok (.iload_n 2, 1) := dk_28 (dk_at dksX0_doDay_0 21 rfl rfl)
theorem dX0_doDay_22 : decode cX0_doDay 22 = .ok (.aload_n 0, 1) := dk_42 (dk_at dksX0_doDay_0 22 rfl rfl)
theorem dX0_doDay_23 : decode cX0_doDay 23 = .ok (.getfield 20, 3) := dk_180 0 20 (dk_at dksX0_doDay_1 0 rfl rfl)
theorem dX0_doDay_26 : decode cX0_doDay 26 = .ok (.invokevirtual 317, 3) := dk_182 1 61 (dk_at dksX0_doDay_1 3 rfl rfl)
theorem dX0_doDay_29 : decode cX0_doDay 29 = .ok (.iadd, 1) := dk_96 (dk_at dksX0_doDay_1 6 rfl rfl)
theorem dX0_doDay_30 : decode cX0_doDay 30 = .ok (.istore_n 2, 1) := dk_61 (dk_at dksX0_doDay_1 7 rfl rfl)
theorem dX0_doDay_31 : decode cX0_doDay 31 = .ok (.iinc 3 1, 3) := dk_132 3 1 (dk_at dksX0_doDay_1 8 rfl rfl)
theorem dX0_doDay_34 : decode cX0_doDay 34 = .ok (.goto (-18), 3) := dk_167 255 238 (dk_at dksX0_doDay_1 11 rfl rfl)
theorem dX0_doDay_37 : decode cX0_doDay 37 = .ok (.iload_n 2, 1) := dk_28 (dk_at dksX0_doDay_1 14 rfl rfl)
theorem dX0_doDay_38 : decode cX0_doDay 38 = .ok (.ireturn, 1) := dk_172 (dk_at dksX0_doDay_1 15 rfl rfl)
abbrev cX0_slippers : ByteArray := prog_1_method_38_code
def yX0_slippers : MethodName := ⟨RX0, "slippers", "(II)I"⟩
def dkwX0_slippers_2 : List UInt8 := [96, 184, 1, 71, 79, 42, 42, 180, 0, 20, 180, 1, 68, 27, 46, 182, 0, 172, 172]
abbrev dktX0_slippers_2 : List UInt8 := dkwX0_slippers_2 ++ []
def dkwX0_slippers_1 : List UInt8 := [42, 182, 0, 166, 42, 180, 0, 20, 180, 1, 68, 27, 16, 9, 42, 180, 0, 20, 180, 1, 68, 27, 46, 28]
abbrev dktX0_slippers_1 : List UInt8 := dkwX0_slippers_1 ++ dktX0_slippers_2
def dkwX0_slippers_0 : List UInt8 := [27, 3, 7, 184, 0, 140, 154, 0, 5, 2, 172, 28, 4, 16, 9, 184, 0, 140, 154, 0, 6, 16, 254, 172]
abbrev dktX0_slippers_0 : List UInt8 := dkwX0_slippers_0 ++ dktX0_slippers_1
theorem dksX0_slippers_0 : cX0_slippers.data.toList.drop 0 = dktX0_slippers_0 := by decide +kernel
theorem dksX0_slippers_1 : cX0_slippers.data.toList.drop 24 = dktX0_slippers_1 := dk_seg dksX0_slippers_0 24 rfl rfl
theorem dksX0_slippers_2 : cX0_slippers.data.toList.drop 48 = dktX0_slippers_2 := dk_seg dksX0_slippers_1 24 rfl rfl
theorem dX0_slippers_0 : decode cX0_slippers 0 = .ok (.iload_n 1, 1) := dk_27 (dk_at dksX0_slippers_0 0 rfl rfl)
theorem dX0_slippers_1 : decode cX0_slippers 1 = .ok (.iconst 0, 1) := dk_3 (dk_at dksX0_slippers_0 1 rfl rfl)
theorem dX0_slippers_2 : decode cX0_slippers 2 = .ok (.iconst 4, 1) := dk_7 (dk_at dksX0_slippers_0 2 rfl rfl)
theorem dX0_slippers_3 : decode cX0_slippers 3 = .ok (.invokestatic 140, 3) := dk_184 0 140 (dk_at dksX0_slippers_0 3 rfl rfl)
theorem dX0_slippers_6 : decode cX0_slippers 6 = .ok (.ifCond .ne 5, 3) := dk_154 0 5 (dk_at dksX0_slippers_0 6 rfl rfl)
theorem dX0_slippers_9 : decode cX0_slippers 9 = .ok (.iconst (-1), 1) := dk_2 (dk_at dksX0_slippers_0 9 rfl rfl)
theorem dX0_slippers_10 : decode cX0_slippers 10 = .ok (.ireturn, 1) := dk_172 (dk_at dksX0_slippers_0 10 rfl rfl)
theorem dX0_slippers_11 : decode cX0_slippers 11 = .ok (.iload_n 2, 1) := dk_28 (dk_at dksX0_slippers_0 11 rfl rfl)
theorem dX0_slippers_12 : decode cX0_slippers 12 = .ok (.iconst 1, 1) := dk_4 (dk_at dksX0_slippers_0 12 rfl rfl)
theorem dX0_slippers_13 : decode cX0_slippers 13 = .ok (.bipush 9, 2) := dk_16 9 (dk_at dksX0_slippers_0 13 rfl rfl)
theorem dX0_slippers_15 : decode cX0_slippers 15 = .ok (.invokestatic 140, 3) := dk_184 0 140 (dk_at dksX0_slippers_0 15 rfl rfl)
theorem dX0_slippers_18 : decode cX0_slippers 18 = .ok (.ifCond .ne 6, 3) := dk_154 0 6 (dk_at dksX0_slippers_0 18 rfl rfl)
theorem dX0_slippers_21 : decode cX0_slippers 21 = .ok (.bipush (-2), 2) := dk_16 254 (dk_at dksX0_slippers_0 21 rfl rfl)
theorem dX0_slippers_23 : decode cX0_slippers 23 = .ok (.ireturn, 1) := dk_172 (dk_at dksX0_slippers_0 23 rfl rfl)
theorem dX0_slippers_24 : decode cX0_slippers 24 = .ok (.aload_n 0, 1) := dk_42 (dk_at dksX0_slippers_1 0 rfl rfl)
theorem dX0_slippers_25 : decode cX0_slippers 25 = .ok (.invokevirtual 166, 3) := dk_182 0 166 (dk_at dksX0_slippers_1 1 rfl rfl)
theorem dX0_slippers_28 : decode cX0_slippers 28 = .ok (.aload_n 0, 1) := dk_42 (dk_at dksX0_slippers_1 4 rfl rfl)
theorem dX0_slippers_29 : decode cX0_slippers 29 = .ok (.getfield 20, 3) := dk_180 0 20 (dk_at dksX0_slippers_1 5 rfl rfl)
theorem dX0_slippers_32 : decode cX0_slippers 32 = .ok (.getfield 324, 3) := dk_180 1 68 (dk_at dksX0_slippers_1 8 rfl rfl)
theorem dX0_slippers_35 : decode cX0_slippers 35 = .ok (.iload_n 1, 1) := dk_27 (dk_at dksX0_slippers_1 11 rfl rfl)
theorem dX0_slippers_36 : decode cX0_slippers 36 = .ok (.bipush 9, 2) := dk_16 9 (dk_at dksX0_slippers_1 12 rfl rfl)
theorem dX0_slippers_38 : decode cX0_slippers 38 = .ok (.aload_n 0, 1) := dk_42 (dk_at dksX0_slippers_1 14 rfl rfl)
theorem dX0_slippers_39 : decode cX0_slippers 39 = .ok (.getfield 20, 3) := dk_180 0 20 (dk_at dksX0_slippers_1 15 rfl rfl)
theorem dX0_slippers_42 : decode cX0_slippers 42 = .ok (.getfield 324, 3) := dk_180 1 68 (dk_at dksX0_slippers_1 18 rfl rfl)
theorem dX0_slippers_45 : decode cX0_slippers 45 = .ok (.iload_n 1, 1) := dk_27 (dk_at dksX0_slippers_1 21 rfl rfl)
theorem dX0_slippers_46 : decode cX0_slippers 46 = .ok (.iaload, 1) := dk_46 (dk_at dksX0_slippers_1 22 rfl rfl)
theorem dX0_slippers_47 : decode cX0_slippers 47 = .ok (.iload_n 2, 1) := dk_28 (dk_at dksX0_slippers_1 23 rfl rfl)
theorem dX0_slippers_48 : decode cX0_slippers 48 = .ok (.iadd, 1) := dk_96 (dk_at dksX0_slippers_2 0 rfl rfl)
theorem dX0_slippers_49 : decode cX0_slippers 49 = .ok (.invokestatic 327, 3) := dk_184 1 71 (dk_at dksX0_slippers_2 1 rfl rfl)
theorem dX0_slippers_52 : decode cX0_slippers 52 = .ok (.iastore, 1) := dk_79 (dk_at dksX0_slippers_2 4 rfl rfl)
theorem dX0_slippers_53 : decode cX0_slippers 53 = .ok (.aload_n 0, 1) := dk_42 (dk_at dksX0_slippers_2 5 rfl rfl)
theorem dX0_slippers_54 : decode cX0_slippers 54 = .ok (.aload_n 0, 1) := dk_42 (dk_at dksX0_slippers_2 6 rfl rfl)
theorem dX0_slippers_55 : decode cX0_slippers 55 = .ok (.getfield 20, 3) := dk_180 0 20 (dk_at dksX0_slippers_2 7 rfl rfl)
theorem dX0_slippers_58 : decode cX0_slippers 58 = .ok (.getfield 324, 3) := dk_180 1 68 (dk_at dksX0_slippers_2 10 rfl rfl)
theorem dX0_slippers_61 : decode cX0_slippers 61 = .ok (.iload_n 1, 1) := dk_27 (dk_at dksX0_slippers_2 13 rfl rfl)
theorem dX0_slippers_62 : decode cX0_slippers 62 = .ok (.iaload, 1) := dk_46 (dk_at dksX0_slippers_2 14 rfl rfl)
theorem dX0_slippers_63 : decode cX0_slippers 63 = .ok (.invokevirtual 172, 3) := dk_182 0 172 (dk_at dksX0_slippers_2 15 rfl rfl)
theorem dX0_slippers_66 : decode cX0_slippers 66 = .ok (.ireturn, 1) := dk_172 (dk_at dksX0_slippers_2 18 rfl rfl)
abbrev cX0_pilgrim : ByteArray := prog_1_method_44_code
def yX0_pilgrim : MethodName := ⟨RX0, "pilgrim", "(III)I"⟩
def dkwX0_pilgrim_1 : List UInt8 := [172]
abbrev dktX0_pilgrim_1 : List UInt8 := dkwX0_pilgrim_1 ++ []
def dkwX0_pilgrim_0 : List UInt8 := [42, 182, 0, 166, 42, 42, 27, 28, 29, 182, 1, 155, 182, 0, 172, 172, 58, 4, 42, 25, 4, 182, 0, 224]
abbrev dktX0_pilgrim_0 : List UInt8 := dkwX0_pilgrim_0 ++ dktX0_pilgrim_1
theorem dksX0_pilgrim_0 : cX0_pilgrim.data.toList.drop 0 = dktX0_pilgrim_0 := by decide +kernel
theorem dksX0_pilgrim_1 : cX0_pilgrim.data.toList.drop 24 = dktX0_pilgrim_1 := dk_seg dksX0_pilgrim_0 24 rfl rfl
theorem dX0_pilgrim_0 : decode cX0_pilgrim 0 = .ok (.aload_n 0, 1) := dk_42 (dk_at dksX0_pilgrim_0 0 rfl rfl)
theorem dX0_pilgrim_1 : decode cX0_pilgrim 1 = .ok (.invokevirtual 166, 3) := dk_182 0 166 (dk_at dksX0_pilgrim_0 1 rfl rfl)
theorem dX0_pilgrim_4 : decode cX0_pilgrim 4 = .ok (.aload_n 0, 1) := dk_42 (dk_at dksX0_pilgrim_0 4 rfl rfl)
theorem dX0_pilgrim_5 : decode cX0_pilgrim 5 = .ok (.aload_n 0, 1) := dk_42 (dk_at dksX0_pilgrim_0 5 rfl rfl)
theorem dX0_pilgrim_6 : decode cX0_pilgrim 6 = .ok (.iload_n 1, 1) := dk_27 (dk_at dksX0_pilgrim_0 6 rfl rfl)
theorem dX0_pilgrim_7 : decode cX0_pilgrim 7 = .ok (.iload_n 2, 1) := dk_28 (dk_at dksX0_pilgrim_0 7 rfl rfl)
theorem dX0_pilgrim_8 : decode cX0_pilgrim 8 = .ok (.iload_n 3, 1) := dk_29 (dk_at dksX0_pilgrim_0 8 rfl rfl)
theorem dX0_pilgrim_9 : decode cX0_pilgrim 9 = .ok (.invokevirtual 411, 3) := dk_182 1 155 (dk_at dksX0_pilgrim_0 9 rfl rfl)
theorem dX0_pilgrim_12 : decode cX0_pilgrim 12 = .ok (.invokevirtual 172, 3) := dk_182 0 172 (dk_at dksX0_pilgrim_0 12 rfl rfl)
theorem dX0_pilgrim_15 : decode cX0_pilgrim 15 = .ok (.ireturn, 1) := dk_172 (dk_at dksX0_pilgrim_0 15 rfl rfl)
theorem dX0_pilgrim_16 : decode cX0_pilgrim 16 = .ok (.astore 4, 2) := dk_58 4 (dk_at dksX0_pilgrim_0 16 rfl rfl)
theorem dX0_pilgrim_18 : decode cX0_pilgrim 18 = .ok (.aload_n 0, 1) := dk_42 (dk_at dksX0_pilgrim_0 18 rfl rfl)
theorem dX0_pilgrim_19 : decode cX0_pilgrim 19 = .ok (.aload 4, 2) := dk_25 4 (dk_at dksX0_pilgrim_0 19 rfl rfl)
theorem dX0_pilgrim_21 : decode cX0_pilgrim 21 = .ok (.invokevirtual 224, 3) := dk_182 0 224 (dk_at dksX0_pilgrim_0 21 rfl rfl)
theorem dX0_pilgrim_24 : decode cX0_pilgrim 24 = .ok (.ireturn, 1) := dk_172 (dk_at dksX0_pilgrim_1 0 rfl rfl)
abbrev cX0_doPilgrim : ByteArray := prog_1_method_43_code
def yX0_doPilgrim : MethodName := ⟨RX0, "doPilgrim", "(III)I"⟩
def dkwX0_doPilgrim_9 : List UInt8 := [42, 180, 0, 20, 89, 180, 1, 152, 5, 21, 5, 96, 96, 181, 1, 152, 5, 21, 5, 96, 172]
abbrev dktX0_doPilgrim_9 : List UInt8 := dkwX0_doPilgrim_9 ++ []
def dkwX0_doPilgrim_8 : List UInt8 := [180, 1, 128, 182, 1, 146, 192, 1, 132, 58, 7, 42, 180, 0, 20, 89, 180, 1, 149, 4, 96, 181, 1, 149]
abbrev dktX0_doPilgrim_8 : List UInt8 := dkwX0_doPilgrim_8 ++ dktX0_doPilgrim_9
def dkwX0_doPilgrim_7 : List UInt8 := [183, 1, 134, 182, 1, 137, 42, 180, 0, 20, 180, 1, 128, 182, 1, 143, 8, 164, 0, 18, 42, 180, 0, 20]
abbrev dktX0_doPilgrim_7 : List UInt8 := dkwX0_doPilgrim_7 ++ dktX0_doPilgrim_8
def dkwX0_doPilgrim_6 : List UInt8 := [132, 7, 1, 167, 255, 232, 42, 180, 0, 20, 180, 1, 128, 187, 1, 132, 89, 21, 4, 28, 29, 21, 5]
abbrev dktX0_doPilgrim_6 : List UInt8 := dkwX0_doPilgrim_6 ++ dktX0_doPilgrim_7
def dkwX0_doPilgrim_5 : List UInt8 := [54, 7, 21, 7, 21, 5, 162, 0, 23, 42, 21, 6, 182, 1, 125, 54, 6, 42, 21, 6, 182, 1, 122]
abbrev dktX0_doPilgrim_5 : List UInt8 := dkwX0_doPilgrim_5 ++ dktX0_doPilgrim_6
def dkwX0_doPilgrim_4 : List UInt8 := [180, 0, 20, 180, 1, 68, 21, 4, 92, 46, 4, 100, 79, 28, 54, 6, 42, 21, 6, 182, 1, 122, 3]
abbrev dktX0_doPilgrim_4 : List UInt8 := dkwX0_doPilgrim_4 ++ dktX0_doPilgrim_5
def dkwX0_doPilgrim_3 : List UInt8 := [180, 0, 103, 28, 46, 54, 5, 21, 5, 155, 0, 7, 4, 167, 0, 4, 3, 16, 11, 29, 184, 0, 199, 42]
abbrev dktX0_doPilgrim_3 : List UInt8 := dkwX0_doPilgrim_3 ++ dktX0_doPilgrim_4
def dkwX0_doPilgrim_2 : List UInt8 := [3, 16, 10, 27, 184, 0, 199, 42, 28, 182, 0, 241, 42, 29, 182, 0, 241, 42, 29, 182, 1, 119, 42]
abbrev dktX0_doPilgrim_2 : List UInt8 := dkwX0_doPilgrim_2 ++ dktX0_doPilgrim_3
def dkwX0_doPilgrim_1 : List UInt8 := [167, 0, 4, 3, 2, 184, 0, 195, 42, 27, 182, 1, 116, 54, 4, 21, 4, 155, 0, 7, 4, 167, 0, 4]
abbrev dktX0_doPilgrim_1 : List UInt8 := dkwX0_doPilgrim_1 ++ dktX0_doPilgrim_2
def dkwX0_doPilgrim_0 : List UInt8 := [27, 3, 7, 184, 0, 140, 153, 0, 21, 28, 184, 0, 163, 153, 0, 14, 29, 184, 0, 163, 153, 0, 7, 4]
abbrev dktX0_doPilgrim_0 : List UInt8 := dkwX0_doPilgrim_0 ++ dktX0_doPilgrim_1
theorem dksX0_doPilgrim_0 : cX0_doPilgrim.data.toList.drop 0 = dktX0_doPilgrim_0 := by decide +kernel
theorem dksX0_doPilgrim_1 : cX0_doPilgrim.data.toList.drop 24 = dktX0_doPilgrim_1 := dk_seg dksX0_doPilgrim_0 24 rfl rfl
theorem dksX0_doPilgrim_2 : cX0_doPilgrim.data.toList.drop 48 = dktX0_doPilgrim_2 := dk_seg dksX0_doPilgrim_1 24 rfl rfl
theorem dksX0_doPilgrim_3 : cX0_doPilgrim.data.toList.drop 71 = dktX0_doPilgrim_3 := dk_seg dksX0_doPilgrim_2 23 rfl rfl
theorem dksX0_doPilgrim_4 : cX0_doPilgrim.data.toList.drop 95 = dktX0_doPilgrim_4 := dk_seg dksX0_doPilgrim_3 24 rfl rfl
theorem dksX0_doPilgrim_5 : cX0_doPilgrim.data.toList.drop 118 = dktX0_doPilgrim_5 := dk_seg dksX0_doPilgrim_4 23 rfl rfl
theorem dksX0_doPilgrim_6 : cX0_doPilgrim.data.toList.drop 141 = dktX0_doPilgrim_6 := dk_seg dksX0_doPilgrim_5 23 rfl rfl
theorem dksX0_doPilgrim_7 : cX0_doPilgrim.data.toList.drop 164 = dktX0_doPilgrim_7 := dk_seg dksX0_doPilgrim_6 23 rfl rfl
theorem dksX0_doPilgrim_8 : cX0_doPilgrim.data.toList.drop 188 = dktX0_doPilgrim_8 := dk_seg dksX0_doPilgrim_7 24 rfl rfl
theorem dksX0_doPilgrim_9 : cX0_doPilgrim.data.toList.drop 212 = dktX0_doPilgrim_9 := dk_seg dksX0_doPilgrim_8 24 rfl rfl
theorem dX0_doPilgrim_0 : decode cX0_doPilgrim 0 = .ok (.iload_n 1, 1) := dk_27 (dk_at dksX0_doPilgrim_0 0 rfl rfl)
theorem dX0_doPilgrim_1 : decode cX0_doPilgrim 1 = .ok (.iconst 0, 1) := dk_3 (dk_at dksX0_doPilgrim_0 1 rfl rfl)
theorem dX0_doPilgrim_2 : decode cX0_doPilgrim 2 = .ok (.iconst 4, 1) := dk_7 (dk_at dksX0_doPilgrim_0 2 rfl rfl)
theorem dX0_doPilgrim_3 : decode cX0_doPilgrim 3 = .ok (.invokestatic 140, 3) := dk_184 0 140 (dk_at dksX0_doPilgrim_0 3 rfl rfl)
theorem dX0_doPilgrim_6 : decode cX0_doPilgrim 6 = .ok (.ifCond .eq 21, 3) := dk_153 0 21 (dk_at dksX0_doPilgrim_0 6 rfl rfl)
theorem dX0_doPilgrim_9 : decode cX0_doPilgrim 9 = .ok (.iload_n 2, 1) := dk_28 (dk_at dksX0_doPilgrim_0 9 rfl rfl)
theorem dX0_doPilgrim_10 : decode cX0_doPilgrim 10 = .ok (.invokestatic 163, 3) := dk_184 0 163 (dk_at dksX0_doPilgrim_0 10 rfl rfl)
theorem dX0_doPilgrim_13 : decode cX0_doPilgrim 13 = .ok (.ifCond .eq 14, 3) := dk_153 0 14 (dk_at dksX0_doPilgrim_0 13 rfl rfl)
theorem dX0_doPilgrim_16 : decode cX0_doPilgrim 16 = .ok (.iload_n 3, 1) := dk_29 (dk_at dksX0_doPilgrim_0 16 rfl rfl)
theorem dX0_doPilgrim_17 : decode cX0_doPilgrim 17 = .ok (.invokestatic 163, 3) := dk_184 0 163 (dk_at dksX0_doPilgrim_0 17 rfl rfl)
theorem dX0_doPilgrim_20 : decode cX0_doPilgrim 20 = .ok (.ifCond .eq 7, 3) := dk_153 0 7 (dk_at dksX0_doPilgrim_0 20 rfl rfl)
theorem dX0_doPilgrim_23 : decode cX0_doPilgrim 23 = .ok (.iconst 1, 1) := dk_4 (dk_at dksX0_doPilgrim_0 23 rfl rfl)
theorem dX0_doPilgrim_24 : decode cX0_doPilgrim 24 = .ok (.goto 4, 3) := dk_167 0 4 (dk_at dksX0_doPilgrim_1 0 rfl rfl)
theorem dX0_doPilgrim_27 : decode cX0_doPilgrim 27 = .ok (.iconst 0, 1) := dk_3 (dk_at dksX0_doPilgrim_1 3 rfl rfl)
theorem dX0_doPilgrim_28 : decode cX0_doPilgrim 28 = .ok (.iconst (-1), 1) := dk_2 (dk_at dksX0_doPilgrim_1 4 rfl rfl)
theorem dX0_doPilgrim_29 : decode cX0_doPilgrim 29 = .ok (.invokestatic 195, 3) := dk_184 0 195 (dk_at dksX0_doPilgrim_1 5 rfl rfl)
theorem dX0_doPilgrim_32 : decode cX0_doPilgrim 32 = .ok (.aload_n 0, 1) := dk_42 (dk_at dksX0_doPilgrim_1 8 rfl rfl)
theorem dX0_doPilgrim_33 : decode cX0_doPilgrim 33 = .ok (.iload_n 1, 1) := dk_27 (dk_at dksX0_doPilgrim_1 9 rfl rfl)
theorem dX0_doPilgrim_34 : decode cX0_doPilgrim 34 = .ok (.invokevirtual 372, 3) := dk_182 1 116 (dk_at dksX0_doPilgrim_1 10 rfl rfl)
theorem dX0_doPilgrim_37 : decode cX0_doPilgrim 37 = .ok (.istore 4, 2) := dk_54 4 (dk_at dksX0_doPilgrim_1 13 rfl rfl)
theorem dX0_doPilgrim_39 : decode cX0_doPilgrim 39 = .ok (.iload 4, 2) := dk_21 4 (dk_at dksX0_doPilgrim_1 15 rfl rfl)
theorem dX0_doPilgrim_41 : decode cX0_doPilgrim 41 = .ok (.ifCond .lt 7, 3) := dk_155 0 7 (dk_at dksX0_doPilgrim_1 17 rfl rfl)
theorem dX0_doPilgrim_44 : decode cX0_doPilgrim 44 = .ok (.iconst 1, 1) := dk_4 (dk_at dksX0_doPilgrim_1 20 rfl rfl)
theorem dX0_doPilgrim_45 : decode cX0_doPilgrim 45 = .ok (.goto 4, 3) := dk_167 0 4 (dk_at dksX0_doPilgrim_1 21 rfl rfl)
theorem dX0_doPilgrim_48 : decode cX0_doPilgrim 48 = .ok (.iconst 0, 1) := dk_3 (dk_at dksX0_doPilgrim_2 0 rfl rfl)
theorem dX0_doPilgrim_49 : decode cX0_doPilgrim 49 = .ok (.bipush 10, 2) := dk_16 10 (dk_at dksX0_doPilgrim_2 1 rfl rfl)
theorem dX0_doPilgrim_51 : decode cX0_doPilgrim 51 = .ok (.iload_n 1, 1) := dk_27 (dk_at dksX0_doPilgrim_2 3 rfl rfl)
theorem dX0_doPilgrim_52 : decode cX0_doPilgrim 52 = .ok (.invokestatic 199, 3) := dk_184 0 199 (dk_at dksX0_doPilgrim_2 4 rfl rfl)
theorem dX0_doPilgrim_55 : decode cX0_doPilgrim 55 = .ok (.aload_n 0, 1) := dk_42 (dk_at dksX0_doPilgrim_2 7 rfl rfl)
theorem dX0_doPilgrim_56 : decode cX0_doPilgrim 56 = .ok (.iload_n 2, 1) := dk_28 (dk_at dksX0_doPilgrim_2 8 rfl rfl)
theorem dX0_doPilgrim_57 : decode cX0_doPilgrim 57 = .ok (.invokevirtual 241, 3) := dk_182 0 241 (dk_at dksX0_doPilgrim_2 9 rfl rfl)
theorem dX0_doPilgrim_60 : decode cX0_doPilgrim 60 = .ok (.aload_n 0, 1) := dk_42 (dk_at dksX0_doPilgrim_2 12 rfl rfl)
theorem dX0_doPilgrim_61 : decode cX0_doPilgrim 61 = .ok (.iload_n 3, 1) := dk_29 (dk_at dksX0_doPilgrim_2 13 rfl rfl)
theorem dX0_doPilgrim_62 : decode cX0_doPilgrim 62 = .ok (.invokevirtual 241, 3) := dk_182 0 241 (dk_at dksX0_doPilgrim_2 14 rfl rfl)
theorem dX0_doPilgrim_65 : decode cX0_doPilgrim 65 = .ok (.aload_n 0, 1) := dk_42 (dk_at dksX0_doPilgrim_2 17 rfl rfl)
theorem dX0_doPilgrim_66 : decode cX0_doPilgrim 66 = .ok (.iload_n 3, 1) := dk_29 (dk_at dksX0_doPilgrim_2 18 rfl rfl)
theorem dX0_doPilgrim_67 : decode cX0_doPilgrim 67 = .ok (.invokevirtual 375, 3) := dk_182 1 119 (dk_at dksX0_doPilgrim_2 19 rfl rfl)
theorem dX0_doPilgrim_70 : decode cX0_doPilgrim 70 = .ok (.aload_n 0, 1) := dk_42 (dk_at dksX0_doPilgrim_2 22 rfl rfl)
theorem dX0_doPilgrim_71 : decode cX0_doPilgrim 71 = .ok (.getfield 103, 3) := dk_180 0 103 (dk_at dksX0_doPilgrim_3 0 rfl rfl)
theorem dX0_doPilgrim_74 : decode cX0_doPilgrim 74 = .ok (.iload_n 2, 1) := dk_28 (dk_at dksX0_doPilgrim_3 3 rfl rfl)
theorem dX0_doPilgrim_75 : decode cX0_doPilgrim 75 = .ok (.iaload, 1) := dk_46 (dk_at dksX0_doPilgrim_3 4 rfl rfl)
theorem dX0_doPilgrim_76 : decode cX0_doPilgrim 76 = .ok (.istore 5, 2) := dk_54 5 (dk_at dksX0_doPilgrim_3 5 rfl rfl)
theorem dX0_doPilgrim_78 : decode cX0_doPilgrim 78 = .ok (.iload 5, 2) := dk_21 5 (dk_at dksX0_doPilgrim_3 7 rfl rfl)
theorem dX0_doPilgrim_80 : decode cX0_doPilgrim 80 = .ok (.ifCond .lt 7, 3) := dk_155 0 7 (dk_at dksX0_doPilgrim_3 9 rfl rfl)
theorem dX0_doPilgrim_83 : decode cX0_doPilgrim 83 = .ok (.iconst 1, 1) := dk_4 (dk_at dksX0_doPilgrim_3 12 rfl rfl)
theorem dX0_doPilgrim_84 : decode cX0_doPilgrim 84 = .ok (.goto 4, 3) := dk_167 0 4 (dk_at dksX0_doPilgrim_3 13 rfl rfl)
theorem dX0_doPilgrim_87 : decode cX0_doPilgrim 87 = .ok (.iconst 0, 1) := dk_3 (dk_at dksX0_doPilgrim_3 16 rfl rfl)
theorem dX0_doPilgrim_88 : decode cX0_doPilgrim 88 = .ok (.bipush 11, 2) := dk_16 11 (dk_at dksX0_doPilgrim_3 17 rfl rfl)
theorem dX0_doPilgrim_90 : decode cX0_doPilgrim 90 = .ok (.iload_n 3, 1) := dk_29 (dk_at dksX0_doPilgrim_3 19 rfl rfl)
theorem dX0_doPilgrim_91 : decode cX0_doPilgrim 91 = .ok (.invokestatic 199, 3) := dk_184 0 199 (dk_at dksX0_doPilgrim_3 20 rfl rfl)
theorem dX0_doPilgrim_94 : decode cX0_doPilgrim 94 = .ok (.aload_n 0, 1) := dk_42 (dk_at dksX0_doPilgrim_3 23 rfl rfl)
theorem dX0_doPilgrim_95 : decode cX0_doPilgrim 95 = .ok (.getfield 20, 3) := dk_180 0 20 (dk_at dksX0_doPilgrim_4 0 rfl rfl)
theorem dX0_doPilgrim_98 : decode cX0_doPilgrim 98 = .ok (.getfield 324, 3) := dk_180 1 68 (dk_at dksX0_doPilgrim_4 3 rfl rfl)
theorem dX0_doPilgrim_101 : decode cX0_doPilgrim 101 = .ok (.iload 4, 2) := dk_21 4 (dk_at dksX0_doPilgrim_4 6 rfl rfl)
theorem dX0_doPilgrim_103 : decode cX0_doPilgrim 103 = .ok (.dup2, 1) := dk_92 (dk_at dksX0_doPilgrim_4 8 rfl rfl)
theorem dX0_doPilgrim_104 : decode cX0_doPilgrim 104 = .ok (.iaload, 1) := dk_46 (dk_at dksX0_doPilgrim_4 9 rfl rfl)
theorem dX0_doPilgrim_105 : decode cX0_doPilgrim 105 = .ok (.iconst 1, 1) := dk_4 (dk_at dksX0_doPilgrim_4 10 rfl rfl)
theorem dX0_doPilgrim_106 : decode cX0_doPilgrim 106 = .ok (.isub, 1) := dk_100 (dk_at dksX0_doPilgrim_4 11 rfl rfl)
theorem dX0_doPilgrim_107 : decode cX0_doPilgrim 107 = .ok (.iastore, 1) := dk_79 (dk_at dksX0_doPilgrim_4 12 rfl rfl)
theorem dX0_doPilgrim_108 : decode cX0_doPilgrim 108 = .ok (.iload_n 2, 1) := dk_28 (dk_at dksX0_doPilgrim_4 13 rfl rfl)
theorem dX0_doPilgrim_109 : decode cX0_doPilgrim 109 = .ok (.istore 6, 2) := dk_54 6 (dk_at dksX0_doPilgrim_4 14 rfl rfl)
theorem dX0_doPilgrim_111 : decode cX0_doPilgrim 111 = .ok (.aload_n 0, 1) := dk_42 (dk_at dksX0_doPilgrim_4 16 rfl rfl)
theorem dX0_doPilgrim_112 : decode cX0_doPilgrim 112 = .ok (.iload 6, 2) := dk_21 6 (dk_at dksX0_doPilgrim_4 17 rfl rfl)
theorem dX0_doPilgrim_114 : decode cX0_doPilgrim 114 = .ok (.invokevirtual 378, 3) := dk_182 1 122 (dk_at dksX0_doPilgrim_4 19 rfl rfl)
theorem dX0_doPilgrim_117 : decode cX0_doPilgrim 117 = .ok (.iconst 0, 1) := dk_3 (dk_at dksX0_doPilgrim_4 22 rfl rfl)
theorem dX0_doPilgrim_118 : decode cX0_doPilgrim 118 = .ok (.istore 7, 2) := dk_54 7 (dk_at dksX0_doPilgrim_5 0 rfl rfl)
theorem dX0_doPilgrim_120 : decode cX0_doPilgrim 120 = .ok (.iload 7, 2) := dk_21 7 (dk_at dksX0_doPilgrim_5 2 rfl rfl)
theorem dX0_doPilgrim_122 : decode cX0_doPilgrim 122 = .ok (.iload 5, 2) := dk_21 5 (dk_at dksX0_doPilgrim_5 4 rfl rfl)
theorem dX0_doPilgrim_124 : decode cX0_doPilgrim 124 = .ok (.if_icmp .ge 23, 3) := dk_162 0 23 (dk_at dksX0_doPilgrim_5 6 rfl rfl)
theorem dX0_doPilgrim_127 : decode cX0_doPilgrim 127 = .ok (.aload_n 0, 1) := dk_42 (dk_at dksX0_doPilgrim_5 9 rfl rfl)
theorem dX0_doPilgrim_128 : decode cX0_doPilgrim 128 = .ok (.iload 6, 2) := dk_21 6 (dk_at dksX0_doPilgrim_5 10 rfl rfl)
theorem dX0_doPilgrim_130 : decode cX0_doPilgrim 130 = .ok (.invokevirtual 381, 3) := dk_182 1 125 (dk_at dksX0_doPilgrim_5 12 rfl rfl)
theorem dX0_doPilgrim_133 : decode cX0_doPilgrim 133 = .ok (.istore 6, 2) := dk_54 6 (dk_at dksX0_doPilgrim_5 15 rfl rfl)
theorem dX0_doPilgrim_135 : decode cX0_doPilgrim 135 = .ok (.aload_n 0, 1) := dk_42 (dk_at dksX0_doPilgrim_5 17 rfl rfl)
theorem dX0_doPilgrim_136 : decode cX0_doPilgrim 136 = .ok (.iload 6, 2) := dk_21 6 (dk_at dksX0_doPilgrim_5 18 rfl rfl)
theorem dX0_doPilgrim_138 : decode cX0_doPilgrim 138 = .ok (.invokevirtual 378, 3) := dk_182 1 122 (dk_at dksX0_doPilgrim_5 20 rfl rfl)
theorem dX0_doPilgrim_141 : decode cX0_doPilgrim 141 = .ok (.iinc 7 1, 3) := dk_132 7 1 (dk_at dksX0_doPilgrim_6 0 rfl rfl)
theorem dX0_doPilgrim_144 : decode cX0_doPilgrim 144 = .ok (.goto (-24), 3) := dk_167 255 232 (dk_at dksX0_doPilgrim_6 3 rfl rfl)
theorem dX0_doPilgrim_147 : decode cX0_doPilgrim 147 = .ok (.aload_n 0, 1) := dk_42 (dk_at dksX0_doPilgrim_6 6 rfl rfl)
theorem dX0_doPilgrim_148 : decode cX0_doPilgrim 148 = .ok (.getfield 20, 3) := dk_180 0 20 (dk_at dksX0_doPilgrim_6 7 rfl rfl)
theorem dX0_doPilgrim_151 : decode cX0_doPilgrim 151 = .ok (.getfield 384, 3) := dk_180 1 128 (dk_at dksX0_doPilgrim_6 10 rfl rfl)
theorem dX0_doPilgrim_154 : decode cX0_doPilgrim 154 = .ok (.new 388, 3) := dk_187 1 132 (dk_at dksX0_doPilgrim_6 13 rfl rfl)
theorem dX0_doPilgrim_157 : decode cX0_doPilgrim 157 = .ok (.dup, 1) := dk_89 (dk_at dksX0_doPilgrim_6 16 rfl rfl)
theorem dX0_doPilgrim_158 : decode cX0_doPilgrim 158 = .ok (.iload 4, 2) := dk_21 4 (dk_at dksX0_doPilgrim_6 17 rfl rfl)
theorem dX0_doPilgrim_160 : decode cX0_doPilgrim 160 = .ok (.iload_n 2, 1) := dk_28 (dk_at dksX0_doPilgrim_6 19 rfl rfl)
theorem dX0_doPilgrim_161 : decode cX0_doPilgrim 161 = .ok (.iload_n 3, 1) := dk_29 (dk_at dksX0_doPilgrim_6 20 rfl rfl)
theorem dX0_doPilgrim_162 : decode cX0_doPilgrim 162 = .ok (.iload 5, 2) := dk_21 5 (dk_at dksX0_doPilgrim_6 21 rfl rfl)
theorem dX0_doPilgrim_164 : decode cX0_doPilgrim 164 = .ok (.invokespecial 390, 3) := dk_183 1 134 (dk_at dksX0_doPilgrim_7 0 rfl rfl)
theorem dX0_doPilgrim_167 : decode cX0_doPilgrim 167 = .ok (.invokevirtual 393, 3) := dk_182 1 137 (dk_at dksX0_doPilgrim_7 3 rfl rfl)
theorem dX0_doPilgrim_170 : decode cX0_doPilgrim 170 = .ok (.aload_n 0, 1) := dk_42 (dk_at dksX0_doPilgrim_7 6 rfl rfl)
theorem dX0_doPilgrim_171 : decode cX0_doPilgrim 171 = .ok (.getfield 20, 3) := dk_180 0 20 (dk_at dksX0_doPilgrim_7 7 rfl rfl)
theorem dX0_doPilgrim_174 : decode cX0_doPilgrim 174 = .ok (.getfield 384, 3) := dk_180 1 128 (dk_at dksX0_doPilgrim_7 10 rfl rfl)
theorem dX0_doPilgrim_177 : decode cX0_doPilgrim 177 = .ok (.invokevirtual 399, 3) := dk_182 1 143 (dk_at dksX0_doPilgrim_7 13 rfl rfl)
theorem dX0_doPilgrim_180 : decode cX0_doPilgrim 180 = .ok (.iconst 5, 1) := dk_8 (dk_at dksX0_doPilgrim_7 16 rfl rfl)
theorem dX0_doPilgrim_181 : decode cX0_doPilgrim 181 = .ok (.if_icmp .le 18, 3) := dk_164 0 18 (dk_at dksX0_doPilgrim_7 17 rfl rfl)
theorem dX0_doPilgrim_184 : decode cX0_doPilgrim 184 = .ok (.aload_n 0, 1) := dk_42 (dk_at dksX0_doPilgrim_7 20 rfl rfl)
theorem dX0_doPilgrim_185 : decode cX0_doPilgrim 185 = .ok (.getfield 20, 3) := dk_180 0 20 (dk_at dksX0_doPilgrim_7 21 rfl rfl)
theorem dX0_doPilgrim_188 : decode cX0_doPilgrim 188 = .ok (.getfield 384, 3) := dk_180 1 128 (dk_at dksX0_doPilgrim_8 0 rfl rfl)
theorem dX0_doPilgrim_191 : decode cX0_doPilgrim 191 = .ok (.invokevirtual 402, 3) := dk_182 1 146 (dk_at dksX0_doPilgrim_8 3 rfl rfl)
theorem dX0_doPilgrim_194 : decode cX0_doPilgrim 194 = .ok (.checkcast 388, 3) := dk_192 1 132 (dk_at dksX0_doPilgrim_8 6 rfl rfl)
theorem dX0_doPilgrim_197 : decode cX0_doPilgrim 197 = .ok (.astore 7, 2) := dk_58 7 (dk_at dksX0_doPilgrim_8 9 rfl rfl)
theorem dX0_doPilgrim_199 : decode cX0_doPilgrim 199 = .ok (.aload_n 0, 1) := dk_42 (dk_at dksX0_doPilgrim_8 11 rfl rfl)
theorem dX0_doPilgrim_200 : decode cX0_doPilgrim 200 = .ok (.getfield 20, 3) := dk_180 0 20 (dk_at dksX0_doPilgrim_8 12 rfl rfl)
theorem dX0_doPilgrim_203 : decode cX0_doPilgrim 203 = .ok (.dup, 1) := dk_89 (dk_at dksX0_doPilgrim_8 15 rfl rfl)
theorem dX0_doPilgrim_204 : decode cX0_doPilgrim 204 = .ok (.getfield 405, 3) := dk_180 1 149 (dk_at dksX0_doPilgrim_8 16 rfl rfl)
theorem dX0_doPilgrim_207 : decode cX0_doPilgrim 207 = .ok (.iconst 1, 1) := dk_4 (dk_at dksX0_doPilgrim_8 19 rfl rfl)
theorem dX0_doPilgrim_208 : decode cX0_doPilgrim 208 = .ok (.iadd, 1) := dk_96 (dk_at dksX0_doPilgrim_8 20 rfl rfl)
theorem dX0_doPilgrim_209 : decode cX0_doPilgrim 209 = .ok (.putfield 405, 3) := dk_181 1 149 (dk_at dksX0_doPilgrim_8 21 rfl rfl)
theorem dX0_doPilgrim_212 : decode cX0_doPilgrim 212 = .ok (.aload_n 0, 1) := dk_42 (dk_at dksX0_doPilgrim_9 0 rfl rfl)
theorem dX0_doPilgrim_213 : decode cX0_doPilgrim 213 = .ok (.getfield 20, 3) := dk_180 0 20 (dk_at dksX0_doPilgrim_9 1 rfl rfl)
theorem dX0_doPilgrim_216 : decode cX0_doPilgrim 216 = .ok (.dup, 1) := dk_89 (dk_at dksX0_doPilgrim_9 4 rfl rfl)
theorem dX0_doPilgrim_217 : decode cX0_doPilgrim 217 = .ok (.getfield 408, 3) := dk_180 1 152 (dk_at dksX0_doPilgrim_9 5 rfl rfl)
theorem dX0_doPilgrim_220 : decode cX0_doPilgrim 220 = .ok (.iconst 2, 1) := dk_5 (dk_at dksX0_doPilgrim_9 8 rfl rfl)
theorem dX0_doPilgrim_221 : decode cX0_doPilgrim 221 = .ok (.iload 5, 2) := dk_21 5 (dk_at dksX0_doPilgrim_9 9 rfl rfl)
theorem dX0_doPilgrim_223 : decode cX0_doPilgrim 223 = .ok (.iadd, 1) := dk_96 (dk_at dksX0_doPilgrim_9 11 rfl rfl)
theorem dX0_doPilgrim_224 : decode cX0_doPilgrim 224 = .ok (.iadd, 1) := dk_96 (dk_at dksX0_doPilgrim_9 12 rfl rfl)
theorem dX0_doPilgrim_225 : decode cX0_doPilgrim 225 = .ok (.putfield 408, 3) := dk_181 1 152 (dk_at dksX0_doPilgrim_9 13 rfl rfl)
theorem dX0_doPilgrim_228 : decode cX0_doPilgrim 228 = .ok (.iconst 2, 1) := dk_5 (dk_at dksX0_doPilgrim_9 16 rfl rfl)
theorem dX0_doPilgrim_229 : decode cX0_doPilgrim 229 = .ok (.iload 5, 2) := dk_21 5 (dk_at dksX0_doPilgrim_9 17 rfl rfl)
theorem dX0_doPilgrim_231 : decode cX0_doPilgrim 231 = .ok (.iadd, 1) := dk_96 (dk_at dksX0_doPilgrim_9 19 rfl rfl)
theorem dX0_doPilgrim_232 : decode cX0_doPilgrim 232 = .ok (.ireturn, 1) := dk_172 (dk_at dksX0_doPilgrim_9 20 rfl rfl)
abbrev cX0_sizeFor : ByteArray := prog_1_method_39_code
def yX0_sizeFor : MethodName := ⟨RX0, "sizeFor", "(I)I"⟩
def dkwX0_sizeFor_1 : List UInt8 := [167, 255, 234, 2, 172]
abbrev dktX0_sizeFor_1 : List UInt8 := dkwX0_sizeFor_1 ++ []
def dkwX0_sizeFor_0 : List UInt8 := [27, 61, 28, 8, 162, 0, 23, 42, 180, 0, 20, 180, 1, 68, 28, 46, 158, 0, 5, 28, 172, 132, 2, 1]
abbrev dktX0_sizeFor_0 : List UInt8 := dkwX0_sizeFor_0 ++ dktX0_sizeFor_1
theorem dksX0_sizeFor_0 : cX0_sizeFor.data.toList.drop 0 = dktX0_sizeFor_0 := by decide +kernel
theorem dksX0_sizeFor_1 : cX0_sizeFor.data.toList.drop 24 = dktX0_sizeFor_1 := dk_seg dksX0_sizeFor_0 24 rfl rfl
theorem dX0_sizeFor_0 : decode cX0_sizeFor 0 = .ok (.iload_n 1, 1) := dk_27 (dk_at dksX0_sizeFor_0 0 rfl rfl)
theorem dX0_sizeFor_1 : decode cX0_sizeFor 1 = .ok (.istore_n 2, 1) := dk_61 (dk_at dksX0_sizeFor_0 1 rfl rfl)
theorem dX0_sizeFor_2 : decode cX0_sizeFor 2 = .ok (.iload_n 2, 1) := dk_28 (dk_at dksX0_sizeFor_0 2 rfl rfl)
theorem dX0_sizeFor_3 : decode cX0_sizeFor 3 = .ok (.iconst 5, 1) := dk_8 (dk_at dksX0_sizeFor_0 3 rfl rfl)
theorem dX0_sizeFor_4 : decode cX0_sizeFor 4 = .ok (.if_icmp .ge 23, 3) := dk_162 0 23 (dk_at dksX0_sizeFor_0 4 rfl rfl)
theorem dX0_sizeFor_7 : decode cX0_sizeFor 7 = .ok (.aload_n 0, 1) := dk_42 (dk_at dksX0_sizeFor_0 7 rfl rfl)
theorem dX0_sizeFor_8 : decode cX0_sizeFor 8 = .ok (.getfield 20, 3) := dk_180 0 20 (dk_at dksX0_sizeFor_0 8 rfl rfl)
theorem dX0_sizeFor_11 : decode cX0_sizeFor 11 = .ok (.getfield 324, 3) := dk_180 1 68 (dk_at dksX0_sizeFor_0 11 rfl rfl)
theorem dX0_sizeFor_14 : decode cX0_sizeFor 14 = .ok (.iload_n 2, 1) := dk_28 (dk_at dksX0_sizeFor_0 14 rfl rfl)
theorem dX0_sizeFor_15 : decode cX0_sizeFor 15 = .ok (.iaload, 1) := dk_46 (dk_at dksX0_sizeFor_0 15 rfl rfl)
theorem dX0_sizeFor_16 : decode cX0_sizeFor 16 = .ok (.ifCond .le 5, 3) := dk_158 0 5 (dk_at dksX0_sizeFor_0 16 rfl rfl)
theorem dX0_sizeFor_19 : decode cX0_sizeFor 19 = .ok (.iload_n 2, 1) := dk_28 (dk_at dksX0_sizeFor_0 19 rfl rfl)
theorem dX0_sizeFor_20 : decode cX0_sizeFor 20 = .ok (.ireturn, 1) := dk_172 (dk_at dksX0_sizeFor_0 20 rfl rfl)
theorem dX0_sizeFor_21 : decode cX0_sizeFor 21 = .ok (.iinc 2 1, 3) := dk_132 2 1 (dk_at dksX0_sizeFor_0 21 rfl rfl)
theorem dX0_sizeFor_24 : decode cX0_sizeFor 24 = .ok (.goto (-22), 3) := dk_167 255 234 (dk_at dksX0_sizeFor_1 0 rfl rfl)
theorem dX0_sizeFor_27 : decode cX0_sizeFor 27 = .ok (.iconst (-1), 1) := dk_2 (dk_at dksX0_sizeFor_1 3 rfl rfl)
theorem dX0_sizeFor_28 : decode cX0_sizeFor 28 = .ok (.ireturn, 1) := dk_172 (dk_at dksX0_sizeFor_1 4 rfl rfl)
abbrev cX0_goesOut : ByteArray := prog_1_method_40_code
def yX0_goesOut : MethodName := ⟨RX0, "goesOut", "(I)V"⟩
def dkwX0_goesOut_7 : List UInt8 := [180, 0, 110, 21, 5, 184, 1, 83, 182, 1, 89, 87, 167, 255, 173, 167, 255, 136, 177]
abbrev dktX0_goesOut_7 : List UInt8 := dkwX0_goesOut_7 ++ []
def dkwX0_goesOut_6 : List UInt8 := [21, 5, 182, 1, 80, 153, 0, 31, 42, 180, 0, 103, 21, 5, 42, 180, 0, 103, 28, 46, 4, 96, 79, 42]
abbrev dktX0_goesOut_6 : List UInt8 := dkwX0_goesOut_6 ++ dktX0_goesOut_7
def dkwX0_goesOut_5 : List UInt8 := [182, 1, 6, 54, 5, 21, 5, 155, 0, 53, 42, 180, 0, 103, 21, 5, 46, 156, 0, 43, 42, 180, 0, 20]
abbrev dktX0_goesOut_5 : List UInt8 := dkwX0_goesOut_5 ++ dktX0_goesOut_6
def dkwX0_goesOut_4 : List UInt8 := [185, 1, 108, 1, 0, 153, 0, 80, 45, 185, 1, 113, 1, 0, 192, 0, 65, 58, 4, 25, 4, 28]
abbrev dktX0_goesOut_4 : List UInt8 := dkwX0_goesOut_4 ++ dktX0_goesOut_5
def dkwX0_goesOut_3 : List UInt8 := [180, 0, 110, 182, 1, 97, 192, 1, 84, 182, 1, 101, 61, 42, 180, 0, 85, 185, 1, 104, 1, 0, 78, 45]
abbrev dktX0_goesOut_3 : List UInt8 := dkwX0_goesOut_3 ++ dktX0_goesOut_4
def dkwX0_goesOut_2 : List UInt8 := [42, 180, 0, 110, 27, 184, 1, 83, 182, 1, 89, 87, 42, 180, 0, 110, 182, 1, 93, 154, 0, 116, 42]
abbrev dktX0_goesOut_2 : List UInt8 := dkwX0_goesOut_2 ++ dktX0_goesOut_3
def dkwX0_goesOut_1 : List UInt8 := [180, 0, 110, 182, 1, 77, 42, 180, 0, 20, 27, 182, 1, 80, 153, 0, 22, 42, 180, 0, 103, 27, 3, 79]
abbrev dktX0_goesOut_1 : List UInt8 := dkwX0_goesOut_1 ++ dktX0_goesOut_2
def dkwX0_goesOut_0 : List UInt8 := [3, 61, 28, 16, 30, 162, 0, 16, 42, 180, 0, 103, 28, 2, 79, 132, 2, 1, 167, 255, 240, 42]
abbrev dktX0_goesOut_0 : List UInt8 := dkwX0_goesOut_0 ++ dktX0_goesOut_1
theorem dksX0_goesOut_0 : cX0_goesOut.data.toList.drop 0 = dktX0_goesOut_0 := by decide +kernel
theorem dksX0_goesOut_1 : cX0_goesOut.data.toList.drop 22 = dktX0_goesOut_1 := dk_seg dksX0_goesOut_0 22 rfl rfl
theorem dksX0_goesOut_2 : cX0_goesOut.data.toList.drop 46 = dktX0_goesOut_2 := dk_seg dksX0_goesOut_1 24 rfl rfl
theorem dksX0_goesOut_3 : cX0_goesOut.data.toList.drop 69 = dktX0_goesOut_3 := dk_seg dksX0_goesOut_2 23 rfl rfl
theorem dksX0_goesOut_4 : cX0_goesOut.data.toList.drop 93 = dktX0_goesOut_4 := dk_seg dksX0_goesOut_3 24 rfl rfl
theorem dksX0_goesOut_5 : cX0_goesOut.data.toList.drop 115 = dktX0_goesOut_5 := dk_seg dksX0_goesOut_4 22 rfl rfl
theorem dksX0_goesOut_6 : cX0_goesOut.data.toList.drop 139 = dktX0_goesOut_6 := dk_seg dksX0_goesOut_5 24 rfl rfl
theorem dksX0_goesOut_7 : cX0_goesOut.data.toList.drop 163 = dktX0_goesOut_7 := dk_seg dksX0_goesOut_6 24 rfl rfl
theorem dX0_goesOut_0 : decode cX0_goesOut 0 = .ok (.iconst 0, 1) := dk_3 (dk_at dksX0_goesOut_0 0 rfl rfl)
theorem dX0_goesOut_1 : decode cX0_goesOut 1 = .ok (.istore_n 2, 1) := dk_61 (dk_at dksX0_goesOut_0 1 rfl rfl)
theorem dX0_goesOut_2 : decode cX0_goesOut 2 = .ok (.iload_n 2, 1) := dk_28 (dk_at dksX0_goesOut_0 2 rfl rfl)
theorem dX0_goesOut_3 : decode cX0_goesOut 3 = .ok (.bipush 30, 2) := dk_16 30 (dk_at dksX0_goesOut_0 3 rfl rfl)
theorem dX0_goesOut_5 : decode cX0_goesOut 5 = .ok (.if_icmp .ge 16, 3) := dk_162 0 16 (dk_at dksX0_goesOut_0 5 rfl rfl)
theorem dX0_goesOut_8 : decode cX0_goesOut 8 = .ok (.aload_n 0, 1) := dk_42 (dk_at dksX0_goesOut_0 8 rfl rfl)
theorem dX0_goesOut_9 : decode cX0_goesOut 9 = .ok (.getfield 103, 3) := dk_180 0 103 (dk_at dksX0_goesOut_0 9 rfl rfl)
theorem dX0_goesOut_12 : decode cX0_goesOut 12 = .ok (.iload_n 2, 1) := dk_28 (dk_at dksX0_goesOut_0 12 rfl rfl)
theorem dX0_goesOut_13 : decode cX0_goesOut 13 = .ok (.iconst (-1), 1) := dk_2 (dk_at dksX0_goesOut_0 13 rfl rfl)
theorem dX0_goesOut_14 : decode cX0_goesOut 14 = .ok (.iastore, 1) := dk_79 (dk_at dksX0_goesOut_0 14 rfl rfl)
theorem dX0_goesOut_15 : decode cX0_goesOut 15 = .ok (.iinc 2 1, 3) := dk_132 2 1 (dk_at dksX0_goesOut_0 15 rfl rfl)
theorem dX0_goesOut_18 : decode cX0_goesOut 18 = .ok (.goto (-16), 3) := dk_167 255 240 (dk_at dksX0_goesOut_0 18 rfl rfl)
theorem dX0_goesOut_21 : decode cX0_goesOut 21 = .ok (.aload_n 0, 1) := dk_42 (dk_at dksX0_goesOut_0 21 rfl rfl)
theorem dX0_goesOut_22 : decode cX0_goesOut 22 = .ok (.getfield 110, 3) := dk_180 0 110 (dk_at dksX0_goesOut_1 0 rfl rfl)
theorem dX0_goesOut_25 : decode cX0_goesOut 25 = .ok (.invokevirtual 333, 3) := dk_182 1 77 (dk_at dksX0_goesOut_1 3 rfl rfl)
theorem dX0_goesOut_28 : decode cX0_goesOut 28 = .ok (.aload_n 0, 1) := dk_42 (dk_at dksX0_goesOut_1 6 rfl rfl)
theorem dX0_goesOut_29 : decode cX0_goesOut 29 = .ok (.getfield 20, 3) := dk_180 0 20 (dk_at dksX0_goesOut_1 7 rfl rfl)
theorem dX0_goesOut_32 : decode cX0_goesOut 32 = .ok (.iload_n 1, 1) := dk_27 (dk_at dksX0_goesOut_1 10 rfl rfl)
theorem dX0_goesOut_33 : decode cX0_goesOut 33 = .ok (.invokevirtual 336, 3) := dk_182 1 80 (dk_at dksX0_goesOut_1 11 rfl rfl)
theorem dX0_goesOut_36 : decode cX0_goesOut 36 = .ok (.ifCond .eq 22, 3) := dk_153 0 22 (dk_at dksX0_goesOut_1 14 rfl rfl)
theorem dX0_goesOut_39 : decode cX0_goesOut 39 = .ok (.aload_n 0, 1) := dk_42 (dk_at dksX0_goesOut_1 17 rfl rfl)
theorem dX0_goesOut_40 : decode cX0_goesOut 40 = .ok (.getfield 103, 3) := dk_180 0 103 (dk_at dksX0_goesOut_1 18 rfl rfl)
theorem dX0_goesOut_43 : decode cX0_goesOut 43 = .ok (.iload_n 1, 1) := dk_27 (dk_at dksX0_goesOut_1 21 rfl rfl)
theorem dX0_goesOut_44 : decode cX0_goesOut 44 = .ok (.iconst 0, 1) := dk_3 (dk_at dksX0_goesOut_1 22 rfl rfl)
theorem dX0_goesOut_45 : decode cX0_goesOut 45 = .ok (.iastore, 1) := dk_79 (dk_at dksX0_goesOut_1 23 rfl rfl)
theorem dX0_goesOut_46 : decode cX0_goesOut 46 = .ok (.aload_n 0, 1) := dk_42 (dk_at dksX0_goesOut_2 0 rfl rfl)
theorem dX0_goesOut_47 : decode cX0_goesOut 47 = .ok (.getfield 110, 3) := dk_180 0 110 (dk_at dksX0_goesOut_2 1 rfl rfl)
theorem dX0_goesOut_50 : decode cX0_goesOut 50 = .ok (.iload_n 1, 1) := dk_27 (dk_at dksX0_goesOut_2 4 rfl rfl)
theorem dX0_goesOut_51 : decode cX0_goesOut 51 = .ok (.invokestatic 339, 3) := dk_184 1 83 (dk_at dksX0_goesOut_2 5 rfl rfl)
theorem dX0_goesOut_54 : decode cX0_goesOut 54 = .ok (.invokevirtual 345, 3) := dk_182 1 89 (dk_at dksX0_goesOut_2 8 rfl rfl)
theorem dX0_goesOut_57 : decode cX0_goesOut 57 = .ok (.pop, 1) := dk_87 (dk_at dksX0_goesOut_2 11 rfl rfl)
theorem dX0_goesOut_58 : decode cX0_goesOut 58 = .ok (.aload_n 0, 1) := dk_42 (dk_at dksX0_goesOut_2 12 rfl rfl)
theorem dX0_goesOut_59 : decode cX0_goesOut 59 = .ok (.getfield 110, 3) := dk_180 0 110 (dk_at dksX0_goesOut_2 13 rfl rfl)
theorem dX0_goesOut_62 : decode cX0_goesOut 62 = .ok (.invokevirtual 349, 3) := dk_182 1 93 (dk_at dksX0_goesOut_2 16 rfl rfl)
theorem dX0_goesOut_65 : decode cX0_goesOut 65 = .ok (.ifCond .ne 116, 3) := dk_154 0 116 (dk_at dksX0_goesOut_2 19 rfl rfl)
theorem dX0_goesOut_68 : decode cX0_goesOut 68 = .ok (.aload_n 0, 1) := dk_42 (dk_at dksX0_goesOut_2 22 rfl rfl)
theorem dX0_goesOut_69 : decode cX0_goesOut 69 = .ok (.getfield 110, 3) := dk_180 0 110 (dk_at dksX0_goesOut_3 0 rfl rfl)
theorem dX0_goesOut_72 : decode cX0_goesOut 72 = .ok (.invokevirtual 353, 3) := dk_182 1 97 (dk_at dksX0_goesOut_3 3 rfl rfl)
theorem dX0_goesOut_75 : decode cX0_goesOut 75 = .ok (.checkcast 340, 3) := dk_192 1 84 (dk_at dksX0_goesOut_3 6 rfl rfl)
theorem dX0_goesOut_78 : decode cX0_goesOut 78 = .ok (.invokevirtual 357, 3) := dk_182 1 101 (dk_at dksX0_goesOut_3 9 rfl rfl)
theorem dX0_goesOut_81 : decode cX0_goesOut 81 = .ok (.istore_n 2, 1) := dk_61 (dk_at dksX0_goesOut_3 12 rfl rfl)
theorem dX0_goesOut_82 : decode cX0_goesOut 82 = .ok (.aload_n 0, 1) := dk_42 (dk_at dksX0_goesOut_3 13 rfl rfl)
theorem dX0_goesOut_83 : decode cX0_goesOut 83 = .ok (.getfield 85, 3) := dk_180 0 85 (dk_at dksX0_goesOut_3 14 rfl rfl)
theorem dX0_goesOut_86 : decode cX0_goesOut 86 = .ok (.invokeinterface 360 1, 5) := by decide +kernel
theorem dX0_goesOut_91 : decode cX0_goesOut 91 = .ok (.astore_n 3, 1) := dk_78 (dk_at dksX0_goesOut_3 22 rfl rfl)
theorem dX0_goesOut_92 : decode cX0_goesOut 92 = .ok (.aload_n 3, 1) := dk_45 (dk_at dksX0_goesOut_3 23 rfl rfl)
theorem dX0_goesOut_93 : decode cX0_goesOut 93 = .ok (.invokeinterface 364 1, 5) := by decide +kernel
theorem dX0_goesOut_98 : decode cX0_goesOut 98 = .ok (.ifCond .eq 80, 3) := dk_153 0 80 (dk_at dksX0_goesOut_4 5 rfl rfl)
theorem dX0_goesOut_101 : decode cX0_goesOut 101 = .ok (.aload_n 3, 1) := dk_45 (dk_at dksX0_goesOut_4 8 rfl rfl)
theorem dX0_goesOut_102 : decode cX0_goesOut 102 = .ok (.invokeinterface 369 1, 5) := by decide +kernel
theorem dX0_goesOut_107 : decode cX0_goesOut 107 = .ok (.checkcast 65, 3) := dk_192 0 65 (dk_at dksX0_goesOut_4 14 rfl rfl)
theorem dX0_goesOut_110 : decode cX0_goesOut 110 = .ok (.astore 4, 2) := dk_58 4 (dk_at dksX0_goesOut_4 17 rfl rfl)
theorem dX0_goesOut_112 : decode cX0_goesOut 112 = .ok (.aload 4, 2) := dk_25 4 (dk_at dksX0_goesOut_4 19 rfl rfl)
theorem dX0_goesOut_114 : decode cX0_goesOut 114 = .ok (.iload_n 2, 1) := dk_28 (dk_at dksX0_goesOut_4 21 rfl rfl)
theorem dX0_goesOut_115 : decode cX0_goesOut 115 = .ok (.invokevirtual 262, 3) := dk_182 1 6 (dk_at dksX0_goesOut_5 0 rfl rfl)
theorem dX0_goesOut_118 : decode cX0_goesOut 118 = .ok (.istore 5, 2) := dk_54 5 (dk_at dksX0_goesOut_5 3 rfl rfl)
theorem dX0_goesOut_120 : decode cX0_goesOut 120 = .ok (.iload 5, 2) := dk_21 5 (dk_at dksX0_goesOut_5 5 rfl rfl)
theorem dX0_goesOut_122 : decode cX0_goesOut 122 = .ok (.ifCond .lt 53, 3) := dk_155 0 53 (dk_at dksX0_goesOut_5 7 rfl rfl)
theorem dX0_goesOut_125 : decode cX0_goesOut 125 = .ok (.aload_n 0, 1) := dk_42 (dk_at dksX0_goesOut_5 10 rfl rfl)
theorem dX0_goesOut_126 : decode cX0_goesOut 126 = .ok (.getfield 103, 3) := dk_180 0 103 (dk_at dksX0_goesOut_5 11 rfl rfl)
theorem dX0_goesOut_129 : decode cX0_goesOut 129 = .ok (.iload 5, 2) := dk_21 5 (dk_at dksX0_goesOut_5 14 rfl rfl)
theorem dX0_goesOut_131 : decode cX0_goesOut 131 = .ok (.iaload, 1) := dk_46 (dk_at dksX0_goesOut_5 16 rfl rfl)
theorem dX0_goesOut_132 : decode cX0_goesOut 132 = .ok (.ifCond .ge 43, 3) := dk_156 0 43 (dk_at dksX0_goesOut_5 17 rfl rfl)
theorem dX0_goesOut_135 : decode cX0_goesOut 135 = .ok (.aload_n 0, 1) := dk_42 (dk_at dksX0_goesOut_5 20 rfl rfl)
theorem dX0_goesOut_136 : decode cX0_goesOut 136 = .ok (.getfield 20, 3) := dk_180 0 20 (dk_at dksX0_goesOut_5 21 rfl rfl)
theorem dX0_goesOut_139 : decode cX0_goesOut 139 = .ok (.iload 5, 2) := dk_21 5 (dk_at dksX0_goesOut_6 0 rfl rfl)
theorem dX0_goesOut_141 : decode cX0_goesOut 141 = .ok (.invokevirtual 336, 3) := dk_182 1 80 (dk_at dksX0_goesOut_6 2 rfl rfl)
theorem dX0_goesOut_144 : decode cX0_goesOut 144 = .ok (.ifCond .eq 31, 3) := dk_153 0 31 (dk_at dksX0_goesOut_6 5 rfl rfl)
theorem dX0_goesOut_147 : decode cX0_goesOut 147 = .ok (.aload_n 0, 1) := dk_42 (dk_at dksX0_goesOut_6 8 rfl rfl)
theorem dX0_goesOut_148 : decode cX0_goesOut 148 = .ok (.getfield 103, 3) := dk_180 0 103 (dk_at dksX0_goesOut_6 9 rfl rfl)
theorem dX0_goesOut_151 : decode cX0_goesOut 151 = .ok (.iload 5, 2) := dk_21 5 (dk_at dksX0_goesOut_6 12 rfl rfl)
theorem dX0_goesOut_153 : decode cX0_goesOut 153 = .ok (.aload_n 0, 1) := dk_42 (dk_at dksX0_goesOut_6 14 rfl rfl)
theorem dX0_goesOut_154 : decode cX0_goesOut 154 = .ok (.getfield 103, 3) := dk_180 0 103 (dk_at dksX0_goesOut_6 15 rfl rfl)
theorem dX0_goesOut_157 : decode cX0_goesOut 157 = .ok (.iload_n 2, 1) := dk_28 (dk_at dksX0_goesOut_6 18 rfl rfl)
theorem dX0_goesOut_158 : decode cX0_goesOut 158 = .ok (.iaload, 1) := dk_46 (dk_at dksX0_goesOut_6 19 rfl rfl)
theorem dX0_goesOut_159 : decode cX0_goesOut 159 = .ok (.iconst 1, 1) := dk_4 (dk_at dksX0_goesOut_6 20 rfl rfl)
theorem dX0_goesOut_160 : decode cX0_goesOut 160 = .ok (.iadd, 1) := dk_96 (dk_at dksX0_goesOut_6 21 rfl rfl)
theorem dX0_goesOut_161 : decode cX0_goesOut 161 = .ok (.iastore, 1) := dk_79 (dk_at dksX0_goesOut_6 22 rfl rfl)
theorem dX0_goesOut_162 : decode cX0_goesOut 162 = .ok (.aload_n 0, 1) := dk_42 (dk_at dksX0_goesOut_6 23 rfl rfl)
theorem dX0_goesOut_163 : decode cX0_goesOut 163 = .ok (.getfield 110, 3) := dk_180 0 110 (dk_at dksX0_goesOut_7 0 rfl rfl)
theorem dX0_goesOut_166 : decode cX0_goesOut 166 = .ok (.iload 5, 2) := dk_21 5 (dk_at dksX0_goesOut_7 3 rfl rfl)
theorem dX0_goesOut_168 : decode cX0_goesOut 168 = .ok (.invokestatic 339, 3) := dk_184 1 83 (dk_at dksX0_goesOut_7 5 rfl rfl)
theorem dX0_goesOut_171 : decode cX0_goesOut 171 = .ok (.invokevirtual 345, 3) := dk_182 1 89 (dk_at dksX0_goesOut_7 8 rfl rfl)
theorem dX0_goesOut_174 : decode cX0_goesOut 174 = .ok (.pop, 1) := dk_87 (dk_at dksX0_goesOut_7 11 rfl rfl)
theorem dX0_goesOut_175 : decode cX0_goesOut 175 = .ok (.goto (-83), 3) := dk_167 255 173 (dk_at dksX0_goesOut_7 12 rfl rfl)
theorem dX0_goesOut_178 : decode cX0_goesOut 178 = .ok (.goto (-120), 3) := dk_167 255 136 (dk_at dksX0_goesOut_7 15 rfl rfl)
theorem dX0_goesOut_181 : decode cX0_goesOut 181 = .ok (.return_, 1) := dk_177 (dk_at dksX0_goesOut_7 18 rfl rfl)
abbrev cX0_isTrodden : ByteArray := prog_1_method_42_code
def yX0_isTrodden : MethodName := ⟨RX0, "isTrodden", "(I)V"⟩
def dkwX0_isTrodden_0 : List UInt8 := [42, 180, 0, 20, 180, 0, 154, 27, 46, 16, 7, 161, 0, 12, 42, 180, 0, 20, 27, 4, 182, 0, 212, 177]
abbrev dktX0_isTrodden_0 : List UInt8 := dkwX0_isTrodden_0 ++ []
theorem dksX0_isTrodden_0 : cX0_isTrodden.data.toList.drop 0 = dktX0_isTrodden_0 := by decide +kernel
theorem dX0_isTrodden_0 : decode cX0_isTrodden 0 = .ok (.aload_n 0, 1) := dk_42 (dk_at dksX0_isTrodden_0 0 rfl rfl)
theorem dX0_isTrodden_1 : decode cX0_isTrodden 1 = .ok (.getfield 20, 3) := dk_180 0 20 (dk_at dksX0_isTrodden_0 1 rfl rfl)
theorem dX0_isTrodden_4 : decode cX0_isTrodden 4 = .ok (.getfield 154, 3) := dk_180 0 154 (dk_at dksX0_isTrodden_0 4 rfl rfl)
theorem dX0_isTrodden_7 : decode cX0_isTrodden 7 = .ok (.iload_n 1, 1) := dk_27 (dk_at dksX0_isTrodden_0 7 rfl rfl)
theorem dX0_isTrodden_8 : decode cX0_isTrodden 8 = .ok (.iaload, 1) := dk_46 (dk_at dksX0_isTrodden_0 8 rfl rfl)
theorem dX0_isTrodden_9 : decode cX0_isTrodden 9 = .ok (.bipush 7, 2) := dk_16 7 (dk_at dksX0_isTrodden_0 9 rfl rfl)
theorem dX0_isTrodden_11 : decode cX0_isTrodden 11 = .ok (.if_icmp .lt 12, 3) := dk_161 0 12 (dk_at dksX0_isTrodden_0 11 rfl rfl)
theorem dX0_isTrodden_14 : decode cX0_isTrodden 14 = .ok (.aload_n 0, 1) := dk_42 (dk_at dksX0_isTrodden_0 14 rfl rfl)
theorem dX0_isTrodden_15 : decode cX0_isTrodden 15 = .ok (.getfield 20, 3) := dk_180 0 20 (dk_at dksX0_isTrodden_0 15 rfl rfl)
theorem dX0_isTrodden_18 : decode cX0_isTrodden 18 = .ok (.iload_n 1, 1) := dk_27 (dk_at dksX0_isTrodden_0 18 rfl rfl)
theorem dX0_isTrodden_19 : decode cX0_isTrodden 19 = .ok (.iconst 1, 1) := dk_4 (dk_at dksX0_isTrodden_0 19 rfl rfl)
theorem dX0_isTrodden_20 : decode cX0_isTrodden 20 = .ok (.invokevirtual 212, 3) := dk_182 0 212 (dk_at dksX0_isTrodden_0 20 rfl rfl)
theorem dX0_isTrodden_23 : decode cX0_isTrodden 23 = .ok (.return_, 1) := dk_177 (dk_at dksX0_isTrodden_0 23 rfl rfl)
abbrev cX0_nextOnWay : ByteArray := prog_1_method_41_code
def yX0_nextOnWay : MethodName := ⟨RX0, "nextOnWay", "(I)I"⟩
def dkwX0_nextOnWay_4 : List UInt8 := [162, 0, 8, 21, 5, 167, 0, 4, 28, 61, 167, 255, 166, 28, 172]
abbrev dktX0_nextOnWay_4 : List UInt8 := dkwX0_nextOnWay_4 ++ []
def dkwX0_nextOnWay_3 : List UInt8 := [160, 0, 7, 4, 167, 0, 4, 3, 54, 6, 21, 6, 153, 0, 18, 28, 155, 0, 9, 21, 5, 28]
abbrev dktX0_nextOnWay_3 : List UInt8 := dkwX0_nextOnWay_3 ++ dktX0_nextOnWay_4
def dkwX0_nextOnWay_2 : List UInt8 := [180, 0, 103, 21, 5, 46, 155, 0, 25, 42, 180, 0, 103, 21, 5, 46, 42, 180, 0, 103, 27, 46, 4, 100]
abbrev dktX0_nextOnWay_2 : List UInt8 := dkwX0_nextOnWay_2 ++ dktX0_nextOnWay_3
def dkwX0_nextOnWay_1 : List UInt8 := [185, 1, 113, 1, 0, 192, 0, 65, 58, 4, 25, 4, 27, 182, 1, 6, 54, 5, 21, 5, 155, 0, 35, 42]
abbrev dktX0_nextOnWay_1 : List UInt8 := dkwX0_nextOnWay_1 ++ dktX0_nextOnWay_2
def dkwX0_nextOnWay_0 : List UInt8 := [2, 61, 42, 180, 0, 85, 185, 1, 104, 1, 0, 78, 45, 185, 1, 108, 1, 0, 153, 0, 87, 45]
abbrev dktX0_nextOnWay_0 : List UInt8 := dkwX0_nextOnWay_0 ++ dktX0_nextOnWay_1
theorem dksX0_nextOnWay_0 : cX0_nextOnWay.data.toList.drop 0 = dktX0_nextOnWay_0 := by decide +kernel
theorem dksX0_nextOnWay_1 : cX0_nextOnWay.data.toList.drop 22 = dktX0_nextOnWay_1 := dk_seg dksX0_nextOnWay_0 22 rfl rfl
theorem dksX0_nextOnWay_2 : cX0_nextOnWay.data.toList.drop 46 = dktX0_nextOnWay_2 := dk_seg dksX0_nextOnWay_1 24 rfl rfl
theorem dksX0_nextOnWay_3 : cX0_nextOnWay.data.toList.drop 70 = dktX0_nextOnWay_3 := dk_seg dksX0_nextOnWay_2 24 rfl rfl
theorem dksX0_nextOnWay_4 : cX0_nextOnWay.data.toList.drop 92 = dktX0_nextOnWay_4 := dk_seg dksX0_nextOnWay_3 22 rfl rfl
theorem dX0_nextOnWay_0 : decode cX0_nextOnWay 0 = .ok (.iconst (-1), 1) := dk_2 (dk_at dksX0_nextOnWay_0 0 rfl rfl)
theorem dX0_nextOnWay_1 : decode cX0_nextOnWay 1 = .ok (.istore_n 2, 1) := dk_61 (dk_at dksX0_nextOnWay_0 1 rfl rfl)
theorem dX0_nextOnWay_2 : decode cX0_nextOnWay 2 = .ok (.aload_n 0, 1) := dk_42 (dk_at dksX0_nextOnWay_0 2 rfl rfl)
theorem dX0_nextOnWay_3 : decode cX0_nextOnWay 3 = .ok (.getfield 85, 3) := dk_180 0 85 (dk_at dksX0_nextOnWay_0 3 rfl rfl)
theorem dX0_nextOnWay_6 : decode cX0_nextOnWay 6 = .ok (.invokeinterface 360 1, 5) := by decide +kernel
theorem dX0_nextOnWay_11 : decode cX0_nextOnWay 11 = .ok (.astore_n 3, 1) := dk_78 (dk_at dksX0_nextOnWay_0 11 rfl rfl)
theorem dX0_nextOnWay_12 : decode cX0_nextOnWay 12 = .ok (.aload_n 3, 1) := dk_45 (dk_at dksX0_nextOnWay_0 12 rfl rfl)
theorem dX0_nextOnWay_13 : decode cX0_nextOnWay 13 = .ok (.invokeinterface 364 1, 5) := by decide +kernel
theorem dX0_nextOnWay_18 : decode cX0_nextOnWay 18 = .ok (.ifCond .eq 87, 3) := dk_153 0 87 (dk_at dksX0_nextOnWay_0 18 rfl rfl)
theorem dX0_nextOnWay_21 : decode cX0_nextOnWay 21 = .ok (.aload_n 3, 1) := dk_45 (dk_at dksX0_nextOnWay_0 21 rfl rfl)
theorem dX0_nextOnWay_22 : decode cX0_nextOnWay 22 = .ok (.invokeinterface 369 1, 5) := by decide +kernel
theorem dX0_nextOnWay_27 : decode cX0_nextOnWay 27 = .ok (.checkcast 65, 3) := dk_192 0 65 (dk_at dksX0_nextOnWay_1 5 rfl rfl)
theorem dX0_nextOnWay_30 : decode cX0_nextOnWay 30 = .ok (.astore 4, 2) := dk_58 4 (dk_at dksX0_nextOnWay_1 8 rfl rfl)
theorem dX0_nextOnWay_32 : decode cX0_nextOnWay 32 = .ok (.aload 4, 2) := dk_25 4 (dk_at dksX0_nextOnWay_1 10 rfl rfl)
theorem dX0_nextOnWay_34 : decode cX0_nextOnWay 34 = .ok (.iload_n 1, 1) := dk_27 (dk_at dksX0_nextOnWay_1 12 rfl rfl)
theorem dX0_nextOnWay_35 : decode cX0_nextOnWay 35 = .ok (.invokevirtual 262, 3) := dk_182 1 6 (dk_at dksX0_nextOnWay_1 13 rfl rfl)
theorem dX0_nextOnWay_38 : decode cX0_nextOnWay 38 = .ok (.istore 5, 2) := dk_54 5 (dk_at dksX0_nextOnWay_1 16 rfl rfl)
theorem dX0_nextOnWay_40 : decode cX0_nextOnWay 40 = .ok (.iload 5, 2) := dk_21 5 (dk_at dksX0_nextOnWay_1 18 rfl rfl)
theorem dX0_nextOnWay_42 : decode cX0_nextOnWay 42 = .ok (.ifCond .lt 35, 3) := dk_155 0 35 (dk_at dksX0_nextOnWay_1 20 rfl rfl)
theorem dX0_nextOnWay_45 : decode cX0_nextOnWay 45 = .ok (.aload_n 0, 1) := dk_42 (dk_at dksX0_nextOnWay_1 23 rfl rfl)
theorem dX0_nextOnWay_46 : decode cX0_nextOnWay 46 = .ok (.getfield 103, 3) := dk_180 0 103 (dk_at dksX0_nextOnWay_2 0 rfl rfl)
theorem dX0_nextOnWay_49 : decode cX0_nextOnWay 49 = .ok (.iload 5, 2) := dk_21 5 (dk_at dksX0_nextOnWay_2 3 rfl rfl)
theorem dX0_nextOnWay_51 : decode cX0_nextOnWay 51 = .ok (.iaload, 1) := dk_46 (dk_at dksX0_nextOnWay_2 5 rfl rfl)
theorem dX0_nextOnWay_52 : decode cX0_nextOnWay 52 = .ok (.ifCond .lt 25, 3) := dk_155 0 25 (dk_at dksX0_nextOnWay_2 6 rfl rfl)
theorem dX0_nextOnWay_55 : decode cX0_nextOnWay 55 = .ok (.aload_n 0, 1) := dk_42 (dk_at dksX0_nextOnWay_2 9 rfl rfl)
theorem dX0_nextOnWay_56 : decode cX0_nextOnWay 56 = .ok (.getfield 103, 3) := dk_180 0 103 (dk_at dksX0_nextOnWay_2 10 rfl rfl)
theorem dX0_nextOnWay_59 : decode cX0_nextOnWay 59 = .ok (.iload 5, 2) := dk_21 5 (dk_at dksX0_nextOnWay_2 13 rfl rfl)
theorem dX0_nextOnWay_61 : decode cX0_nextOnWay 61 = .ok (.iaload, 1) := dk_46 (dk_at dksX0_nextOnWay_2 15 rfl rfl)
theorem dX0_nextOnWay_62 : decode cX0_nextOnWay 62 = .ok (.aload_n 0, 1) := dk_42 (dk_at dksX0_nextOnWay_2 16 rfl rfl)
theorem dX0_nextOnWay_63 : decode cX0_nextOnWay 63 = .ok (.getfield 103, 3) := dk_180 0 103 (dk_at dksX0_nextOnWay_2 17 rfl rfl)
theorem dX0_nextOnWay_66 : decode cX0_nextOnWay 66 = .ok (.iload_n 1, 1) := dk_27 (dk_at dksX0_nextOnWay_2 20 rfl rfl)
theorem dX0_nextOnWay_67 : decode cX0_nextOnWay 67 = .ok (.iaload, 1) := dk_46 (dk_at dksX0_nextOnWay_2 21 rfl rfl)
theorem dX0_nextOnWay_68 : decode cX0_nextOnWay 68 = .ok (.iconst 1, 1) := dk_4 (dk_at dksX0_nextOnWay_2 22 rfl rfl)
theorem dX0_nextOnWay_69 : decode cX0_nextOnWay 69 = .ok (.isub, 1) := dk_100 (dk_at dksX0_nextOnWay_2 23 rfl rfl)
theorem dX0_nextOnWay_70 : decode cX0_nextOnWay 70 = .ok (.if_icmp .ne 7, 3) := dk_160 0 7 (dk_at dksX0_nextOnWay_3 0 rfl rfl)
theorem dX0_nextOnWay_73 : decode cX0_nextOnWay 73 = .ok (.iconst 1, 1) := dk_4 (dk_at dksX0_nextOnWay_3 3 rfl rfl)
theorem dX0_nextOnWay_74 : decode cX0_nextOnWay 74 = .ok (.goto 4, 3) := dk_167 0 4 (dk_at dksX0_nextOnWay_3 4 rfl rfl)
theorem dX0_nextOnWay_77 : decode cX0_nextOnWay 77 = .ok (.iconst 0, 1) := dk_3 (dk_at dksX0_nextOnWay_3 7 rfl rfl)
theorem dX0_nextOnWay_78 : decode cX0_nextOnWay 78 = .ok (.istore 6, 2) := dk_54 6 (dk_at dksX0_nextOnWay_3 8 rfl rfl)
theorem dX0_nextOnWay_80 : decode cX0_nextOnWay 80 = .ok (.iload 6, 2) := dk_21 6 (dk_at dksX0_nextOnWay_3 10 rfl rfl)
theorem dX0_nextOnWay_82 : decode cX0_nextOnWay 82 = .ok (.ifCond .eq 18, 3) := dk_153 0 18 (dk_at dksX0_nextOnWay_3 12 rfl rfl)
theorem dX0_nextOnWay_85 : decode cX0_nextOnWay 85 = .ok (.iload_n 2, 1) := dk_28 (dk_at dksX0_nextOnWay_3 15 rfl rfl)
theorem dX0_nextOnWay_86 : decode cX0_nextOnWay 86 = .ok (.ifCond .lt 9, 3) := dk_155 0 9 (dk_at dksX0_nextOnWay_3 16 rfl rfl)
theorem dX0_nextOnWay_89 : decode cX0_nextOnWay 89 = .ok (.iload 5, 2) := dk_21 5 (dk_at dksX0_nextOnWay_3 19 rfl rfl)
theorem dX0_nextOnWay_91 : decode cX0_nextOnWay 91 = .ok (.iload_n 2, 1) := dk_28 (dk_at dksX0_nextOnWay_3 21 rfl rfl)
theorem dX0_nextOnWay_92 : decode cX0_nextOnWay 92 = .ok (.if_icmp .ge 8, 3) := dk_162 0 8 (dk_at dksX0_nextOnWay_4 0 rfl rfl)
theorem dX0_nextOnWay_95 : decode cX0_nextOnWay 95 = .ok (.iload 5, 2) := dk_21 5 (dk_at dksX0_nextOnWay_4 3 rfl rfl)
theorem dX0_nextOnWay_97 : decode cX0_nextOnWay 97 = .ok (.goto 4, 3) := dk_167 0 4 (dk_at dksX0_nextOnWay_4 5 rfl rfl)
theorem dX0_nextOnWay_100 : decode cX0_nextOnWay 100 = .ok (.iload_n 2, 1) := dk_28 (dk_at dksX0_nextOnWay_4 8 rfl rfl)
theorem dX0_nextOnWay_101 : decode cX0_nextOnWay 101 = .ok (.istore_n 2, 1) := dk_61 (dk_at dksX0_nextOnWay_4 9 rfl rfl)
theorem dX0_nextOnWay_102 : decode cX0_nextOnWay 102 = .ok (.goto (-90), 3) := dk_167 255 166 (dk_at dksX0_nextOnWay_4 10 rfl rfl)
theorem dX0_nextOnWay_105 : decode cX0_nextOnWay 105 = .ok (.iload_n 2, 1) := dk_28 (dk_at dksX0_nextOnWay_4 13 rfl rfl)
theorem dX0_nextOnWay_106 : decode cX0_nextOnWay 106 = .ok (.ireturn, 1) := dk_172 (dk_at dksX0_nextOnWay_4 14 rfl rfl)
abbrev cX0_append : ByteArray := prog_1_method_45_code
def yX0_append : MethodName := ⟨RX0, "append", "(C)I"⟩
def dkwX0_append_1 : List UInt8 := [16, 254, 172, 42, 180, 0, 96, 27, 182, 1, 162, 87, 42, 180, 0, 96, 182, 1, 159, 172]
abbrev dktX0_append_1 : List UInt8 := dkwX0_append_1 ++ []
def dkwX0_append_0 : List UInt8 := [27, 16, 32, 16, 126, 184, 0, 140, 153, 0, 15, 42, 180, 0, 96, 182, 1, 159, 16, 60, 160, 0, 6]
abbrev dktX0_append_0 : List UInt8 := dkwX0_append_0 ++ dktX0_append_1
theorem dksX0_append_0 : cX0_append.data.toList.drop 0 = dktX0_append_0 := by decide +kernel
theorem dksX0_append_1 : cX0_append.data.toList.drop 23 = dktX0_append_1 := dk_seg dksX0_append_0 23 rfl rfl
theorem dX0_append_0 : decode cX0_append 0 = .ok (.iload_n 1, 1) := dk_27 (dk_at dksX0_append_0 0 rfl rfl)
theorem dX0_append_1 : decode cX0_append 1 = .ok (.bipush 32, 2) := dk_16 32 (dk_at dksX0_append_0 1 rfl rfl)
theorem dX0_append_3 : decode cX0_append 3 = .ok (.bipush 126, 2) := dk_16 126 (dk_at dksX0_append_0 3 rfl rfl)
theorem dX0_append_5 : decode cX0_append 5 = .ok (.invokestatic 140, 3) := dk_184 0 140 (dk_at dksX0_append_0 5 rfl rfl)
theorem dX0_append_8 : decode cX0_append 8 = .ok (.ifCond .eq 15, 3) := dk_153 0 15 (dk_at dksX0_append_0 8 rfl rfl)
theorem dX0_append_11 : decode cX0_append 11 = .ok (.aload_n 0, 1) := dk_42 (dk_at dksX0_append_0 11 rfl rfl)
theorem dX0_append_12 : decode cX0_append 12 = .ok (.getfield 96, 3) := dk_180 0 96 (dk_at dksX0_append_0 12 rfl rfl)
theorem dX0_append_15 : decode cX0_append 15 = .ok (.invokevirtual 415, 3) := dk_182 1 159 (dk_at dksX0_append_0 15 rfl rfl)
theorem dX0_append_18 : decode cX0_append 18 = .ok (.bipush 60, 2) := dk_16 60 (dk_at dksX0_append_0 18 rfl rfl)
theorem dX0_append_20 : decode cX0_append 20 = .ok (.if_icmp .ne 6, 3) := dk_160 0 6 (dk_at dksX0_append_0 20 rfl rfl)
theorem dX0_append_23 : decode cX0_append 23 = .ok (.bipush (-2), 2) := dk_16 254 (dk_at dksX0_append_1 0 rfl rfl)
theorem dX0_append_25 : decode cX0_append 25 = .ok (.ireturn, 1) := dk_172 (dk_at dksX0_append_1 2 rfl rfl)
theorem dX0_append_26 : decode cX0_append 26 = .ok (.aload_n 0, 1) := dk_42 (dk_at dksX0_append_1 3 rfl rfl)
theorem dX0_append_27 : decode cX0_append 27 = .ok (.getfield 96, 3) := dk_180 0 96 (dk_at dksX0_append_1 4 rfl rfl)
theorem dX0_append_30 : decode cX0_append 30 = .ok (.iload_n 1, 1) := dk_27 (dk_at dksX0_append_1 7 rfl rfl)
theorem dX0_append_31 : decode cX0_append 31 = .ok (.invokevirtual 418, 3) := dk_182 1 162 (dk_at dksX0_append_1 8 rfl rfl)
theorem dX0_append_34 : decode cX0_append 34 = .ok (.pop, 1) := dk_87 (dk_at dksX0_append_1 11 rfl rfl)
theorem dX0_append_35 : decode cX0_append 35 = .ok (.aload_n 0, 1) := dk_42 (dk_at dksX0_append_1 12 rfl rfl)
theorem dX0_append_36 : decode cX0_append 36 = .ok (.getfield 96, 3) := dk_180 0 96 (dk_at dksX0_append_1 13 rfl rfl)
theorem dX0_append_39 : decode cX0_append 39 = .ok (.invokevirtual 415, 3) := dk_182 1 159 (dk_at dksX0_append_1 16 rfl rfl)
theorem dX0_append_42 : decode cX0_append 42 = .ok (.ireturn, 1) := dk_172 (dk_at dksX0_append_1 19 rfl rfl)
abbrev cX0_fault : ByteArray := prog_1_method_46_code
def yX0_fault : MethodName := ⟨RX0, "fault", "()I"⟩
theorem dX0_fault_0 : decode cX0_fault 0 = .ok (.aload_n 0, 1) := by decide +kernel
theorem dX0_fault_1 : decode cX0_fault 1 = .ok (.getfield 89, 3) := by decide +kernel
theorem dX0_fault_4 : decode cX0_fault 4 = .ok (.ireturn, 1) := by decide +kernel
abbrev cX0_script : ByteArray := prog_1_method_60_code
def yX0_script : MethodName := ⟨RX0, "script", "()I"⟩
def dkwX0_script_1 : List UInt8 := [42, 43, 182, 0, 224, 172]
abbrev dktX0_script_1 : List UInt8 := dkwX0_script_1 ++ []
def dkwX0_script_0 : List UInt8 := [42, 182, 1, 238, 154, 0, 6, 16, 254, 172, 42, 182, 0, 166, 42, 42, 182, 1, 241, 182, 0, 172, 172, 76]
abbrev dktX0_script_0 : List UInt8 := dkwX0_script_0 ++ dktX0_script_1
theorem dksX0_script_0 : cX0_script.data.toList.drop 0 = dktX0_script_0 := by decide +kernel
theorem dksX0_script_1 : cX0_script.data.toList.drop 24 = dktX0_script_1 := dk_seg dksX0_script_0 24 rfl rfl
theorem dX0_script_0 : decode cX0_script 0 = .ok (.aload_n 0, 1) := dk_42 (dk_at dksX0_script_0 0 rfl rfl)
theorem dX0_script_1 : decode cX0_script 1 = .ok (.invokevirtual 494, 3) := dk_182 1 238 (dk_at dksX0_script_0 1 rfl rfl)
theorem dX0_script_4 : decode cX0_script 4 = .ok (.ifCond .ne 6, 3) := dk_154 0 6 (dk_at dksX0_script_0 4 rfl rfl)
theorem dX0_script_7 : decode cX0_script 7 = .ok (.bipush (-2), 2) := dk_16 254 (dk_at dksX0_script_0 7 rfl rfl)
theorem dX0_script_9 : decode cX0_script 9 = .ok (.ireturn, 1) := dk_172 (dk_at dksX0_script_0 9 rfl rfl)
theorem dX0_script_10 : decode cX0_script 10 = .ok (.aload_n 0, 1) := dk_42 (dk_at dksX0_script_0 10 rfl rfl)
theorem dX0_script_11 : decode cX0_script 11 = .ok (.invokevirtual 166, 3) := dk_182 0 166 (dk_at dksX0_script_0 11 rfl rfl)
theorem dX0_script_14 : decode cX0_script 14 = .ok (.aload_n 0, 1) := dk_42 (dk_at dksX0_script_0 14 rfl rfl)
theorem dX0_script_15 : decode cX0_script 15 = .ok (.aload_n 0, 1) := dk_42 (dk_at dksX0_script_0 15 rfl rfl)
theorem dX0_script_16 : decode cX0_script 16 = .ok (.invokevirtual 497, 3) := dk_182 1 241 (dk_at dksX0_script_0 16 rfl rfl)
theorem dX0_script_19 : decode cX0_script 19 = .ok (.invokevirtual 172, 3) := dk_182 0 172 (dk_at dksX0_script_0 19 rfl rfl)
theorem dX0_script_22 : decode cX0_script 22 = .ok (.ireturn, 1) := dk_172 (dk_at dksX0_script_0 22 rfl rfl)
theorem dX0_script_23 : decode cX0_script 23 = .ok (.astore_n 1, 1) := dk_76 (dk_at dksX0_script_0 23 rfl rfl)
theorem dX0_script_24 : decode cX0_script 24 = .ok (.aload_n 0, 1) := dk_42 (dk_at dksX0_script_1 0 rfl rfl)
theorem dX0_script_25 : decode cX0_script 25 = .ok (.aload_n 1, 1) := dk_43 (dk_at dksX0_script_1 1 rfl rfl)
theorem dX0_script_26 : decode cX0_script 26 = .ok (.invokevirtual 224, 3) := dk_182 0 224 (dk_at dksX0_script_1 2 rfl rfl)
theorem dX0_script_29 : decode cX0_script 29 = .ok (.ireturn, 1) := dk_172 (dk_at dksX0_script_1 5 rfl rfl)
abbrev cX0_readsScript : ByteArray := prog_1_method_58_code
def yX0_readsScript : MethodName := ⟨RX0, "readsScript", "()Z"⟩
def dkwX0_readsScript_4 : List UInt8 := [28, 172, 78, 42, 180, 0, 96, 3, 182, 1, 233, 45, 191]
abbrev dktX0_readsScript_4 : List UInt8 := dkwX0_readsScript_4 ++ []
def dkwX0_readsScript_3 : List UInt8 := [182, 1, 233, 27, 172, 76, 42, 42, 180, 1, 166, 181, 0, 89, 3, 61, 42, 180, 0, 96, 3, 182, 1, 233]
abbrev dktX0_readsScript_3 : List UInt8 := dkwX0_readsScript_3 ++ dktX0_readsScript_4
def dkwX0_readsScript_2 : List UInt8 := [180, 0, 96, 182, 1, 159, 162, 0, 11, 187, 1, 181, 89, 183, 1, 183, 191, 4, 60, 42, 180, 0, 96, 3]
abbrev dktX0_readsScript_2 : List UInt8 := dkwX0_readsScript_2 ++ dktX0_readsScript_3
def dkwX0_readsScript_1 : List UInt8 := [89, 180, 1, 227, 4, 96, 181, 1, 227, 42, 16, 59, 182, 1, 177, 154, 255, 227, 42, 180, 1, 166, 42]
abbrev dktX0_readsScript_1 : List UInt8 := dkwX0_readsScript_1 ++ dktX0_readsScript_2
def dkwX0_readsScript_0 : List UInt8 := [42, 3, 181, 1, 166, 42, 3, 181, 1, 227, 42, 180, 0, 116, 42, 180, 1, 227, 42, 182, 1, 230, 83, 42]
abbrev dktX0_readsScript_0 : List UInt8 := dkwX0_readsScript_0 ++ dktX0_readsScript_1
theorem dksX0_readsScript_0 : cX0_readsScript.data.toList.drop 0 = dktX0_readsScript_0 := by decide +kernel
theorem dksX0_readsScript_1 : cX0_readsScript.data.toList.drop 24 = dktX0_readsScript_1 := dk_seg dksX0_readsScript_0 24 rfl rfl
theorem dksX0_readsScript_2 : cX0_readsScript.data.toList.drop 47 = dktX0_readsScript_2 := dk_seg dksX0_readsScript_1 23 rfl rfl
theorem dksX0_readsScript_3 : cX0_readsScript.data.toList.drop 71 = dktX0_readsScript_3 := dk_seg dksX0_readsScript_2 24 rfl rfl
theorem dksX0_readsScript_4 : cX0_readsScript.data.toList.drop 95 = dktX0_readsScript_4 := dk_seg dksX0_readsScript_3 24 rfl rfl
theorem dX0_readsScript_0 : decode cX0_readsScript 0 = .ok (.aload_n 0, 1) := dk_42 (dk_at dksX0_readsScript_0 0 rfl rfl)
theorem dX0_readsScript_1 : decode cX0_readsScript 1 = .ok (.iconst 0, 1) := dk_3 (dk_at dksX0_readsScript_0 1 rfl rfl)
theorem dX0_readsScript_2 : decode cX0_readsScript 2 = .ok (.putfield 422, 3) := dk_181 1 166 (dk_at dksX0_readsScript_0 2 rfl rfl)
theorem dX0_readsScript_5 : decode cX0_readsScript 5 = .ok (.aload_n 0, 1) := dk_42 (dk_at dksX0_readsScript_0 5 rfl rfl)
theorem dX0_readsScript_6 : decode cX0_readsScript 6 = .ok (.iconst 0, 1) := dk_3 (dk_at dksX0_readsScript_0 6 rfl rfl)
theorem dX0_readsScript_7 : decode cX0_readsScript 7 = .ok (.putfield 483, 3) := dk_181 1 227 (dk_at dksX0_readsScript_0 7 rfl rfl)
theorem dX0_readsScript_10 : decode cX0_readsScript 10 = .ok (.aload_n 0, 1) := dk_42 (dk_at dksX0_readsScript_0 10 rfl rfl)
theorem dX0_readsScript_11 : decode cX0_readsScript 11 = .ok (.getfield 116, 3) := dk_180 0 116 (dk_at dksX0_readsScript_0 11 rfl rfl)
theorem dX0_readsScript_14 : decode cX0_readsScript 14 = .ok (.aload_n 0, 1) := dk_42 (dk_at dksX0_readsScript_0 14 rfl rfl)
theorem dX0_readsScript_15 : decode cX0_readsScript 15 = .ok (.getfield 483, 3) := dk_180 1 227 (dk_at dksX0_readsScript_0 15 rfl rfl)
theorem dX0_readsScript_18 : decode cX0_readsScript 18 = .ok (.aload_n 0, 1) := dk_42 (dk_at dksX0_readsScript_0 18 rfl rfl)
theorem dX0_readsScript_19 : decode cX0_readsScript 19 = .ok (.invokevirtual 486, 3) := dk_182 1 230 (dk_at dksX0_readsScript_0 19 rfl rfl)
theorem dX0_readsScript_22 : decode cX0_readsScript 22 = .ok (.aastore, 1) := dk_83 (dk_at dksX0_readsScript_0 22 rfl rfl)
theorem dX0_readsScript_23 : decode cX0_readsScript 23 = .ok (.aload_n 0, 1) := dk_42 (dk_at dksX0_readsScript_0 23 rfl rfl)
theorem dX0_readsScript_24 : decode cX0_readsScript 24 = .ok (.dup, 1) := dk_89 (dk_at dksX0_readsScript_1 0 rfl rfl)
theorem dX0_readsScript_25 : decode cX0_readsScript 25 = .ok (.getfield 483, 3) := dk_180 1 227 (dk_at dksX0_readsScript_1 1 rfl rfl)
theorem dX0_readsScript_28 : decode cX0_readsScript 28 = .ok (.iconst 1, 1) := dk_4 (dk_at dksX0_readsScript_1 4 rfl rfl)
theorem dX0_readsScript_29 : decode cX0_readsScript 29 = .ok (.iadd, 1) := dk_96 (dk_at dksX0_readsScript_1 5 rfl rfl)
theorem dX0_readsScript_30 : decode cX0_readsScript 30 = .ok (.putfield 483, 3) := dk_181 1 227 (dk_at dksX0_readsScript_1 6 rfl rfl)
theorem dX0_readsScript_33 : decode cX0_readsScript 33 = .ok (.aload_n 0, 1) := dk_42 (dk_at dksX0_readsScript_1 9 rfl rfl)
theorem dX0_readsScript_34 : decode cX0_readsScript 34 = .ok (.bipush 59, 2) := dk_16 59 (dk_at dksX0_readsScript_1 10 rfl rfl)
theorem dX0_readsScript_36 : decode cX0_readsScript 36 = .ok (.invokevirtual 433, 3) := dk_182 1 177 (dk_at dksX0_readsScript_1 12 rfl rfl)
theorem dX0_readsScript_39 : decode cX0_readsScript 39 = .ok (.ifCond .ne (-29), 3) := dk_154 255 227 (dk_at dksX0_readsScript_1 15 rfl rfl)
theorem dX0_readsScript_42 : decode cX0_readsScript 42 = .ok (.aload_n 0, 1) := dk_42 (dk_at dksX0_readsScript_1 18 rfl rfl)
theorem dX0_readsScript_43 : decode cX0_readsScript 43 = .ok (.getfield 422, 3) := dk_180 1 166 (dk_at dksX0_readsScript_1 19 rfl rfl)
theorem dX0_readsScript_46 : decode cX0_readsScript 46 = .ok (.aload_n 0, 1) := dk_42 (dk_at dksX0_readsScript_1 22 rfl rfl)
theorem dX0_readsScript_47 : decode cX0_readsScript 47 = .ok (.getfield 96, 3) := dk_180 0 96 (dk_at dksX0_readsScript_2 0 rfl rfl)
theorem dX0_readsScript_50 : decode cX0_readsScript 50 = .ok (.invokevirtual 415, 3) := dk_182 1 159 (dk_at dksX0_readsScript_2 3 rfl rfl)
theorem dX0_readsScript_53 : decode cX0_readsScript 53 = .ok (.if_icmp .ge 11, 3) := dk_162 0 11 (dk_at dksX0_readsScript_2 6 rfl rfl)
theorem dX0_readsScript_56 : decode cX0_readsScript 56 = .ok (.new 437, 3) := dk_187 1 181 (dk_at dksX0_readsScript_2 9 rfl rfl)
theorem dX0_readsScript_59 : decode cX0_readsScript 59 = .ok (.dup, 1) := dk_89 (dk_at dksX0_readsScript_2 12 rfl rfl)
theorem dX0_readsScript_60 : decode cX0_readsScript 60 = .ok (.invokespecial 439, 3) := dk_183 1 183 (dk_at dksX0_readsScript_2 13 rfl rfl)
theorem dX0_readsScript_63 : decode cX0_readsScript 63 = .ok (.athrow, 1) := dk_191 (dk_at dksX0_readsScript_2 16 rfl rfl)
theorem dX0_readsScript_64 : decode cX0_readsScript 64 = .ok (.iconst 1, 1) := dk_4 (dk_at dksX0_readsScript_2 17 rfl rfl)
theorem dX0_readsScript_65 : decode cX0_readsScript 65 = .ok (.istore_n 1, 1) := dk_60 (dk_at dksX0_readsScript_2 18 rfl rfl)
theorem dX0_readsScript_66 : decode cX0_readsScript 66 = .ok (.aload_n 0, 1) := dk_42 (dk_at dksX0_readsScript_2 19 rfl rfl)
theorem dX0_readsScript_67 : decode cX0_readsScript 67 = .ok (.getfield 96, 3) := dk_180 0 96 (dk_at dksX0_readsScript_2 20 rfl rfl)
theorem dX0_readsScript_70 : decode cX0_readsScript 70 = .ok (.iconst 0, 1) := dk_3 (dk_at dksX0_readsScript_2 23 rfl rfl)
theorem dX0_readsScript_71 : decode cX0_readsScript 71 = .ok (.invokevirtual 489, 3) := dk_182 1 233 (dk_at dksX0_readsScript_3 0 rfl rfl)
theorem dX0_readsScript_74 : decode cX0_readsScript 74 = .ok (.iload_n 1, 1) := dk_27 (dk_at dksX0_readsScript_3 3 rfl rfl)
theorem dX0_readsScript_75 : decode cX0_readsScript 75 = .ok (.ireturn, 1) := dk_172 (dk_at dksX0_readsScript_3 4 rfl rfl)
theorem dX0_readsScript_76 : decode cX0_readsScript 76 = .ok (.astore_n 1, 1) := dk_76 (dk_at dksX0_readsScript_3 5 rfl rfl)
theorem dX0_readsScript_77 : decode cX0_readsScript 77 = .ok (.aload_n 0, 1) := dk_42 (dk_at dksX0_readsScript_3 6 rfl rfl)
theorem dX0_readsScript_78 : decode cX0_readsScript 78 = .ok (.aload_n 0, 1) := dk_42 (dk_at dksX0_readsScript_3 7 rfl rfl)
theorem dX0_readsScript_79 : decode cX0_readsScript 79 = .ok (.getfield 422, 3) := dk_180 1 166 (dk_at dksX0_readsScript_3 8 rfl rfl)
theorem dX0_readsScript_82 : decode cX0_readsScript 82 = .ok (.putfield 89, 3) := dk_181 0 89 (dk_at dksX0_readsScript_3 11 rfl rfl)
theorem dX0_readsScript_85 : decode cX0_readsScript 85 = .ok (.iconst 0, 1) := dk_3 (dk_at dksX0_readsScript_3 14 rfl rfl)
theorem dX0_readsScript_86 : decode cX0_readsScript 86 = .ok (.istore_n 2, 1) := dk_61 (dk_at dksX0_readsScript_3 15 rfl rfl)
theorem dX0_readsScript_87 : decode cX0_readsScript 87 = .ok (.aload_n 0, 1) := dk_42 (dk_at dksX0_readsScript_3 16 rfl rfl)
theorem dX0_readsScript_88 : decode cX0_readsScript 88 = .ok (.getfield 96, 3) := dk_180 0 96 (dk_at dksX0_readsScript_3 17 rfl rfl)
theorem dX0_readsScript_91 : decode cX0_readsScript 91 = .ok (.iconst 0, 1) := dk_3 (dk_at dksX0_readsScript_3 20 rfl rfl)
theorem dX0_readsScript_92 : decode cX0_readsScript 92 = .ok (.invokevirtual 489, 3) := dk_182 1 233 (dk_at dksX0_readsScript_3 21 rfl rfl)
theorem dX0_readsScript_95 : decode cX0_readsScript 95 = .ok (.iload_n 2, 1) := dk_28 (dk_at dksX0_readsScript_4 0 rfl rfl)
theorem dX0_readsScript_96 : decode cX0_readsScript 96 = .ok (.ireturn, 1) := dk_172 (dk_at dksX0_readsScript_4 1 rfl rfl)
theorem dX0_readsScript_97 : decode cX0_readsScript 97 = .ok (.astore_n 3, 1) := dk_78 (dk_at dksX0_readsScript_4 2 rfl rfl)
theorem dX0_readsScript_98 : decode cX0_readsScript 98 = .ok (.aload_n 0, 1) := dk_42 (dk_at dksX0_readsScript_4 3 rfl rfl)
theorem dX0_readsScript_99 : decode cX0_readsScript 99 = .ok (.getfield 96, 3) := dk_180 0 96 (dk_at dksX0_readsScript_4 4 rfl rfl)
theorem dX0_readsScript_102 : decode cX0_readsScript 102 = .ok (.iconst 0, 1) := dk_3 (dk_at dksX0_readsScript_4 7 rfl rfl)
theorem dX0_readsScript_103 : decode cX0_readsScript 103 = .ok (.invokevirtual 489, 3) := dk_182 1 233 (dk_at dksX0_readsScript_4 8 rfl rfl)
theorem dX0_readsScript_106 : decode cX0_readsScript 106 = .ok (.aload_n 3, 1) := dk_45 (dk_at dksX0_readsScript_4 11 rfl rfl)
theorem dX0_readsScript_107 : decode cX0_readsScript 107 = .ok (.athrow, 1) := dk_191 (dk_at dksX0_readsScript_4 12 rfl rfl)
abbrev cX0_order : ByteArray := prog_1_method_57_code
def yX0_order : MethodName := ⟨RX0, "order", "()LMossLawn$Done;"⟩
def dkwX0_order_5 : List UInt8 := [176, 42, 89, 180, 1, 166, 4, 100, 181, 1, 166, 187, 1, 181, 89, 183, 1, 183, 191]
abbrev dktX0_order_5 : List UInt8 := dkwX0_order_5 ++ []
def dkwX0_order_4 : List UInt8 := [182, 1, 184, 61, 42, 28, 186, 1, 225, 0, 0, 176, 42, 182, 1, 200, 62, 42, 29, 186, 1, 226, 0, 0]
abbrev dktX0_order_4 : List UInt8 := dkwX0_order_4 ++ dktX0_order_5
def dkwX0_order_3 : List UInt8 := [42, 182, 1, 211, 176, 42, 182, 1, 215, 176, 42, 182, 1, 218, 176, 42, 27, 182, 1, 221, 176, 42]
abbrev dktX0_order_3 : List UInt8 := dkwX0_order_3 ++ dktX0_order_4
def dkwX0_order_2 : List UInt8 := [170, 0, 0, 0, 0, 0, 150, 0, 0, 0, 98, 0, 0, 0, 119, 0, 0, 0, 118, 0, 0, 0, 150, 0, 0, 0, 137, 0, 0, 0, 150, 0, 0, 0, 150, 0, 0, 0, 150, 0, 0, 0, 150, 0, 0, 0, 150, 0, 0, 0, 150, 0, 0, 0, 150, 0, 0, 0, 150, 0, 0, 0, 150, 0, 0, 0, 150, 0, 0, 0, 150, 0, 0, 0, 108, 0, 0, 0, 150, 0, 0, 0, 124, 0, 0, 0, 118, 0, 0, 0, 118, 0, 0, 0, 150, 0, 0, 0, 113, 0, 0, 0, 103]
abbrev dktX0_order_2 : List UInt8 := dkwX0_order_2 ++ dktX0_order_3
def dkwX0_order_1 : List UInt8 := [180, 0, 96, 42, 180, 1, 166, 182, 1, 169, 60, 42, 89, 180, 1, 166, 4, 96, 181, 1, 166, 27]
abbrev dktX0_order_1 : List UInt8 := dkwX0_order_1 ++ dktX0_order_2
def dkwX0_order_0 : List UInt8 := [42, 180, 1, 166, 42, 180, 0, 96, 182, 1, 159, 160, 0, 11, 187, 1, 181, 89, 183, 1, 183, 191, 42]
abbrev dktX0_order_0 : List UInt8 := dkwX0_order_0 ++ dktX0_order_1
theorem dksX0_order_0 : cX0_order.data.toList.drop 0 = dktX0_order_0 := by decide +kernel
theorem dksX0_order_1 : cX0_order.data.toList.drop 23 = dktX0_order_1 := dk_seg dksX0_order_0 23 rfl rfl
theorem dksX0_order_2 : cX0_order.data.toList.drop 45 = dktX0_order_2 := dk_seg dksX0_order_1 22 rfl rfl
theorem dksX0_order_3 : cX0_order.data.toList.drop 148 = dktX0_order_3 := dk_seg dksX0_order_2 103 rfl rfl
theorem dksX0_order_4 : cX0_order.data.toList.drop 170 = dktX0_order_4 := dk_seg dksX0_order_3 22 rfl rfl
theorem dksX0_order_5 : cX0_order.data.toList.drop 194 = dktX0_order_5 := dk_seg dksX0_order_4 24 rfl rfl
theorem dX0_order_0 : decode cX0_order 0 = .ok (.aload_n 0, 1) := dk_42 (dk_at dksX0_order_0 0 rfl rfl)
theorem dX0_order_1 : decode cX0_order 1 = .ok (.getfield 422, 3) := dk_180 1 166 (dk_at dksX0_order_0 1 rfl rfl)
theorem dX0_order_4 : decode cX0_order 4 = .ok (.aload_n 0, 1) := dk_42 (dk_at dksX0_order_0 4 rfl rfl)
theorem dX0_order_5 : decode cX0_order 5 = .ok (.getfield 96, 3) := dk_180 0 96 (dk_at dksX0_order_0 5 rfl rfl)
theorem dX0_order_8 : decode cX0_order 8 = .ok (.invokevirtual 415, 3) := dk_182 1 159 (dk_at dksX0_order_0 8 rfl rfl)
theorem dX0_order_11 : decode cX0_order 11 = .ok (.if_icmp .ne 11, 3) := dk_160 0 11 (dk_at dksX0_order_0 11 rfl rfl)
theorem dX0_order_14 : decode cX0_order 14 = .ok (.new 437, 3) := dk_187 1 181 (dk_at dksX0_order_0 14 rfl rfl)
theorem dX0_order_17 : decode cX0_order 17 = .ok (.dup, 1) := dk_89 (dk_at dksX0_order_0 17 rfl rfl)
theorem dX0_order_18 : decode cX0_order 18 = .ok (.invokespecial 439, 3) := dk_183 1 183 (dk_at dksX0_order_0 18 rfl rfl)
theorem dX0_order_21 : decode cX0_order 21 = .ok (.athrow, 1) := dk_191 (dk_at dksX0_order_0 21 rfl rfl)
theorem dX0_order_22 : decode cX0_order 22 = .ok (.aload_n 0, 1) := dk_42 (dk_at dksX0_order_0 22 rfl rfl)
theorem dX0_order_23 : decode cX0_order 23 = .ok (.getfield 96, 3) := dk_180 0 96 (dk_at dksX0_order_1 0 rfl rfl)
theorem dX0_order_26 : decode cX0_order 26 = .ok (.aload_n 0, 1) := dk_42 (dk_at dksX0_order_1 3 rfl rfl)
theorem dX0_order_27 : decode cX0_order 27 = .ok (.getfield 422, 3) := dk_180 1 166 (dk_at dksX0_order_1 4 rfl rfl)
theorem dX0_order_30 : decode cX0_order 30 = .ok (.invokevirtual 425, 3) := dk_182 1 169 (dk_at dksX0_order_1 7 rfl rfl)
theorem dX0_order_33 : decode cX0_order 33 = .ok (.istore_n 1, 1) := dk_60 (dk_at dksX0_order_1 10 rfl rfl)
theorem dX0_order_34 : decode cX0_order 34 = .ok (.aload_n 0, 1) := dk_42 (dk_at dksX0_order_1 11 rfl rfl)
theorem dX0_order_35 : decode cX0_order 35 = .ok (.dup, 1) := dk_89 (dk_at dksX0_order_1 12 rfl rfl)
theorem dX0_order_36 : decode cX0_order 36 = .ok (.getfield 422, 3) := dk_180 1 166 (dk_at dksX0_order_1 13 rfl rfl)
theorem dX0_order_39 : decode cX0_order 39 = .ok (.iconst 1, 1) := dk_4 (dk_at dksX0_order_1 16 rfl rfl)
theorem dX0_order_40 : decode cX0_order 40 = .ok (.iadd, 1) := dk_96 (dk_at dksX0_order_1 17 rfl rfl)
theorem dX0_order_41 : decode cX0_order 41 = .ok (.putfield 422, 3) := dk_181 1 166 (dk_at dksX0_order_1 18 rfl rfl)
theorem dX0_order_44 : decode cX0_order 44 = .ok (.iload_n 1, 1) := dk_27 (dk_at dksX0_order_1 21 rfl rfl)
theorem dX0_order_45 : decode cX0_order 45 = .ok (.tableswitch 150 98 119 #[118, 150, 137, 150, 150, 150, 150, 150, 150, 150, 150, 150, 150, 150, 108, 150, 124, 118, 118, 150, 113, 103], 103) := by decide +kernel
theorem dX0_order_148 : decode cX0_order 148 = .ok (.aload_n 0, 1) := dk_42 (dk_at dksX0_order_3 0 rfl rfl)
theorem dX0_order_149 : decode cX0_order 149 = .ok (.invokevirtual 467, 3) := dk_182 1 211 (dk_at dksX0_order_3 1 rfl rfl)
theorem dX0_order_152 : decode cX0_order 152 = .ok (.areturn, 1) := dk_176 (dk_at dksX0_order_3 4 rfl rfl)
theorem dX0_order_153 : decode cX0_order 153 = .ok (.aload_n 0, 1) := dk_42 (dk_at dksX0_order_3 5 rfl rfl)
theorem dX0_order_154 : decode cX0_order 154 = .ok (.invokevirtual 471, 3) := dk_182 1 215 (dk_at dksX0_order_3 6 rfl rfl)
theorem dX0_order_157 : decode cX0_order 157 = .ok (.areturn, 1) := dk_176 (dk_at dksX0_order_3 9 rfl rfl)
theorem dX0_order_158 : decode cX0_order 158 = .ok (.aload_n 0, 1) := dk_42 (dk_at dksX0_order_3 10 rfl rfl)
theorem dX0_order_159 : decode cX0_order 159 = .ok (.invokevirtual 474, 3) := dk_182 1 218 (dk_at dksX0_order_3 11 rfl rfl)
theorem dX0_order_162 : decode cX0_order 162 = .ok (.areturn, 1) := dk_176 (dk_at dksX0_order_3 14 rfl rfl)
theorem dX0_order_163 : decode cX0_order 163 = .ok (.aload_n 0, 1) := dk_42 (dk_at dksX0_order_3 15 rfl rfl)
theorem dX0_order_164 : decode cX0_order 164 = .ok (.iload_n 1, 1) := dk_27 (dk_at dksX0_order_3 16 rfl rfl)
theorem dX0_order_165 : decode cX0_order 165 = .ok (.invokevirtual 477, 3) := dk_182 1 221 (dk_at dksX0_order_3 17 rfl rfl)
theorem dX0_order_168 : decode cX0_order 168 = .ok (.areturn, 1) := dk_176 (dk_at dksX0_order_3 20 rfl rfl)
theorem dX0_order_169 : decode cX0_order 169 = .ok (.aload_n 0, 1) := dk_42 (dk_at dksX0_order_3 21 rfl rfl)
theorem dX0_order_170 : decode cX0_order 170 = .ok (.invokevirtual 440, 3) := dk_182 1 184 (dk_at dksX0_order_4 0 rfl rfl)
theorem dX0_order_173 : decode cX0_order 173 = .ok (.istore_n 2, 1) := dk_61 (dk_at dksX0_order_4 3 rfl rfl)
theorem dX0_order_174 : decode cX0_order 174 = .ok (.aload_n 0, 1) := dk_42 (dk_at dksX0_order_4 4 rfl rfl)
theorem dX0_order_175 : decode cX0_order 175 = .ok (.iload_n 2, 1) := dk_28 (dk_at dksX0_order_4 5 rfl rfl)
theorem dX0_order_176 : decode cX0_order 176 = .ok (.invokedynamic 481, 5) := by decide +kernel
theorem dX0_order_181 : decode cX0_order 181 = .ok (.areturn, 1) := dk_176 (dk_at dksX0_order_4 11 rfl rfl)
theorem dX0_order_182 : decode cX0_order 182 = .ok (.aload_n 0, 1) := dk_42 (dk_at dksX0_order_4 12 rfl rfl)
theorem dX0_order_183 : decode cX0_order 183 = .ok (.invokevirtual 456, 3) := dk_182 1 200 (dk_at dksX0_order_4 13 rfl rfl)
theorem dX0_order_186 : decode cX0_order 186 = .ok (.istore_n 3, 1) := dk_62 (dk_at dksX0_order_4 16 rfl rfl)
theorem dX0_order_187 : decode cX0_order 187 = .ok (.aload_n 0, 1) := dk_42 (dk_at dksX0_order_4 17 rfl rfl)
theorem dX0_order_188 : decode cX0_order 188 = .ok (.iload_n 3, 1) := dk_29 (dk_at dksX0_order_4 18 rfl rfl)
theorem dX0_order_189 : decode cX0_order 189 = .ok (.invokedynamic 482, 5) := by decide +kernel
theorem dX0_order_194 : decode cX0_order 194 = .ok (.areturn, 1) := dk_176 (dk_at dksX0_order_5 0 rfl rfl)
theorem dX0_order_195 : decode cX0_order 195 = .ok (.aload_n 0, 1) := dk_42 (dk_at dksX0_order_5 1 rfl rfl)
theorem dX0_order_196 : decode cX0_order 196 = .ok (.dup, 1) := dk_89 (dk_at dksX0_order_5 2 rfl rfl)
theorem dX0_order_197 : decode cX0_order 197 = .ok (.getfield 422, 3) := dk_180 1 166 (dk_at dksX0_order_5 3 rfl rfl)
theorem dX0_order_200 : decode cX0_order 200 = .ok (.iconst 1, 1) := dk_4 (dk_at dksX0_order_5 6 rfl rfl)
theorem dX0_order_201 : decode cX0_order 201 = .ok (.isub, 1) := dk_100 (dk_at dksX0_order_5 7 rfl rfl)
theorem dX0_order_202 : decode cX0_order 202 = .ok (.putfield 422, 3) := dk_181 1 166 (dk_at dksX0_order_5 8 rfl rfl)
theorem dX0_order_205 : decode cX0_order 205 = .ok (.new 437, 3) := dk_187 1 181 (dk_at dksX0_order_5 11 rfl rfl)
theorem dX0_order_208 : decode cX0_order 208 = .ok (.dup, 1) := dk_89 (dk_at dksX0_order_5 14 rfl rfl)
theorem dX0_order_209 : decode cX0_order 209 = .ok (.invokespecial 439, 3) := dk_183 1 183 (dk_at dksX0_order_5 15 rfl rfl)
theorem dX0_order_212 : decode cX0_order 212 = .ok (.athrow, 1) := dk_191 (dk_at dksX0_order_5 18 rfl rfl)
abbrev cX0_walking : ByteArray := prog_1_method_53_code
def yX0_walking : MethodName := ⟨RX0, "walking", "()LMossLawn$Done;"⟩
def dkwX0_walking_0 : List UInt8 := [42, 182, 1, 184, 60, 42, 182, 1, 187, 61, 42, 27, 28, 186, 1, 191, 0, 0, 176]
abbrev dktX0_walking_0 : List UInt8 := dkwX0_walking_0 ++ []
theorem dksX0_walking_0 : cX0_walking.data.toList.drop 0 = dktX0_walking_0 := by decide +kernel
theorem dX0_walking_0 : decode cX0_walking 0 = .ok (.aload_n 0, 1) := dk_42 (dk_at dksX0_walking_0 0 rfl rfl)
theorem dX0_walking_1 : decode cX0_walking 1 = .ok (.invokevirtual 440, 3) := dk_182 1 184 (dk_at dksX0_walking_0 1 rfl rfl)
theorem dX0_walking_4 : decode cX0_walking 4 = .ok (.istore_n 1, 1) := dk_60 (dk_at dksX0_walking_0 4 rfl rfl)
theorem dX0_walking_5 : decode cX0_walking 5 = .ok (.aload_n 0, 1) := dk_42 (dk_at dksX0_walking_0 5 rfl rfl)
theorem dX0_walking_6 : decode cX0_walking 6 = .ok (.invokevirtual 443, 3) := dk_182 1 187 (dk_at dksX0_walking_0 6 rfl rfl)
theorem dX0_walking_9 : decode cX0_walking 9 = .ok (.istore_n 2, 1) := dk_61 (dk_at dksX0_walking_0 9 rfl rfl)
theorem dX0_walking_10 : decode cX0_walking 10 = .ok (.aload_n 0, 1) := dk_42 (dk_at dksX0_walking_0 10 rfl rfl)
theorem dX0_walking_11 : decode cX0_walking 11 = .ok (.iload_n 1, 1) := dk_27 (dk_at dksX0_walking_0 11 rfl rfl)
theorem dX0_walking_12 : decode cX0_walking 12 = .ok (.iload_n 2, 1) := dk_28 (dk_at dksX0_walking_0 12 rfl rfl)
theorem dX0_walking_13 : decode cX0_walking 13 = .ok (.invokedynamic 447, 5) := by decide +kernel
theorem dX0_walking_18 : decode cX0_walking 18 = .ok (.areturn, 1) := dk_176 (dk_at dksX0_walking_0 18 rfl rfl)
abbrev cX0_digit : ByteArray := prog_1_method_50_code
def yX0_digit : MethodName := ⟨RX0, "digit", "()I"⟩
def dkwX0_digit_1 : List UInt8 := [4, 96, 181, 1, 166, 42, 180, 0, 96, 42, 180, 1, 166, 4, 100, 182, 1, 169, 16, 48, 100, 172]
abbrev dktX0_digit_1 : List UInt8 := dkwX0_digit_1 ++ []
def dkwX0_digit_0 : List UInt8 := [42, 16, 48, 16, 57, 182, 1, 173, 154, 0, 11, 187, 1, 181, 89, 183, 1, 183, 191, 42, 89, 180, 1, 166]
abbrev dktX0_digit_0 : List UInt8 := dkwX0_digit_0 ++ dktX0_digit_1
theorem dksX0_digit_0 : cX0_digit.data.toList.drop 0 = dktX0_digit_0 := by decide +kernel
theorem dksX0_digit_1 : cX0_digit.data.toList.drop 24 = dktX0_digit_1 := dk_seg dksX0_digit_0 24 rfl rfl
theorem dX0_digit_0 : decode cX0_digit 0 = .ok (.aload_n 0, 1) := dk_42 (dk_at dksX0_digit_0 0 rfl rfl)
theorem dX0_digit_1 : decode cX0_digit 1 = .ok (.bipush 48, 2) := dk_16 48 (dk_at dksX0_digit_0 1 rfl rfl)
theorem dX0_digit_3 : decode cX0_digit 3 = .ok (.bipush 57, 2) := dk_16 57 (dk_at dksX0_digit_0 3 rfl rfl)
theorem dX0_digit_5 : decode cX0_digit 5 = .ok (.invokevirtual 429, 3) := dk_182 1 173 (dk_at dksX0_digit_0 5 rfl rfl)
theorem dX0_digit_8 : decode cX0_digit 8 = .ok (.ifCond .ne 11, 3) := dk_154 0 11 (dk_at dksX0_digit_0 8 rfl rfl)
theorem dX0_digit_11 : decode cX0_digit 11 = .ok (.new 437, 3) := dk_187 1 181 (dk_at dksX0_digit_0 11 rfl rfl)
theorem dX0_digit_14 : decode cX0_digit 14 = .ok (.dup, 1) := dk_89 (dk_at dksX0_digit_0 14 rfl rfl)
theorem dX0_digit_15 : decode cX0_digit 15 = .ok (.invokespecial 439, 3) := dk_183 1 183 (dk_at dksX0_digit_0 15 rfl rfl)
theorem dX0_digit_18 : decode cX0_digit 18 = .ok (.athrow, 1) := dk_191 (dk_at dksX0_digit_0 18 rfl rfl)
theorem dX0_digit_19 : decode cX0_digit 19 = .ok (.aload_n 0, 1) := dk_42 (dk_at dksX0_digit_0 19 rfl rfl)
theorem dX0_digit_20 : decode cX0_digit 20 = .ok (.dup, 1) := dk_89 (dk_at dksX0_digit_0 20 rfl rfl)
theorem dX0_digit_21 : decode cX0_digit 21 = .ok (.getfield 422, 3) := dk_180 1 166 (dk_at dksX0_digit_0 21 rfl rfl)
theorem dX0_digit_24 : decode cX0_digit 24 = .ok (.iconst 1, 1) := dk_4 (dk_at dksX0_digit_1 0 rfl rfl)
theorem dX0_digit_25 : decode cX0_digit 25 = .ok (.iadd, 1) := dk_96 (dk_at dksX0_digit_1 1 rfl rfl)
theorem dX0_digit_26 : decode cX0_digit 26 = .ok (.putfield 422, 3) := dk_181 1 166 (dk_at dksX0_digit_1 2 rfl rfl)
theorem dX0_digit_29 : decode cX0_digit 29 = .ok (.aload_n 0, 1) := dk_42 (dk_at dksX0_digit_1 5 rfl rfl)
theorem dX0_digit_30 : decode cX0_digit 30 = .ok (.getfield 96, 3) := dk_180 0 96 (dk_at dksX0_digit_1 6 rfl rfl)
theorem dX0_digit_33 : decode cX0_digit 33 = .ok (.aload_n 0, 1) := dk_42 (dk_at dksX0_digit_1 9 rfl rfl)
theorem dX0_digit_34 : decode cX0_digit 34 = .ok (.getfield 422, 3) := dk_180 1 166 (dk_at dksX0_digit_1 10 rfl rfl)
theorem dX0_digit_37 : decode cX0_digit 37 = .ok (.iconst 1, 1) := dk_4 (dk_at dksX0_digit_1 13 rfl rfl)
theorem dX0_digit_38 : decode cX0_digit 38 = .ok (.isub, 1) := dk_100 (dk_at dksX0_digit_1 14 rfl rfl)
theorem dX0_digit_39 : decode cX0_digit 39 = .ok (.invokevirtual 425, 3) := dk_182 1 169 (dk_at dksX0_digit_1 15 rfl rfl)
theorem dX0_digit_42 : decode cX0_digit 42 = .ok (.bipush 48, 2) := dk_16 48 (dk_at dksX0_digit_1 18 rfl rfl)
theorem dX0_digit_44 : decode cX0_digit 44 = .ok (.isub, 1) := dk_100 (dk_at dksX0_digit_1 20 rfl rfl)
theorem dX0_digit_45 : decode cX0_digit 45 = .ok (.ireturn, 1) := dk_172 (dk_at dksX0_digit_1 21 rfl rfl)
abbrev cX0_isHere : ByteArray := prog_1_method_47_code
def yX0_isHere : MethodName := ⟨RX0, "isHere", "(CC)Z"⟩
def dkwX0_isHere_1 : List UInt8 := [182, 1, 169, 27, 28, 184, 0, 140, 153, 0, 7, 4, 167, 0, 4, 3, 172]
abbrev dktX0_isHere_1 : List UInt8 := dkwX0_isHere_1 ++ []
def dkwX0_isHere_0 : List UInt8 := [42, 180, 1, 166, 42, 180, 0, 96, 182, 1, 159, 162, 0, 26, 42, 180, 0, 96, 42, 180, 1, 166]
abbrev dktX0_isHere_0 : List UInt8 := dkwX0_isHere_0 ++ dktX0_isHere_1
theorem dksX0_isHere_0 : cX0_isHere.data.toList.drop 0 = dktX0_isHere_0 := by decide +kernel
theorem dksX0_isHere_1 : cX0_isHere.data.toList.drop 22 = dktX0_isHere_1 := dk_seg dksX0_isHere_0 22 rfl rfl
theorem dX0_isHere_0 : decode cX0_isHere 0 = .ok (.aload_n 0, 1) := dk_42 (dk_at dksX0_isHere_0 0 rfl rfl)
theorem dX0_isHere_1 : decode cX0_isHere 1 = .ok (.getfield 422, 3) := dk_180 1 166 (dk_at dksX0_isHere_0 1 rfl rfl)
theorem dX0_isHere_4 : decode cX0_isHere 4 = .ok (.aload_n 0, 1) := dk_42 (dk_at dksX0_isHere_0 4 rfl rfl)
theorem dX0_isHere_5 : decode cX0_isHere 5 = .ok (.getfield 96, 3) := dk_180 0 96 (dk_at dksX0_isHere_0 5 rfl rfl)
theorem dX0_isHere_8 : decode cX0_isHere 8 = .ok (.invokevirtual 415, 3) := dk_182 1 159 (dk_at dksX0_isHere_0 8 rfl rfl)
theorem dX0_isHere_11 : decode cX0_isHere 11 = .ok (.if_icmp .ge 26, 3) := dk_162 0 26 (dk_at dksX0_isHere_0 11 rfl rfl)
theorem dX0_isHere_14 : decode cX0_isHere 14 = .ok (.aload_n 0, 1) := dk_42 (dk_at dksX0_isHere_0 14 rfl rfl)
theorem dX0_isHere_15 : decode cX0_isHere 15 = .ok (.getfield 96, 3) := dk_180 0 96 (dk_at dksX0_isHere_0 15 rfl rfl)
theorem dX0_isHere_18 : decode cX0_isHere 18 = .ok (.aload_n 0, 1) := dk_42 (dk_at dksX0_isHere_0 18 rfl rfl)
theorem dX0_isHere_19 : decode cX0_isHere 19 = .ok (.getfield 422, 3) := dk_180 1 166 (dk_at dksX0_isHere_0 19 rfl rfl)
theorem dX0_isHere_22 : decode cX0_isHere 22 = .ok (.invokevirtual 425, 3) := dk_182 1 169 (dk_at dksX0_isHere_1 0 rfl rfl)
theorem dX0_isHere_25 : decode cX0_isHere 25 = .ok (.iload_n 1, 1) := dk_27 (dk_at dksX0_isHere_1 3 rfl rfl)
theorem dX0_isHere_26 : decode cX0_isHere 26 = .ok (.iload_n 2, 1) := dk_28 (dk_at dksX0_isHere_1 4 rfl rfl)
theorem dX0_isHere_27 : decode cX0_isHere 27 = .ok (.invokestatic 140, 3) := dk_184 0 140 (dk_at dksX0_isHere_1 5 rfl rfl)
theorem dX0_isHere_30 : decode cX0_isHere 30 = .ok (.ifCond .eq 7, 3) := dk_153 0 7 (dk_at dksX0_isHere_1 8 rfl rfl)
theorem dX0_isHere_33 : decode cX0_isHere 33 = .ok (.iconst 1, 1) := dk_4 (dk_at dksX0_isHere_1 11 rfl rfl)
theorem dX0_isHere_34 : decode cX0_isHere 34 = .ok (.goto 4, 3) := dk_167 0 4 (dk_at dksX0_isHere_1 12 rfl rfl)
theorem dX0_isHere_37 : decode cX0_isHere 37 = .ok (.iconst 0, 1) := dk_3 (dk_at dksX0_isHere_1 15 rfl rfl)
theorem dX0_isHere_38 : decode cX0_isHere 38 = .ok (.ireturn, 1) := dk_172 (dk_at dksX0_isHere_1 16 rfl rfl)
abbrev cX0_side : ByteArray := prog_1_method_52_code
def yX0_side : MethodName := ⟨RX0, "side", "()C"⟩
def dkwX0_side_2 : List UInt8 := [181, 1, 166, 42, 180, 0, 96, 42, 180, 1, 166, 4, 100, 182, 1, 169, 172]
abbrev dktX0_side_2 : List UInt8 := dkwX0_side_2 ++ []
def dkwX0_side_1 : List UInt8 := [182, 1, 169, 184, 1, 0, 199, 0, 11, 187, 1, 181, 89, 183, 1, 183, 191, 42, 89, 180, 1, 166, 4, 96]
abbrev dktX0_side_1 : List UInt8 := dkwX0_side_1 ++ dktX0_side_2
def dkwX0_side_0 : List UInt8 := [42, 180, 1, 166, 42, 180, 0, 96, 182, 1, 159, 159, 0, 20, 42, 180, 0, 96, 42, 180, 1, 166]
abbrev dktX0_side_0 : List UInt8 := dkwX0_side_0 ++ dktX0_side_1
theorem dksX0_side_0 : cX0_side.data.toList.drop 0 = dktX0_side_0 := by decide +kernel
theorem dksX0_side_1 : cX0_side.data.toList.drop 22 = dktX0_side_1 := dk_seg dksX0_side_0 22 rfl rfl
theorem dksX0_side_2 : cX0_side.data.toList.drop 46 = dktX0_side_2 := dk_seg dksX0_side_1 24 rfl rfl
theorem dX0_side_0 : decode cX0_side 0 = .ok (.aload_n 0, 1) := dk_42 (dk_at dksX0_side_0 0 rfl rfl)
theorem dX0_side_1 : decode cX0_side 1 = .ok (.getfield 422, 3) := dk_180 1 166 (dk_at dksX0_side_0 1 rfl rfl)
theorem dX0_side_4 : decode cX0_side 4 = .ok (.aload_n 0, 1) := dk_42 (dk_at dksX0_side_0 4 rfl rfl)
theorem dX0_side_5 : decode cX0_side 5 = .ok (.getfield 96, 3) := dk_180 0 96 (dk_at dksX0_side_0 5 rfl rfl)
theorem dX0_side_8 : decode cX0_side 8 = .ok (.invokevirtual 415, 3) := dk_182 1 159 (dk_at dksX0_side_0 8 rfl rfl)
theorem dX0_side_11 : decode cX0_side 11 = .ok (.if_icmp .eq 20, 3) := dk_159 0 20 (dk_at dksX0_side_0 11 rfl rfl)
theorem dX0_side_14 : decode cX0_side 14 = .ok (.aload_n 0, 1) := dk_42 (dk_at dksX0_side_0 14 rfl rfl)
theorem dX0_side_15 : decode cX0_side 15 = .ok (.getfield 96, 3) := dk_180 0 96 (dk_at dksX0_side_0 15 rfl rfl)
theorem dX0_side_18 : decode cX0_side 18 = .ok (.aload_n 0, 1) := dk_42 (dk_at dksX0_side_0 18 rfl rfl)
theorem dX0_side_19 : decode cX0_side 19 = .ok (.getfield 422, 3) := dk_180 1 166 (dk_at dksX0_side_0 19 rfl rfl)
theorem dX0_side_22 : decode cX0_side 22 = .ok (.invokevirtual 425, 3) := dk_182 1 169 (dk_at dksX0_side_1 0 rfl rfl)
theorem dX0_side_25 : decode cX0_side 25 = .ok (.invokestatic 256, 3) := dk_184 1 0 (dk_at dksX0_side_1 3 rfl rfl)
theorem dX0_side_28 : decode cX0_side 28 = .ok (.ifnonnull 11, 3) := dk_199 0 11 (dk_at dksX0_side_1 6 rfl rfl)
theorem dX0_side_31 : decode cX0_side 31 = .ok (.new 437, 3) := dk_187 1 181 (dk_at dksX0_side_1 9 rfl rfl)
theorem dX0_side_34 : decode cX0_side 34 = .ok (.dup, 1) := dk_89 (dk_at dksX0_side_1 12 rfl rfl)
theorem dX0_side_35 : decode cX0_side 35 = .ok (.invokespecial 439, 3) := dk_183 1 183 (dk_at dksX0_side_1 13 rfl rfl)
theorem dX0_side_38 : decode cX0_side 38 = .ok (.athrow, 1) := dk_191 (dk_at dksX0_side_1 16 rfl rfl)
theorem dX0_side_39 : decode cX0_side 39 = .ok (.aload_n 0, 1) := dk_42 (dk_at dksX0_side_1 17 rfl rfl)
theorem dX0_side_40 : decode cX0_side 40 = .ok (.dup, 1) := dk_89 (dk_at dksX0_side_1 18 rfl rfl)
theorem dX0_side_41 : decode cX0_side 41 = .ok (.getfield 422, 3) := dk_180 1 166 (dk_at dksX0_side_1 19 rfl rfl)
theorem dX0_side_44 : decode cX0_side 44 = .ok (.iconst 1, 1) := dk_4 (dk_at dksX0_side_1 22 rfl rfl)
theorem dX0_side_45 : decode cX0_side 45 = .ok (.iadd, 1) := dk_96 (dk_at dksX0_side_1 23 rfl rfl)
theorem dX0_side_46 : decode cX0_side 46 = .ok (.putfield 422, 3) := dk_181 1 166 (dk_at dksX0_side_2 0 rfl rfl)
theorem dX0_side_49 : decode cX0_side 49 = .ok (.aload_n 0, 1) := dk_42 (dk_at dksX0_side_2 3 rfl rfl)
theorem dX0_side_50 : decode cX0_side 50 = .ok (.getfield 96, 3) := dk_180 0 96 (dk_at dksX0_side_2 4 rfl rfl)
theorem dX0_side_53 : decode cX0_side 53 = .ok (.aload_n 0, 1) := dk_42 (dk_at dksX0_side_2 7 rfl rfl)
theorem dX0_side_54 : decode cX0_side 54 = .ok (.getfield 422, 3) := dk_180 1 166 (dk_at dksX0_side_2 8 rfl rfl)
theorem dX0_side_57 : decode cX0_side 57 = .ok (.iconst 1, 1) := dk_4 (dk_at dksX0_side_2 11 rfl rfl)
theorem dX0_side_58 : decode cX0_side 58 = .ok (.isub, 1) := dk_100 (dk_at dksX0_side_2 12 rfl rfl)
theorem dX0_side_59 : decode cX0_side 59 = .ok (.invokevirtual 425, 3) := dk_182 1 169 (dk_at dksX0_side_2 13 rfl rfl)
theorem dX0_side_62 : decode cX0_side 62 = .ok (.ireturn, 1) := dk_172 (dk_at dksX0_side_2 16 rfl rfl)
abbrev cX0_lambda_walking_2 : ByteArray := prog_1_method_98_code
def yX0_lambda_walking_2 : MethodName := ⟨RX0, "lambda$walking$2", "(IC)I"⟩
def dkwX0_lambda_walking_2_0 : List UInt8 := [42, 27, 28, 182, 1, 23, 172]
abbrev dktX0_lambda_walking_2_0 : List UInt8 := dkwX0_lambda_walking_2_0 ++ []
theorem dksX0_lambda_walking_2_0 : cX0_lambda_walking_2.data.toList.drop 0 = dktX0_lambda_walking_2_0 := by decide +kernel
theorem dX0_lambda_walking_2_0 : decode cX0_lambda_walking_2 0 = .ok (.aload_n 0, 1) := dk_42 (dk_at dksX0_lambda_walking_2_0 0 rfl rfl)
theorem dX0_lambda_walking_2_1 : decode cX0_lambda_walking_2 1 = .ok (.iload_n 1, 1) := dk_27 (dk_at dksX0_lambda_walking_2_0 1 rfl rfl)
theorem dX0_lambda_walking_2_2 : decode cX0_lambda_walking_2 2 = .ok (.iload_n 2, 1) := dk_28 (dk_at dksX0_lambda_walking_2_0 2 rfl rfl)
theorem dX0_lambda_walking_2_3 : decode cX0_lambda_walking_2 3 = .ok (.invokevirtual 279, 3) := dk_182 1 23 (dk_at dksX0_lambda_walking_2_0 3 rfl rfl)
theorem dX0_lambda_walking_2_6 : decode cX0_lambda_walking_2 6 = .ok (.ireturn, 1) := dk_172 (dk_at dksX0_lambda_walking_2_0 6 rfl rfl)
abbrev cX0_planting : ByteArray := prog_1_method_54_code
def yX0_planting : MethodName := ⟨RX0, "planting", "()LMossLawn$Done;"⟩
def dkwX0_planting_0 : List UInt8 := [42, 182, 1, 184, 60, 42, 182, 1, 187, 61, 42, 27, 28, 186, 1, 195, 0, 0, 176]
abbrev dktX0_planting_0 : List UInt8 := dkwX0_planting_0 ++ []
theorem dksX0_planting_0 : cX0_planting.data.toList.drop 0 = dktX0_planting_0 := by decide +kernel
theorem dX0_planting_0 : decode cX0_planting 0 = .ok (.aload_n 0, 1) := dk_42 (dk_at dksX0_planting_0 0 rfl rfl)
theorem dX0_planting_1 : decode cX0_planting 1 = .ok (.invokevirtual 440, 3) := dk_182 1 184 (dk_at dksX0_planting_0 1 rfl rfl)
theorem dX0_planting_4 : decode cX0_planting 4 = .ok (.istore_n 1, 1) := dk_60 (dk_at dksX0_planting_0 4 rfl rfl)
theorem dX0_planting_5 : decode cX0_planting 5 = .ok (.aload_n 0, 1) := dk_42 (dk_at dksX0_planting_0 5 rfl rfl)
theorem dX0_planting_6 : decode cX0_planting 6 = .ok (.invokevirtual 443, 3) := dk_182 1 187 (dk_at dksX0_planting_0 6 rfl rfl)
theorem dX0_planting_9 : decode cX0_planting 9 = .ok (.istore_n 2, 1) := dk_61 (dk_at dksX0_planting_0 9 rfl rfl)
theorem dX0_planting_10 : decode cX0_planting 10 = .ok (.aload_n 0, 1) := dk_42 (dk_at dksX0_planting_0 10 rfl rfl)
theorem dX0_planting_11 : decode cX0_planting 11 = .ok (.iload_n 1, 1) := dk_27 (dk_at dksX0_planting_0 11 rfl rfl)
theorem dX0_planting_12 : decode cX0_planting 12 = .ok (.iload_n 2, 1) := dk_28 (dk_at dksX0_planting_0 12 rfl rfl)
theorem dX0_planting_13 : decode cX0_planting 13 = .ok (.invokedynamic 451, 5) := by decide +kernel
theorem dX0_planting_18 : decode cX0_planting 18 = .ok (.areturn, 1) := dk_176 (dk_at dksX0_planting_0 18 rfl rfl)
abbrev cX0_lambda_planting_3 : ByteArray := prog_1_method_97_code
def yX0_lambda_planting_3 : MethodName := ⟨RX0, "lambda$planting$3", "(IC)I"⟩
def dkwX0_lambda_planting_3_0 : List UInt8 := [42, 27, 28, 182, 1, 48, 172]
abbrev dktX0_lambda_planting_3_0 : List UInt8 := dkwX0_lambda_planting_3_0 ++ []
theorem dksX0_lambda_planting_3_0 : cX0_lambda_planting_3.data.toList.drop 0 = dktX0_lambda_planting_3_0 := by decide +kernel
theorem dX0_lambda_planting_3_0 : decode cX0_lambda_planting_3 0 = .ok (.aload_n 0, 1) := dk_42 (dk_at dksX0_lambda_planting_3_0 0 rfl rfl)
theorem dX0_lambda_planting_3_1 : decode cX0_lambda_planting_3 1 = .ok (.iload_n 1, 1) := dk_27 (dk_at dksX0_lambda_planting_3_0 1 rfl rfl)
theorem dX0_lambda_planting_3_2 : decode cX0_lambda_planting_3 2 = .ok (.iload_n 2, 1) := dk_28 (dk_at dksX0_lambda_planting_3_0 2 rfl rfl)
theorem dX0_lambda_planting_3_3 : decode cX0_lambda_planting_3 3 = .ok (.invokevirtual 304, 3) := dk_182 1 48 (dk_at dksX0_lambda_planting_3_0 3 rfl rfl)
theorem dX0_lambda_planting_3_6 : decode cX0_lambda_planting_3 6 = .ok (.ireturn, 1) := dk_172 (dk_at dksX0_lambda_planting_3_0 6 rfl rfl)
abbrev cX0_visiting : ByteArray := prog_1_method_55_code
def yX0_visiting : MethodName := ⟨RX0, "visiting", "()LMossLawn$Done;"⟩
def dkwX0_visiting_1 : List UInt8 := [182, 1, 200, 62, 42, 27, 28, 29, 186, 1, 203, 0, 0, 176]
abbrev dktX0_visiting_1 : List UInt8 := dkwX0_visiting_1 ++ []
def dkwX0_visiting_0 : List UInt8 := [42, 182, 1, 184, 60, 42, 16, 58, 182, 1, 196, 42, 182, 1, 200, 61, 42, 16, 62, 182, 1, 196, 42]
abbrev dktX0_visiting_0 : List UInt8 := dkwX0_visiting_0 ++ dktX0_visiting_1
theorem dksX0_visiting_0 : cX0_visiting.data.toList.drop 0 = dktX0_visiting_0 := by decide +kernel
theorem dksX0_visiting_1 : cX0_visiting.data.toList.drop 23 = dktX0_visiting_1 := dk_seg dksX0_visiting_0 23 rfl rfl
theorem dX0_visiting_0 : decode cX0_visiting 0 = .ok (.aload_n 0, 1) := dk_42 (dk_at dksX0_visiting_0 0 rfl rfl)
theorem dX0_visiting_1 : decode cX0_visiting 1 = .ok (.invokevirtual 440, 3) := dk_182 1 184 (dk_at dksX0_visiting_0 1 rfl rfl)
theorem dX0_visiting_4 : decode cX0_visiting 4 = .ok (.istore_n 1, 1) := dk_60 (dk_at dksX0_visiting_0 4 rfl rfl)
theorem dX0_visiting_5 : decode cX0_visiting 5 = .ok (.aload_n 0, 1) := dk_42 (dk_at dksX0_visiting_0 5 rfl rfl)
theorem dX0_visiting_6 : decode cX0_visiting 6 = .ok (.bipush 58, 2) := dk_16 58 (dk_at dksX0_visiting_0 6 rfl rfl)
theorem dX0_visiting_8 : decode cX0_visiting 8 = .ok (.invokevirtual 452, 3) := dk_182 1 196 (dk_at dksX0_visiting_0 8 rfl rfl)
theorem dX0_visiting_11 : decode cX0_visiting 11 = .ok (.aload_n 0, 1) := dk_42 (dk_at dksX0_visiting_0 11 rfl rfl)
theorem dX0_visiting_12 : decode cX0_visiting 12 = .ok (.invokevirtual 456, 3) := dk_182 1 200 (dk_at dksX0_visiting_0 12 rfl rfl)
theorem dX0_visiting_15 : decode cX0_visiting 15 = .ok (.istore_n 2, 1) := dk_61 (dk_at dksX0_visiting_0 15 rfl rfl)
theorem dX0_visiting_16 : decode cX0_visiting 16 = .ok (.aload_n 0, 1) := dk_42 (dk_at dksX0_visiting_0 16 rfl rfl)
theorem dX0_visiting_17 : decode cX0_visiting 17 = .ok (.bipush 62, 2) := dk_16 62 (dk_at dksX0_visiting_0 17 rfl rfl)
theorem dX0_visiting_19 : decode cX0_visiting 19 = .ok (.invokevirtual 452, 3) := dk_182 1 196 (dk_at dksX0_visiting_0 19 rfl rfl)
theorem dX0_visiting_22 : decode cX0_visiting 22 = .ok (.aload_n 0, 1) := dk_42 (dk_at dksX0_visiting_0 22 rfl rfl)
theorem dX0_visiting_23 : decode cX0_visiting 23 = .ok (.invokevirtual 456, 3) := dk_182 1 200 (dk_at dksX0_visiting_1 0 rfl rfl)
theorem dX0_visiting_26 : decode cX0_visiting 26 = .ok (.istore_n 3, 1) := dk_62 (dk_at dksX0_visiting_1 3 rfl rfl)
theorem dX0_visiting_27 : decode cX0_visiting 27 = .ok (.aload_n 0, 1) := dk_42 (dk_at dksX0_visiting_1 4 rfl rfl)
theorem dX0_visiting_28 : decode cX0_visiting 28 = .ok (.iload_n 1, 1) := dk_27 (dk_at dksX0_visiting_1 5 rfl rfl)
theorem dX0_visiting_29 : decode cX0_visiting 29 = .ok (.iload_n 2, 1) := dk_28 (dk_at dksX0_visiting_1 6 rfl rfl)
theorem dX0_visiting_30 : decode cX0_visiting 30 = .ok (.iload_n 3, 1) := dk_29 (dk_at dksX0_visiting_1 7 rfl rfl)
theorem dX0_visiting_31 : decode cX0_visiting 31 = .ok (.invokedynamic 459, 5) := by decide +kernel
theorem dX0_visiting_36 : decode cX0_visiting 36 = .ok (.areturn, 1) := dk_176 (dk_at dksX0_visiting_1 13 rfl rfl)
abbrev cX0_wants : ByteArray := prog_1_method_49_code
def yX0_wants : MethodName := ⟨RX0, "wants", "(C)V"⟩
def dkwX0_wants_0 : List UInt8 := [42, 27, 182, 1, 177, 154, 0, 11, 187, 1, 181, 89, 183, 1, 183, 191, 177]
abbrev dktX0_wants_0 : List UInt8 := dkwX0_wants_0 ++ []
theorem dksX0_wants_0 : cX0_wants.data.toList.drop 0 = dktX0_wants_0 := by decide +kernel
theorem dX0_wants_0 : decode cX0_wants 0 = .ok (.aload_n 0, 1) := dk_42 (dk_at dksX0_wants_0 0 rfl rfl)
theorem dX0_wants_1 : decode cX0_wants 1 = .ok (.iload_n 1, 1) := dk_27 (dk_at dksX0_wants_0 1 rfl rfl)
theorem dX0_wants_2 : decode cX0_wants 2 = .ok (.invokevirtual 433, 3) := dk_182 1 177 (dk_at dksX0_wants_0 2 rfl rfl)
theorem dX0_wants_5 : decode cX0_wants 5 = .ok (.ifCond .ne 11, 3) := dk_154 0 11 (dk_at dksX0_wants_0 5 rfl rfl)
theorem dX0_wants_8 : decode cX0_wants 8 = .ok (.new 437, 3) := dk_187 1 181 (dk_at dksX0_wants_0 8 rfl rfl)
theorem dX0_wants_11 : decode cX0_wants 11 = .ok (.dup, 1) := dk_89 (dk_at dksX0_wants_0 11 rfl rfl)
theorem dX0_wants_12 : decode cX0_wants 12 = .ok (.invokespecial 439, 3) := dk_183 1 183 (dk_at dksX0_wants_0 12 rfl rfl)
theorem dX0_wants_15 : decode cX0_wants 15 = .ok (.athrow, 1) := dk_191 (dk_at dksX0_wants_0 15 rfl rfl)
theorem dX0_wants_16 : decode cX0_wants 16 = .ok (.return_, 1) := dk_177 (dk_at dksX0_wants_0 16 rfl rfl)
abbrev cX0_takesIf : ByteArray := prog_1_method_48_code
def yX0_takesIf : MethodName := ⟨RX0, "takesIf", "(C)Z"⟩
def dkwX0_takesIf_1 : List UInt8 := [181, 1, 166, 28, 172]
abbrev dktX0_takesIf_1 : List UInt8 := dkwX0_takesIf_1 ++ []
def dkwX0_takesIf_0 : List UInt8 := [42, 27, 27, 182, 1, 173, 61, 42, 89, 180, 1, 166, 28, 153, 0, 7, 4, 167, 0, 4, 3, 96]
abbrev dktX0_takesIf_0 : List UInt8 := dkwX0_takesIf_0 ++ dktX0_takesIf_1
theorem dksX0_takesIf_0 : cX0_takesIf.data.toList.drop 0 = dktX0_takesIf_0 := by decide +kernel
theorem dksX0_takesIf_1 : cX0_takesIf.data.toList.drop 22 = dktX0_takesIf_1 := dk_seg dksX0_takesIf_0 22 rfl rfl
theorem dX0_takesIf_0 : decode cX0_takesIf 0 = .ok (.aload_n 0, 1) := dk_42 (dk_at dksX0_takesIf_0 0 rfl rfl)
theorem dX0_takesIf_1 : decode cX0_takesIf 1 = .ok (.iload_n 1, 1) := dk_27 (dk_at dksX0_takesIf_0 1 rfl rfl)
theorem dX0_takesIf_2 : decode cX0_takesIf 2 = .ok (.iload_n 1, 1) := dk_27 (dk_at dksX0_takesIf_0 2 rfl rfl)
theorem dX0_takesIf_3 : decode cX0_takesIf 3 = .ok (.invokevirtual 429, 3) := dk_182 1 173 (dk_at dksX0_takesIf_0 3 rfl rfl)
theorem dX0_takesIf_6 : decode cX0_takesIf 6 = .ok (.istore_n 2, 1) := dk_61 (dk_at dksX0_takesIf_0 6 rfl rfl)
theorem dX0_takesIf_7 : decode cX0_takesIf 7 = .ok (.aload_n 0, 1) := dk_42 (dk_at dksX0_takesIf_0 7 rfl rfl)
theorem dX0_takesIf_8 : decode cX0_takesIf 8 = .ok (.dup, 1) := dk_89 (dk_at dksX0_takesIf_0 8 rfl rfl)
theorem dX0_takesIf_9 : decode cX0_takesIf 9 = .ok (.getfield 422, 3) := dk_180 1 166 (dk_at dksX0_takesIf_0 9 rfl rfl)
theorem dX0_takesIf_12 : decode cX0_takesIf 12 = .ok (.iload_n 2, 1) := dk_28 (dk_at dksX0_takesIf_0 12 rfl rfl)
theorem dX0_takesIf_13 : decode cX0_takesIf 13 = .ok (.ifCond .eq 7, 3) := dk_153 0 7 (dk_at dksX0_takesIf_0 13 rfl rfl)
theorem dX0_takesIf_16 : decode cX0_takesIf 16 = .ok (.iconst 1, 1) := dk_4 (dk_at dksX0_takesIf_0 16 rfl rfl)
theorem dX0_takesIf_17 : decode cX0_takesIf 17 = .ok (.goto 4, 3) := dk_167 0 4 (dk_at dksX0_takesIf_0 17 rfl rfl)
theorem dX0_takesIf_20 : decode cX0_takesIf 20 = .ok (.iconst 0, 1) := dk_3 (dk_at dksX0_takesIf_0 20 rfl rfl)
theorem dX0_takesIf_21 : decode cX0_takesIf 21 = .ok (.iadd, 1) := dk_96 (dk_at dksX0_takesIf_0 21 rfl rfl)
theorem dX0_takesIf_22 : decode cX0_takesIf 22 = .ok (.putfield 422, 3) := dk_181 1 166 (dk_at dksX0_takesIf_1 0 rfl rfl)
theorem dX0_takesIf_25 : decode cX0_takesIf 25 = .ok (.iload_n 2, 1) := dk_28 (dk_at dksX0_takesIf_1 3 rfl rfl)
theorem dX0_takesIf_26 : decode cX0_takesIf 26 = .ok (.ireturn, 1) := dk_172 (dk_at dksX0_takesIf_1 4 rfl rfl)
abbrev cX0_number : ByteArray := prog_1_method_51_code
def yX0_number : MethodName := ⟨RX0, "number", "()I"⟩
def dkwX0_number_1 : List UInt8 := [96, 167, 0, 4, 27, 172]
abbrev dktX0_number_1 : List UInt8 := dkwX0_number_1 ++ []
def dkwX0_number_0 : List UInt8 := [42, 182, 1, 184, 60, 42, 16, 48, 16, 57, 182, 1, 173, 153, 0, 15, 16, 10, 27, 104, 42, 182, 1, 184]
abbrev dktX0_number_0 : List UInt8 := dkwX0_number_0 ++ dktX0_number_1
theorem dksX0_number_0 : cX0_number.data.toList.drop 0 = dktX0_number_0 := by decide +kernel
theorem dksX0_number_1 : cX0_number.data.toList.drop 24 = dktX0_number_1 := dk_seg dksX0_number_0 24 rfl rfl
theorem dX0_number_0 : decode cX0_number 0 = .ok (.aload_n 0, 1) := dk_42 (dk_at dksX0_number_0 0 rfl rfl)
theorem dX0_number_1 : decode cX0_number 1 = .ok (.invokevirtual 440, 3) := dk_182 1 184 (dk_at dksX0_number_0 1 rfl rfl)
theorem dX0_number_4 : decode cX0_number 4 = .ok (.istore_n 1, 1) := dk_60 (dk_at dksX0_number_0 4 rfl rfl)
theorem dX0_number_5 : decode cX0_number 5 = .ok (.aload_n 0, 1) := dk_42 (dk_at dksX0_number_0 5 rfl rfl)
theorem dX0_number_6 : decode cX0_number 6 = .ok (.bipush 48, 2) := dk_16 48 (dk_at dksX0_number_0 6 rfl rfl)
theorem dX0_number_8 : decode cX0_number 8 = .ok (.bipush 57, 2) := dk_16 57 (dk_at dksX0_number_0 8 rfl rfl)
theorem dX0_number_10 : decode cX0_number 10 = .ok (.invokevirtual 429, 3) := dk_182 1 173 (dk_at dksX0_number_0 10 rfl rfl)
theorem dX0_number_13 : decode cX0_number 13 = .ok (.ifCond .eq 15, 3) := dk_153 0 15 (dk_at dksX0_number_0 13 rfl rfl)
theorem dX0_number_16 : decode cX0_number 16 = .ok (.bipush 10, 2) := dk_16 10 (dk_at dksX0_number_0 16 rfl rfl)
theorem dX0_number_18 : decode cX0_number 18 = .ok (.iload_n 1, 1) := dk_27 (dk_at dksX0_number_0 18 rfl rfl)
theorem dX0_number_19 : decode cX0_number 19 = .ok (.imul, 1) := dk_104 (dk_at dksX0_number_0 19 rfl rfl)
theorem dX0_number_20 : decode cX0_number 20 = .ok (.aload_n 0, 1) := dk_42 (dk_at dksX0_number_0 20 rfl rfl)
theorem dX0_number_21 : decode cX0_number 21 = .ok (.invokevirtual 440, 3) := dk_182 1 184 (dk_at dksX0_number_0 21 rfl rfl)
theorem dX0_number_24 : decode cX0_number 24 = .ok (.iadd, 1) := dk_96 (dk_at dksX0_number_1 0 rfl rfl)
theorem dX0_number_25 : decode cX0_number 25 = .ok (.goto 4, 3) := dk_167 0 4 (dk_at dksX0_number_1 1 rfl rfl)
theorem dX0_number_28 : decode cX0_number 28 = .ok (.iload_n 1, 1) := dk_27 (dk_at dksX0_number_1 4 rfl rfl)
theorem dX0_number_29 : decode cX0_number 29 = .ok (.ireturn, 1) := dk_172 (dk_at dksX0_number_1 5 rfl rfl)
abbrev cX0_lambda_visiting_4 : ByteArray := prog_1_method_96_code
def yX0_lambda_visiting_4 : MethodName := ⟨RX0, "lambda$visiting$4", "(III)I"⟩
def dkwX0_lambda_visiting_4_0 : List UInt8 := [42, 27, 28, 29, 182, 1, 155, 172]
abbrev dktX0_lambda_visiting_4_0 : List UInt8 := dkwX0_lambda_visiting_4_0 ++ []
theorem dksX0_lambda_visiting_4_0 : cX0_lambda_visiting_4.data.toList.drop 0 = dktX0_lambda_visiting_4_0 := by decide +kernel
theorem dX0_lambda_visiting_4_0 : decode cX0_lambda_visiting_4 0 = .ok (.aload_n 0, 1) := dk_42 (dk_at dksX0_lambda_visiting_4_0 0 rfl rfl)
theorem dX0_lambda_visiting_4_1 : decode cX0_lambda_visiting_4 1 = .ok (.iload_n 1, 1) := dk_27 (dk_at dksX0_lambda_visiting_4_0 1 rfl rfl)
theorem dX0_lambda_visiting_4_2 : decode cX0_lambda_visiting_4 2 = .ok (.iload_n 2, 1) := dk_28 (dk_at dksX0_lambda_visiting_4_0 2 rfl rfl)
theorem dX0_lambda_visiting_4_3 : decode cX0_lambda_visiting_4 3 = .ok (.iload_n 3, 1) := dk_29 (dk_at dksX0_lambda_visiting_4_0 3 rfl rfl)
theorem dX0_lambda_visiting_4_4 : decode cX0_lambda_visiting_4 4 = .ok (.invokevirtual 411, 3) := dk_182 1 155 (dk_at dksX0_lambda_visiting_4_0 4 rfl rfl)
theorem dX0_lambda_visiting_4_7 : decode cX0_lambda_visiting_4 7 = .ok (.ireturn, 1) := dk_172 (dk_at dksX0_lambda_visiting_4_0 7 rfl rfl)
abbrev cX0_working : ByteArray := prog_1_method_56_code
def yX0_working : MethodName := ⟨RX0, "working", "(C)LMossLawn$Done;"⟩
def dkwX0_working_2 : List UInt8 := [42, 28, 186, 1, 206, 0, 0, 176, 42, 28, 186, 1, 209, 0, 0, 176, 42, 28, 186, 1, 210, 0, 0, 176]
abbrev dktX0_working_2 : List UInt8 := dkwX0_working_2 ++ []
def dkwX0_working_1 : List UInt8 := [171, 0, 0, 0, 0, 42, 0, 0, 0, 2, 0, 0, 0, 98, 0, 0, 0, 34, 0, 0, 0, 115, 0, 0, 0, 26]
abbrev dktX0_working_1 : List UInt8 := dkwX0_working_1 ++ dktX0_working_2
def dkwX0_working_0 : List UInt8 := [42, 182, 1, 184, 61, 27]
abbrev dktX0_working_0 : List UInt8 := dkwX0_working_0 ++ dktX0_working_1
theorem dksX0_working_0 : cX0_working.data.toList.drop 0 = dktX0_working_0 := by decide +kernel
theorem dksX0_working_1 : cX0_working.data.toList.drop 6 = dktX0_working_1 := dk_seg dksX0_working_0 6 rfl rfl
theorem dksX0_working_2 : cX0_working.data.toList.drop 32 = dktX0_working_2 := dk_seg dksX0_working_1 26 rfl rfl
theorem dX0_working_0 : decode cX0_working 0 = .ok (.aload_n 0, 1) := dk_42 (dk_at dksX0_working_0 0 rfl rfl)
theorem dX0_working_1 : decode cX0_working 1 = .ok (.invokevirtual 440, 3) := dk_182 1 184 (dk_at dksX0_working_0 1 rfl rfl)
theorem dX0_working_4 : decode cX0_working 4 = .ok (.istore_n 2, 1) := dk_61 (dk_at dksX0_working_0 4 rfl rfl)
theorem dX0_working_5 : decode cX0_working 5 = .ok (.iload_n 1, 1) := dk_27 (dk_at dksX0_working_0 5 rfl rfl)
theorem dX0_working_6 : decode cX0_working 6 = .ok (.lookupswitch 42 #[(98, 34), (115, 26)], 26) := by decide +kernel
theorem dX0_working_32 : decode cX0_working 32 = .ok (.aload_n 0, 1) := dk_42 (dk_at dksX0_working_2 0 rfl rfl)
theorem dX0_working_33 : decode cX0_working 33 = .ok (.iload_n 2, 1) := dk_28 (dk_at dksX0_working_2 1 rfl rfl)
theorem dX0_working_34 : decode cX0_working 34 = .ok (.invokedynamic 462, 5) := by decide +kernel
theorem dX0_working_39 : decode cX0_working 39 = .ok (.areturn, 1) := dk_176 (dk_at dksX0_working_2 7 rfl rfl)
theorem dX0_working_40 : decode cX0_working 40 = .ok (.aload_n 0, 1) := dk_42 (dk_at dksX0_working_2 8 rfl rfl)
theorem dX0_working_41 : decode cX0_working 41 = .ok (.iload_n 2, 1) := dk_28 (dk_at dksX0_working_2 9 rfl rfl)
theorem dX0_working_42 : decode cX0_working 42 = .ok (.invokedynamic 465, 5) := by decide +kernel
theorem dX0_working_47 : decode cX0_working 47 = .ok (.areturn, 1) := dk_176 (dk_at dksX0_working_2 15 rfl rfl)
theorem dX0_working_48 : decode cX0_working 48 = .ok (.aload_n 0, 1) := dk_42 (dk_at dksX0_working_2 16 rfl rfl)
theorem dX0_working_49 : decode cX0_working 49 = .ok (.iload_n 2, 1) := dk_28 (dk_at dksX0_working_2 17 rfl rfl)
theorem dX0_working_50 : decode cX0_working 50 = .ok (.invokedynamic 466, 5) := by decide +kernel
theorem dX0_working_55 : decode cX0_working 55 = .ok (.areturn, 1) := dk_176 (dk_at dksX0_working_2 23 rfl rfl)
abbrev cX0_lambda_working_5 : ByteArray := prog_1_method_95_code
def yX0_lambda_working_5 : MethodName := ⟨RX0, "lambda$working$5", "(I)I"⟩
def dkwX0_lambda_working_5_0 : List UInt8 := [42, 27, 182, 1, 33, 172]
abbrev dktX0_lambda_working_5_0 : List UInt8 := dkwX0_lambda_working_5_0 ++ []
theorem dksX0_lambda_working_5_0 : cX0_lambda_working_5.data.toList.drop 0 = dktX0_lambda_working_5_0 := by decide +kernel
theorem dX0_lambda_working_5_0 : decode cX0_lambda_working_5 0 = .ok (.aload_n 0, 1) := dk_42 (dk_at dksX0_lambda_working_5_0 0 rfl rfl)
theorem dX0_lambda_working_5_1 : decode cX0_lambda_working_5 1 = .ok (.iload_n 1, 1) := dk_27 (dk_at dksX0_lambda_working_5_0 1 rfl rfl)
theorem dX0_lambda_working_5_2 : decode cX0_lambda_working_5 2 = .ok (.invokevirtual 289, 3) := dk_182 1 33 (dk_at dksX0_lambda_working_5_0 2 rfl rfl)
theorem dX0_lambda_working_5_5 : decode cX0_lambda_working_5 5 = .ok (.ireturn, 1) := dk_172 (dk_at dksX0_lambda_working_5_0 5 rfl rfl)
abbrev cX0_lambda_working_6 : ByteArray := prog_1_method_94_code
def yX0_lambda_working_6 : MethodName := ⟨RX0, "lambda$working$6", "(I)I"⟩
def dkwX0_lambda_working_6_0 : List UInt8 := [42, 27, 182, 1, 36, 172]
abbrev dktX0_lambda_working_6_0 : List UInt8 := dkwX0_lambda_working_6_0 ++ []
theorem dksX0_lambda_working_6_0 : cX0_lambda_working_6.data.toList.drop 0 = dktX0_lambda_working_6_0 := by decide +kernel
theorem dX0_lambda_working_6_0 : decode cX0_lambda_working_6 0 = .ok (.aload_n 0, 1) := dk_42 (dk_at dksX0_lambda_working_6_0 0 rfl rfl)
theorem dX0_lambda_working_6_1 : decode cX0_lambda_working_6 1 = .ok (.iload_n 1, 1) := dk_27 (dk_at dksX0_lambda_working_6_0 1 rfl rfl)
theorem dX0_lambda_working_6_2 : decode cX0_lambda_working_6 2 = .ok (.invokevirtual 292, 3) := dk_182 1 36 (dk_at dksX0_lambda_working_6_0 2 rfl rfl)
theorem dX0_lambda_working_6_5 : decode cX0_lambda_working_6 5 = .ok (.ireturn, 1) := dk_172 (dk_at dksX0_lambda_working_6_0 5 rfl rfl)
abbrev cX0_lambda_working_7 : ByteArray := prog_1_method_93_code
def yX0_lambda_working_7 : MethodName := ⟨RX0, "lambda$working$7", "(I)I"⟩
def dkwX0_lambda_working_7_0 : List UInt8 := [42, 27, 182, 1, 42, 172]
abbrev dktX0_lambda_working_7_0 : List UInt8 := dkwX0_lambda_working_7_0 ++ []
theorem dksX0_lambda_working_7_0 : cX0_lambda_working_7.data.toList.drop 0 = dktX0_lambda_working_7_0 := by decide +kernel
theorem dX0_lambda_working_7_0 : decode cX0_lambda_working_7 0 = .ok (.aload_n 0, 1) := dk_42 (dk_at dksX0_lambda_working_7_0 0 rfl rfl)
theorem dX0_lambda_working_7_1 : decode cX0_lambda_working_7 1 = .ok (.iload_n 1, 1) := dk_27 (dk_at dksX0_lambda_working_7_0 1 rfl rfl)
theorem dX0_lambda_working_7_2 : decode cX0_lambda_working_7 2 = .ok (.invokevirtual 298, 3) := dk_182 1 42 (dk_at dksX0_lambda_working_7_0 2 rfl rfl)
theorem dX0_lambda_working_7_5 : decode cX0_lambda_working_7 5 = .ok (.ireturn, 1) := dk_172 (dk_at dksX0_lambda_working_7_0 5 rfl rfl)
abbrev cX0_lambda_order_8 : ByteArray := prog_1_method_92_code
def yX0_lambda_order_8 : MethodName := ⟨RX0, "lambda$order$8", "(I)I"⟩
def dkwX0_lambda_order_8_0 : List UInt8 := [42, 27, 182, 0, 231, 172]
abbrev dktX0_lambda_order_8_0 : List UInt8 := dkwX0_lambda_order_8_0 ++ []
theorem dksX0_lambda_order_8_0 : cX0_lambda_order_8.data.toList.drop 0 = dktX0_lambda_order_8_0 := by decide +kernel
theorem dX0_lambda_order_8_0 : decode cX0_lambda_order_8 0 = .ok (.aload_n 0, 1) := dk_42 (dk_at dksX0_lambda_order_8_0 0 rfl rfl)
theorem dX0_lambda_order_8_1 : decode cX0_lambda_order_8 1 = .ok (.iload_n 1, 1) := dk_27 (dk_at dksX0_lambda_order_8_0 1 rfl rfl)
theorem dX0_lambda_order_8_2 : decode cX0_lambda_order_8 2 = .ok (.invokevirtual 231, 3) := dk_182 0 231 (dk_at dksX0_lambda_order_8_0 2 rfl rfl)
theorem dX0_lambda_order_8_5 : decode cX0_lambda_order_8 5 = .ok (.ireturn, 1) := dk_172 (dk_at dksX0_lambda_order_8_0 5 rfl rfl)
abbrev cX0_lambda_order_9 : ByteArray := prog_1_method_91_code
def yX0_lambda_order_9 : MethodName := ⟨RX0, "lambda$order$9", "(I)I"⟩
def dkwX0_lambda_order_9_0 : List UInt8 := [42, 27, 182, 1, 65, 172]
abbrev dktX0_lambda_order_9_0 : List UInt8 := dkwX0_lambda_order_9_0 ++ []
theorem dksX0_lambda_order_9_0 : cX0_lambda_order_9.data.toList.drop 0 = dktX0_lambda_order_9_0 := by decide +kernel
theorem dX0_lambda_order_9_0 : decode cX0_lambda_order_9 0 = .ok (.aload_n 0, 1) := dk_42 (dk_at dksX0_lambda_order_9_0 0 rfl rfl)
theorem dX0_lambda_order_9_1 : decode cX0_lambda_order_9 1 = .ok (.iload_n 1, 1) := dk_27 (dk_at dksX0_lambda_order_9_0 1 rfl rfl)
theorem dX0_lambda_order_9_2 : decode cX0_lambda_order_9 2 = .ok (.invokevirtual 321, 3) := dk_182 1 65 (dk_at dksX0_lambda_order_9_0 2 rfl rfl)
theorem dX0_lambda_order_9_5 : decode cX0_lambda_order_9 5 = .ok (.ireturn, 1) := dk_172 (dk_at dksX0_lambda_order_9_0 5 rfl rfl)
abbrev cX0_doScript : ByteArray := prog_1_method_59_code
def yX0_doScript : MethodName := ⟨RX0, "doScript", "()I"⟩
def dkwX0_doScript_2 : List UInt8 := [183, 0, 238, 191, 132, 1, 1, 167, 255, 205, 42, 180, 1, 227, 172]
abbrev dktX0_doScript_2 : List UInt8 := dkwX0_doScript_2 ++ []
def dkwX0_doScript_1 : List UInt8 := [167, 0, 28, 77, 187, 0, 7, 89, 16, 12, 27, 183, 0, 9, 191, 77, 187, 0, 7, 89, 16, 12, 27, 44]
abbrev dktX0_doScript_1 : List UInt8 := dkwX0_doScript_1 ++ dktX0_doScript_2
def dkwX0_doScript_0 : List UInt8 := [3, 60, 27, 42, 180, 1, 227, 162, 0, 49, 42, 180, 0, 116, 27, 50, 185, 1, 236, 1, 0, 61]
abbrev dktX0_doScript_0 : List UInt8 := dkwX0_doScript_0 ++ dktX0_doScript_1
theorem dksX0_doScript_0 : cX0_doScript.data.toList.drop 0 = dktX0_doScript_0 := by decide +kernel
theorem dksX0_doScript_1 : cX0_doScript.data.toList.drop 22 = dktX0_doScript_1 := dk_seg dksX0_doScript_0 22 rfl rfl
theorem dksX0_doScript_2 : cX0_doScript.data.toList.drop 46 = dktX0_doScript_2 := dk_seg dksX0_doScript_1 24 rfl rfl
theorem dX0_doScript_0 : decode cX0_doScript 0 = .ok (.iconst 0, 1) := dk_3 (dk_at dksX0_doScript_0 0 rfl rfl)
theorem dX0_doScript_1 : decode cX0_doScript 1 = .ok (.istore_n 1, 1) := dk_60 (dk_at dksX0_doScript_0 1 rfl rfl)
theorem dX0_doScript_2 : decode cX0_doScript 2 = .ok (.iload_n 1, 1) := dk_27 (dk_at dksX0_doScript_0 2 rfl rfl)
theorem dX0_doScript_3 : decode cX0_doScript 3 = .ok (.aload_n 0, 1) := dk_42 (dk_at dksX0_doScript_0 3 rfl rfl)
theorem dX0_doScript_4 : decode cX0_doScript 4 = .ok (.getfield 483, 3) := dk_180 1 227 (dk_at dksX0_doScript_0 4 rfl rfl)
theorem dX0_doScript_7 : decode cX0_doScript 7 = .ok (.if_icmp .ge 49, 3) := dk_162 0 49 (dk_at dksX0_doScript_0 7 rfl rfl)
theorem dX0_doScript_10 : decode cX0_doScript 10 = .ok (.aload_n 0, 1) := dk_42 (dk_at dksX0_doScript_0 10 rfl rfl)
theorem dX0_doScript_11 : decode cX0_doScript 11 = .ok (.getfield 116, 3) := dk_180 0 116 (dk_at dksX0_doScript_0 11 rfl rfl)
theorem dX0_doScript_14 : decode cX0_doScript 14 = .ok (.iload_n 1, 1) := dk_27 (dk_at dksX0_doScript_0 14 rfl rfl)
theorem dX0_doScript_15 : decode cX0_doScript 15 = .ok (.aaload, 1) := dk_50 (dk_at dksX0_doScript_0 15 rfl rfl)
theorem dX0_doScript_16 : decode cX0_doScript 16 = .ok (.invokeinterface 492 1, 5) := by decide +kernel
theorem dX0_doScript_21 : decode cX0_doScript 21 = .ok (.istore_n 2, 1) := dk_61 (dk_at dksX0_doScript_0 21 rfl rfl)
theorem dX0_doScript_22 : decode cX0_doScript 22 = .ok (.goto 28, 3) := dk_167 0 28 (dk_at dksX0_doScript_1 0 rfl rfl)
theorem dX0_doScript_25 : decode cX0_doScript 25 = .ok (.astore_n 2, 1) := dk_77 (dk_at dksX0_doScript_1 3 rfl rfl)
theorem dX0_doScript_26 : decode cX0_doScript 26 = .ok (.new 7, 3) := dk_187 0 7 (dk_at dksX0_doScript_1 4 rfl rfl)
theorem dX0_doScript_29 : decode cX0_doScript 29 = .ok (.dup, 1) := dk_89 (dk_at dksX0_doScript_1 7 rfl rfl)
theorem dX0_doScript_30 : decode cX0_doScript 30 = .ok (.bipush 12, 2) := dk_16 12 (dk_at dksX0_doScript_1 8 rfl rfl)
theorem dX0_doScript_32 : decode cX0_doScript 32 = .ok (.iload_n 1, 1) := dk_27 (dk_at dksX0_doScript_1 10 rfl rfl)
theorem dX0_doScript_33 : decode cX0_doScript 33 = .ok (.invokespecial 9, 3) := dk_183 0 9 (dk_at dksX0_doScript_1 11 rfl rfl)
theorem dX0_doScript_36 : decode cX0_doScript 36 = .ok (.athrow, 1) := dk_191 (dk_at dksX0_doScript_1 14 rfl rfl)
theorem dX0_doScript_37 : decode cX0_doScript 37 = .ok (.astore_n 2, 1) := dk_77 (dk_at dksX0_doScript_1 15 rfl rfl)
theorem dX0_doScript_38 : decode cX0_doScript 38 = .ok (.new 7, 3) := dk_187 0 7 (dk_at dksX0_doScript_1 16 rfl rfl)
theorem dX0_doScript_41 : decode cX0_doScript 41 = .ok (.dup, 1) := dk_89 (dk_at dksX0_doScript_1 19 rfl rfl)
theorem dX0_doScript_42 : decode cX0_doScript 42 = .ok (.bipush 12, 2) := dk_16 12 (dk_at dksX0_doScript_1 20 rfl rfl)
theorem dX0_doScript_44 : decode cX0_doScript 44 = .ok (.iload_n 1, 1) := dk_27 (dk_at dksX0_doScript_1 22 rfl rfl)
theorem dX0_doScript_45 : decode cX0_doScript 45 = .ok (.aload_n 2, 1) := dk_44 (dk_at dksX0_doScript_1 23 rfl rfl)
theorem dX0_doScript_46 : decode cX0_doScript 46 = .ok (.invokespecial 238, 3) := dk_183 0 238 (dk_at dksX0_doScript_2 0 rfl rfl)
theorem dX0_doScript_49 : decode cX0_doScript 49 = .ok (.athrow, 1) := dk_191 (dk_at dksX0_doScript_2 3 rfl rfl)
theorem dX0_doScript_50 : decode cX0_doScript 50 = .ok (.iinc 1 1, 3) := dk_132 1 1 (dk_at dksX0_doScript_2 4 rfl rfl)
theorem dX0_doScript_53 : decode cX0_doScript 53 = .ok (.goto (-51), 3) := dk_167 255 205 (dk_at dksX0_doScript_2 7 rfl rfl)
theorem dX0_doScript_56 : decode cX0_doScript 56 = .ok (.aload_n 0, 1) := dk_42 (dk_at dksX0_doScript_2 10 rfl rfl)
theorem dX0_doScript_57 : decode cX0_doScript 57 = .ok (.getfield 483, 3) := dk_180 1 227 (dk_at dksX0_doScript_2 11 rfl rfl)
theorem dX0_doScript_60 : decode cX0_doScript 60 = .ok (.ireturn, 1) := dk_172 (dk_at dksX0_doScript_2 14 rfl rfl)
abbrev cX0_reason : ByteArray := prog_1_method_61_code
def yX0_reason : MethodName := ⟨RX0, "reason", "(IZ)I"⟩
def dkwX0_reason_2 : List UInt8 := [45, 180, 1, 251, 172]
abbrev dktX0_reason_2 : List UInt8 := dkwX0_reason_2 ++ []
def dkwX0_reason_1 : List UInt8 := [182, 1, 244, 78, 45, 199, 0, 8, 16, 252, 167, 0, 18, 28, 153, 0, 10, 45, 180, 1, 248, 167, 0, 7]
abbrev dktX0_reason_1 : List UInt8 := dkwX0_reason_1 ++ dktX0_reason_2
def dkwX0_reason_0 : List UInt8 := [27, 156, 0, 6, 16, 254, 172, 42, 180, 0, 136, 199, 0, 7, 1, 167, 0, 11, 42, 180, 0, 136, 27]
abbrev dktX0_reason_0 : List UInt8 := dkwX0_reason_0 ++ dktX0_reason_1
theorem dksX0_reason_0 : cX0_reason.data.toList.drop 0 = dktX0_reason_0 := by decide +kernel
theorem dksX0_reason_1 : cX0_reason.data.toList.drop 23 = dktX0_reason_1 := dk_seg dksX0_reason_0 23 rfl rfl
theorem dksX0_reason_2 : cX0_reason.data.toList.drop 47 = dktX0_reason_2 := dk_seg dksX0_reason_1 24 rfl rfl
theorem dX0_reason_0 : decode cX0_reason 0 = .ok (.iload_n 1, 1) := dk_27 (dk_at dksX0_reason_0 0 rfl rfl)
theorem dX0_reason_1 : decode cX0_reason 1 = .ok (.ifCond .ge 6, 3) := dk_156 0 6 (dk_at dksX0_reason_0 1 rfl rfl)
theorem dX0_reason_4 : decode cX0_reason 4 = .ok (.bipush (-2), 2) := dk_16 254 (dk_at dksX0_reason_0 4 rfl rfl)
theorem dX0_reason_6 : decode cX0_reason 6 = .ok (.ireturn, 1) := dk_172 (dk_at dksX0_reason_0 6 rfl rfl)
theorem dX0_reason_7 : decode cX0_reason 7 = .ok (.aload_n 0, 1) := dk_42 (dk_at dksX0_reason_0 7 rfl rfl)
theorem dX0_reason_8 : decode cX0_reason 8 = .ok (.getfield 136, 3) := dk_180 0 136 (dk_at dksX0_reason_0 8 rfl rfl)
theorem dX0_reason_11 : decode cX0_reason 11 = .ok (.ifnonnull 7, 3) := dk_199 0 7 (dk_at dksX0_reason_0 11 rfl rfl)
theorem dX0_reason_14 : decode cX0_reason 14 = .ok (.aconst_null, 1) := dk_1 (dk_at dksX0_reason_0 14 rfl rfl)
theorem dX0_reason_15 : decode cX0_reason 15 = .ok (.goto 11, 3) := dk_167 0 11 (dk_at dksX0_reason_0 15 rfl rfl)
theorem dX0_reason_18 : decode cX0_reason 18 = .ok (.aload_n 0, 1) := dk_42 (dk_at dksX0_reason_0 18 rfl rfl)
theorem dX0_reason_19 : decode cX0_reason 19 = .ok (.getfield 136, 3) := dk_180 0 136 (dk_at dksX0_reason_0 19 rfl rfl)
theorem dX0_reason_22 : decode cX0_reason 22 = .ok (.iload_n 1, 1) := dk_27 (dk_at dksX0_reason_0 22 rfl rfl)
theorem dX0_reason_23 : decode cX0_reason 23 = .ok (.invokevirtual 500, 3) := dk_182 1 244 (dk_at dksX0_reason_1 0 rfl rfl)
theorem dX0_reason_26 : decode cX0_reason 26 = .ok (.astore_n 3, 1) := dk_78 (dk_at dksX0_reason_1 3 rfl rfl)
theorem dX0_reason_27 : decode cX0_reason 27 = .ok (.aload_n 3, 1) := dk_45 (dk_at dksX0_reason_1 4 rfl rfl)
theorem dX0_reason_28 : decode cX0_reason 28 = .ok (.ifnonnull 8, 3) := dk_199 0 8 (dk_at dksX0_reason_1 5 rfl rfl)
theorem dX0_reason_31 : decode cX0_reason 31 = .ok (.bipush (-4), 2) := dk_16 252 (dk_at dksX0_reason_1 8 rfl rfl)
theorem dX0_reason_33 : decode cX0_reason 33 = .ok (.goto 18, 3) := dk_167 0 18 (dk_at dksX0_reason_1 10 rfl rfl)
theorem dX0_reason_36 : decode cX0_reason 36 = .ok (.iload_n 2, 1) := dk_28 (dk_at dksX0_reason_1 13 rfl rfl)
theorem dX0_reason_37 : decode cX0_reason 37 = .ok (.ifCond .eq 10, 3) := dk_153 0 10 (dk_at dksX0_reason_1 14 rfl rfl)
theorem dX0_reason_40 : decode cX0_reason 40 = .ok (.aload_n 3, 1) := dk_45 (dk_at dksX0_reason_1 17 rfl rfl)
theorem dX0_reason_41 : decode cX0_reason 41 = .ok (.getfield 504, 3) := dk_180 1 248 (dk_at dksX0_reason_1 18 rfl rfl)
theorem dX0_reason_44 : decode cX0_reason 44 = .ok (.goto 7, 3) := dk_167 0 7 (dk_at dksX0_reason_1 21 rfl rfl)
theorem dX0_reason_47 : decode cX0_reason 47 = .ok (.aload_n 3, 1) := dk_45 (dk_at dksX0_reason_2 0 rfl rfl)
theorem dX0_reason_48 : decode cX0_reason 48 = .ok (.getfield 507, 3) := dk_180 1 251 (dk_at dksX0_reason_2 1 rfl rfl)
theorem dX0_reason_51 : decode cX0_reason 51 = .ok (.ireturn, 1) := dk_172 (dk_at dksX0_reason_2 4 rfl rfl)
abbrev cX0_squareOf : ByteArray := prog_1_method_62_code
def yX0_squareOf : MethodName := ⟨RX0, "squareOf", "(II)I"⟩
def dkwX0_squareOf_6 : List UInt8 := [182, 0, 206, 172, 16, 254, 172]
abbrev dktX0_squareOf_6 : List UInt8 := dkwX0_squareOf_6 ++ []
def dkwX0_squareOf_5 : List UInt8 := [180, 0, 209, 27, 182, 0, 148, 153, 0, 7, 4, 167, 0, 4, 3, 172, 42, 27, 182, 0, 203, 172, 42, 27]
abbrev dktX0_squareOf_5 : List UInt8 := dkwX0_squareOf_5 ++ dktX0_squareOf_6
def dkwX0_squareOf_4 : List UInt8 := [3, 172, 42, 180, 0, 20, 27, 182, 1, 80, 153, 0, 7, 4, 167, 0, 4, 3, 172, 42, 180, 0, 20]
abbrev dktX0_squareOf_4 : List UInt8 := dkwX0_squareOf_4 ++ dktX0_squareOf_5
def dkwX0_squareOf_3 : List UInt8 := [180, 0, 215, 27, 46, 172, 42, 180, 0, 20, 180, 0, 144, 27, 182, 0, 148, 153, 0, 7, 4, 167, 0, 4]
abbrev dktX0_squareOf_3 : List UInt8 := dkwX0_squareOf_3 ++ dktX0_squareOf_4
def dkwX0_squareOf_2 : List UInt8 := [42, 180, 0, 20, 180, 0, 169, 27, 46, 172, 42, 180, 0, 20, 180, 0, 154, 27, 46, 172, 42, 180, 0, 20]
abbrev dktX0_squareOf_2 : List UInt8 := dkwX0_squareOf_2 ++ dktX0_squareOf_3
def dkwX0_squareOf_1 : List UInt8 := [170, 0, 0, 0, 0, 145, 0, 0, 0, 0, 0, 0, 0, 7, 0, 0, 0, 46, 0, 0, 0, 56, 0, 0, 0, 66, 0, 0, 0, 76, 0, 0, 0, 96, 0, 0, 0, 113, 0, 0, 0, 133, 0, 0, 0, 139]
abbrev dktX0_squareOf_1 : List UInt8 := dkwX0_squareOf_1 ++ dktX0_squareOf_2
def dkwX0_squareOf_0 : List UInt8 := [27, 184, 0, 163, 154, 0, 5, 2, 172, 28]
abbrev dktX0_squareOf_0 : List UInt8 := dkwX0_squareOf_0 ++ dktX0_squareOf_1
theorem dksX0_squareOf_0 : cX0_squareOf.data.toList.drop 0 = dktX0_squareOf_0 := by decide +kernel
theorem dksX0_squareOf_1 : cX0_squareOf.data.toList.drop 10 = dktX0_squareOf_1 := dk_seg dksX0_squareOf_0 10 rfl rfl
theorem dksX0_squareOf_2 : cX0_squareOf.data.toList.drop 56 = dktX0_squareOf_2 := dk_seg dksX0_squareOf_1 46 rfl rfl
theorem dksX0_squareOf_3 : cX0_squareOf.data.toList.drop 80 = dktX0_squareOf_3 := dk_seg dksX0_squareOf_2 24 rfl rfl
theorem dksX0_squareOf_4 : cX0_squareOf.data.toList.drop 104 = dktX0_squareOf_4 := dk_seg dksX0_squareOf_3 24 rfl rfl
theorem dksX0_squareOf_5 : cX0_squareOf.data.toList.drop 127 = dktX0_squareOf_5 := dk_seg dksX0_squareOf_4 23 rfl rfl
theorem dksX0_squareOf_6 : cX0_squareOf.data.toList.drop 151 = dktX0_squareOf_6 := dk_seg dksX0_squareOf_5 24 rfl rfl
theorem dX0_squareOf_0 : decode cX0_squareOf 0 = .ok (.iload_n 1, 1) := dk_27 (dk_at dksX0_squareOf_0 0 rfl rfl)
theorem dX0_squareOf_1 : decode cX0_squareOf 1 = .ok (.invokestatic 163, 3) := dk_184 0 163 (dk_at dksX0_squareOf_0 1 rfl rfl)
theorem dX0_squareOf_4 : decode cX0_squareOf 4 = .ok (.ifCond .ne 5, 3) := dk_154 0 5 (dk_at dksX0_squareOf_0 4 rfl rfl)
theorem dX0_squareOf_7 : decode cX0_squareOf 7 = .ok (.iconst (-1), 1) := dk_2 (dk_at dksX0_squareOf_0 7 rfl rfl)
theorem dX0_squareOf_8 : decode cX0_squareOf 8 = .ok (.ireturn, 1) := dk_172 (dk_at dksX0_squareOf_0 8 rfl rfl)
theorem dX0_squareOf_9 : decode cX0_squareOf 9 = .ok (.iload_n 2, 1) := dk_28 (dk_at dksX0_squareOf_0 9 rfl rfl)
theorem dX0_squareOf_10 : decode cX0_squareOf 10 = .ok (.tableswitch 145 0 7 #[46, 56, 66, 76, 96, 113, 133, 139], 46) := by decide +kernel
theorem dX0_squareOf_56 : decode cX0_squareOf 56 = .ok (.aload_n 0, 1) := dk_42 (dk_at dksX0_squareOf_2 0 rfl rfl)
theorem dX0_squareOf_57 : decode cX0_squareOf 57 = .ok (.getfield 20, 3) := dk_180 0 20 (dk_at dksX0_squareOf_2 1 rfl rfl)
theorem dX0_squareOf_60 : decode cX0_squareOf 60 = .ok (.getfield 169, 3) := dk_180 0 169 (dk_at dksX0_squareOf_2 4 rfl rfl)
theorem dX0_squareOf_63 : decode cX0_squareOf 63 = .ok (.iload_n 1, 1) := dk_27 (dk_at dksX0_squareOf_2 7 rfl rfl)
theorem dX0_squareOf_64 : decode cX0_squareOf 64 = .ok (.iaload, 1) := dk_46 (dk_at dksX0_squareOf_2 8 rfl rfl)
theorem dX0_squareOf_65 : decode cX0_squareOf 65 = .ok (.ireturn, 1) := dk_172 (dk_at dksX0_squareOf_2 9 rfl rfl)
theorem dX0_squareOf_66 : decode cX0_squareOf 66 = .ok (.aload_n 0, 1) := dk_42 (dk_at dksX0_squareOf_2 10 rfl rfl)
theorem dX0_squareOf_67 : decode cX0_squareOf 67 = .ok (.getfield 20, 3) := dk_180 0 20 (dk_at dksX0_squareOf_2 11 rfl rfl)
theorem dX0_squareOf_70 : decode cX0_squareOf 70 = .ok (.getfield 154, 3) := dk_180 0 154 (dk_at dksX0_squareOf_2 14 rfl rfl)
theorem dX0_squareOf_73 : decode cX0_squareOf 73 = .ok (.iload_n 1, 1) := dk_27 (dk_at dksX0_squareOf_2 17 rfl rfl)
theorem dX0_squareOf_74 : decode cX0_squareOf 74 = .ok (.iaload, 1) := dk_46 (dk_at dksX0_squareOf_2 18 rfl rfl)
theorem dX0_squareOf_75 : decode cX0_squareOf 75 = .ok (.ireturn, 1) := dk_172 (dk_at dksX0_squareOf_2 19 rfl rfl)
theorem dX0_squareOf_76 : decode cX0_squareOf 76 = .ok (.aload_n 0, 1) := dk_42 (dk_at dksX0_squareOf_2 20 rfl rfl)
theorem dX0_squareOf_77 : decode cX0_squareOf 77 = .ok (.getfield 20, 3) := dk_180 0 20 (dk_at dksX0_squareOf_2 21 rfl rfl)
theorem dX0_squareOf_80 : decode cX0_squareOf 80 = .ok (.getfield 215, 3) := dk_180 0 215 (dk_at dksX0_squareOf_3 0 rfl rfl)
theorem dX0_squareOf_83 : decode cX0_squareOf 83 = .ok (.iload_n 1, 1) := dk_27 (dk_at dksX0_squareOf_3 3 rfl rfl)
theorem dX0_squareOf_84 : decode cX0_squareOf 84 = .ok (.iaload, 1) := dk_46 (dk_at dksX0_squareOf_3 4 rfl rfl)
theorem dX0_squareOf_85 : decode cX0_squareOf 85 = .ok (.ireturn, 1) := dk_172 (dk_at dksX0_squareOf_3 5 rfl rfl)
theorem dX0_squareOf_86 : decode cX0_squareOf 86 = .ok (.aload_n 0, 1) := dk_42 (dk_at dksX0_squareOf_3 6 rfl rfl)
theorem dX0_squareOf_87 : decode cX0_squareOf 87 = .ok (.getfield 20, 3) := dk_180 0 20 (dk_at dksX0_squareOf_3 7 rfl rfl)
theorem dX0_squareOf_90 : decode cX0_squareOf 90 = .ok (.getfield 144, 3) := dk_180 0 144 (dk_at dksX0_squareOf_3 10 rfl rfl)
theorem dX0_squareOf_93 : decode cX0_squareOf 93 = .ok (.iload_n 1, 1) := dk_27 (dk_at dksX0_squareOf_3 13 rfl rfl)
theorem dX0_squareOf_94 : decode cX0_squareOf 94 = .ok (.invokevirtual 148, 3) := dk_182 0 148 (dk_at dksX0_squareOf_3 14 rfl rfl)
theorem dX0_squareOf_97 : decode cX0_squareOf 97 = .ok (.ifCond .eq 7, 3) := dk_153 0 7 (dk_at dksX0_squareOf_3 17 rfl rfl)
theorem dX0_squareOf_100 : decode cX0_squareOf 100 = .ok (.iconst 1, 1) := dk_4 (dk_at dksX0_squareOf_3 20 rfl rfl)
theorem dX0_squareOf_101 : decode cX0_squareOf 101 = .ok (.goto 4, 3) := dk_167 0 4 (dk_at dksX0_squareOf_3 21 rfl rfl)
theorem dX0_squareOf_104 : decode cX0_squareOf 104 = .ok (.iconst 0, 1) := dk_3 (dk_at dksX0_squareOf_4 0 rfl rfl)
theorem dX0_squareOf_105 : decode cX0_squareOf 105 = .ok (.ireturn, 1) := dk_172 (dk_at dksX0_squareOf_4 1 rfl rfl)
theorem dX0_squareOf_106 : decode cX0_squareOf 106 = .ok (.aload_n 0, 1) := dk_42 (dk_at dksX0_squareOf_4 2 rfl rfl)
theorem dX0_squareOf_107 : decode cX0_squareOf 107 = .ok (.getfield 20, 3) := dk_180 0 20 (dk_at dksX0_squareOf_4 3 rfl rfl)
theorem dX0_squareOf_110 : decode cX0_squareOf 110 = .ok (.iload_n 1, 1) := dk_27 (dk_at dksX0_squareOf_4 6 rfl rfl)
theorem dX0_squareOf_111 : decode cX0_squareOf 111 = .ok (.invokevirtual 336, 3) := dk_182 1 80 (dk_at dksX0_squareOf_4 7 rfl rfl)
theorem dX0_squareOf_114 : decode cX0_squareOf 114 = .ok (.ifCond .eq 7, 3) := dk_153 0 7 (dk_at dksX0_squareOf_4 10 rfl rfl)
theorem dX0_squareOf_117 : decode cX0_squareOf 117 = .ok (.iconst 1, 1) := dk_4 (dk_at dksX0_squareOf_4 13 rfl rfl)
theorem dX0_squareOf_118 : decode cX0_squareOf 118 = .ok (.goto 4, 3) := dk_167 0 4 (dk_at dksX0_squareOf_4 14 rfl rfl)
theorem dX0_squareOf_121 : decode cX0_squareOf 121 = .ok (.iconst 0, 1) := dk_3 (dk_at dksX0_squareOf_4 17 rfl rfl)
theorem dX0_squareOf_122 : decode cX0_squareOf 122 = .ok (.ireturn, 1) := dk_172 (dk_at dksX0_squareOf_4 18 rfl rfl)
theorem dX0_squareOf_123 : decode cX0_squareOf 123 = .ok (.aload_n 0, 1) := dk_42 (dk_at dksX0_squareOf_4 19 rfl rfl)
theorem dX0_squareOf_124 : decode cX0_squareOf 124 = .ok (.getfield 20, 3) := dk_180 0 20 (dk_at dksX0_squareOf_4 20 rfl rfl)
theorem dX0_squareOf_127 : decode cX0_squareOf 127 = .ok (.getfield 209, 3) := dk_180 0 209 (dk_at dksX0_squareOf_5 0 rfl rfl)
theorem dX0_squareOf_130 : decode cX0_squareOf 130 = .ok (.iload_n 1, 1) := dk_27 (dk_at dksX0_squareOf_5 3 rfl rfl)
theorem dX0_squareOf_131 : decode cX0_squareOf 131 = .ok (.invokevirtual 148, 3) := dk_182 0 148 (dk_at dksX0_squareOf_5 4 rfl rfl)
theorem dX0_squareOf_134 : decode cX0_squareOf 134 = .ok (.ifCond .eq 7, 3) := dk_153 0 7 (dk_at dksX0_squareOf_5 7 rfl rfl)
theorem dX0_squareOf_137 : decode cX0_squareOf 137 = .ok (.iconst 1, 1) := dk_4 (dk_at dksX0_squareOf_5 10 rfl rfl)
theorem dX0_squareOf_138 : decode cX0_squareOf 138 = .ok (.goto 4, 3) := dk_167 0 4 (dk_at dksX0_squareOf_5 11 rfl rfl)
theorem dX0_squareOf_141 : decode cX0_squareOf 141 = .ok (.iconst 0, 1) := dk_3 (dk_at dksX0_squareOf_5 14 rfl rfl)
theorem dX0_squareOf_142 : decode cX0_squareOf 142 = .ok (.ireturn, 1) := dk_172 (dk_at dksX0_squareOf_5 15 rfl rfl)
theorem dX0_squareOf_143 : decode cX0_squareOf 143 = .ok (.aload_n 0, 1) := dk_42 (dk_at dksX0_squareOf_5 16 rfl rfl)
theorem dX0_squareOf_144 : decode cX0_squareOf 144 = .ok (.iload_n 1, 1) := dk_27 (dk_at dksX0_squareOf_5 17 rfl rfl)
theorem dX0_squareOf_145 : decode cX0_squareOf 145 = .ok (.invokevirtual 203, 3) := dk_182 0 203 (dk_at dksX0_squareOf_5 18 rfl rfl)
theorem dX0_squareOf_148 : decode cX0_squareOf 148 = .ok (.ireturn, 1) := dk_172 (dk_at dksX0_squareOf_5 21 rfl rfl)
theorem dX0_squareOf_149 : decode cX0_squareOf 149 = .ok (.aload_n 0, 1) := dk_42 (dk_at dksX0_squareOf_5 22 rfl rfl)
theorem dX0_squareOf_150 : decode cX0_squareOf 150 = .ok (.iload_n 1, 1) := dk_27 (dk_at dksX0_squareOf_5 23 rfl rfl)
theorem dX0_squareOf_151 : decode cX0_squareOf 151 = .ok (.invokevirtual 206, 3) := dk_182 0 206 (dk_at dksX0_squareOf_6 0 rfl rfl)
theorem dX0_squareOf_154 : decode cX0_squareOf 154 = .ok (.ireturn, 1) := dk_172 (dk_at dksX0_squareOf_6 3 rfl rfl)
theorem dX0_squareOf_155 : decode cX0_squareOf 155 = .ok (.bipush (-2), 2) := dk_16 254 (dk_at dksX0_squareOf_6 4 rfl rfl)
theorem dX0_squareOf_157 : decode cX0_squareOf 157 = .ok (.ireturn, 1) := dk_172 (dk_at dksX0_squareOf_6 6 rfl rfl)
abbrev cX0_gardenerOf : ByteArray := prog_1_method_63_code
def yX0_gardenerOf : MethodName := ⟨RX0, "gardenerOf", "(II)I"⟩
def dkwX0_gardenerOf_4 : List UInt8 := [172, 16, 254, 172]
abbrev dktX0_gardenerOf_4 : List UInt8 := dkwX0_gardenerOf_4 ++ []
def dkwX0_gardenerOf_3 : List UInt8 := [45, 180, 1, 3, 172, 45, 180, 1, 254, 172, 45, 180, 1, 27, 172, 45, 180, 1, 30, 172, 45, 180, 1, 20]
abbrev dktX0_gardenerOf_3 : List UInt8 := dkwX0_gardenerOf_3 ++ dktX0_gardenerOf_4
def dkwX0_gardenerOf_2 : List UInt8 := [170, 0, 0, 0, 0, 59, 0, 0, 0, 0, 0, 0, 0, 4, 0, 0, 0, 34, 0, 0, 0, 39, 0, 0, 0, 44, 0, 0, 0, 49, 0, 0, 0, 54]
abbrev dktX0_gardenerOf_2 : List UInt8 := dkwX0_gardenerOf_2 ++ dktX0_gardenerOf_3
def dkwX0_gardenerOf_1 : List UInt8 := [180, 0, 244, 27, 50, 78, 28]
abbrev dktX0_gardenerOf_1 : List UInt8 := dkwX0_gardenerOf_1 ++ dktX0_gardenerOf_2
def dkwX0_gardenerOf_0 : List UInt8 := [27, 3, 42, 180, 0, 20, 180, 0, 181, 4, 100, 184, 0, 140, 154, 0, 5, 2, 172, 42, 180, 0, 20]
abbrev dktX0_gardenerOf_0 : List UInt8 := dkwX0_gardenerOf_0 ++ dktX0_gardenerOf_1
theorem dksX0_gardenerOf_0 : cX0_gardenerOf.data.toList.drop 0 = dktX0_gardenerOf_0 := by decide +kernel
theorem dksX0_gardenerOf_1 : cX0_gardenerOf.data.toList.drop 23 = dktX0_gardenerOf_1 := dk_seg dksX0_gardenerOf_0 23 rfl rfl
theorem dksX0_gardenerOf_2 : cX0_gardenerOf.data.toList.drop 30 = dktX0_gardenerOf_2 := dk_seg dksX0_gardenerOf_1 7 rfl rfl
theorem dksX0_gardenerOf_3 : cX0_gardenerOf.data.toList.drop 64 = dktX0_gardenerOf_3 := dk_seg dksX0_gardenerOf_2 34 rfl rfl
theorem dksX0_gardenerOf_4 : cX0_gardenerOf.data.toList.drop 88 = dktX0_gardenerOf_4 := dk_seg dksX0_gardenerOf_3 24 rfl rfl
theorem dX0_gardenerOf_0 : decode cX0_gardenerOf 0 = .ok (.iload_n 1, 1) := dk_27 (dk_at dksX0_gardenerOf_0 0 rfl rfl)
theorem dX0_gardenerOf_1 : decode cX0_gardenerOf 1 = .ok (.iconst 0, 1) := dk_3 (dk_at dksX0_gardenerOf_0 1 rfl rfl)
theorem dX0_gardenerOf_2 : decode cX0_gardenerOf 2 = .ok (.aload_n 0, 1) := dk_42 (dk_at dksX0_gardenerOf_0 2 rfl rfl)
theorem dX0_gardenerOf_3 : decode cX0_gardenerOf 3 = .ok (.getfield 20, 3) := dk_180 0 20 (dk_at dksX0_gardenerOf_0 3 rfl rfl)
theorem dX0_gardenerOf_6 : decode cX0_gardenerOf 6 = .ok (.getfield 181, 3) := dk_180 0 181 (dk_at dksX0_gardenerOf_0 6 rfl rfl)
theorem dX0_gardenerOf_9 : decode cX0_gardenerOf 9 = .ok (.iconst 1, 1) := dk_4 (dk_at dksX0_gardenerOf_0 9 rfl rfl)
theorem dX0_gardenerOf_10 : decode cX0_gardenerOf 10 = .ok (.isub, 1) := dk_100 (dk_at dksX0_gardenerOf_0 10 rfl rfl)
theorem dX0_gardenerOf_11 : decode cX0_gardenerOf 11 = .ok (.invokestatic 140, 3) := dk_184 0 140 (dk_at dksX0_gardenerOf_0 11 rfl rfl)
theorem dX0_gardenerOf_14 : decode cX0_gardenerOf 14 = .ok (.ifCond .ne 5, 3) := dk_154 0 5 (dk_at dksX0_gardenerOf_0 14 rfl rfl)
theorem dX0_gardenerOf_17 : decode cX0_gardenerOf 17 = .ok (.iconst (-1), 1) := dk_2 (dk_at dksX0_gardenerOf_0 17 rfl rfl)
theorem dX0_gardenerOf_18 : decode cX0_gardenerOf 18 = .ok (.ireturn, 1) := dk_172 (dk_at dksX0_gardenerOf_0 18 rfl rfl)
theorem dX0_gardenerOf_19 : decode cX0_gardenerOf 19 = .ok (.aload_n 0, 1) := dk_42 (dk_at dksX0_gardenerOf_0 19 rfl rfl)
theorem dX0_gardenerOf_20 : decode cX0_gardenerOf 20 = .ok (.getfield 20, 3) := dk_180 0 20 (dk_at dksX0_gardenerOf_0 20 rfl rfl)
theorem dX0_gardenerOf_23 : decode cX0_gardenerOf 23 = .ok (.getfield 244, 3) := dk_180 0 244 (dk_at dksX0_gardenerOf_1 0 rfl rfl)
theorem dX0_gardenerOf_26 : decode cX0_gardenerOf 26 = .ok (.iload_n 1, 1) := dk_27 (dk_at dksX0_gardenerOf_1 3 rfl rfl)
theorem dX0_gardenerOf_27 : decode cX0_gardenerOf 27 = .ok (.aaload, 1) := dk_50 (dk_at dksX0_gardenerOf_1 4 rfl rfl)
theorem dX0_gardenerOf_28 : decode cX0_gardenerOf 28 = .ok (.astore_n 3, 1) := dk_78 (dk_at dksX0_gardenerOf_1 5 rfl rfl)
theorem dX0_gardenerOf_29 : decode cX0_gardenerOf 29 = .ok (.iload_n 2, 1) := dk_28 (dk_at dksX0_gardenerOf_1 6 rfl rfl)
theorem dX0_gardenerOf_30 : decode cX0_gardenerOf 30 = .ok (.tableswitch 59 0 4 #[34, 39, 44, 49, 54], 34) := by decide +kernel
theorem dX0_gardenerOf_64 : decode cX0_gardenerOf 64 = .ok (.aload_n 3, 1) := dk_45 (dk_at dksX0_gardenerOf_3 0 rfl rfl)
theorem dX0_gardenerOf_65 : decode cX0_gardenerOf 65 = .ok (.getfield 259, 3) := dk_180 1 3 (dk_at dksX0_gardenerOf_3 1 rfl rfl)
theorem dX0_gardenerOf_68 : decode cX0_gardenerOf 68 = .ok (.ireturn, 1) := dk_172 (dk_at dksX0_gardenerOf_3 4 rfl rfl)
theorem dX0_gardenerOf_69 : decode cX0_gardenerOf 69 = .ok (.aload_n 3, 1) := dk_45 (dk_at dksX0_gardenerOf_3 5 rfl rfl)
theorem dX0_gardenerOf_70 : decode cX0_gardenerOf 70 = .ok (.getfield 510, 3) := dk_180 1 254 (dk_at dksX0_gardenerOf_3 6 rfl rfl)
theorem dX0_gardenerOf_73 : decode cX0_gardenerOf 73 = .ok (.ireturn, 1) := dk_172 (dk_at dksX0_gardenerOf_3 9 rfl rfl)
theorem dX0_gardenerOf_74 : decode cX0_gardenerOf 74 = .ok (.aload_n 3, 1) := dk_45 (dk_at dksX0_gardenerOf_3 10 rfl rfl)
theorem dX0_gardenerOf_75 : decode cX0_gardenerOf 75 = .ok (.getfield 283, 3) := dk_180 1 27 (dk_at dksX0_gardenerOf_3 11 rfl rfl)
theorem dX0_gardenerOf_78 : decode cX0_gardenerOf 78 = .ok (.ireturn, 1) := dk_172 (dk_at dksX0_gardenerOf_3 14 rfl rfl)
theorem dX0_gardenerOf_79 : decode cX0_gardenerOf 79 = .ok (.aload_n 3, 1) := dk_45 (dk_at dksX0_gardenerOf_3 15 rfl rfl)
theorem dX0_gardenerOf_80 : decode cX0_gardenerOf 80 = .ok (.getfield 286, 3) := dk_180 1 30 (dk_at dksX0_gardenerOf_3 16 rfl rfl)
theorem dX0_gardenerOf_83 : decode cX0_gardenerOf 83 = .ok (.ireturn, 1) := dk_172 (dk_at dksX0_gardenerOf_3 19 rfl rfl)
theorem dX0_gardenerOf_84 : decode cX0_gardenerOf 84 = .ok (.aload_n 3, 1) := dk_45 (dk_at dksX0_gardenerOf_3 20 rfl rfl)
theorem dX0_gardenerOf_85 : decode cX0_gardenerOf 85 = .ok (.getfield 276, 3) := dk_180 1 20 (dk_at dksX0_gardenerOf_3 21 rfl rfl)
theorem dX0_gardenerOf_88 : decode cX0_gardenerOf 88 = .ok (.ireturn, 1) := dk_172 (dk_at dksX0_gardenerOf_4 0 rfl rfl)
theorem dX0_gardenerOf_89 : decode cX0_gardenerOf 89 = .ok (.bipush (-2), 2) := dk_16 254 (dk_at dksX0_gardenerOf_4 1 rfl rfl)
theorem dX0_gardenerOf_91 : decode cX0_gardenerOf 91 = .ok (.ireturn, 1) := dk_172 (dk_at dksX0_gardenerOf_4 3 rfl rfl)
abbrev cX0_moleOf : ByteArray := prog_1_method_64_code
def yX0_moleOf : MethodName := ⟨RX0, "moleOf", "(II)I"⟩
def dkwX0_moleOf_3 : List UInt8 := [167, 0, 5, 16, 254, 172]
abbrev dktX0_moleOf_3 : List UInt8 := dkwX0_moleOf_3 ++ []
def dkwX0_moleOf_2 : List UInt8 := [180, 2, 2, 153, 0, 7, 4, 167, 0, 21, 3, 167, 0, 17, 28, 5, 160, 0, 10, 45, 180, 2, 6]
abbrev dktX0_moleOf_2 : List UInt8 := dkwX0_moleOf_2 ++ dktX0_moleOf_3
def dkwX0_moleOf_1 : List UInt8 := [180, 1, 51, 27, 50, 78, 28, 154, 0, 10, 45, 180, 2, 1, 167, 0, 37, 28, 4, 160, 0, 18, 45]
abbrev dktX0_moleOf_1 : List UInt8 := dkwX0_moleOf_1 ++ dktX0_moleOf_2
def dkwX0_moleOf_0 : List UInt8 := [27, 3, 42, 180, 0, 20, 180, 0, 191, 4, 100, 184, 0, 140, 154, 0, 5, 2, 172, 42, 180, 0, 20]
abbrev dktX0_moleOf_0 : List UInt8 := dkwX0_moleOf_0 ++ dktX0_moleOf_1
theorem dksX0_moleOf_0 : cX0_moleOf.data.toList.drop 0 = dktX0_moleOf_0 := by decide +kernel
theorem dksX0_moleOf_1 : cX0_moleOf.data.toList.drop 23 = dktX0_moleOf_1 := dk_seg dksX0_moleOf_0 23 rfl rfl
theorem dksX0_moleOf_2 : cX0_moleOf.data.toList.drop 46 = dktX0_moleOf_2 := dk_seg dksX0_moleOf_1 23 rfl rfl
theorem dksX0_moleOf_3 : cX0_moleOf.data.toList.drop 69 = dktX0_moleOf_3 := dk_seg dksX0_moleOf_2 23 rfl rfl
theorem dX0_moleOf_0 : decode cX0_moleOf 0 = .ok (.iload_n 1, 1) := dk_27 (dk_at dksX0_moleOf_0 0 rfl rfl)
theorem dX0_moleOf_1 : decode cX0_moleOf 1 = .ok (.iconst 0, 1) := dk_3 (dk_at dksX0_moleOf_0 1 rfl rfl)
theorem dX0_moleOf_2 : decode cX0_moleOf 2 = .ok (.aload_n 0, 1) := dk_42 (dk_at dksX0_moleOf_0 2 rfl rfl)
theorem dX0_moleOf_3 : decode cX0_moleOf 3 = .ok (.getfield 20, 3) := dk_180 0 20 (dk_at dksX0_moleOf_0 3 rfl rfl)
theorem dX0_moleOf_6 : decode cX0_moleOf 6 = .ok (.getfield 191, 3) := dk_180 0 191 (dk_at dksX0_moleOf_0 6 rfl rfl)
theorem dX0_moleOf_9 : decode cX0_moleOf 9 = .ok (.iconst 1, 1) := dk_4 (dk_at dksX0_moleOf_0 9 rfl rfl)
theorem dX0_moleOf_10 : decode cX0_moleOf 10 = .ok (.isub, 1) := dk_100 (dk_at dksX0_moleOf_0 10 rfl rfl)
theorem dX0_moleOf_11 : decode cX0_moleOf 11 = .ok (.invokestatic 140, 3) := dk_184 0 140 (dk_at dksX0_moleOf_0 11 rfl rfl)
theorem dX0_moleOf_14 : decode cX0_moleOf 14 = .ok (.ifCond .ne 5, 3) := dk_154 0 5 (dk_at dksX0_moleOf_0 14 rfl rfl)
theorem dX0_moleOf_17 : decode cX0_moleOf 17 = .ok (.iconst (-1), 1) := dk_2 (dk_at dksX0_moleOf_0 17 rfl rfl)
theorem dX0_moleOf_18 : decode cX0_moleOf 18 = .ok (.ireturn, 1) := dk_172 (dk_at dksX0_moleOf_0 18 rfl rfl)
theorem dX0_moleOf_19 : decode cX0_moleOf 19 = .ok (.aload_n 0, 1) := dk_42 (dk_at dksX0_moleOf_0 19 rfl rfl)
theorem dX0_moleOf_20 : decode cX0_moleOf 20 = .ok (.getfield 20, 3) := dk_180 0 20 (dk_at dksX0_moleOf_0 20 rfl rfl)
theorem dX0_moleOf_23 : decode cX0_moleOf 23 = .ok (.getfield 307, 3) := dk_180 1 51 (dk_at dksX0_moleOf_1 0 rfl rfl)
theorem dX0_moleOf_26 : decode cX0_moleOf 26 = .ok (.iload_n 1, 1) := dk_27 (dk_at dksX0_moleOf_1 3 rfl rfl)
theorem dX0_moleOf_27 : decode cX0_moleOf 27 = .ok (.aaload, 1) := dk_50 (dk_at dksX0_moleOf_1 4 rfl rfl)
theorem dX0_moleOf_28 : decode cX0_moleOf 28 = .ok (.astore_n 3, 1) := dk_78 (dk_at dksX0_moleOf_1 5 rfl rfl)
theorem dX0_moleOf_29 : decode cX0_moleOf 29 = .ok (.iload_n 2, 1) := dk_28 (dk_at dksX0_moleOf_1 6 rfl rfl)
theorem dX0_moleOf_30 : decode cX0_moleOf 30 = .ok (.ifCond .ne 10, 3) := dk_154 0 10 (dk_at dksX0_moleOf_1 7 rfl rfl)
theorem dX0_moleOf_33 : decode cX0_moleOf 33 = .ok (.aload_n 3, 1) := dk_45 (dk_at dksX0_moleOf_1 10 rfl rfl)
theorem dX0_moleOf_34 : decode cX0_moleOf 34 = .ok (.getfield 513, 3) := dk_180 2 1 (dk_at dksX0_moleOf_1 11 rfl rfl)
theorem dX0_moleOf_37 : decode cX0_moleOf 37 = .ok (.goto 37, 3) := dk_167 0 37 (dk_at dksX0_moleOf_1 14 rfl rfl)
theorem dX0_moleOf_40 : decode cX0_moleOf 40 = .ok (.iload_n 2, 1) := dk_28 (dk_at dksX0_moleOf_1 17 rfl rfl)
theorem dX0_moleOf_41 : decode cX0_moleOf 41 = .ok (.iconst 1, 1) := dk_4 (dk_at dksX0_moleOf_1 18 rfl rfl)
theorem dX0_moleOf_42 : decode cX0_moleOf 42 = .ok (.if_icmp .ne 18, 3) := dk_160 0 18 (dk_at dksX0_moleOf_1 19 rfl rfl)
theorem dX0_moleOf_45 : decode cX0_moleOf 45 = .ok (.aload_n 3, 1) := dk_45 (dk_at dksX0_moleOf_1 22 rfl rfl)
theorem dX0_moleOf_46 : decode cX0_moleOf 46 = .ok (.getfield 514, 3) := dk_180 2 2 (dk_at dksX0_moleOf_2 0 rfl rfl)
theorem dX0_moleOf_49 : decode cX0_moleOf 49 = .ok (.ifCond .eq 7, 3) := dk_153 0 7 (dk_at dksX0_moleOf_2 3 rfl rfl)
theorem dX0_moleOf_52 : decode cX0_moleOf 52 = .ok (.iconst 1, 1) := dk_4 (dk_at dksX0_moleOf_2 6 rfl rfl)
theorem dX0_moleOf_53 : decode cX0_moleOf 53 = .ok (.goto 21, 3) := dk_167 0 21 (dk_at dksX0_moleOf_2 7 rfl rfl)
theorem dX0_moleOf_56 : decode cX0_moleOf 56 = .ok (.iconst 0, 1) := dk_3 (dk_at dksX0_moleOf_2 10 rfl rfl)
theorem dX0_moleOf_57 : decode cX0_moleOf 57 = .ok (.goto 17, 3) := dk_167 0 17 (dk_at dksX0_moleOf_2 11 rfl rfl)
theorem dX0_moleOf_60 : decode cX0_moleOf 60 = .ok (.iload_n 2, 1) := dk_28 (dk_at dksX0_moleOf_2 14 rfl rfl)
theorem dX0_moleOf_61 : decode cX0_moleOf 61 = .ok (.iconst 2, 1) := dk_5 (dk_at dksX0_moleOf_2 15 rfl rfl)
theorem dX0_moleOf_62 : decode cX0_moleOf 62 = .ok (.if_icmp .ne 10, 3) := dk_160 0 10 (dk_at dksX0_moleOf_2 16 rfl rfl)
theorem dX0_moleOf_65 : decode cX0_moleOf 65 = .ok (.aload_n 3, 1) := dk_45 (dk_at dksX0_moleOf_2 19 rfl rfl)
theorem dX0_moleOf_66 : decode cX0_moleOf 66 = .ok (.getfield 518, 3) := dk_180 2 6 (dk_at dksX0_moleOf_2 20 rfl rfl)
theorem dX0_moleOf_69 : decode cX0_moleOf 69 = .ok (.goto 5, 3) := dk_167 0 5 (dk_at dksX0_moleOf_3 0 rfl rfl)
theorem dX0_moleOf_72 : decode cX0_moleOf 72 = .ok (.bipush (-2), 2) := dk_16 254 (dk_at dksX0_moleOf_3 3 rfl rfl)
theorem dX0_moleOf_74 : decode cX0_moleOf 74 = .ok (.ireturn, 1) := dk_172 (dk_at dksX0_moleOf_3 5 rfl rfl)
abbrev cX0_pairs : ByteArray := prog_1_method_65_code
def yX0_pairs : MethodName := ⟨RX0, "pairs", "(I)I"⟩
def dkwX0_pairs_0 : List UInt8 := [27, 3, 7, 184, 0, 140, 153, 0, 15, 42, 180, 0, 20, 180, 1, 68, 27, 46, 167, 0, 4, 2, 172]
abbrev dktX0_pairs_0 : List UInt8 := dkwX0_pairs_0 ++ []
theorem dksX0_pairs_0 : cX0_pairs.data.toList.drop 0 = dktX0_pairs_0 := by decide +kernel
theorem dX0_pairs_0 : decode cX0_pairs 0 = .ok (.iload_n 1, 1) := dk_27 (dk_at dksX0_pairs_0 0 rfl rfl)
theorem dX0_pairs_1 : decode cX0_pairs 1 = .ok (.iconst 0, 1) := dk_3 (dk_at dksX0_pairs_0 1 rfl rfl)
theorem dX0_pairs_2 : decode cX0_pairs 2 = .ok (.iconst 4, 1) := dk_7 (dk_at dksX0_pairs_0 2 rfl rfl)
theorem dX0_pairs_3 : decode cX0_pairs 3 = .ok (.invokestatic 140, 3) := dk_184 0 140 (dk_at dksX0_pairs_0 3 rfl rfl)
theorem dX0_pairs_6 : decode cX0_pairs 6 = .ok (.ifCond .eq 15, 3) := dk_153 0 15 (dk_at dksX0_pairs_0 6 rfl rfl)
theorem dX0_pairs_9 : decode cX0_pairs 9 = .ok (.aload_n 0, 1) := dk_42 (dk_at dksX0_pairs_0 9 rfl rfl)
theorem dX0_pairs_10 : decode cX0_pairs 10 = .ok (.getfield 20, 3) := dk_180 0 20 (dk_at dksX0_pairs_0 10 rfl rfl)
theorem dX0_pairs_13 : decode cX0_pairs 13 = .ok (.getfield 324, 3) := dk_180 1 68 (dk_at dksX0_pairs_0 13 rfl rfl)
theorem dX0_pairs_16 : decode cX0_pairs 16 = .ok (.iload_n 1, 1) := dk_27 (dk_at dksX0_pairs_0 16 rfl rfl)
theorem dX0_pairs_17 : decode cX0_pairs 17 = .ok (.iaload, 1) := dk_46 (dk_at dksX0_pairs_0 17 rfl rfl)
theorem dX0_pairs_18 : decode cX0_pairs 18 = .ok (.goto 4, 3) := dk_167 0 4 (dk_at dksX0_pairs_0 18 rfl rfl)
theorem dX0_pairs_21 : decode cX0_pairs 21 = .ok (.iconst (-1), 1) := dk_2 (dk_at dksX0_pairs_0 21 rfl rfl)
theorem dX0_pairs_22 : decode cX0_pairs 22 = .ok (.ireturn, 1) := dk_172 (dk_at dksX0_pairs_0 22 rfl rfl)
abbrev cX0_steps : ByteArray := prog_1_method_66_code
def yX0_steps : MethodName := ⟨RX0, "steps", "(II)I"⟩
def dkwX0_steps_2 : List UInt8 := [42, 180, 0, 103, 27, 46, 172]
abbrev dktX0_steps_2 : List UInt8 := dkwX0_steps_2 ++ []
def dkwX0_steps_1 : List UInt8 := [180, 0, 103, 27, 46, 155, 0, 14, 42, 180, 0, 20, 27, 182, 1, 80, 154, 0, 8, 16, 252, 167, 0, 9]
abbrev dktX0_steps_1 : List UInt8 := dkwX0_steps_1 ++ dktX0_steps_2
def dkwX0_steps_0 : List UInt8 := [27, 184, 0, 163, 153, 0, 10, 28, 184, 0, 163, 154, 0, 5, 2, 172, 42, 28, 182, 1, 119, 42]
abbrev dktX0_steps_0 : List UInt8 := dkwX0_steps_0 ++ dktX0_steps_1
theorem dksX0_steps_0 : cX0_steps.data.toList.drop 0 = dktX0_steps_0 := by decide +kernel
theorem dksX0_steps_1 : cX0_steps.data.toList.drop 22 = dktX0_steps_1 := dk_seg dksX0_steps_0 22 rfl rfl
theorem dksX0_steps_2 : cX0_steps.data.toList.drop 46 = dktX0_steps_2 := dk_seg dksX0_steps_1 24 rfl rfl
theorem dX0_steps_0 : decode cX0_steps 0 = .ok (.iload_n 1, 1) := dk_27 (dk_at dksX0_steps_0 0 rfl rfl)
theorem dX0_steps_1 : decode cX0_steps 1 = .ok (.invokestatic 163, 3) := dk_184 0 163 (dk_at dksX0_steps_0 1 rfl rfl)
theorem dX0_steps_4 : decode cX0_steps 4 = .ok (.ifCond .eq 10, 3) := dk_153 0 10 (dk_at dksX0_steps_0 4 rfl rfl)
theorem dX0_steps_7 : decode cX0_steps 7 = .ok (.iload_n 2, 1) := dk_28 (dk_at dksX0_steps_0 7 rfl rfl)
theorem dX0_steps_8 : decode cX0_steps 8 = .ok (.invokestatic 163, 3) := dk_184 0 163 (dk_at dksX0_steps_0 8 rfl rfl)
theorem dX0_steps_11 : decode cX0_steps 11 = .ok (.ifCond .ne 5, 3) := dk_154 0 5 (dk_at dksX0_steps_0 11 rfl rfl)
theorem dX0_steps_14 : decode cX0_steps 14 = .ok (.iconst (-1), 1) := dk_2 (dk_at dksX0_steps_0 14 rfl rfl)
theorem dX0_steps_15 : decode cX0_steps 15 = .ok (.ireturn, 1) := dk_172 (dk_at dksX0_steps_0 15 rfl rfl)
theorem dX0_steps_16 : decode cX0_steps 16 = .ok (.aload_n 0, 1) := dk_42 (dk_at dksX0_steps_0 16 rfl rfl)
theorem dX0_steps_17 : decode cX0_steps 17 = .ok (.iload_n 2, 1) := dk_28 (dk_at dksX0_steps_0 17 rfl rfl)
theorem dX0_steps_18 : decode cX0_steps 18 = .ok (.invokevirtual 375, 3) := dk_182 1 119 (dk_at dksX0_steps_0 18 rfl rfl)
theorem dX0_steps_21 : decode cX0_steps 21 = .ok (.aload_n 0, 1) := dk_42 (dk_at dksX0_steps_0 21 rfl rfl)
theorem dX0_steps_22 : decode cX0_steps 22 = .ok (.getfield 103, 3) := dk_180 0 103 (dk_at dksX0_steps_1 0 rfl rfl)
theorem dX0_steps_25 : decode cX0_steps 25 = .ok (.iload_n 1, 1) := dk_27 (dk_at dksX0_steps_1 3 rfl rfl)
theorem dX0_steps_26 : decode cX0_steps 26 = .ok (.iaload, 1) := dk_46 (dk_at dksX0_steps_1 4 rfl rfl)
theorem dX0_steps_27 : decode cX0_steps 27 = .ok (.ifCond .lt 14, 3) := dk_155 0 14 (dk_at dksX0_steps_1 5 rfl rfl)
theorem dX0_steps_30 : decode cX0_steps 30 = .ok (.aload_n 0, 1) := dk_42 (dk_at dksX0_steps_1 8 rfl rfl)
theorem dX0_steps_31 : decode cX0_steps 31 = .ok (.getfield 20, 3) := dk_180 0 20 (dk_at dksX0_steps_1 9 rfl rfl)
theorem dX0_steps_34 : decode cX0_steps 34 = .ok (.iload_n 1, 1) := dk_27 (dk_at dksX0_steps_1 12 rfl rfl)
theorem dX0_steps_35 : decode cX0_steps 35 = .ok (.invokevirtual 336, 3) := dk_182 1 80 (dk_at dksX0_steps_1 13 rfl rfl)
theorem dX0_steps_38 : decode cX0_steps 38 = .ok (.ifCond .ne 8, 3) := dk_154 0 8 (dk_at dksX0_steps_1 16 rfl rfl)
theorem dX0_steps_41 : decode cX0_steps 41 = .ok (.bipush (-4), 2) := dk_16 252 (dk_at dksX0_steps_1 19 rfl rfl)
theorem dX0_steps_43 : decode cX0_steps 43 = .ok (.goto 9, 3) := dk_167 0 9 (dk_at dksX0_steps_1 21 rfl rfl)
theorem dX0_steps_46 : decode cX0_steps 46 = .ok (.aload_n 0, 1) := dk_42 (dk_at dksX0_steps_2 0 rfl rfl)
theorem dX0_steps_47 : decode cX0_steps 47 = .ok (.getfield 103, 3) := dk_180 0 103 (dk_at dksX0_steps_2 1 rfl rfl)
theorem dX0_steps_50 : decode cX0_steps 50 = .ok (.iload_n 1, 1) := dk_27 (dk_at dksX0_steps_2 4 rfl rfl)
theorem dX0_steps_51 : decode cX0_steps 51 = .ok (.iaload, 1) := dk_46 (dk_at dksX0_steps_2 5 rfl rfl)
theorem dX0_steps_52 : decode cX0_steps 52 = .ok (.ireturn, 1) := dk_172 (dk_at dksX0_steps_2 6 rfl rfl)
abbrev cX0_stepsAgain : ByteArray := prog_1_method_68_code
def yX0_stepsAgain : MethodName := ⟨RX0, "stepsAgain", "(II)I"⟩
def dkwX0_stepsAgain_3 : List UInt8 := [21, 4, 172]
abbrev dktX0_stepsAgain_3 : List UInt8 := dkwX0_stepsAgain_3 ++ []
def dkwX0_stepsAgain_2 : List UInt8 := [182, 2, 9, 54, 5, 21, 5, 29, 160, 0, 6, 16, 252, 172, 21, 5, 62, 132, 4, 1, 167, 255, 226]
abbrev dktX0_stepsAgain_2 : List UInt8 := dkwX0_stepsAgain_2 ++ dktX0_stepsAgain_3
def dkwX0_stepsAgain_1 : List UInt8 := [153, 0, 9, 4, 27, 120, 167, 0, 4, 3, 62, 3, 54, 4, 29, 28, 122, 4, 126, 154, 0, 28, 42, 29]
abbrev dktX0_stepsAgain_1 : List UInt8 := dkwX0_stepsAgain_1 ++ dktX0_stepsAgain_2
def dkwX0_stepsAgain_0 : List UInt8 := [27, 184, 0, 163, 153, 0, 10, 28, 184, 0, 163, 154, 0, 5, 2, 172, 42, 180, 0, 20, 27, 182, 1, 80]
abbrev dktX0_stepsAgain_0 : List UInt8 := dkwX0_stepsAgain_0 ++ dktX0_stepsAgain_1
theorem dksX0_stepsAgain_0 : cX0_stepsAgain.data.toList.drop 0 = dktX0_stepsAgain_0 := by decide +kernel
theorem dksX0_stepsAgain_1 : cX0_stepsAgain.data.toList.drop 24 = dktX0_stepsAgain_1 := dk_seg dksX0_stepsAgain_0 24 rfl rfl
theorem dksX0_stepsAgain_2 : cX0_stepsAgain.data.toList.drop 48 = dktX0_stepsAgain_2 := dk_seg dksX0_stepsAgain_1 24 rfl rfl
theorem dksX0_stepsAgain_3 : cX0_stepsAgain.data.toList.drop 71 = dktX0_stepsAgain_3 := dk_seg dksX0_stepsAgain_2 23 rfl rfl
theorem dX0_stepsAgain_0 : decode cX0_stepsAgain 0 = .ok (.iload_n 1, 1) := dk_27 (dk_at dksX0_stepsAgain_0 0 rfl rfl)
theorem dX0_stepsAgain_1 : decode cX0_stepsAgain 1 = .ok (.invokestatic 163, 3) := dk_184 0 163 (dk_at dksX0_stepsAgain_0 1 rfl rfl)
theorem dX0_stepsAgain_4 : decode cX0_stepsAgain 4 = .ok (.ifCond .eq 10, 3) := dk_153 0 10 (dk_at dksX0_stepsAgain_0 4 rfl rfl)
theorem dX0_stepsAgain_7 : decode cX0_stepsAgain 7 = .ok (.iload_n 2, 1) := dk_28 (dk_at dksX0_stepsAgain_0 7 rfl rfl)
theorem dX0_stepsAgain_8 : decode cX0_stepsAgain 8 = .ok (.invokestatic 163, 3) := dk_184 0 163 (dk_at dksX0_stepsAgain_0 8 rfl rfl)
theorem dX0_stepsAgain_11 : decode cX0_stepsAgain 11 = .ok (.ifCond .ne 5, 3) := dk_154 0 5 (dk_at dksX0_stepsAgain_0 11 rfl rfl)
theorem dX0_stepsAgain_14 : decode cX0_stepsAgain 14 = .ok (.iconst (-1), 1) := dk_2 (dk_at dksX0_stepsAgain_0 14 rfl rfl)
theorem dX0_stepsAgain_15 : decode cX0_stepsAgain 15 = .ok (.ireturn, 1) := dk_172 (dk_at dksX0_stepsAgain_0 15 rfl rfl)
theorem dX0_stepsAgain_16 : decode cX0_stepsAgain 16 = .ok (.aload_n 0, 1) := dk_42 (dk_at dksX0_stepsAgain_0 16 rfl rfl)
theorem dX0_stepsAgain_17 : decode cX0_stepsAgain 17 = .ok (.getfield 20, 3) := dk_180 0 20 (dk_at dksX0_stepsAgain_0 17 rfl rfl)
theorem dX0_stepsAgain_20 : decode cX0_stepsAgain 20 = .ok (.iload_n 1, 1) := dk_27 (dk_at dksX0_stepsAgain_0 20 rfl rfl)
theorem dX0_stepsAgain_21 : decode cX0_stepsAgain 21 = .ok (.invokevirtual 336, 3) := dk_182 1 80 (dk_at dksX0_stepsAgain_0 21 rfl rfl)
theorem dX0_stepsAgain_24 : decode cX0_stepsAgain 24 = .ok (.ifCond .eq 9, 3) := dk_153 0 9 (dk_at dksX0_stepsAgain_1 0 rfl rfl)
theorem dX0_stepsAgain_27 : decode cX0_stepsAgain 27 = .ok (.iconst 1, 1) := dk_4 (dk_at dksX0_stepsAgain_1 3 rfl rfl)
theorem dX0_stepsAgain_28 : decode cX0_stepsAgain 28 = .ok (.iload_n 1, 1) := dk_27 (dk_at dksX0_stepsAgain_1 4 rfl rfl)
theorem dX0_stepsAgain_29 : decode cX0_stepsAgain 29 = .ok (.ishl, 1) := dk_120 (dk_at dksX0_stepsAgain_1 5 rfl rfl)
theorem dX0_stepsAgain_30 : decode cX0_stepsAgain 30 = .ok (.goto 4, 3) := dk_167 0 4 (dk_at dksX0_stepsAgain_1 6 rfl rfl)
theorem dX0_stepsAgain_33 : decode cX0_stepsAgain 33 = .ok (.iconst 0, 1) := dk_3 (dk_at dksX0_stepsAgain_1 9 rfl rfl)
theorem dX0_stepsAgain_34 : decode cX0_stepsAgain 34 = .ok (.istore_n 3, 1) := dk_62 (dk_at dksX0_stepsAgain_1 10 rfl rfl)
theorem dX0_stepsAgain_35 : decode cX0_stepsAgain 35 = .ok (.iconst 0, 1) := dk_3 (dk_at dksX0_stepsAgain_1 11 rfl rfl)
theorem dX0_stepsAgain_36 : decode cX0_stepsAgain 36 = .ok (.istore 4, 2) := dk_54 4 (dk_at dksX0_stepsAgain_1 12 rfl rfl)
theorem dX0_stepsAgain_38 : decode cX0_stepsAgain 38 = .ok (.iload_n 3, 1) := dk_29 (dk_at dksX0_stepsAgain_1 14 rfl rfl)
theorem dX0_stepsAgain_39 : decode cX0_stepsAgain 39 = .ok (.iload_n 2, 1) := dk_28 (dk_at dksX0_stepsAgain_1 15 rfl rfl)
theorem dX0_stepsAgain_40 : decode cX0_stepsAgain 40 = .ok (.ishr, 1) := dk_122 (dk_at dksX0_stepsAgain_1 16 rfl rfl)
theorem dX0_stepsAgain_41 : decode cX0_stepsAgain 41 = .ok (.iconst 1, 1) := dk_4 (dk_at dksX0_stepsAgain_1 17 rfl rfl)
theorem dX0_stepsAgain_42 : decode cX0_stepsAgain 42 = .ok (.iand, 1) := dk_126 (dk_at dksX0_stepsAgain_1 18 rfl rfl)
theorem dX0_stepsAgain_43 : decode cX0_stepsAgain 43 = .ok (.ifCond .ne 28, 3) := dk_154 0 28 (dk_at dksX0_stepsAgain_1 19 rfl rfl)
theorem dX0_stepsAgain_46 : decode cX0_stepsAgain 46 = .ok (.aload_n 0, 1) := dk_42 (dk_at dksX0_stepsAgain_1 22 rfl rfl)
theorem dX0_stepsAgain_47 : decode cX0_stepsAgain 47 = .ok (.iload_n 3, 1) := dk_29 (dk_at dksX0_stepsAgain_1 23 rfl rfl)
theorem dX0_stepsAgain_48 : decode cX0_stepsAgain 48 = .ok (.invokevirtual 521, 3) := dk_182 2 9 (dk_at dksX0_stepsAgain_2 0 rfl rfl)
theorem dX0_stepsAgain_51 : decode cX0_stepsAgain 51 = .ok (.istore 5, 2) := dk_54 5 (dk_at dksX0_stepsAgain_2 3 rfl rfl)
theorem dX0_stepsAgain_53 : decode cX0_stepsAgain 53 = .ok (.iload 5, 2) := dk_21 5 (dk_at dksX0_stepsAgain_2 5 rfl rfl)
theorem dX0_stepsAgain_55 : decode cX0_stepsAgain 55 = .ok (.iload_n 3, 1) := dk_29 (dk_at dksX0_stepsAgain_2 7 rfl rfl)
theorem dX0_stepsAgain_56 : decode cX0_stepsAgain 56 = .ok (.if_icmp .ne 6, 3) := dk_160 0 6 (dk_at dksX0_stepsAgain_2 8 rfl rfl)
theorem dX0_stepsAgain_59 : decode cX0_stepsAgain 59 = .ok (.bipush (-4), 2) := dk_16 252 (dk_at dksX0_stepsAgain_2 11 rfl rfl)
theorem dX0_stepsAgain_61 : decode cX0_stepsAgain 61 = .ok (.ireturn, 1) := dk_172 (dk_at dksX0_stepsAgain_2 13 rfl rfl)
theorem dX0_stepsAgain_62 : decode cX0_stepsAgain 62 = .ok (.iload 5, 2) := dk_21 5 (dk_at dksX0_stepsAgain_2 14 rfl rfl)
theorem dX0_stepsAgain_64 : decode cX0_stepsAgain 64 = .ok (.istore_n 3, 1) := dk_62 (dk_at dksX0_stepsAgain_2 16 rfl rfl)
theorem dX0_stepsAgain_65 : decode cX0_stepsAgain 65 = .ok (.iinc 4 1, 3) := dk_132 4 1 (dk_at dksX0_stepsAgain_2 17 rfl rfl)
theorem dX0_stepsAgain_68 : decode cX0_stepsAgain 68 = .ok (.goto (-30), 3) := dk_167 255 226 (dk_at dksX0_stepsAgain_2 20 rfl rfl)
theorem dX0_stepsAgain_71 : decode cX0_stepsAgain 71 = .ok (.iload 4, 2) := dk_21 4 (dk_at dksX0_stepsAgain_3 0 rfl rfl)
theorem dX0_stepsAgain_73 : decode cX0_stepsAgain 73 = .ok (.ireturn, 1) := dk_172 (dk_at dksX0_stepsAgain_3 2 rfl rfl)
abbrev cX0_spread : ByteArray := prog_1_method_67_code
def yX0_spread : MethodName := ⟨RX0, "spread", "(I)I"⟩
def dkwX0_spread_4 : List UInt8 := [132, 3, 1, 167, 255, 162, 28, 172]
abbrev dktX0_spread_4 : List UInt8 := dkwX0_spread_4 ++ []
def dkwX0_spread_3 : List UInt8 := [180, 0, 20, 21, 6, 182, 1, 80, 153, 0, 10, 4, 21, 6, 120, 167, 0, 4, 3, 128, 61, 167, 255, 185]
abbrev dktX0_spread_3 : List UInt8 := dkwX0_spread_3 ++ dktX0_spread_4
def dkwX0_spread_2 : List UInt8 := [126, 4, 160, 0, 12, 25, 5, 29, 182, 1, 6, 167, 0, 4, 2, 54, 6, 28, 21, 6, 155, 0, 22, 42]
abbrev dktX0_spread_2 : List UInt8 := dkwX0_spread_2 ++ dktX0_spread_3
def dkwX0_spread_1 : List UInt8 := [185, 1, 108, 1, 0, 153, 0, 67, 25, 4, 185, 1, 113, 1, 0, 192, 0, 65, 58, 5, 27, 29, 122, 4]
abbrev dktX0_spread_1 : List UInt8 := dkwX0_spread_1 ++ dktX0_spread_2
def dkwX0_spread_0 : List UInt8 := [27, 61, 3, 62, 29, 16, 30, 162, 0, 94, 42, 180, 0, 85, 185, 1, 104, 1, 0, 58, 4, 25, 4]
abbrev dktX0_spread_0 : List UInt8 := dkwX0_spread_0 ++ dktX0_spread_1
theorem dksX0_spread_0 : cX0_spread.data.toList.drop 0 = dktX0_spread_0 := by decide +kernel
theorem dksX0_spread_1 : cX0_spread.data.toList.drop 23 = dktX0_spread_1 := dk_seg dksX0_spread_0 23 rfl rfl
theorem dksX0_spread_2 : cX0_spread.data.toList.drop 47 = dktX0_spread_2 := dk_seg dksX0_spread_1 24 rfl rfl
theorem dksX0_spread_3 : cX0_spread.data.toList.drop 71 = dktX0_spread_3 := dk_seg dksX0_spread_2 24 rfl rfl
theorem dksX0_spread_4 : cX0_spread.data.toList.drop 95 = dktX0_spread_4 := dk_seg dksX0_spread_3 24 rfl rfl
theorem dX0_spread_0 : decode cX0_spread 0 = .ok (.iload_n 1, 1) := dk_27 (dk_at dksX0_spread_0 0 rfl rfl)
theorem dX0_spread_1 : decode cX0_spread 1 = .ok (.istore_n 2, 1) := dk_61 (dk_at dksX0_spread_0 1 rfl rfl)
theorem dX0_spread_2 : decode cX0_spread 2 = .ok (.iconst 0, 1) := dk_3 (dk_at dksX0_spread_0 2 rfl rfl)
theorem dX0_spread_3 : decode cX0_spread 3 = .ok (.istore_n 3, 1) := dk_62 (dk_at dksX0_spread_0 3 rfl rfl)
theorem dX0_spread_4 : decode cX0_spread 4 = .ok (.iload_n 3, 1) := dk_29 (dk_at dksX0_spread_0 4 rfl rfl)
theorem dX0_spread_5 : decode cX0_spread 5 = .ok (.bipush 30, 2) := dk_16 30 (dk_at dksX0_spread_0 5 rfl rfl)
theorem dX0_spread_7 : decode cX0_spread 7 = .ok (.if_icmp .ge 94, 3) := dk_162 0 94 (dk_at dksX0_spread_0 7 rfl rfl)
theorem dX0_spread_10 : decode cX0_spread 10 = .ok (.aload_n 0, 1) := dk_42 (dk_at dksX0_spread_0 10 rfl rfl)
theorem dX0_spread_11 : decode cX0_spread 11 = .ok (.getfield 85, 3) := dk_180 0 85 (dk_at dksX0_spread_0 11 rfl rfl)
theorem dX0_spread_14 : decode cX0_spread 14 = .ok (.invokeinterface 360 1, 5) := by decide +kernel
theorem dX0_spread_19 : decode cX0_spread 19 = .ok (.astore 4, 2) := dk_58 4 (dk_at dksX0_spread_0 19 rfl rfl)
theorem dX0_spread_21 : decode cX0_spread 21 = .ok (.aload 4, 2) := dk_25 4 (dk_at dksX0_spread_0 21 rfl rfl)
theorem dX0_spread_23 : decode cX0_spread 23 = .ok (.invokeinterface 364 1, 5) := by decide +kernel
theorem dX0_spread_28 : decode cX0_spread 28 = .ok (.ifCond .eq 67, 3) := dk_153 0 67 (dk_at dksX0_spread_1 5 rfl rfl)
theorem dX0_spread_31 : decode cX0_spread 31 = .ok (.aload 4, 2) := dk_25 4 (dk_at dksX0_spread_1 8 rfl rfl)
theorem dX0_spread_33 : decode cX0_spread 33 = .ok (.invokeinterface 369 1, 5) := by decide +kernel
theorem dX0_spread_38 : decode cX0_spread 38 = .ok (.checkcast 65, 3) := dk_192 0 65 (dk_at dksX0_spread_1 15 rfl rfl)
theorem dX0_spread_41 : decode cX0_spread 41 = .ok (.astore 5, 2) := dk_58 5 (dk_at dksX0_spread_1 18 rfl rfl)
theorem dX0_spread_43 : decode cX0_spread 43 = .ok (.iload_n 1, 1) := dk_27 (dk_at dksX0_spread_1 20 rfl rfl)
theorem dX0_spread_44 : decode cX0_spread 44 = .ok (.iload_n 3, 1) := dk_29 (dk_at dksX0_spread_1 21 rfl rfl)
theorem dX0_spread_45 : decode cX0_spread 45 = .ok (.ishr, 1) := dk_122 (dk_at dksX0_spread_1 22 rfl rfl)
theorem dX0_spread_46 : decode cX0_spread 46 = .ok (.iconst 1, 1) := dk_4 (dk_at dksX0_spread_1 23 rfl rfl)
theorem dX0_spread_47 : decode cX0_spread 47 = .ok (.iand, 1) := dk_126 (dk_at dksX0_spread_2 0 rfl rfl)
theorem dX0_spread_48 : decode cX0_spread 48 = .ok (.iconst 1, 1) := dk_4 (dk_at dksX0_spread_2 1 rfl rfl)
theorem dX0_spread_49 : decode cX0_spread 49 = .ok (.if_icmp .ne 12, 3) := dk_160 0 12 (dk_at dksX0_spread_2 2 rfl rfl)
theorem dX0_spread_52 : decode cX0_spread 52 = .ok (.aload 5, 2) := dk_25 5 (dk_at dksX0_spread_2 5 rfl rfl)
theorem dX0_spread_54 : decode cX0_spread 54 = .ok (.iload_n 3, 1) := dk_29 (dk_at dksX0_spread_2 7 rfl rfl)
theorem dX0_spread_55 : decode cX0_spread 55 = .ok (.invokevirtual 262, 3) := dk_182 1 6 (dk_at dksX0_spread_2 8 rfl rfl)
theorem dX0_spread_58 : decode cX0_spread 58 = .ok (.goto 4, 3) := dk_167 0 4 (dk_at dksX0_spread_2 11 rfl rfl)
theorem dX0_spread_61 : decode cX0_spread 61 = .ok (.iconst (-1), 1) := dk_2 (dk_at dksX0_spread_2 14 rfl rfl)
theorem dX0_spread_62 : decode cX0_spread 62 = .ok (.istore 6, 2) := dk_54 6 (dk_at dksX0_spread_2 15 rfl rfl)
theorem dX0_spread_64 : decode cX0_spread 64 = .ok (.iload_n 2, 1) := dk_28 (dk_at dksX0_spread_2 17 rfl rfl)
theorem dX0_spread_65 : decode cX0_spread 65 = .ok (.iload 6, 2) := dk_21 6 (dk_at dksX0_spread_2 18 rfl rfl)
theorem dX0_spread_67 : decode cX0_spread 67 = .ok (.ifCond .lt 22, 3) := dk_155 0 22 (dk_at dksX0_spread_2 20 rfl rfl)
theorem dX0_spread_70 : decode cX0_spread 70 = .ok (.aload_n 0, 1) := dk_42 (dk_at dksX0_spread_2 23 rfl rfl)
theorem dX0_spread_71 : decode cX0_spread 71 = .ok (.getfield 20, 3) := dk_180 0 20 (dk_at dksX0_spread_3 0 rfl rfl)
theorem dX0_spread_74 : decode cX0_spread 74 = .ok (.iload 6, 2) := dk_21 6 (dk_at dksX0_spread_3 3 rfl rfl)
theorem dX0_spread_76 : decode cX0_spread 76 = .ok (.invokevirtual 336, 3) := dk_182 1 80 (dk_at dksX0_spread_3 5 rfl rfl)
theorem dX0_spread_79 : decode cX0_spread 79 = .ok (.ifCond .eq 10, 3) := dk_153 0 10 (dk_at dksX0_spread_3 8 rfl rfl)
theorem dX0_spread_82 : decode cX0_spread 82 = .ok (.iconst 1, 1) := dk_4 (dk_at dksX0_spread_3 11 rfl rfl)
theorem dX0_spread_83 : decode cX0_spread 83 = .ok (.iload 6, 2) := dk_21 6 (dk_at dksX0_spread_3 12 rfl rfl)
theorem dX0_spread_85 : decode cX0_spread 85 = .ok (.ishl, 1) := dk_120 (dk_at dksX0_spread_3 14 rfl rfl)
theorem dX0_spread_86 : decode cX0_spread 86 = .ok (.goto 4, 3) := dk_167 0 4 (dk_at dksX0_spread_3 15 rfl rfl)
theorem dX0_spread_89 : decode cX0_spread 89 = .ok (.iconst 0, 1) := dk_3 (dk_at dksX0_spread_3 18 rfl rfl)
theorem dX0_spread_90 : decode cX0_spread 90 = .ok (.ior, 1) := dk_128 (dk_at dksX0_spread_3 19 rfl rfl)
theorem dX0_spread_91 : decode cX0_spread 91 = .ok (.istore_n 2, 1) := dk_61 (dk_at dksX0_spread_3 20 rfl rfl)
theorem dX0_spread_92 : decode cX0_spread 92 = .ok (.goto (-71), 3) := dk_167 255 185 (dk_at dksX0_spread_3 21 rfl rfl)
theorem dX0_spread_95 : decode cX0_spread 95 = .ok (.iinc 3 1, 3) := dk_132 3 1 (dk_at dksX0_spread_4 0 rfl rfl)
theorem dX0_spread_98 : decode cX0_spread 98 = .ok (.goto (-94), 3) := dk_167 255 162 (dk_at dksX0_spread_4 3 rfl rfl)
theorem dX0_spread_101 : decode cX0_spread 101 = .ok (.iload_n 2, 1) := dk_28 (dk_at dksX0_spread_4 6 rfl rfl)
theorem dX0_spread_102 : decode cX0_spread 102 = .ok (.ireturn, 1) := dk_172 (dk_at dksX0_spread_4 7 rfl rfl)
abbrev cX0_wayAt : ByteArray := prog_1_method_69_code
def yX0_wayAt : MethodName := ⟨RX0, "wayAt", "(III)I"⟩
def dkwX0_wayAt_2 : List UInt8 := [54, 5, 132, 6, 1, 167, 255, 239, 21, 5, 172]
abbrev dktX0_wayAt_2 : List UInt8 := dkwX0_wayAt_2 ++ []
def dkwX0_wayAt_1 : List UInt8 := [154, 0, 6, 16, 252, 172, 27, 54, 5, 3, 54, 6, 21, 6, 29, 162, 0, 17, 42, 21, 5, 182, 1, 125]
abbrev dktX0_wayAt_1 : List UInt8 := dkwX0_wayAt_1 ++ dktX0_wayAt_2
def dkwX0_wayAt_0 : List UInt8 := [42, 27, 28, 182, 2, 12, 54, 4, 21, 4, 156, 0, 6, 21, 4, 172, 29, 3, 21, 4, 184, 0, 140]
abbrev dktX0_wayAt_0 : List UInt8 := dkwX0_wayAt_0 ++ dktX0_wayAt_1
theorem dksX0_wayAt_0 : cX0_wayAt.data.toList.drop 0 = dktX0_wayAt_0 := by decide +kernel
theorem dksX0_wayAt_1 : cX0_wayAt.data.toList.drop 23 = dktX0_wayAt_1 := dk_seg dksX0_wayAt_0 23 rfl rfl
theorem dksX0_wayAt_2 : cX0_wayAt.data.toList.drop 47 = dktX0_wayAt_2 := dk_seg dksX0_wayAt_1 24 rfl rfl
theorem dX0_wayAt_0 : decode cX0_wayAt 0 = .ok (.aload_n 0, 1) := dk_42 (dk_at dksX0_wayAt_0 0 rfl rfl)
theorem dX0_wayAt_1 : decode cX0_wayAt 1 = .ok (.iload_n 1, 1) := dk_27 (dk_at dksX0_wayAt_0 1 rfl rfl)
theorem dX0_wayAt_2 : decode cX0_wayAt 2 = .ok (.iload_n 2, 1) := dk_28 (dk_at dksX0_wayAt_0 2 rfl rfl)
theorem dX0_wayAt_3 : decode cX0_wayAt 3 = .ok (.invokevirtual 524, 3) := dk_182 2 12 (dk_at dksX0_wayAt_0 3 rfl rfl)
theorem dX0_wayAt_6 : decode cX0_wayAt 6 = .ok (.istore 4, 2) := dk_54 4 (dk_at dksX0_wayAt_0 6 rfl rfl)
theorem dX0_wayAt_8 : decode cX0_wayAt 8 = .ok (.iload 4, 2) := dk_21 4 (dk_at dksX0_wayAt_0 8 rfl rfl)
theorem dX0_wayAt_10 : decode cX0_wayAt 10 = .ok (.ifCond .ge 6, 3) := dk_156 0 6 (dk_at dksX0_wayAt_0 10 rfl rfl)
theorem dX0_wayAt_13 : decode cX0_wayAt 13 = .ok (.iload 4, 2) := dk_21 4 (dk_at dksX0_wayAt_0 13 rfl rfl)
theorem dX0_wayAt_15 : decode cX0_wayAt 15 = .ok (.ireturn, 1) := dk_172 (dk_at dksX0_wayAt_0 15 rfl rfl)
theorem dX0_wayAt_16 : decode cX0_wayAt 16 = .ok (.iload_n 3, 1) := dk_29 (dk_at dksX0_wayAt_0 16 rfl rfl)
theorem dX0_wayAt_17 : decode cX0_wayAt 17 = .ok (.iconst 0, 1) := dk_3 (dk_at dksX0_wayAt_0 17 rfl rfl)
theorem dX0_wayAt_18 : decode cX0_wayAt 18 = .ok (.iload 4, 2) := dk_21 4 (dk_at dksX0_wayAt_0 18 rfl rfl)
theorem dX0_wayAt_20 : decode cX0_wayAt 20 = .ok (.invokestatic 140, 3) := dk_184 0 140 (dk_at dksX0_wayAt_0 20 rfl rfl)
theorem dX0_wayAt_23 : decode cX0_wayAt 23 = .ok (.ifCond .ne 6, 3) := dk_154 0 6 (dk_at dksX0_wayAt_1 0 rfl rfl)
theorem dX0_wayAt_26 : decode cX0_wayAt 26 = .ok (.bipush (-4), 2) := dk_16 252 (dk_at dksX0_wayAt_1 3 rfl rfl)
theorem dX0_wayAt_28 : decode cX0_wayAt 28 = .ok (.ireturn, 1) := dk_172 (dk_at dksX0_wayAt_1 5 rfl rfl)
theorem dX0_wayAt_29 : decode cX0_wayAt 29 = .ok (.iload_n 1, 1) := dk_27 (dk_at dksX0_wayAt_1 6 rfl rfl)
theorem dX0_wayAt_30 : decode cX0_wayAt 30 = .ok (.istore 5, 2) := dk_54 5 (dk_at dksX0_wayAt_1 7 rfl rfl)
theorem dX0_wayAt_32 : decode cX0_wayAt 32 = .ok (.iconst 0, 1) := dk_3 (dk_at dksX0_wayAt_1 9 rfl rfl)
theorem dX0_wayAt_33 : decode cX0_wayAt 33 = .ok (.istore 6, 2) := dk_54 6 (dk_at dksX0_wayAt_1 10 rfl rfl)
theorem dX0_wayAt_35 : decode cX0_wayAt 35 = .ok (.iload 6, 2) := dk_21 6 (dk_at dksX0_wayAt_1 12 rfl rfl)
theorem dX0_wayAt_37 : decode cX0_wayAt 37 = .ok (.iload_n 3, 1) := dk_29 (dk_at dksX0_wayAt_1 14 rfl rfl)
theorem dX0_wayAt_38 : decode cX0_wayAt 38 = .ok (.if_icmp .ge 17, 3) := dk_162 0 17 (dk_at dksX0_wayAt_1 15 rfl rfl)
theorem dX0_wayAt_41 : decode cX0_wayAt 41 = .ok (.aload_n 0, 1) := dk_42 (dk_at dksX0_wayAt_1 18 rfl rfl)
theorem dX0_wayAt_42 : decode cX0_wayAt 42 = .ok (.iload 5, 2) := dk_21 5 (dk_at dksX0_wayAt_1 19 rfl rfl)
theorem dX0_wayAt_44 : decode cX0_wayAt 44 = .ok (.invokevirtual 381, 3) := dk_182 1 125 (dk_at dksX0_wayAt_1 21 rfl rfl)
theorem dX0_wayAt_47 : decode cX0_wayAt 47 = .ok (.istore 5, 2) := dk_54 5 (dk_at dksX0_wayAt_2 0 rfl rfl)
theorem dX0_wayAt_49 : decode cX0_wayAt 49 = .ok (.iinc 6 1, 3) := dk_132 6 1 (dk_at dksX0_wayAt_2 2 rfl rfl)
theorem dX0_wayAt_52 : decode cX0_wayAt 52 = .ok (.goto (-17), 3) := dk_167 255 239 (dk_at dksX0_wayAt_2 5 rfl rfl)
theorem dX0_wayAt_55 : decode cX0_wayAt 55 = .ok (.iload 5, 2) := dk_21 5 (dk_at dksX0_wayAt_2 8 rfl rfl)
theorem dX0_wayAt_57 : decode cX0_wayAt 57 = .ok (.ireturn, 1) := dk_172 (dk_at dksX0_wayAt_2 10 rfl rfl)
abbrev cX0_walked : ByteArray := prog_1_method_70_code
def yX0_walked : MethodName := ⟨RX0, "walked", "(II)I"⟩
def dkwX0_walked_3 : List UInt8 := [167, 0, 17, 28, 6, 160, 0, 10, 45, 180, 2, 24, 167, 0, 5, 16, 254, 172]
abbrev dktX0_walked_3 : List UInt8 := dkwX0_walked_3 ++ []
def dkwX0_walked_2 : List UInt8 := [167, 0, 41, 28, 4, 160, 0, 10, 45, 180, 2, 19, 167, 0, 29, 28, 5, 160, 0, 10, 45, 180, 2, 21]
abbrev dktX0_walked_2 : List UInt8 := dkwX0_walked_2 ++ dktX0_walked_3
def dkwX0_walked_1 : List UInt8 := [180, 0, 20, 180, 1, 128, 27, 182, 2, 14, 192, 1, 132, 78, 28, 154, 0, 10, 45, 180, 2, 17]
abbrev dktX0_walked_1 : List UInt8 := dkwX0_walked_1 ++ dktX0_walked_2
def dkwX0_walked_0 : List UInt8 := [27, 3, 42, 180, 0, 20, 180, 1, 128, 182, 1, 143, 4, 100, 184, 0, 140, 154, 0, 6, 16, 252, 172, 42]
abbrev dktX0_walked_0 : List UInt8 := dkwX0_walked_0 ++ dktX0_walked_1
theorem dksX0_walked_0 : cX0_walked.data.toList.drop 0 = dktX0_walked_0 := by decide +kernel
theorem dksX0_walked_1 : cX0_walked.data.toList.drop 24 = dktX0_walked_1 := dk_seg dksX0_walked_0 24 rfl rfl
theorem dksX0_walked_2 : cX0_walked.data.toList.drop 46 = dktX0_walked_2 := dk_seg dksX0_walked_1 22 rfl rfl
theorem dksX0_walked_3 : cX0_walked.data.toList.drop 70 = dktX0_walked_3 := dk_seg dksX0_walked_2 24 rfl rfl
theorem dX0_walked_0 : decode cX0_walked 0 = .ok (.iload_n 1, 1) := dk_27 (dk_at dksX0_walked_0 0 rfl rfl)
theorem dX0_walked_1 : decode cX0_walked 1 = .ok (.iconst 0, 1) := dk_3 (dk_at dksX0_walked_0 1 rfl rfl)
theorem dX0_walked_2 : decode cX0_walked 2 = .ok (.aload_n 0, 1) := dk_42 (dk_at dksX0_walked_0 2 rfl rfl)
theorem dX0_walked_3 : decode cX0_walked 3 = .ok (.getfield 20, 3) := dk_180 0 20 (dk_at dksX0_walked_0 3 rfl rfl)
theorem dX0_walked_6 : decode cX0_walked 6 = .ok (.getfield 384, 3) := dk_180 1 128 (dk_at dksX0_walked_0 6 rfl rfl)
theorem dX0_walked_9 : decode cX0_walked 9 = .ok (.invokevirtual 399, 3) := dk_182 1 143 (dk_at dksX0_walked_0 9 rfl rfl)
theorem dX0_walked_12 : decode cX0_walked 12 = .ok (.iconst 1, 1) := dk_4 (dk_at dksX0_walked_0 12 rfl rfl)
theorem dX0_walked_13 : decode cX0_walked 13 = .ok (.isub, 1) := dk_100 (dk_at dksX0_walked_0 13 rfl rfl)
theorem dX0_walked_14 : decode cX0_walked 14 = .ok (.invokestatic 140, 3) := dk_184 0 140 (dk_at dksX0_walked_0 14 rfl rfl)
theorem dX0_walked_17 : decode cX0_walked 17 = .ok (.ifCond .ne 6, 3) := dk_154 0 6 (dk_at dksX0_walked_0 17 rfl rfl)
theorem dX0_walked_20 : decode cX0_walked 20 = .ok (.bipush (-4), 2) := dk_16 252 (dk_at dksX0_walked_0 20 rfl rfl)
theorem dX0_walked_22 : decode cX0_walked 22 = .ok (.ireturn, 1) := dk_172 (dk_at dksX0_walked_0 22 rfl rfl)
theorem dX0_walked_23 : decode cX0_walked 23 = .ok (.aload_n 0, 1) := dk_42 (dk_at dksX0_walked_0 23 rfl rfl)
theorem dX0_walked_24 : decode cX0_walked 24 = .ok (.getfield 20, 3) := dk_180 0 20 (dk_at dksX0_walked_1 0 rfl rfl)
theorem dX0_walked_27 : decode cX0_walked 27 = .ok (.getfield 384, 3) := dk_180 1 128 (dk_at dksX0_walked_1 3 rfl rfl)
theorem dX0_walked_30 : decode cX0_walked 30 = .ok (.iload_n 1, 1) := dk_27 (dk_at dksX0_walked_1 6 rfl rfl)
theorem dX0_walked_31 : decode cX0_walked 31 = .ok (.invokevirtual 526, 3) := dk_182 2 14 (dk_at dksX0_walked_1 7 rfl rfl)
theorem dX0_walked_34 : decode cX0_walked 34 = .ok (.checkcast 388, 3) := dk_192 1 132 (dk_at dksX0_walked_1 10 rfl rfl)
theorem dX0_walked_37 : decode cX0_walked 37 = .ok (.astore_n 3, 1) := dk_78 (dk_at dksX0_walked_1 13 rfl rfl)
theorem dX0_walked_38 : decode cX0_walked 38 = .ok (.iload_n 2, 1) := dk_28 (dk_at dksX0_walked_1 14 rfl rfl)
theorem dX0_walked_39 : decode cX0_walked 39 = .ok (.ifCond .ne 10, 3) := dk_154 0 10 (dk_at dksX0_walked_1 15 rfl rfl)
theorem dX0_walked_42 : decode cX0_walked 42 = .ok (.aload_n 3, 1) := dk_45 (dk_at dksX0_walked_1 18 rfl rfl)
theorem dX0_walked_43 : decode cX0_walked 43 = .ok (.getfield 529, 3) := dk_180 2 17 (dk_at dksX0_walked_1 19 rfl rfl)
theorem dX0_walked_46 : decode cX0_walked 46 = .ok (.goto 41, 3) := dk_167 0 41 (dk_at dksX0_walked_2 0 rfl rfl)
theorem dX0_walked_49 : decode cX0_walked 49 = .ok (.iload_n 2, 1) := dk_28 (dk_at dksX0_walked_2 3 rfl rfl)
theorem dX0_walked_50 : decode cX0_walked 50 = .ok (.iconst 1, 1) := dk_4 (dk_at dksX0_walked_2 4 rfl rfl)
theorem dX0_walked_51 : decode cX0_walked 51 = .ok (.if_icmp .ne 10, 3) := dk_160 0 10 (dk_at dksX0_walked_2 5 rfl rfl)
theorem dX0_walked_54 : decode cX0_walked 54 = .ok (.aload_n 3, 1) := dk_45 (dk_at dksX0_walked_2 8 rfl rfl)
theorem dX0_walked_55 : decode cX0_walked 55 = .ok (.getfield 531, 3) := dk_180 2 19 (dk_at dksX0_walked_2 9 rfl rfl)
theorem dX0_walked_58 : decode cX0_walked 58 = .ok (.goto 29, 3) := dk_167 0 29 (dk_at dksX0_walked_2 12 rfl rfl)
theorem dX0_walked_61 : decode cX0_walked 61 = .ok (.iload_n 2, 1) := dk_28 (dk_at dksX0_walked_2 15 rfl rfl)
theorem dX0_walked_62 : decode cX0_walked 62 = .ok (.iconst 2, 1) := dk_5 (dk_at dksX0_walked_2 16 rfl rfl)
theorem dX0_walked_63 : decode cX0_walked 63 = .ok (.if_icmp .ne 10, 3) := dk_160 0 10 (dk_at dksX0_walked_2 17 rfl rfl)
theorem dX0_walked_66 : decode cX0_walked 66 = .ok (.aload_n 3, 1) := dk_45 (dk_at dksX0_walked_2 20 rfl rfl)
theorem dX0_walked_67 : decode cX0_walked 67 = .ok (.getfield 533, 3) := dk_180 2 21 (dk_at dksX0_walked_2 21 rfl rfl)
theorem dX0_walked_70 : decode cX0_walked 70 = .ok (.goto 17, 3) := dk_167 0 17 (dk_at dksX0_walked_3 0 rfl rfl)
theorem dX0_walked_73 : decode cX0_walked 73 = .ok (.iload_n 2, 1) := dk_28 (dk_at dksX0_walked_3 3 rfl rfl)
theorem dX0_walked_74 : decode cX0_walked 74 = .ok (.iconst 3, 1) := dk_6 (dk_at dksX0_walked_3 4 rfl rfl)
theorem dX0_walked_75 : decode cX0_walked 75 = .ok (.if_icmp .ne 10, 3) := dk_160 0 10 (dk_at dksX0_walked_3 5 rfl rfl)
theorem dX0_walked_78 : decode cX0_walked 78 = .ok (.aload_n 3, 1) := dk_45 (dk_at dksX0_walked_3 8 rfl rfl)
theorem dX0_walked_79 : decode cX0_walked 79 = .ok (.getfield 536, 3) := dk_180 2 24 (dk_at dksX0_walked_3 9 rfl rfl)
theorem dX0_walked_82 : decode cX0_walked 82 = .ok (.goto 5, 3) := dk_167 0 5 (dk_at dksX0_walked_3 12 rfl rfl)
theorem dX0_walked_85 : decode cX0_walked 85 = .ok (.bipush (-2), 2) := dk_16 254 (dk_at dksX0_walked_3 15 rfl rfl)
theorem dX0_walked_87 : decode cX0_walked 87 = .ok (.ireturn, 1) := dk_172 (dk_at dksX0_walked_3 17 rfl rfl)
abbrev cX0_young : ByteArray := prog_1_method_71_code
def yX0_young : MethodName := ⟨RX0, "young", "()I"⟩
def dkwX0_young_0 : List UInt8 := [16, 30, 42, 186, 2, 25, 0, 0, 184, 0, 187, 172]
abbrev dktX0_young_0 : List UInt8 := dkwX0_young_0 ++ []
theorem dksX0_young_0 : cX0_young.data.toList.drop 0 = dktX0_young_0 := by decide +kernel
theorem dX0_young_0 : decode cX0_young 0 = .ok (.bipush 30, 2) := dk_16 30 (dk_at dksX0_young_0 0 rfl rfl)
theorem dX0_young_2 : decode cX0_young 2 = .ok (.aload_n 0, 1) := dk_42 (dk_at dksX0_young_0 2 rfl rfl)
theorem dX0_young_3 : decode cX0_young 3 = .ok (.invokedynamic 537, 5) := by decide +kernel
theorem dX0_young_8 : decode cX0_young 8 = .ok (.invokestatic 187, 3) := dk_184 0 187 (dk_at dksX0_young_0 8 rfl rfl)
theorem dX0_young_11 : decode cX0_young 11 = .ok (.ireturn, 1) := dk_172 (dk_at dksX0_young_0 11 rfl rfl)
abbrev cX0_lambda_young_10 : ByteArray := prog_1_method_90_code
def yX0_lambda_young_10 : MethodName := ⟨RX0, "lambda$young$10", "(I)Z"⟩
def dkwX0_lambda_young_10_0 : List UInt8 := [42, 27, 182, 0, 234, 193, 0, 52, 172]
abbrev dktX0_lambda_young_10_0 : List UInt8 := dkwX0_lambda_young_10_0 ++ []
theorem dksX0_lambda_young_10_0 : cX0_lambda_young_10.data.toList.drop 0 = dktX0_lambda_young_10_0 := by decide +kernel
theorem dX0_lambda_young_10_0 : decode cX0_lambda_young_10 0 = .ok (.aload_n 0, 1) := dk_42 (dk_at dksX0_lambda_young_10_0 0 rfl rfl)
theorem dX0_lambda_young_10_1 : decode cX0_lambda_young_10 1 = .ok (.iload_n 1, 1) := dk_27 (dk_at dksX0_lambda_young_10_0 1 rfl rfl)
theorem dX0_lambda_young_10_2 : decode cX0_lambda_young_10 2 = .ok (.invokevirtual 234, 3) := dk_182 0 234 (dk_at dksX0_lambda_young_10_0 2 rfl rfl)
theorem dX0_lambda_young_10_5 : decode cX0_lambda_young_10 5 = .ok (.instanceof 52, 3) := dk_193 0 52 (dk_at dksX0_lambda_young_10_0 5 rfl rfl)
theorem dX0_lambda_young_10_8 : decode cX0_lambda_young_10 8 = .ok (.ireturn, 1) := dk_172 (dk_at dksX0_lambda_young_10_0 8 rfl rfl)
abbrev cX0_oldIn : ByteArray := prog_1_method_72_code
def yX0_oldIn : MethodName := ⟨RX0, "oldIn", "(I)I"⟩
def dkwX0_oldIn_3 : List UInt8 := [16, 252, 167, 0, 4, 28, 172]
abbrev dktX0_oldIn_3 : List UInt8 := dkwX0_oldIn_3 ++ []
def dkwX0_oldIn_2 : List UInt8 := [182, 1, 61, 62, 132, 2, 1, 167, 255, 226, 42, 180, 0, 29, 180, 0, 154, 27, 46, 8, 163, 0, 8]
abbrev dktX0_oldIn_2 : List UInt8 := dkwX0_oldIn_2 ++ dktX0_oldIn_3
def dkwX0_oldIn_1 : List UInt8 := [180, 0, 29, 180, 0, 154, 27, 46, 8, 163, 0, 23, 28, 16, 40, 162, 0, 17, 42, 180, 0, 29]
abbrev dktX0_oldIn_1 : List UInt8 := dkwX0_oldIn_1 ++ dktX0_oldIn_2
def dkwX0_oldIn_0 : List UInt8 := [27, 184, 0, 163, 154, 0, 5, 2, 172, 42, 180, 0, 29, 42, 180, 0, 20, 182, 0, 120, 3, 61, 42]
abbrev dktX0_oldIn_0 : List UInt8 := dkwX0_oldIn_0 ++ dktX0_oldIn_1
theorem dksX0_oldIn_0 : cX0_oldIn.data.toList.drop 0 = dktX0_oldIn_0 := by decide +kernel
theorem dksX0_oldIn_1 : cX0_oldIn.data.toList.drop 23 = dktX0_oldIn_1 := dk_seg dksX0_oldIn_0 23 rfl rfl
theorem dksX0_oldIn_2 : cX0_oldIn.data.toList.drop 45 = dktX0_oldIn_2 := dk_seg dksX0_oldIn_1 22 rfl rfl
theorem dksX0_oldIn_3 : cX0_oldIn.data.toList.drop 68 = dktX0_oldIn_3 := dk_seg dksX0_oldIn_2 23 rfl rfl
theorem dX0_oldIn_0 : decode cX0_oldIn 0 = .ok (.iload_n 1, 1) := dk_27 (dk_at dksX0_oldIn_0 0 rfl rfl)
theorem dX0_oldIn_1 : decode cX0_oldIn 1 = .ok (.invokestatic 163, 3) := dk_184 0 163 (dk_at dksX0_oldIn_0 1 rfl rfl)
theorem dX0_oldIn_4 : decode cX0_oldIn 4 = .ok (.ifCond .ne 5, 3) := dk_154 0 5 (dk_at dksX0_oldIn_0 4 rfl rfl)
theorem dX0_oldIn_7 : decode cX0_oldIn 7 = .ok (.iconst (-1), 1) := dk_2 (dk_at dksX0_oldIn_0 7 rfl rfl)
theorem dX0_oldIn_8 : decode cX0_oldIn 8 = .ok (.ireturn, 1) := dk_172 (dk_at dksX0_oldIn_0 8 rfl rfl)
theorem dX0_oldIn_9 : decode cX0_oldIn 9 = .ok (.aload_n 0, 1) := dk_42 (dk_at dksX0_oldIn_0 9 rfl rfl)
theorem dX0_oldIn_10 : decode cX0_oldIn 10 = .ok (.getfield 29, 3) := dk_180 0 29 (dk_at dksX0_oldIn_0 10 rfl rfl)
theorem dX0_oldIn_13 : decode cX0_oldIn 13 = .ok (.aload_n 0, 1) := dk_42 (dk_at dksX0_oldIn_0 13 rfl rfl)
theorem dX0_oldIn_14 : decode cX0_oldIn 14 = .ok (.getfield 20, 3) := dk_180 0 20 (dk_at dksX0_oldIn_0 14 rfl rfl)
theorem dX0_oldIn_17 : decode cX0_oldIn 17 = .ok (.invokevirtual 120, 3) := dk_182 0 120 (dk_at dksX0_oldIn_0 17 rfl rfl)
theorem dX0_oldIn_20 : decode cX0_oldIn 20 = .ok (.iconst 0, 1) := dk_3 (dk_at dksX0_oldIn_0 20 rfl rfl)
theorem dX0_oldIn_21 : decode cX0_oldIn 21 = .ok (.istore_n 2, 1) := dk_61 (dk_at dksX0_oldIn_0 21 rfl rfl)
theorem dX0_oldIn_22 : decode cX0_oldIn 22 = .ok (.aload_n 0, 1) := dk_42 (dk_at dksX0_oldIn_0 22 rfl rfl)
theorem dX0_oldIn_23 : decode cX0_oldIn 23 = .ok (.getfield 29, 3) := dk_180 0 29 (dk_at dksX0_oldIn_1 0 rfl rfl)
theorem dX0_oldIn_26 : decode cX0_oldIn 26 = .ok (.getfield 154, 3) := dk_180 0 154 (dk_at dksX0_oldIn_1 3 rfl rfl)
theorem dX0_oldIn_29 : decode cX0_oldIn 29 = .ok (.iload_n 1, 1) := dk_27 (dk_at dksX0_oldIn_1 6 rfl rfl)
theorem dX0_oldIn_30 : decode cX0_oldIn 30 = .ok (.iaload, 1) := dk_46 (dk_at dksX0_oldIn_1 7 rfl rfl)
theorem dX0_oldIn_31 : decode cX0_oldIn 31 = .ok (.iconst 5, 1) := dk_8 (dk_at dksX0_oldIn_1 8 rfl rfl)
theorem dX0_oldIn_32 : decode cX0_oldIn 32 = .ok (.if_icmp .gt 23, 3) := dk_163 0 23 (dk_at dksX0_oldIn_1 9 rfl rfl)
theorem dX0_oldIn_35 : decode cX0_oldIn 35 = .ok (.iload_n 2, 1) := dk_28 (dk_at dksX0_oldIn_1 12 rfl rfl)
theorem dX0_oldIn_36 : decode cX0_oldIn 36 = .ok (.bipush 40, 2) := dk_16 40 (dk_at dksX0_oldIn_1 13 rfl rfl)
theorem dX0_oldIn_38 : decode cX0_oldIn 38 = .ok (.if_icmp .ge 17, 3) := dk_162 0 17 (dk_at dksX0_oldIn_1 15 rfl rfl)
theorem dX0_oldIn_41 : decode cX0_oldIn 41 = .ok (.aload_n 0, 1) := dk_42 (dk_at dksX0_oldIn_1 18 rfl rfl)
theorem dX0_oldIn_42 : decode cX0_oldIn 42 = .ok (.getfield 29, 3) := dk_180 0 29 (dk_at dksX0_oldIn_1 19 rfl rfl)
theorem dX0_oldIn_45 : decode cX0_oldIn 45 = .ok (.invokevirtual 317, 3) := dk_182 1 61 (dk_at dksX0_oldIn_2 0 rfl rfl)
theorem dX0_oldIn_48 : decode cX0_oldIn 48 = .ok (.istore_n 3, 1) := dk_62 (dk_at dksX0_oldIn_2 3 rfl rfl)
theorem dX0_oldIn_49 : decode cX0_oldIn 49 = .ok (.iinc 2 1, 3) := dk_132 2 1 (dk_at dksX0_oldIn_2 4 rfl rfl)
theorem dX0_oldIn_52 : decode cX0_oldIn 52 = .ok (.goto (-30), 3) := dk_167 255 226 (dk_at dksX0_oldIn_2 7 rfl rfl)
theorem dX0_oldIn_55 : decode cX0_oldIn 55 = .ok (.aload_n 0, 1) := dk_42 (dk_at dksX0_oldIn_2 10 rfl rfl)
theorem dX0_oldIn_56 : decode cX0_oldIn 56 = .ok (.getfield 29, 3) := dk_180 0 29 (dk_at dksX0_oldIn_2 11 rfl rfl)
theorem dX0_oldIn_59 : decode cX0_oldIn 59 = .ok (.getfield 154, 3) := dk_180 0 154 (dk_at dksX0_oldIn_2 14 rfl rfl)
theorem dX0_oldIn_62 : decode cX0_oldIn 62 = .ok (.iload_n 1, 1) := dk_27 (dk_at dksX0_oldIn_2 17 rfl rfl)
theorem dX0_oldIn_63 : decode cX0_oldIn 63 = .ok (.iaload, 1) := dk_46 (dk_at dksX0_oldIn_2 18 rfl rfl)
theorem dX0_oldIn_64 : decode cX0_oldIn 64 = .ok (.iconst 5, 1) := dk_8 (dk_at dksX0_oldIn_2 19 rfl rfl)
theorem dX0_oldIn_65 : decode cX0_oldIn 65 = .ok (.if_icmp .gt 8, 3) := dk_163 0 8 (dk_at dksX0_oldIn_2 20 rfl rfl)
theorem dX0_oldIn_68 : decode cX0_oldIn 68 = .ok (.bipush (-4), 2) := dk_16 252 (dk_at dksX0_oldIn_3 0 rfl rfl)
theorem dX0_oldIn_70 : decode cX0_oldIn 70 = .ok (.goto 4, 3) := dk_167 0 4 (dk_at dksX0_oldIn_3 2 rfl rfl)
theorem dX0_oldIn_73 : decode cX0_oldIn 73 = .ok (.iload_n 2, 1) := dk_28 (dk_at dksX0_oldIn_3 5 rfl rfl)
theorem dX0_oldIn_74 : decode cX0_oldIn 74 = .ok (.ireturn, 1) := dk_172 (dk_at dksX0_oldIn_3 6 rfl rfl)
abbrev cX0_mossIn : ByteArray := prog_1_method_73_code
def yX0_mossIn : MethodName := ⟨RX0, "mossIn", "(II)I"⟩
def dkwX0_mossIn_2 : List UInt8 := [54, 4, 132, 3, 1, 167, 255, 239, 42, 180, 0, 29, 180, 0, 154, 27, 46, 172]
abbrev dktX0_mossIn_2 : List UInt8 := dkwX0_mossIn_2 ++ []
def dkwX0_mossIn_1 : List UInt8 := [180, 0, 29, 42, 180, 0, 20, 182, 0, 120, 3, 62, 29, 28, 162, 0, 18, 42, 180, 0, 29, 182, 1, 61]
abbrev dktX0_mossIn_1 : List UInt8 := dkwX0_mossIn_1 ++ dktX0_mossIn_2
def dkwX0_mossIn_0 : List UInt8 := [27, 184, 0, 163, 154, 0, 5, 2, 172, 28, 3, 16, 40, 184, 0, 140, 154, 0, 6, 16, 254, 172, 42]
abbrev dktX0_mossIn_0 : List UInt8 := dkwX0_mossIn_0 ++ dktX0_mossIn_1
theorem dksX0_mossIn_0 : cX0_mossIn.data.toList.drop 0 = dktX0_mossIn_0 := by decide +kernel
theorem dksX0_mossIn_1 : cX0_mossIn.data.toList.drop 23 = dktX0_mossIn_1 := dk_seg dksX0_mossIn_0 23 rfl rfl
theorem dksX0_mossIn_2 : cX0_mossIn.data.toList.drop 47 = dktX0_mossIn_2 := dk_seg dksX0_mossIn_1 24 rfl rfl
theorem dX0_mossIn_0 : decode cX0_mossIn 0 = .ok (.iload_n 1, 1) := dk_27 (dk_at dksX0_mossIn_0 0 rfl rfl)
theorem dX0_mossIn_1 : decode cX0_mossIn 1 = .ok (.invokestatic 163, 3) := dk_184 0 163 (dk_at dksX0_mossIn_0 1 rfl rfl)
theorem dX0_mossIn_4 : decode cX0_mossIn 4 = .ok (.ifCond .ne 5, 3) := dk_154 0 5 (dk_at dksX0_mossIn_0 4 rfl rfl)
theorem dX0_mossIn_7 : decode cX0_mossIn 7 = .ok (.iconst (-1), 1) := dk_2 (dk_at dksX0_mossIn_0 7 rfl rfl)
theorem dX0_mossIn_8 : decode cX0_mossIn 8 = .ok (.ireturn, 1) := dk_172 (dk_at dksX0_mossIn_0 8 rfl rfl)
theorem dX0_mossIn_9 : decode cX0_mossIn 9 = .ok (.iload_n 2, 1) := dk_28 (dk_at dksX0_mossIn_0 9 rfl rfl)
theorem dX0_mossIn_10 : decode cX0_mossIn 10 = .ok (.iconst 0, 1) := dk_3 (dk_at dksX0_mossIn_0 10 rfl rfl)
theorem dX0_mossIn_11 : decode cX0_mossIn 11 = .ok (.bipush 40, 2) := dk_16 40 (dk_at dksX0_mossIn_0 11 rfl rfl)
theorem dX0_mossIn_13 : decode cX0_mossIn 13 = .ok (.invokestatic 140, 3) := dk_184 0 140 (dk_at dksX0_mossIn_0 13 rfl rfl)
theorem dX0_mossIn_16 : decode cX0_mossIn 16 = .ok (.ifCond .ne 6, 3) := dk_154 0 6 (dk_at dksX0_mossIn_0 16 rfl rfl)
theorem dX0_mossIn_19 : decode cX0_mossIn 19 = .ok (.bipush (-2), 2) := dk_16 254 (dk_at dksX0_mossIn_0 19 rfl rfl)
theorem dX0_mossIn_21 : decode cX0_mossIn 21 = .ok (.ireturn, 1) := dk_172 (dk_at dksX0_mossIn_0 21 rfl rfl)
theorem dX0_mossIn_22 : decode cX0_mossIn 22 = .ok (.aload_n 0, 1) := dk_42 (dk_at dksX0_mossIn_0 22 rfl rfl)
theorem dX0_mossIn_23 : decode cX0_mossIn 23 = .ok (.getfield 29, 3) := dk_180 0 29 (dk_at dksX0_mossIn_1 0 rfl rfl)
theorem dX0_mossIn_26 : decode cX0_mossIn 26 = .ok (.aload_n 0, 1) := dk_42 (dk_at dksX0_mossIn_1 3 rfl rfl)
theorem dX0_mossIn_27 : decode cX0_mossIn 27 = .ok (.getfield 20, 3) := dk_180 0 20 (dk_at dksX0_mossIn_1 4 rfl rfl)
theorem dX0_mossIn_30 : decode cX0_mossIn 30 = .ok (.invokevirtual 120, 3) := dk_182 0 120 (dk_at dksX0_mossIn_1 7 rfl rfl)
theorem dX0_mossIn_33 : decode cX0_mossIn 33 = .ok (.iconst 0, 1) := dk_3 (dk_at dksX0_mossIn_1 10 rfl rfl)
theorem dX0_mossIn_34 : decode cX0_mossIn 34 = .ok (.istore_n 3, 1) := dk_62 (dk_at dksX0_mossIn_1 11 rfl rfl)
theorem dX0_mossIn_35 : decode cX0_mossIn 35 = .ok (.iload_n 3, 1) := dk_29 (dk_at dksX0_mossIn_1 12 rfl rfl)
theorem dX0_mossIn_36 : decode cX0_mossIn 36 = .ok (.iload_n 2, 1) := dk_28 (dk_at dksX0_mossIn_1 13 rfl rfl)
theorem dX0_mossIn_37 : decode cX0_mossIn 37 = .ok (.if_icmp .ge 18, 3) := dk_162 0 18 (dk_at dksX0_mossIn_1 14 rfl rfl)
theorem dX0_mossIn_40 : decode cX0_mossIn 40 = .ok (.aload_n 0, 1) := dk_42 (dk_at dksX0_mossIn_1 17 rfl rfl)
theorem dX0_mossIn_41 : decode cX0_mossIn 41 = .ok (.getfield 29, 3) := dk_180 0 29 (dk_at dksX0_mossIn_1 18 rfl rfl)
theorem dX0_mossIn_44 : decode cX0_mossIn 44 = .ok (.invokevirtual 317, 3) := dk_182 1 61 (dk_at dksX0_mossIn_1 21 rfl rfl)
theorem dX0_mossIn_47 : decode cX0_mossIn 47 = .ok (.istore 4, 2) := dk_54 4 (dk_at dksX0_mossIn_2 0 rfl rfl)
theorem dX0_mossIn_49 : decode cX0_mossIn 49 = .ok (.iinc 3 1, 3) := dk_132 3 1 (dk_at dksX0_mossIn_2 2 rfl rfl)
theorem dX0_mossIn_52 : decode cX0_mossIn 52 = .ok (.goto (-17), 3) := dk_167 255 239 (dk_at dksX0_mossIn_2 5 rfl rfl)
theorem dX0_mossIn_55 : decode cX0_mossIn 55 = .ok (.aload_n 0, 1) := dk_42 (dk_at dksX0_mossIn_2 8 rfl rfl)
theorem dX0_mossIn_56 : decode cX0_mossIn 56 = .ok (.getfield 29, 3) := dk_180 0 29 (dk_at dksX0_mossIn_2 9 rfl rfl)
theorem dX0_mossIn_59 : decode cX0_mossIn 59 = .ok (.getfield 154, 3) := dk_180 0 154 (dk_at dksX0_mossIn_2 12 rfl rfl)
theorem dX0_mossIn_62 : decode cX0_mossIn 62 = .ok (.iload_n 1, 1) := dk_27 (dk_at dksX0_mossIn_2 15 rfl rfl)
theorem dX0_mossIn_63 : decode cX0_mossIn 63 = .ok (.iaload, 1) := dk_46 (dk_at dksX0_mossIn_2 16 rfl rfl)
theorem dX0_mossIn_64 : decode cX0_mossIn 64 = .ok (.ireturn, 1) := dk_172 (dk_at dksX0_mossIn_2 17 rfl rfl)
abbrev cX0_worst : ByteArray := prog_1_method_74_code
def yX0_worst : MethodName := ⟨RX0, "worst", "()I"⟩
def dkwX0_worst_2 : List UInt8 := [132, 2, 1, 167, 255, 212, 27, 172]
abbrev dktX0_worst_2 : List UInt8 := dkwX0_worst_2 ++ []
def dkwX0_worst_1 : List UInt8 := [3, 167, 0, 12, 42, 180, 0, 20, 180, 0, 215, 27, 46, 164, 0, 7, 28, 167, 0, 4, 27, 60]
abbrev dktX0_worst_1 : List UInt8 := dkwX0_worst_1 ++ dktX0_worst_2
def dkwX0_worst_0 : List UInt8 := [16, 252, 60, 3, 61, 28, 16, 30, 162, 0, 44, 42, 180, 0, 20, 180, 0, 215, 28, 46, 27, 156, 0, 7]
abbrev dktX0_worst_0 : List UInt8 := dkwX0_worst_0 ++ dktX0_worst_1
theorem dksX0_worst_0 : cX0_worst.data.toList.drop 0 = dktX0_worst_0 := by decide +kernel
theorem dksX0_worst_1 : cX0_worst.data.toList.drop 24 = dktX0_worst_1 := dk_seg dksX0_worst_0 24 rfl rfl
theorem dksX0_worst_2 : cX0_worst.data.toList.drop 46 = dktX0_worst_2 := dk_seg dksX0_worst_1 22 rfl rfl
theorem dX0_worst_0 : decode cX0_worst 0 = .ok (.bipush (-4), 2) := dk_16 252 (dk_at dksX0_worst_0 0 rfl rfl)
theorem dX0_worst_2 : decode cX0_worst 2 = .ok (.istore_n 1, 1) := dk_60 (dk_at dksX0_worst_0 2 rfl rfl)
theorem dX0_worst_3 : decode cX0_worst 3 = .ok (.iconst 0, 1) := dk_3 (dk_at dksX0_worst_0 3 rfl rfl)
theorem dX0_worst_4 : decode cX0_worst 4 = .ok (.istore_n 2, 1) := dk_61 (dk_at dksX0_worst_0 4 rfl rfl)
theorem dX0_worst_5 : decode cX0_worst 5 = .ok (.iload_n 2, 1) := dk_28 (dk_at dksX0_worst_0 5 rfl rfl)
theorem dX0_worst_6 : decode cX0_worst 6 = .ok (.bipush 30, 2) := dk_16 30 (dk_at dksX0_worst_0 6 rfl rfl)
theorem dX0_worst_8 : decode cX0_worst 8 = .ok (.if_icmp .ge 44, 3) := dk_162 0 44 (dk_at dksX0_worst_0 8 rfl rfl)
theorem dX0_worst_11 : decode cX0_worst 11 = .ok (.aload_n 0, 1) := dk_42 (dk_at dksX0_worst_0 11 rfl rfl)
theorem dX0_worst_12 : decode cX0_worst 12 = .ok (.getfield 20, 3) := dk_180 0 20 (dk_at dksX0_worst_0 12 rfl rfl)
theorem dX0_worst_15 : decode cX0_worst 15 = .ok (.getfield 215, 3) := dk_180 0 215 (dk_at dksX0_worst_0 15 rfl rfl)
theorem dX0_worst_18 : decode cX0_worst 18 = .ok (.iload_n 2, 1) := dk_28 (dk_at dksX0_worst_0 18 rfl rfl)
theorem dX0_worst_19 : decode cX0_worst 19 = .ok (.iaload, 1) := dk_46 (dk_at dksX0_worst_0 19 rfl rfl)
theorem dX0_worst_20 : decode cX0_worst 20 = .ok (.iload_n 1, 1) := dk_27 (dk_at dksX0_worst_0 20 rfl rfl)
theorem dX0_worst_21 : decode cX0_worst 21 = .ok (.ifCond .ge 7, 3) := dk_156 0 7 (dk_at dksX0_worst_0 21 rfl rfl)
theorem dX0_worst_24 : decode cX0_worst 24 = .ok (.iconst 0, 1) := dk_3 (dk_at dksX0_worst_1 0 rfl rfl)
theorem dX0_worst_25 : decode cX0_worst 25 = .ok (.goto 12, 3) := dk_167 0 12 (dk_at dksX0_worst_1 1 rfl rfl)
theorem dX0_worst_28 : decode cX0_worst 28 = .ok (.aload_n 0, 1) := dk_42 (dk_at dksX0_worst_1 4 rfl rfl)
theorem dX0_worst_29 : decode cX0_worst 29 = .ok (.getfield 20, 3) := dk_180 0 20 (dk_at dksX0_worst_1 5 rfl rfl)
theorem dX0_worst_32 : decode cX0_worst 32 = .ok (.getfield 215, 3) := dk_180 0 215 (dk_at dksX0_worst_1 8 rfl rfl)
theorem dX0_worst_35 : decode cX0_worst 35 = .ok (.iload_n 1, 1) := dk_27 (dk_at dksX0_worst_1 11 rfl rfl)
theorem dX0_worst_36 : decode cX0_worst 36 = .ok (.iaload, 1) := dk_46 (dk_at dksX0_worst_1 12 rfl rfl)
theorem dX0_worst_37 : decode cX0_worst 37 = .ok (.if_icmp .le 7, 3) := dk_164 0 7 (dk_at dksX0_worst_1 13 rfl rfl)
theorem dX0_worst_40 : decode cX0_worst 40 = .ok (.iload_n 2, 1) := dk_28 (dk_at dksX0_worst_1 16 rfl rfl)
theorem dX0_worst_41 : decode cX0_worst 41 = .ok (.goto 4, 3) := dk_167 0 4 (dk_at dksX0_worst_1 17 rfl rfl)
theorem dX0_worst_44 : decode cX0_worst 44 = .ok (.iload_n 1, 1) := dk_27 (dk_at dksX0_worst_1 20 rfl rfl)
theorem dX0_worst_45 : decode cX0_worst 45 = .ok (.istore_n 1, 1) := dk_60 (dk_at dksX0_worst_1 21 rfl rfl)
theorem dX0_worst_46 : decode cX0_worst 46 = .ok (.iinc 2 1, 3) := dk_132 2 1 (dk_at dksX0_worst_2 0 rfl rfl)
theorem dX0_worst_49 : decode cX0_worst 49 = .ok (.goto (-44), 3) := dk_167 255 212 (dk_at dksX0_worst_2 3 rfl rfl)
theorem dX0_worst_52 : decode cX0_worst 52 = .ok (.iload_n 1, 1) := dk_27 (dk_at dksX0_worst_2 6 rfl rfl)
theorem dX0_worst_53 : decode cX0_worst 53 = .ok (.ireturn, 1) := dk_172 (dk_at dksX0_worst_2 7 rfl rfl)
abbrev cX0_moss : ByteArray := prog_1_method_75_code
def yX0_moss : MethodName := ⟨RX0, "moss", "(Z)I"⟩
def dkwX0_moss_2 : List UInt8 := [132, 3, 1, 167, 255, 235, 28, 172]
abbrev dktX0_moss_2 : List UInt8 := dkwX0_moss_2 ++ []
def dkwX0_moss_1 : List UInt8 := [3, 61, 3, 62, 29, 16, 30, 162, 0, 21, 28, 42, 180, 0, 20, 180, 0, 154, 29, 46, 96, 61]
abbrev dktX0_moss_1 : List UInt8 := dkwX0_moss_1 ++ dktX0_moss_2
def dkwX0_moss_0 : List UInt8 := [27, 153, 0, 23, 17, 1, 44, 42, 180, 0, 20, 180, 2, 28, 96, 42, 180, 0, 20, 180, 2, 31, 100, 172]
abbrev dktX0_moss_0 : List UInt8 := dkwX0_moss_0 ++ dktX0_moss_1
theorem dksX0_moss_0 : cX0_moss.data.toList.drop 0 = dktX0_moss_0 := by decide +kernel
theorem dksX0_moss_1 : cX0_moss.data.toList.drop 24 = dktX0_moss_1 := dk_seg dksX0_moss_0 24 rfl rfl
theorem dksX0_moss_2 : cX0_moss.data.toList.drop 46 = dktX0_moss_2 := dk_seg dksX0_moss_1 22 rfl rfl
theorem dX0_moss_0 : decode cX0_moss 0 = .ok (.iload_n 1, 1) := dk_27 (dk_at dksX0_moss_0 0 rfl rfl)
theorem dX0_moss_1 : decode cX0_moss 1 = .ok (.ifCond .eq 23, 3) := dk_153 0 23 (dk_at dksX0_moss_0 1 rfl rfl)
theorem dX0_moss_4 : decode cX0_moss 4 = .ok (.sipush 300, 3) := dk_17 1 44 (dk_at dksX0_moss_0 4 rfl rfl)
theorem dX0_moss_7 : decode cX0_moss 7 = .ok (.aload_n 0, 1) := dk_42 (dk_at dksX0_moss_0 7 rfl rfl)
theorem dX0_moss_8 : decode cX0_moss 8 = .ok (.getfield 20, 3) := dk_180 0 20 (dk_at dksX0_moss_0 8 rfl rfl)
theorem dX0_moss_11 : decode cX0_moss 11 = .ok (.getfield 540, 3) := dk_180 2 28 (dk_at dksX0_moss_0 11 rfl rfl)
theorem dX0_moss_14 : decode cX0_moss 14 = .ok (.iadd, 1) := dk_96 (dk_at dksX0_moss_0 14 rfl rfl)
theorem dX0_moss_15 : decode cX0_moss 15 = .ok (.aload_n 0, 1) := dk_42 (dk_at dksX0_moss_0 15 rfl rfl)
theorem dX0_moss_16 : decode cX0_moss 16 = .ok (.getfield 20, 3) := dk_180 0 20 (dk_at dksX0_moss_0 16 rfl rfl)
theorem dX0_moss_19 : decode cX0_moss 19 = .ok (.getfield 543, 3) := dk_180 2 31 (dk_at dksX0_moss_0 19 rfl rfl)
theorem dX0_moss_22 : decode cX0_moss 22 = .ok (.isub, 1) := dk_100 (dk_at dksX0_moss_0 22 rfl rfl)
theorem dX0_moss_23 : decode cX0_moss 23 = .ok (.ireturn, 1) := dk_172 (dk_at dksX0_moss_0 23 rfl rfl)
theorem dX0_moss_24 : decode cX0_moss 24 = .ok (.iconst 0, 1) := dk_3 (dk_at dksX0_moss_1 0 rfl rfl)
theorem dX0_moss_25 : decode cX0_moss 25 = .ok (.istore_n 2, 1) := dk_61 (dk_at dksX0_moss_1 1 rfl rfl)
theorem dX0_moss_26 : decode cX0_moss 26 = .ok (.iconst 0, 1) := dk_3 (dk_at dksX0_moss_1 2 rfl rfl)
theorem dX0_moss_27 : decode cX0_moss 27 = .ok (.istore_n 3, 1) := dk_62 (dk_at dksX0_moss_1 3 rfl rfl)
theorem dX0_moss_28 : decode cX0_moss 28 = .ok (.iload_n 3, 1) := dk_29 (dk_at dksX0_moss_1 4 rfl rfl)
theorem dX0_moss_29 : decode cX0_moss 29 = .ok (.bipush 30, 2) := dk_16 30 (dk_at dksX0_moss_1 5 rfl rfl)
theorem dX0_moss_31 : decode cX0_moss 31 = .ok (.if_icmp .ge 21, 3) := dk_162 0 21 (dk_at dksX0_moss_1 7 rfl rfl)
theorem dX0_moss_34 : decode cX0_moss 34 = .ok (.iload_n 2, 1) := dk_28 (dk_at dksX0_moss_1 10 rfl rfl)
theorem dX0_moss_35 : decode cX0_moss 35 = .ok (.aload_n 0, 1) := dk_42 (dk_at dksX0_moss_1 11 rfl rfl)
theorem dX0_moss_36 : decode cX0_moss 36 = .ok (.getfield 20, 3) := dk_180 0 20 (dk_at dksX0_moss_1 12 rfl rfl)
theorem dX0_moss_39 : decode cX0_moss 39 = .ok (.getfield 154, 3) := dk_180 0 154 (dk_at dksX0_moss_1 15 rfl rfl)
theorem dX0_moss_42 : decode cX0_moss 42 = .ok (.iload_n 3, 1) := dk_29 (dk_at dksX0_moss_1 18 rfl rfl)
theorem dX0_moss_43 : decode cX0_moss 43 = .ok (.iaload, 1) := dk_46 (dk_at dksX0_moss_1 19 rfl rfl)
theorem dX0_moss_44 : decode cX0_moss 44 = .ok (.iadd, 1) := dk_96 (dk_at dksX0_moss_1 20 rfl rfl)
theorem dX0_moss_45 : decode cX0_moss 45 = .ok (.istore_n 2, 1) := dk_61 (dk_at dksX0_moss_1 21 rfl rfl)
theorem dX0_moss_46 : decode cX0_moss 46 = .ok (.iinc 3 1, 3) := dk_132 3 1 (dk_at dksX0_moss_2 0 rfl rfl)
theorem dX0_moss_49 : decode cX0_moss 49 = .ok (.goto (-21), 3) := dk_167 255 235 (dk_at dksX0_moss_2 3 rfl rfl)
theorem dX0_moss_52 : decode cX0_moss 52 = .ok (.iload_n 2, 1) := dk_28 (dk_at dksX0_moss_2 6 rfl rfl)
theorem dX0_moss_53 : decode cX0_moss 53 = .ok (.ireturn, 1) := dk_172 (dk_at dksX0_moss_2 7 rfl rfl)
abbrev cX0_describe : ByteArray := prog_1_method_76_code
def yX0_describe : MethodName := ⟨RX0, "describe", "(I)I"⟩
def dkwX0_describe_3 : List UInt8 := [132, 2, 1, 167, 255, 204, 42, 180, 0, 100, 182, 1, 159, 172]
abbrev dktX0_describe_3 : List UInt8 := dkwX0_describe_3 ++ []
def dkwX0_describe_2 : List UInt8 := [182, 1, 162, 87, 42, 29, 182, 0, 203, 153, 0, 13, 42, 180, 0, 100, 16, 42, 182, 1, 162, 87]
abbrev dktX0_describe_2 : List UInt8 := dkwX0_describe_2 ++ dktX0_describe_3
def dkwX0_describe_1 : List UInt8 := [162, 0, 52, 16, 6, 27, 104, 28, 96, 62, 42, 180, 0, 100, 42, 29, 182, 0, 234, 185, 2, 34, 1, 0]
abbrev dktX0_describe_1 : List UInt8 := dkwX0_describe_1 ++ dktX0_describe_2
def dkwX0_describe_0 : List UInt8 := [27, 3, 7, 184, 0, 140, 154, 0, 5, 2, 172, 42, 180, 0, 100, 3, 182, 1, 233, 3, 61, 28, 16, 6]
abbrev dktX0_describe_0 : List UInt8 := dkwX0_describe_0 ++ dktX0_describe_1
theorem dksX0_describe_0 : cX0_describe.data.toList.drop 0 = dktX0_describe_0 := by decide +kernel
theorem dksX0_describe_1 : cX0_describe.data.toList.drop 24 = dktX0_describe_1 := dk_seg dksX0_describe_0 24 rfl rfl
theorem dksX0_describe_2 : cX0_describe.data.toList.drop 48 = dktX0_describe_2 := dk_seg dksX0_describe_1 24 rfl rfl
theorem dksX0_describe_3 : cX0_describe.data.toList.drop 70 = dktX0_describe_3 := dk_seg dksX0_describe_2 22 rfl rfl
theorem dX0_describe_0 : decode cX0_describe 0 = .ok (.iload_n 1, 1) := dk_27 (dk_at dksX0_describe_0 0 rfl rfl)
theorem dX0_describe_1 : decode cX0_describe 1 = .ok (.iconst 0, 1) := dk_3 (dk_at dksX0_describe_0 1 rfl rfl)
theorem dX0_describe_2 : decode cX0_describe 2 = .ok (.iconst 4, 1) := dk_7 (dk_at dksX0_describe_0 2 rfl rfl)
theorem dX0_describe_3 : decode cX0_describe 3 = .ok (.invokestatic 140, 3) := dk_184 0 140 (dk_at dksX0_describe_0 3 rfl rfl)
theorem dX0_describe_6 : decode cX0_describe 6 = .ok (.ifCond .ne 5, 3) := dk_154 0 5 (dk_at dksX0_describe_0 6 rfl rfl)
theorem dX0_describe_9 : decode cX0_describe 9 = .ok (.iconst (-1), 1) := dk_2 (dk_at dksX0_describe_0 9 rfl rfl)
theorem dX0_describe_10 : decode cX0_describe 10 = .ok (.ireturn, 1) := dk_172 (dk_at dksX0_describe_0 10 rfl rfl)
theorem dX0_describe_11 : decode cX0_describe 11 = .ok (.aload_n 0, 1) := dk_42 (dk_at dksX0_describe_0 11 rfl rfl)
theorem dX0_describe_12 : decode cX0_describe 12 = .ok (.getfield 100, 3) := dk_180 0 100 (dk_at dksX0_describe_0 12 rfl rfl)
theorem dX0_describe_15 : decode cX0_describe 15 = .ok (.iconst 0, 1) := dk_3 (dk_at dksX0_describe_0 15 rfl rfl)
theorem dX0_describe_16 : decode cX0_describe 16 = .ok (.invokevirtual 489, 3) := dk_182 1 233 (dk_at dksX0_describe_0 16 rfl rfl)
theorem dX0_describe_19 : decode cX0_describe 19 = .ok (.iconst 0, 1) := dk_3 (dk_at dksX0_describe_0 19 rfl rfl)
theorem dX0_describe_20 : decode cX0_describe 20 = .ok (.istore_n 2, 1) := dk_61 (dk_at dksX0_describe_0 20 rfl rfl)
theorem dX0_describe_21 : decode cX0_describe 21 = .ok (.iload_n 2, 1) := dk_28 (dk_at dksX0_describe_0 21 rfl rfl)
theorem dX0_describe_22 : decode cX0_describe 22 = .ok (.bipush 6, 2) := dk_16 6 (dk_at dksX0_describe_0 22 rfl rfl)
theorem dX0_describe_24 : decode cX0_describe 24 = .ok (.if_icmp .ge 52, 3) := dk_162 0 52 (dk_at dksX0_describe_1 0 rfl rfl)
theorem dX0_describe_27 : decode cX0_describe 27 = .ok (.bipush 6, 2) := dk_16 6 (dk_at dksX0_describe_1 3 rfl rfl)
theorem dX0_describe_29 : decode cX0_describe 29 = .ok (.iload_n 1, 1) := dk_27 (dk_at dksX0_describe_1 5 rfl rfl)
theorem dX0_describe_30 : decode cX0_describe 30 = .ok (.imul, 1) := dk_104 (dk_at dksX0_describe_1 6 rfl rfl)
theorem dX0_describe_31 : decode cX0_describe 31 = .ok (.iload_n 2, 1) := dk_28 (dk_at dksX0_describe_1 7 rfl rfl)
theorem dX0_describe_32 : decode cX0_describe 32 = .ok (.iadd, 1) := dk_96 (dk_at dksX0_describe_1 8 rfl rfl)
theorem dX0_describe_33 : decode cX0_describe 33 = .ok (.istore_n 3, 1) := dk_62 (dk_at dksX0_describe_1 9 rfl rfl)
theorem dX0_describe_34 : decode cX0_describe 34 = .ok (.aload_n 0, 1) := dk_42 (dk_at dksX0_describe_1 10 rfl rfl)
theorem dX0_describe_35 : decode cX0_describe 35 = .ok (.getfield 100, 3) := dk_180 0 100 (dk_at dksX0_describe_1 11 rfl rfl)
theorem dX0_describe_38 : decode cX0_describe 38 = .ok (.aload_n 0, 1) := dk_42 (dk_at dksX0_describe_1 14 rfl rfl)
theorem dX0_describe_39 : decode cX0_describe 39 = .ok (.iload_n 3, 1) := dk_29 (dk_at dksX0_describe_1 15 rfl rfl)
theorem dX0_describe_40 : decode cX0_describe 40 = .ok (.invokevirtual 234, 3) := dk_182 0 234 (dk_at dksX0_describe_1 16 rfl rfl)
theorem dX0_describe_43 : decode cX0_describe 43 = .ok (.invokeinterface 546 1, 5) := by decide +kernel
theorem dX0_describe_48 : decode cX0_describe 48 = .ok (.invokevirtual 418, 3) := dk_182 1 162 (dk_at dksX0_describe_2 0 rfl rfl)
theorem dX0_describe_51 : decode cX0_describe 51 = .ok (.pop, 1) := dk_87 (dk_at dksX0_describe_2 3 rfl rfl)
theorem dX0_describe_52 : decode cX0_describe 52 = .ok (.aload_n 0, 1) := dk_42 (dk_at dksX0_describe_2 4 rfl rfl)
theorem dX0_describe_53 : decode cX0_describe 53 = .ok (.iload_n 3, 1) := dk_29 (dk_at dksX0_describe_2 5 rfl rfl)
theorem dX0_describe_54 : decode cX0_describe 54 = .ok (.invokevirtual 203, 3) := dk_182 0 203 (dk_at dksX0_describe_2 6 rfl rfl)
theorem dX0_describe_57 : decode cX0_describe 57 = .ok (.ifCond .eq 13, 3) := dk_153 0 13 (dk_at dksX0_describe_2 9 rfl rfl)
theorem dX0_describe_60 : decode cX0_describe 60 = .ok (.aload_n 0, 1) := dk_42 (dk_at dksX0_describe_2 12 rfl rfl)
theorem dX0_describe_61 : decode cX0_describe 61 = .ok (.getfield 100, 3) := dk_180 0 100 (dk_at dksX0_describe_2 13 rfl rfl)
theorem dX0_describe_64 : decode cX0_describe 64 = .ok (.bipush 42, 2) := dk_16 42 (dk_at dksX0_describe_2 16 rfl rfl)
theorem dX0_describe_66 : decode cX0_describe 66 = .ok (.invokevirtual 418, 3) := dk_182 1 162 (dk_at dksX0_describe_2 18 rfl rfl)
theorem dX0_describe_69 : decode cX0_describe 69 = .ok (.pop, 1) := dk_87 (dk_at dksX0_describe_2 21 rfl rfl)
theorem dX0_describe_70 : decode cX0_describe 70 = .ok (.iinc 2 1, 3) := dk_132 2 1 (dk_at dksX0_describe_3 0 rfl rfl)
theorem dX0_describe_73 : decode cX0_describe 73 = .ok (.goto (-52), 3) := dk_167 255 204 (dk_at dksX0_describe_3 3 rfl rfl)
theorem dX0_describe_76 : decode cX0_describe 76 = .ok (.aload_n 0, 1) := dk_42 (dk_at dksX0_describe_3 6 rfl rfl)
theorem dX0_describe_77 : decode cX0_describe 77 = .ok (.getfield 100, 3) := dk_180 0 100 (dk_at dksX0_describe_3 7 rfl rfl)
theorem dX0_describe_80 : decode cX0_describe 80 = .ok (.invokevirtual 415, 3) := dk_182 1 159 (dk_at dksX0_describe_3 10 rfl rfl)
theorem dX0_describe_83 : decode cX0_describe 83 = .ok (.ireturn, 1) := dk_172 (dk_at dksX0_describe_3 13 rfl rfl)
abbrev cX0_written : ByteArray := prog_1_method_77_code
def yX0_written : MethodName := ⟨RX0, "written", "(I)I"⟩
def dkwX0_written_1 : List UInt8 := [182, 1, 169, 167, 0, 4, 2, 172]
abbrev dktX0_written_1 : List UInt8 := dkwX0_written_1 ++ []
def dkwX0_written_0 : List UInt8 := [27, 3, 42, 180, 0, 100, 182, 1, 159, 4, 100, 184, 0, 140, 153, 0, 14, 42, 180, 0, 100, 27]
abbrev dktX0_written_0 : List UInt8 := dkwX0_written_0 ++ dktX0_written_1
theorem dksX0_written_0 : cX0_written.data.toList.drop 0 = dktX0_written_0 := by decide +kernel
theorem dksX0_written_1 : cX0_written.data.toList.drop 22 = dktX0_written_1 := dk_seg dksX0_written_0 22 rfl rfl
theorem dX0_written_0 : decode cX0_written 0 = .ok (.iload_n 1, 1) := dk_27 (dk_at dksX0_written_0 0 rfl rfl)
theorem dX0_written_1 : decode cX0_written 1 = .ok (.iconst 0, 1) := dk_3 (dk_at dksX0_written_0 1 rfl rfl)
theorem dX0_written_2 : decode cX0_written 2 = .ok (.aload_n 0, 1) := dk_42 (dk_at dksX0_written_0 2 rfl rfl)
theorem dX0_written_3 : decode cX0_written 3 = .ok (.getfield 100, 3) := dk_180 0 100 (dk_at dksX0_written_0 3 rfl rfl)
theorem dX0_written_6 : decode cX0_written 6 = .ok (.invokevirtual 415, 3) := dk_182 1 159 (dk_at dksX0_written_0 6 rfl rfl)
theorem dX0_written_9 : decode cX0_written 9 = .ok (.iconst 1, 1) := dk_4 (dk_at dksX0_written_0 9 rfl rfl)
theorem dX0_written_10 : decode cX0_written 10 = .ok (.isub, 1) := dk_100 (dk_at dksX0_written_0 10 rfl rfl)
theorem dX0_written_11 : decode cX0_written 11 = .ok (.invokestatic 140, 3) := dk_184 0 140 (dk_at dksX0_written_0 11 rfl rfl)
theorem dX0_written_14 : decode cX0_written 14 = .ok (.ifCond .eq 14, 3) := dk_153 0 14 (dk_at dksX0_written_0 14 rfl rfl)
theorem dX0_written_17 : decode cX0_written 17 = .ok (.aload_n 0, 1) := dk_42 (dk_at dksX0_written_0 17 rfl rfl)
theorem dX0_written_18 : decode cX0_written 18 = .ok (.getfield 100, 3) := dk_180 0 100 (dk_at dksX0_written_0 18 rfl rfl)
theorem dX0_written_21 : decode cX0_written 21 = .ok (.iload_n 1, 1) := dk_27 (dk_at dksX0_written_0 21 rfl rfl)
theorem dX0_written_22 : decode cX0_written 22 = .ok (.invokevirtual 425, 3) := dk_182 1 169 (dk_at dksX0_written_1 0 rfl rfl)
theorem dX0_written_25 : decode cX0_written 25 = .ok (.goto 4, 3) := dk_167 0 4 (dk_at dksX0_written_1 3 rfl rfl)
theorem dX0_written_28 : decode cX0_written 28 = .ok (.iconst (-1), 1) := dk_2 (dk_at dksX0_written_1 6 rfl rfl)
theorem dX0_written_29 : decode cX0_written 29 = .ok (.ireturn, 1) := dk_172 (dk_at dksX0_written_1 7 rfl rfl)
abbrev cX0_meanMoss : ByteArray := prog_1_method_78_code
def yX0_meanMoss : MethodName := ⟨RX0, "meanMoss", "()F"⟩
def dkwX0_meanMoss_1 : List UInt8 := [182, 2, 42, 134, 27, 134, 110, 174]
abbrev dktX0_meanMoss_1 : List UInt8 := dkwX0_meanMoss_1 ++ []
def dkwX0_meanMoss_0 : List UInt8 := [16, 30, 42, 180, 0, 20, 180, 0, 144, 182, 2, 39, 100, 60, 27, 154, 0, 7, 11, 167, 0, 12, 42, 3]
abbrev dktX0_meanMoss_0 : List UInt8 := dkwX0_meanMoss_0 ++ dktX0_meanMoss_1
theorem dksX0_meanMoss_0 : cX0_meanMoss.data.toList.drop 0 = dktX0_meanMoss_0 := by decide +kernel
theorem dksX0_meanMoss_1 : cX0_meanMoss.data.toList.drop 24 = dktX0_meanMoss_1 := dk_seg dksX0_meanMoss_0 24 rfl rfl
theorem dX0_meanMoss_0 : decode cX0_meanMoss 0 = .ok (.bipush 30, 2) := dk_16 30 (dk_at dksX0_meanMoss_0 0 rfl rfl)
theorem dX0_meanMoss_2 : decode cX0_meanMoss 2 = .ok (.aload_n 0, 1) := dk_42 (dk_at dksX0_meanMoss_0 2 rfl rfl)
theorem dX0_meanMoss_3 : decode cX0_meanMoss 3 = .ok (.getfield 20, 3) := dk_180 0 20 (dk_at dksX0_meanMoss_0 3 rfl rfl)
theorem dX0_meanMoss_6 : decode cX0_meanMoss 6 = .ok (.getfield 144, 3) := dk_180 0 144 (dk_at dksX0_meanMoss_0 6 rfl rfl)
theorem dX0_meanMoss_9 : decode cX0_meanMoss 9 = .ok (.invokevirtual 551, 3) := dk_182 2 39 (dk_at dksX0_meanMoss_0 9 rfl rfl)
theorem dX0_meanMoss_12 : decode cX0_meanMoss 12 = .ok (.isub, 1) := dk_100 (dk_at dksX0_meanMoss_0 12 rfl rfl)
theorem dX0_meanMoss_13 : decode cX0_meanMoss 13 = .ok (.istore_n 1, 1) := dk_60 (dk_at dksX0_meanMoss_0 13 rfl rfl)
theorem dX0_meanMoss_14 : decode cX0_meanMoss 14 = .ok (.iload_n 1, 1) := dk_27 (dk_at dksX0_meanMoss_0 14 rfl rfl)
theorem dX0_meanMoss_15 : decode cX0_meanMoss 15 = .ok (.ifCond .ne 7, 3) := dk_154 0 7 (dk_at dksX0_meanMoss_0 15 rfl rfl)
theorem dX0_meanMoss_18 : decode cX0_meanMoss 18 = .ok (.fconst 0, 1) := dk_11 (dk_at dksX0_meanMoss_0 18 rfl rfl)
theorem dX0_meanMoss_19 : decode cX0_meanMoss 19 = .ok (.goto 12, 3) := dk_167 0 12 (dk_at dksX0_meanMoss_0 19 rfl rfl)
theorem dX0_meanMoss_22 : decode cX0_meanMoss 22 = .ok (.aload_n 0, 1) := dk_42 (dk_at dksX0_meanMoss_0 22 rfl rfl)
theorem dX0_meanMoss_23 : decode cX0_meanMoss 23 = .ok (.iconst 0, 1) := dk_3 (dk_at dksX0_meanMoss_0 23 rfl rfl)
theorem dX0_meanMoss_24 : decode cX0_meanMoss 24 = .ok (.invokevirtual 554, 3) := dk_182 2 42 (dk_at dksX0_meanMoss_1 0 rfl rfl)
theorem dX0_meanMoss_27 : decode cX0_meanMoss 27 = .ok (.i2f, 1) := dk_134 (dk_at dksX0_meanMoss_1 3 rfl rfl)
theorem dX0_meanMoss_28 : decode cX0_meanMoss 28 = .ok (.iload_n 1, 1) := dk_27 (dk_at dksX0_meanMoss_1 4 rfl rfl)
theorem dX0_meanMoss_29 : decode cX0_meanMoss 29 = .ok (.i2f, 1) := dk_134 (dk_at dksX0_meanMoss_1 5 rfl rfl)
theorem dX0_meanMoss_30 : decode cX0_meanMoss 30 = .ok (.fdiv, 1) := dk_110 (dk_at dksX0_meanMoss_1 6 rfl rfl)
theorem dX0_meanMoss_31 : decode cX0_meanMoss 31 = .ok (.freturn, 1) := dk_174 (dk_at dksX0_meanMoss_1 7 rfl rfl)
abbrev cX0_oldShare : ByteArray := prog_1_method_79_code
def yX0_oldShare : MethodName := ⟨RX0, "oldShare", "()D"⟩
def dkwX0_oldShare_1 : List UInt8 := [61, 28, 154, 0, 7, 14, 167, 0, 8, 27, 135, 28, 135, 111, 175]
abbrev dktX0_oldShare_1 : List UInt8 := dkwX0_oldShare_1 ++ []
def dkwX0_oldShare_0 : List UInt8 := [16, 30, 42, 186, 2, 45, 0, 0, 184, 0, 187, 184, 2, 46, 60, 27, 42, 182, 2, 49, 184, 2, 46, 96]
abbrev dktX0_oldShare_0 : List UInt8 := dkwX0_oldShare_0 ++ dktX0_oldShare_1
theorem dksX0_oldShare_0 : cX0_oldShare.data.toList.drop 0 = dktX0_oldShare_0 := by decide +kernel
theorem dksX0_oldShare_1 : cX0_oldShare.data.toList.drop 24 = dktX0_oldShare_1 := dk_seg dksX0_oldShare_0 24 rfl rfl
theorem dX0_oldShare_0 : decode cX0_oldShare 0 = .ok (.bipush 30, 2) := dk_16 30 (dk_at dksX0_oldShare_0 0 rfl rfl)
theorem dX0_oldShare_2 : decode cX0_oldShare 2 = .ok (.aload_n 0, 1) := dk_42 (dk_at dksX0_oldShare_0 2 rfl rfl)
theorem dX0_oldShare_3 : decode cX0_oldShare 3 = .ok (.invokedynamic 557, 5) := by decide +kernel
theorem dX0_oldShare_8 : decode cX0_oldShare 8 = .ok (.invokestatic 187, 3) := dk_184 0 187 (dk_at dksX0_oldShare_0 8 rfl rfl)
theorem dX0_oldShare_11 : decode cX0_oldShare 11 = .ok (.invokestatic 558, 3) := dk_184 2 46 (dk_at dksX0_oldShare_0 11 rfl rfl)
theorem dX0_oldShare_14 : decode cX0_oldShare 14 = .ok (.istore_n 1, 1) := dk_60 (dk_at dksX0_oldShare_0 14 rfl rfl)
theorem dX0_oldShare_15 : decode cX0_oldShare 15 = .ok (.iload_n 1, 1) := dk_27 (dk_at dksX0_oldShare_0 15 rfl rfl)
theorem dX0_oldShare_16 : decode cX0_oldShare 16 = .ok (.aload_n 0, 1) := dk_42 (dk_at dksX0_oldShare_0 16 rfl rfl)
theorem dX0_oldShare_17 : decode cX0_oldShare 17 = .ok (.invokevirtual 561, 3) := dk_182 2 49 (dk_at dksX0_oldShare_0 17 rfl rfl)
theorem dX0_oldShare_20 : decode cX0_oldShare 20 = .ok (.invokestatic 558, 3) := dk_184 2 46 (dk_at dksX0_oldShare_0 20 rfl rfl)
theorem dX0_oldShare_23 : decode cX0_oldShare 23 = .ok (.iadd, 1) := dk_96 (dk_at dksX0_oldShare_0 23 rfl rfl)
theorem dX0_oldShare_24 : decode cX0_oldShare 24 = .ok (.istore_n 2, 1) := dk_61 (dk_at dksX0_oldShare_1 0 rfl rfl)
theorem dX0_oldShare_25 : decode cX0_oldShare 25 = .ok (.iload_n 2, 1) := dk_28 (dk_at dksX0_oldShare_1 1 rfl rfl)
theorem dX0_oldShare_26 : decode cX0_oldShare 26 = .ok (.ifCond .ne 7, 3) := dk_154 0 7 (dk_at dksX0_oldShare_1 2 rfl rfl)
theorem dX0_oldShare_29 : decode cX0_oldShare 29 = .ok (.dconst 0, 1) := dk_14 (dk_at dksX0_oldShare_1 5 rfl rfl)
theorem dX0_oldShare_30 : decode cX0_oldShare 30 = .ok (.goto 8, 3) := dk_167 0 8 (dk_at dksX0_oldShare_1 6 rfl rfl)
theorem dX0_oldShare_33 : decode cX0_oldShare 33 = .ok (.iload_n 1, 1) := dk_27 (dk_at dksX0_oldShare_1 9 rfl rfl)
theorem dX0_oldShare_34 : decode cX0_oldShare 34 = .ok (.i2d, 1) := dk_135 (dk_at dksX0_oldShare_1 10 rfl rfl)
theorem dX0_oldShare_35 : decode cX0_oldShare 35 = .ok (.iload_n 2, 1) := dk_28 (dk_at dksX0_oldShare_1 11 rfl rfl)
theorem dX0_oldShare_36 : decode cX0_oldShare 36 = .ok (.i2d, 1) := dk_135 (dk_at dksX0_oldShare_1 12 rfl rfl)
theorem dX0_oldShare_37 : decode cX0_oldShare 37 = .ok (.ddiv, 1) := dk_111 (dk_at dksX0_oldShare_1 13 rfl rfl)
theorem dX0_oldShare_38 : decode cX0_oldShare 38 = .ok (.dreturn, 1) := dk_175 (dk_at dksX0_oldShare_1 14 rfl rfl)
abbrev cX0_lambda_oldShare_11 : ByteArray := prog_1_method_89_code
def yX0_lambda_oldShare_11 : MethodName := ⟨RX0, "lambda$oldShare$11", "(I)Z"⟩
def dkwX0_lambda_oldShare_11_0 : List UInt8 := [42, 27, 182, 0, 234, 193, 0, 58, 172]
abbrev dktX0_lambda_oldShare_11_0 : List UInt8 := dkwX0_lambda_oldShare_11_0 ++ []
theorem dksX0_lambda_oldShare_11_0 : cX0_lambda_oldShare_11.data.toList.drop 0 = dktX0_lambda_oldShare_11_0 := by decide +kernel
theorem dX0_lambda_oldShare_11_0 : decode cX0_lambda_oldShare_11 0 = .ok (.aload_n 0, 1) := dk_42 (dk_at dksX0_lambda_oldShare_11_0 0 rfl rfl)
theorem dX0_lambda_oldShare_11_1 : decode cX0_lambda_oldShare_11 1 = .ok (.iload_n 1, 1) := dk_27 (dk_at dksX0_lambda_oldShare_11_0 1 rfl rfl)
theorem dX0_lambda_oldShare_11_2 : decode cX0_lambda_oldShare_11 2 = .ok (.invokevirtual 234, 3) := dk_182 0 234 (dk_at dksX0_lambda_oldShare_11_0 2 rfl rfl)
theorem dX0_lambda_oldShare_11_5 : decode cX0_lambda_oldShare_11 5 = .ok (.instanceof 58, 3) := dk_193 0 58 (dk_at dksX0_lambda_oldShare_11_0 5 rfl rfl)
theorem dX0_lambda_oldShare_11_8 : decode cX0_lambda_oldShare_11 8 = .ok (.ireturn, 1) := dk_172 (dk_at dksX0_lambda_oldShare_11_0 8 rfl rfl)
abbrev cX0_account : ByteArray := prog_1_method_82_code
def yX0_account : MethodName := ⟨RX0, "account", "(I)I"⟩
def dkwX0_account_8 : List UInt8 := [172, 42, 180, 0, 96, 182, 1, 159, 172, 42, 180, 0, 124, 172, 16, 254, 172]
abbrev dktX0_account_8 : List UInt8 := dkwX0_account_8 ++ []
def dkwX0_account_7 : List UInt8 := [172, 42, 180, 0, 20, 180, 1, 149, 172, 42, 180, 0, 20, 180, 1, 152, 172, 42, 180, 0, 20, 180, 2, 68]
abbrev dktX0_account_7 : List UInt8 := dkwX0_account_7 ++ dktX0_account_8
def dkwX0_account_6 : List UInt8 := [186, 2, 67, 0, 0, 184, 2, 59, 172, 42, 180, 0, 20, 180, 2, 28, 172, 42, 180, 0, 20, 180, 2, 31]
abbrev dktX0_account_6 : List UInt8 := dkwX0_account_6 ++ dktX0_account_7
def dkwX0_account_5 : List UInt8 := [182, 2, 39, 172, 16, 30, 42, 186, 2, 66, 0, 0, 184, 2, 59, 172, 42, 180, 0, 20, 180, 0, 181, 42]
abbrev dktX0_account_5 : List UInt8 := dkwX0_account_5 ++ dktX0_account_6
def dkwX0_account_4 : List UInt8 := [180, 1, 39, 172, 42, 180, 0, 20, 180, 0, 209, 182, 2, 39, 172, 42, 180, 0, 20, 180, 0, 144]
abbrev dktX0_account_4 : List UInt8 := dkwX0_account_4 ++ dktX0_account_5
def dkwX0_account_3 : List UInt8 := [42, 180, 0, 20, 180, 0, 191, 42, 182, 2, 63, 100, 172, 42, 182, 2, 63, 172, 42, 180, 0, 20]
abbrev dktX0_account_3 : List UInt8 := dkwX0_account_3 ++ dktX0_account_4
def dkwX0_account_2 : List UInt8 := [42, 180, 0, 20, 180, 0, 157, 172, 42, 180, 0, 20, 180, 0, 228, 172, 42, 180, 0, 20, 180, 0, 181, 172]
abbrev dktX0_account_2 : List UInt8 := dkwX0_account_2 ++ dktX0_account_3
def dkwX0_account_1 : List UInt8 := [170, 0, 0, 0, 0, 0, 237, 0, 0, 0, 0, 0, 0, 0, 16, 0, 0, 0, 83, 0, 0, 0, 91, 0, 0, 0, 99, 0, 0, 0, 107, 0, 0, 0, 120, 0, 0, 0, 125, 0, 0, 0, 133, 0, 0, 0, 144, 0, 0, 0, 155, 0, 0, 0, 167, 0, 0, 0, 184, 0, 0, 0, 192, 0, 0, 0, 200, 0, 0, 0, 208, 0, 0, 0, 216, 0, 0, 0, 224, 0, 0, 0, 232]
abbrev dktX0_account_1 : List UInt8 := dkwX0_account_1 ++ dktX0_account_2
def dkwX0_account_0 : List UInt8 := [27]
abbrev dktX0_account_0 : List UInt8 := dkwX0_account_0 ++ dktX0_account_1
theorem dksX0_account_0 : cX0_account.data.toList.drop 0 = dktX0_account_0 := by decide +kernel
theorem dksX0_account_1 : cX0_account.data.toList.drop 1 = dktX0_account_1 := dk_seg dksX0_account_0 1 rfl rfl
theorem dksX0_account_2 : cX0_account.data.toList.drop 84 = dktX0_account_2 := dk_seg dksX0_account_1 83 rfl rfl
theorem dksX0_account_3 : cX0_account.data.toList.drop 108 = dktX0_account_3 := dk_seg dksX0_account_2 24 rfl rfl
theorem dksX0_account_4 : cX0_account.data.toList.drop 130 = dktX0_account_4 := dk_seg dksX0_account_3 22 rfl rfl
theorem dksX0_account_5 : cX0_account.data.toList.drop 152 = dktX0_account_5 := dk_seg dksX0_account_4 22 rfl rfl
theorem dksX0_account_6 : cX0_account.data.toList.drop 176 = dktX0_account_6 := dk_seg dksX0_account_5 24 rfl rfl
theorem dksX0_account_7 : cX0_account.data.toList.drop 200 = dktX0_account_7 := dk_seg dksX0_account_6 24 rfl rfl
theorem dksX0_account_8 : cX0_account.data.toList.drop 224 = dktX0_account_8 := dk_seg dksX0_account_7 24 rfl rfl
theorem dX0_account_0 : decode cX0_account 0 = .ok (.iload_n 1, 1) := dk_27 (dk_at dksX0_account_0 0 rfl rfl)
theorem dX0_account_1 : decode cX0_account 1 = .ok (.tableswitch 237 0 16 #[83, 91, 99, 107, 120, 125, 133, 144, 155, 167, 184, 192, 200, 208, 216, 224, 232], 83) := by decide +kernel
theorem dX0_account_84 : decode cX0_account 84 = .ok (.aload_n 0, 1) := dk_42 (dk_at dksX0_account_2 0 rfl rfl)
theorem dX0_account_85 : decode cX0_account 85 = .ok (.getfield 20, 3) := dk_180 0 20 (dk_at dksX0_account_2 1 rfl rfl)
theorem dX0_account_88 : decode cX0_account 88 = .ok (.getfield 157, 3) := dk_180 0 157 (dk_at dksX0_account_2 4 rfl rfl)
theorem dX0_account_91 : decode cX0_account 91 = .ok (.ireturn, 1) := dk_172 (dk_at dksX0_account_2 7 rfl rfl)
theorem dX0_account_92 : decode cX0_account 92 = .ok (.aload_n 0, 1) := dk_42 (dk_at dksX0_account_2 8 rfl rfl)
theorem dX0_account_93 : decode cX0_account 93 = .ok (.getfield 20, 3) := dk_180 0 20 (dk_at dksX0_account_2 9 rfl rfl)
theorem dX0_account_96 : decode cX0_account 96 = .ok (.getfield 228, 3) := dk_180 0 228 (dk_at dksX0_account_2 12 rfl rfl)
theorem dX0_account_99 : decode cX0_account 99 = .ok (.ireturn, 1) := dk_172 (dk_at dksX0_account_2 15 rfl rfl)
theorem dX0_account_100 : decode cX0_account 100 = .ok (.aload_n 0, 1) := dk_42 (dk_at dksX0_account_2 16 rfl rfl)
theorem dX0_account_101 : decode cX0_account 101 = .ok (.getfield 20, 3) := dk_180 0 20 (dk_at dksX0_account_2 17 rfl rfl)
theorem dX0_account_104 : decode cX0_account 104 = .ok (.getfield 181, 3) := dk_180 0 181 (dk_at dksX0_account_2 20 rfl rfl)
theorem dX0_account_107 : decode cX0_account 107 = .ok (.ireturn, 1) := dk_172 (dk_at dksX0_account_2 23 rfl rfl)
theorem dX0_account_108 : decode cX0_account 108 = .ok (.aload_n 0, 1) := dk_42 (dk_at dksX0_account_3 0 rfl rfl)
theorem dX0_account_109 : decode cX0_account 109 = .ok (.getfield 20, 3) := dk_180 0 20 (dk_at dksX0_account_3 1 rfl rfl)
theorem dX0_account_112 : decode cX0_account 112 = .ok (.getfield 191, 3) := dk_180 0 191 (dk_at dksX0_account_3 4 rfl rfl)
theorem dX0_account_115 : decode cX0_account 115 = .ok (.aload_n 0, 1) := dk_42 (dk_at dksX0_account_3 7 rfl rfl)
theorem dX0_account_116 : decode cX0_account 116 = .ok (.invokevirtual 575, 3) := dk_182 2 63 (dk_at dksX0_account_3 8 rfl rfl)
theorem dX0_account_119 : decode cX0_account 119 = .ok (.isub, 1) := dk_100 (dk_at dksX0_account_3 11 rfl rfl)
theorem dX0_account_120 : decode cX0_account 120 = .ok (.ireturn, 1) := dk_172 (dk_at dksX0_account_3 12 rfl rfl)
theorem dX0_account_121 : decode cX0_account 121 = .ok (.aload_n 0, 1) := dk_42 (dk_at dksX0_account_3 13 rfl rfl)
theorem dX0_account_122 : decode cX0_account 122 = .ok (.invokevirtual 575, 3) := dk_182 2 63 (dk_at dksX0_account_3 14 rfl rfl)
theorem dX0_account_125 : decode cX0_account 125 = .ok (.ireturn, 1) := dk_172 (dk_at dksX0_account_3 17 rfl rfl)
theorem dX0_account_126 : decode cX0_account 126 = .ok (.aload_n 0, 1) := dk_42 (dk_at dksX0_account_3 18 rfl rfl)
theorem dX0_account_127 : decode cX0_account 127 = .ok (.getfield 20, 3) := dk_180 0 20 (dk_at dksX0_account_3 19 rfl rfl)
theorem dX0_account_130 : decode cX0_account 130 = .ok (.getfield 295, 3) := dk_180 1 39 (dk_at dksX0_account_4 0 rfl rfl)
theorem dX0_account_133 : decode cX0_account 133 = .ok (.ireturn, 1) := dk_172 (dk_at dksX0_account_4 3 rfl rfl)
theorem dX0_account_134 : decode cX0_account 134 = .ok (.aload_n 0, 1) := dk_42 (dk_at dksX0_account_4 4 rfl rfl)
theorem dX0_account_135 : decode cX0_account 135 = .ok (.getfield 20, 3) := dk_180 0 20 (dk_at dksX0_account_4 5 rfl rfl)
theorem dX0_account_138 : decode cX0_account 138 = .ok (.getfield 209, 3) := dk_180 0 209 (dk_at dksX0_account_4 8 rfl rfl)
theorem dX0_account_141 : decode cX0_account 141 = .ok (.invokevirtual 551, 3) := dk_182 2 39 (dk_at dksX0_account_4 11 rfl rfl)
theorem dX0_account_144 : decode cX0_account 144 = .ok (.ireturn, 1) := dk_172 (dk_at dksX0_account_4 14 rfl rfl)
theorem dX0_account_145 : decode cX0_account 145 = .ok (.aload_n 0, 1) := dk_42 (dk_at dksX0_account_4 15 rfl rfl)
theorem dX0_account_146 : decode cX0_account 146 = .ok (.getfield 20, 3) := dk_180 0 20 (dk_at dksX0_account_4 16 rfl rfl)
theorem dX0_account_149 : decode cX0_account 149 = .ok (.getfield 144, 3) := dk_180 0 144 (dk_at dksX0_account_4 19 rfl rfl)
theorem dX0_account_152 : decode cX0_account 152 = .ok (.invokevirtual 551, 3) := dk_182 2 39 (dk_at dksX0_account_5 0 rfl rfl)
theorem dX0_account_155 : decode cX0_account 155 = .ok (.ireturn, 1) := dk_172 (dk_at dksX0_account_5 3 rfl rfl)
theorem dX0_account_156 : decode cX0_account 156 = .ok (.bipush 30, 2) := dk_16 30 (dk_at dksX0_account_5 4 rfl rfl)
theorem dX0_account_158 : decode cX0_account 158 = .ok (.aload_n 0, 1) := dk_42 (dk_at dksX0_account_5 6 rfl rfl)
theorem dX0_account_159 : decode cX0_account 159 = .ok (.invokedynamic 578, 5) := by decide +kernel
theorem dX0_account_164 : decode cX0_account 164 = .ok (.invokestatic 571, 3) := dk_184 2 59 (dk_at dksX0_account_5 12 rfl rfl)
theorem dX0_account_167 : decode cX0_account 167 = .ok (.ireturn, 1) := dk_172 (dk_at dksX0_account_5 15 rfl rfl)
theorem dX0_account_168 : decode cX0_account 168 = .ok (.aload_n 0, 1) := dk_42 (dk_at dksX0_account_5 16 rfl rfl)
theorem dX0_account_169 : decode cX0_account 169 = .ok (.getfield 20, 3) := dk_180 0 20 (dk_at dksX0_account_5 17 rfl rfl)
theorem dX0_account_172 : decode cX0_account 172 = .ok (.getfield 181, 3) := dk_180 0 181 (dk_at dksX0_account_5 20 rfl rfl)
theorem dX0_account_175 : decode cX0_account 175 = .ok (.aload_n 0, 1) := dk_42 (dk_at dksX0_account_5 23 rfl rfl)
theorem dX0_account_176 : decode cX0_account 176 = .ok (.invokedynamic 579, 5) := by decide +kernel
theorem dX0_account_181 : decode cX0_account 181 = .ok (.invokestatic 571, 3) := dk_184 2 59 (dk_at dksX0_account_6 5 rfl rfl)
theorem dX0_account_184 : decode cX0_account 184 = .ok (.ireturn, 1) := dk_172 (dk_at dksX0_account_6 8 rfl rfl)
theorem dX0_account_185 : decode cX0_account 185 = .ok (.aload_n 0, 1) := dk_42 (dk_at dksX0_account_6 9 rfl rfl)
theorem dX0_account_186 : decode cX0_account 186 = .ok (.getfield 20, 3) := dk_180 0 20 (dk_at dksX0_account_6 10 rfl rfl)
theorem dX0_account_189 : decode cX0_account 189 = .ok (.getfield 540, 3) := dk_180 2 28 (dk_at dksX0_account_6 13 rfl rfl)
theorem dX0_account_192 : decode cX0_account 192 = .ok (.ireturn, 1) := dk_172 (dk_at dksX0_account_6 16 rfl rfl)
theorem dX0_account_193 : decode cX0_account 193 = .ok (.aload_n 0, 1) := dk_42 (dk_at dksX0_account_6 17 rfl rfl)
theorem dX0_account_194 : decode cX0_account 194 = .ok (.getfield 20, 3) := dk_180 0 20 (dk_at dksX0_account_6 18 rfl rfl)
theorem dX0_account_197 : decode cX0_account 197 = .ok (.getfield 543, 3) := dk_180 2 31 (dk_at dksX0_account_6 21 rfl rfl)
theorem dX0_account_200 : decode cX0_account 200 = .ok (.ireturn, 1) := dk_172 (dk_at dksX0_account_7 0 rfl rfl)
theorem dX0_account_201 : decode cX0_account 201 = .ok (.aload_n 0, 1) := dk_42 (dk_at dksX0_account_7 1 rfl rfl)
theorem dX0_account_202 : decode cX0_account 202 = .ok (.getfield 20, 3) := dk_180 0 20 (dk_at dksX0_account_7 2 rfl rfl)
theorem dX0_account_205 : decode cX0_account 205 = .ok (.getfield 405, 3) := dk_180 1 149 (dk_at dksX0_account_7 5 rfl rfl)
theorem dX0_account_208 : decode cX0_account 208 = .ok (.ireturn, 1) := dk_172 (dk_at dksX0_account_7 8 rfl rfl)
theorem dX0_account_209 : decode cX0_account 209 = .ok (.aload_n 0, 1) := dk_42 (dk_at dksX0_account_7 9 rfl rfl)
theorem dX0_account_210 : decode cX0_account 210 = .ok (.getfield 20, 3) := dk_180 0 20 (dk_at dksX0_account_7 10 rfl rfl)
theorem dX0_account_213 : decode cX0_account 213 = .ok (.getfield 408, 3) := dk_180 1 152 (dk_at dksX0_account_7 13 rfl rfl)
theorem dX0_account_216 : decode cX0_account 216 = .ok (.ireturn, 1) := dk_172 (dk_at dksX0_account_7 16 rfl rfl)
theorem dX0_account_217 : decode cX0_account 217 = .ok (.aload_n 0, 1) := dk_42 (dk_at dksX0_account_7 17 rfl rfl)
theorem dX0_account_218 : decode cX0_account 218 = .ok (.getfield 20, 3) := dk_180 0 20 (dk_at dksX0_account_7 18 rfl rfl)
theorem dX0_account_221 : decode cX0_account 221 = .ok (.getfield 580, 3) := dk_180 2 68 (dk_at dksX0_account_7 21 rfl rfl)
theorem dX0_account_224 : decode cX0_account 224 = .ok (.ireturn, 1) := dk_172 (dk_at dksX0_account_8 0 rfl rfl)
theorem dX0_account_225 : decode cX0_account 225 = .ok (.aload_n 0, 1) := dk_42 (dk_at dksX0_account_8 1 rfl rfl)
theorem dX0_account_226 : decode cX0_account 226 = .ok (.getfield 96, 3) := dk_180 0 96 (dk_at dksX0_account_8 2 rfl rfl)
theorem dX0_account_229 : decode cX0_account 229 = .ok (.invokevirtual 415, 3) := dk_182 1 159 (dk_at dksX0_account_8 5 rfl rfl)
theorem dX0_account_232 : decode cX0_account 232 = .ok (.ireturn, 1) := dk_172 (dk_at dksX0_account_8 8 rfl rfl)
theorem dX0_account_233 : decode cX0_account 233 = .ok (.aload_n 0, 1) := dk_42 (dk_at dksX0_account_8 9 rfl rfl)
theorem dX0_account_234 : decode cX0_account 234 = .ok (.getfield 124, 3) := dk_180 0 124 (dk_at dksX0_account_8 10 rfl rfl)
theorem dX0_account_237 : decode cX0_account 237 = .ok (.ireturn, 1) := dk_172 (dk_at dksX0_account_8 13 rfl rfl)
theorem dX0_account_238 : decode cX0_account 238 = .ok (.bipush (-2), 2) := dk_16 254 (dk_at dksX0_account_8 14 rfl rfl)
theorem dX0_account_240 : decode cX0_account 240 = .ok (.ireturn, 1) := dk_172 (dk_at dksX0_account_8 16 rfl rfl)
abbrev cX0_caughtMany : ByteArray := prog_1_method_81_code
def yX0_caughtMany : MethodName := ⟨RX0, "caughtMany", "()I"⟩
def dkwX0_caughtMany_0 : List UInt8 := [42, 180, 0, 20, 180, 0, 191, 42, 186, 2, 56, 0, 0, 184, 2, 59, 172]
abbrev dktX0_caughtMany_0 : List UInt8 := dkwX0_caughtMany_0 ++ []
theorem dksX0_caughtMany_0 : cX0_caughtMany.data.toList.drop 0 = dktX0_caughtMany_0 := by decide +kernel
theorem dX0_caughtMany_0 : decode cX0_caughtMany 0 = .ok (.aload_n 0, 1) := dk_42 (dk_at dksX0_caughtMany_0 0 rfl rfl)
theorem dX0_caughtMany_1 : decode cX0_caughtMany 1 = .ok (.getfield 20, 3) := dk_180 0 20 (dk_at dksX0_caughtMany_0 1 rfl rfl)
theorem dX0_caughtMany_4 : decode cX0_caughtMany 4 = .ok (.getfield 191, 3) := dk_180 0 191 (dk_at dksX0_caughtMany_0 4 rfl rfl)
theorem dX0_caughtMany_7 : decode cX0_caughtMany 7 = .ok (.aload_n 0, 1) := dk_42 (dk_at dksX0_caughtMany_0 7 rfl rfl)
theorem dX0_caughtMany_8 : decode cX0_caughtMany 8 = .ok (.invokedynamic 568, 5) := by decide +kernel
theorem dX0_caughtMany_13 : decode cX0_caughtMany 13 = .ok (.invokestatic 571, 3) := dk_184 2 59 (dk_at dksX0_caughtMany_0 13 rfl rfl)
theorem dX0_caughtMany_16 : decode cX0_caughtMany 16 = .ok (.ireturn, 1) := dk_172 (dk_at dksX0_caughtMany_0 16 rfl rfl)
abbrev cX0_lambda_caughtMany_12 : ByteArray := prog_1_method_88_code
def yX0_lambda_caughtMany_12 : MethodName := ⟨RX0, "lambda$caughtMany$12", "(I)I"⟩
def dkwX0_lambda_caughtMany_12_0 : List UInt8 := [42, 180, 0, 20, 180, 1, 51, 27, 50, 180, 2, 2, 153, 0, 7, 4, 167, 0, 4, 3, 172]
abbrev dktX0_lambda_caughtMany_12_0 : List UInt8 := dkwX0_lambda_caughtMany_12_0 ++ []
theorem dksX0_lambda_caughtMany_12_0 : cX0_lambda_caughtMany_12.data.toList.drop 0 = dktX0_lambda_caughtMany_12_0 := by decide +kernel
theorem dX0_lambda_caughtMany_12_0 : decode cX0_lambda_caughtMany_12 0 = .ok (.aload_n 0, 1) := dk_42 (dk_at dksX0_lambda_caughtMany_12_0 0 rfl rfl)
theorem dX0_lambda_caughtMany_12_1 : decode cX0_lambda_caughtMany_12 1 = .ok (.getfield 20, 3) := dk_180 0 20 (dk_at dksX0_lambda_caughtMany_12_0 1 rfl rfl)
theorem dX0_lambda_caughtMany_12_4 : decode cX0_lambda_caughtMany_12 4 = .ok (.getfield 307, 3) := dk_180 1 51 (dk_at dksX0_lambda_caughtMany_12_0 4 rfl rfl)
theorem dX0_lambda_caughtMany_12_7 : decode cX0_lambda_caughtMany_12 7 = .ok (.iload_n 1, 1) := dk_27 (dk_at dksX0_lambda_caughtMany_12_0 7 rfl rfl)
theorem dX0_lambda_caughtMany_12_8 : decode cX0_lambda_caughtMany_12 8 = .ok (.aaload, 1) := dk_50 (dk_at dksX0_lambda_caughtMany_12_0 8 rfl rfl)
theorem dX0_lambda_caughtMany_12_9 : decode cX0_lambda_caughtMany_12 9 = .ok (.getfield 514, 3) := dk_180 2 2 (dk_at dksX0_lambda_caughtMany_12_0 9 rfl rfl)
theorem dX0_lambda_caughtMany_12_12 : decode cX0_lambda_caughtMany_12 12 = .ok (.ifCond .eq 7, 3) := dk_153 0 7 (dk_at dksX0_lambda_caughtMany_12_0 12 rfl rfl)
theorem dX0_lambda_caughtMany_12_15 : decode cX0_lambda_caughtMany_12 15 = .ok (.iconst 1, 1) := dk_4 (dk_at dksX0_lambda_caughtMany_12_0 15 rfl rfl)
theorem dX0_lambda_caughtMany_12_16 : decode cX0_lambda_caughtMany_12 16 = .ok (.goto 4, 3) := dk_167 0 4 (dk_at dksX0_lambda_caughtMany_12_0 16 rfl rfl)
theorem dX0_lambda_caughtMany_12_19 : decode cX0_lambda_caughtMany_12 19 = .ok (.iconst 0, 1) := dk_3 (dk_at dksX0_lambda_caughtMany_12_0 19 rfl rfl)
theorem dX0_lambda_caughtMany_12_20 : decode cX0_lambda_caughtMany_12 20 = .ok (.ireturn, 1) := dk_172 (dk_at dksX0_lambda_caughtMany_12_0 20 rfl rfl)
abbrev cX0_sum : ByteArray := prog_1_method_80_code
def yX0_sum : MethodName := ⟨RX0, "sum", "(ILMossLawn$Counted;)I"⟩
def dkwX0_sum_1 : List UInt8 := [167, 255, 238, 28, 172]
abbrev dktX0_sum_1 : List UInt8 := dkwX0_sum_1 ++ []
def dkwX0_sum_0 : List UInt8 := [3, 61, 3, 62, 29, 26, 162, 0, 19, 28, 43, 29, 185, 2, 52, 2, 0, 96, 61, 132, 3, 1]
abbrev dktX0_sum_0 : List UInt8 := dkwX0_sum_0 ++ dktX0_sum_1
theorem dksX0_sum_0 : cX0_sum.data.toList.drop 0 = dktX0_sum_0 := by decide +kernel
theorem dksX0_sum_1 : cX0_sum.data.toList.drop 22 = dktX0_sum_1 := dk_seg dksX0_sum_0 22 rfl rfl
theorem dX0_sum_0 : decode cX0_sum 0 = .ok (.iconst 0, 1) := dk_3 (dk_at dksX0_sum_0 0 rfl rfl)
theorem dX0_sum_1 : decode cX0_sum 1 = .ok (.istore_n 2, 1) := dk_61 (dk_at dksX0_sum_0 1 rfl rfl)
theorem dX0_sum_2 : decode cX0_sum 2 = .ok (.iconst 0, 1) := dk_3 (dk_at dksX0_sum_0 2 rfl rfl)
theorem dX0_sum_3 : decode cX0_sum 3 = .ok (.istore_n 3, 1) := dk_62 (dk_at dksX0_sum_0 3 rfl rfl)
theorem dX0_sum_4 : decode cX0_sum 4 = .ok (.iload_n 3, 1) := dk_29 (dk_at dksX0_sum_0 4 rfl rfl)
theorem dX0_sum_5 : decode cX0_sum 5 = .ok (.iload_n 0, 1) := dk_26 (dk_at dksX0_sum_0 5 rfl rfl)
theorem dX0_sum_6 : decode cX0_sum 6 = .ok (.if_icmp .ge 19, 3) := dk_162 0 19 (dk_at dksX0_sum_0 6 rfl rfl)
theorem dX0_sum_9 : decode cX0_sum 9 = .ok (.iload_n 2, 1) := dk_28 (dk_at dksX0_sum_0 9 rfl rfl)
theorem dX0_sum_10 : decode cX0_sum 10 = .ok (.aload_n 1, 1) := dk_43 (dk_at dksX0_sum_0 10 rfl rfl)
theorem dX0_sum_11 : decode cX0_sum 11 = .ok (.iload_n 3, 1) := dk_29 (dk_at dksX0_sum_0 11 rfl rfl)
theorem dX0_sum_12 : decode cX0_sum 12 = .ok (.invokeinterface 564 2, 5) := by decide +kernel
theorem dX0_sum_17 : decode cX0_sum 17 = .ok (.iadd, 1) := dk_96 (dk_at dksX0_sum_0 17 rfl rfl)
theorem dX0_sum_18 : decode cX0_sum 18 = .ok (.istore_n 2, 1) := dk_61 (dk_at dksX0_sum_0 18 rfl rfl)
theorem dX0_sum_19 : decode cX0_sum 19 = .ok (.iinc 3 1, 3) := dk_132 3 1 (dk_at dksX0_sum_0 19 rfl rfl)
theorem dX0_sum_22 : decode cX0_sum 22 = .ok (.goto (-18), 3) := dk_167 255 238 (dk_at dksX0_sum_1 0 rfl rfl)
theorem dX0_sum_25 : decode cX0_sum 25 = .ok (.iload_n 2, 1) := dk_28 (dk_at dksX0_sum_1 3 rfl rfl)
theorem dX0_sum_26 : decode cX0_sum 26 = .ok (.ireturn, 1) := dk_172 (dk_at dksX0_sum_1 4 rfl rfl)
abbrev cX0_lambda_account_13 : ByteArray := prog_1_method_87_code
def yX0_lambda_account_13 : MethodName := ⟨RX0, "lambda$account$13", "(I)I"⟩
def dkwX0_lambda_account_13_0 : List UInt8 := [42, 180, 0, 20, 180, 0, 215, 27, 46, 172]
abbrev dktX0_lambda_account_13_0 : List UInt8 := dkwX0_lambda_account_13_0 ++ []
theorem dksX0_lambda_account_13_0 : cX0_lambda_account_13.data.toList.drop 0 = dktX0_lambda_account_13_0 := by decide +kernel
theorem dX0_lambda_account_13_0 : decode cX0_lambda_account_13 0 = .ok (.aload_n 0, 1) := dk_42 (dk_at dksX0_lambda_account_13_0 0 rfl rfl)
theorem dX0_lambda_account_13_1 : decode cX0_lambda_account_13 1 = .ok (.getfield 20, 3) := dk_180 0 20 (dk_at dksX0_lambda_account_13_0 1 rfl rfl)
theorem dX0_lambda_account_13_4 : decode cX0_lambda_account_13 4 = .ok (.getfield 215, 3) := dk_180 0 215 (dk_at dksX0_lambda_account_13_0 4 rfl rfl)
theorem dX0_lambda_account_13_7 : decode cX0_lambda_account_13 7 = .ok (.iload_n 1, 1) := dk_27 (dk_at dksX0_lambda_account_13_0 7 rfl rfl)
theorem dX0_lambda_account_13_8 : decode cX0_lambda_account_13 8 = .ok (.iaload, 1) := dk_46 (dk_at dksX0_lambda_account_13_0 8 rfl rfl)
theorem dX0_lambda_account_13_9 : decode cX0_lambda_account_13 9 = .ok (.ireturn, 1) := dk_172 (dk_at dksX0_lambda_account_13_0 9 rfl rfl)
abbrev cX0_lambda_account_14 : ByteArray := prog_1_method_86_code
def yX0_lambda_account_14 : MethodName := ⟨RX0, "lambda$account$14", "(I)I"⟩
def dkwX0_lambda_account_14_0 : List UInt8 := [42, 180, 0, 20, 180, 0, 244, 27, 50, 180, 1, 30, 172]
abbrev dktX0_lambda_account_14_0 : List UInt8 := dkwX0_lambda_account_14_0 ++ []
theorem dksX0_lambda_account_14_0 : cX0_lambda_account_14.data.toList.drop 0 = dktX0_lambda_account_14_0 := by decide +kernel
theorem dX0_lambda_account_14_0 : decode cX0_lambda_account_14 0 = .ok (.aload_n 0, 1) := dk_42 (dk_at dksX0_lambda_account_14_0 0 rfl rfl)
theorem dX0_lambda_account_14_1 : decode cX0_lambda_account_14 1 = .ok (.getfield 20, 3) := dk_180 0 20 (dk_at dksX0_lambda_account_14_0 1 rfl rfl)
theorem dX0_lambda_account_14_4 : decode cX0_lambda_account_14 4 = .ok (.getfield 244, 3) := dk_180 0 244 (dk_at dksX0_lambda_account_14_0 4 rfl rfl)
theorem dX0_lambda_account_14_7 : decode cX0_lambda_account_14 7 = .ok (.iload_n 1, 1) := dk_27 (dk_at dksX0_lambda_account_14_0 7 rfl rfl)
theorem dX0_lambda_account_14_8 : decode cX0_lambda_account_14 8 = .ok (.aaload, 1) := dk_50 (dk_at dksX0_lambda_account_14_0 8 rfl rfl)
theorem dX0_lambda_account_14_9 : decode cX0_lambda_account_14 9 = .ok (.getfield 286, 3) := dk_180 1 30 (dk_at dksX0_lambda_account_14_0 9 rfl rfl)
theorem dX0_lambda_account_14_12 : decode cX0_lambda_account_14 12 = .ok (.ireturn, 1) := dk_172 (dk_at dksX0_lambda_account_14_0 12 rfl rfl)
abbrev cX0_undo : ByteArray := prog_1_method_83_code
def yX0_undo : MethodName := ⟨RX0, "undo", "()I"⟩
def dkwX0_undo_1 : List UInt8 := [42, 180, 0, 35, 42, 180, 0, 124, 50, 182, 0, 120, 42, 180, 0, 124, 172]
abbrev dktX0_undo_1 : List UInt8 := dkwX0_undo_1 ++ []
def dkwX0_undo_0 : List UInt8 := [42, 180, 0, 124, 154, 0, 6, 16, 252, 172, 42, 89, 180, 0, 124, 4, 100, 181, 0, 124, 42, 180, 0, 20]
abbrev dktX0_undo_0 : List UInt8 := dkwX0_undo_0 ++ dktX0_undo_1
theorem dksX0_undo_0 : cX0_undo.data.toList.drop 0 = dktX0_undo_0 := by decide +kernel
theorem dksX0_undo_1 : cX0_undo.data.toList.drop 24 = dktX0_undo_1 := dk_seg dksX0_undo_0 24 rfl rfl
theorem dX0_undo_0 : decode cX0_undo 0 = .ok (.aload_n 0, 1) := dk_42 (dk_at dksX0_undo_0 0 rfl rfl)
theorem dX0_undo_1 : decode cX0_undo 1 = .ok (.getfield 124, 3) := dk_180 0 124 (dk_at dksX0_undo_0 1 rfl rfl)
theorem dX0_undo_4 : decode cX0_undo 4 = .ok (.ifCond .ne 6, 3) := dk_154 0 6 (dk_at dksX0_undo_0 4 rfl rfl)
theorem dX0_undo_7 : decode cX0_undo 7 = .ok (.bipush (-4), 2) := dk_16 252 (dk_at dksX0_undo_0 7 rfl rfl)
theorem dX0_undo_9 : decode cX0_undo 9 = .ok (.ireturn, 1) := dk_172 (dk_at dksX0_undo_0 9 rfl rfl)
theorem dX0_undo_10 : decode cX0_undo 10 = .ok (.aload_n 0, 1) := dk_42 (dk_at dksX0_undo_0 10 rfl rfl)
theorem dX0_undo_11 : decode cX0_undo 11 = .ok (.dup, 1) := dk_89 (dk_at dksX0_undo_0 11 rfl rfl)
theorem dX0_undo_12 : decode cX0_undo 12 = .ok (.getfield 124, 3) := dk_180 0 124 (dk_at dksX0_undo_0 12 rfl rfl)
theorem dX0_undo_15 : decode cX0_undo 15 = .ok (.iconst 1, 1) := dk_4 (dk_at dksX0_undo_0 15 rfl rfl)
theorem dX0_undo_16 : decode cX0_undo 16 = .ok (.isub, 1) := dk_100 (dk_at dksX0_undo_0 16 rfl rfl)
theorem dX0_undo_17 : decode cX0_undo 17 = .ok (.putfield 124, 3) := dk_181 0 124 (dk_at dksX0_undo_0 17 rfl rfl)
theorem dX0_undo_20 : decode cX0_undo 20 = .ok (.aload_n 0, 1) := dk_42 (dk_at dksX0_undo_0 20 rfl rfl)
theorem dX0_undo_21 : decode cX0_undo 21 = .ok (.getfield 20, 3) := dk_180 0 20 (dk_at dksX0_undo_0 21 rfl rfl)
theorem dX0_undo_24 : decode cX0_undo 24 = .ok (.aload_n 0, 1) := dk_42 (dk_at dksX0_undo_1 0 rfl rfl)
theorem dX0_undo_25 : decode cX0_undo 25 = .ok (.getfield 35, 3) := dk_180 0 35 (dk_at dksX0_undo_1 1 rfl rfl)
theorem dX0_undo_28 : decode cX0_undo 28 = .ok (.aload_n 0, 1) := dk_42 (dk_at dksX0_undo_1 4 rfl rfl)
theorem dX0_undo_29 : decode cX0_undo 29 = .ok (.getfield 124, 3) := dk_180 0 124 (dk_at dksX0_undo_1 5 rfl rfl)
theorem dX0_undo_32 : decode cX0_undo 32 = .ok (.aaload, 1) := dk_50 (dk_at dksX0_undo_1 8 rfl rfl)
theorem dX0_undo_33 : decode cX0_undo 33 = .ok (.invokevirtual 120, 3) := dk_182 0 120 (dk_at dksX0_undo_1 9 rfl rfl)
theorem dX0_undo_36 : decode cX0_undo 36 = .ok (.aload_n 0, 1) := dk_42 (dk_at dksX0_undo_1 12 rfl rfl)
theorem dX0_undo_37 : decode cX0_undo 37 = .ok (.getfield 124, 3) := dk_180 0 124 (dk_at dksX0_undo_1 13 rfl rfl)
theorem dX0_undo_40 : decode cX0_undo 40 = .ok (.ireturn, 1) := dk_172 (dk_at dksX0_undo_1 16 rfl rfl)
abbrev cX0_save : ByteArray := prog_1_method_84_code
def yX0_save : MethodName := ⟨RX0, "save", "()I"⟩
def dkwX0_save_0 : List UInt8 := [42, 180, 0, 32, 42, 180, 0, 20, 182, 0, 120, 42, 4, 181, 2, 71, 42, 180, 0, 20, 180, 0, 157, 172]
abbrev dktX0_save_0 : List UInt8 := dkwX0_save_0 ++ []
theorem dksX0_save_0 : cX0_save.data.toList.drop 0 = dktX0_save_0 := by decide +kernel
theorem dX0_save_0 : decode cX0_save 0 = .ok (.aload_n 0, 1) := dk_42 (dk_at dksX0_save_0 0 rfl rfl)
theorem dX0_save_1 : decode cX0_save 1 = .ok (.getfield 32, 3) := dk_180 0 32 (dk_at dksX0_save_0 1 rfl rfl)
theorem dX0_save_4 : decode cX0_save 4 = .ok (.aload_n 0, 1) := dk_42 (dk_at dksX0_save_0 4 rfl rfl)
theorem dX0_save_5 : decode cX0_save 5 = .ok (.getfield 20, 3) := dk_180 0 20 (dk_at dksX0_save_0 5 rfl rfl)
theorem dX0_save_8 : decode cX0_save 8 = .ok (.invokevirtual 120, 3) := dk_182 0 120 (dk_at dksX0_save_0 8 rfl rfl)
theorem dX0_save_11 : decode cX0_save 11 = .ok (.aload_n 0, 1) := dk_42 (dk_at dksX0_save_0 11 rfl rfl)
theorem dX0_save_12 : decode cX0_save 12 = .ok (.iconst 1, 1) := dk_4 (dk_at dksX0_save_0 12 rfl rfl)
theorem dX0_save_13 : decode cX0_save 13 = .ok (.putfield 583, 3) := dk_181 2 71 (dk_at dksX0_save_0 13 rfl rfl)
theorem dX0_save_16 : decode cX0_save 16 = .ok (.aload_n 0, 1) := dk_42 (dk_at dksX0_save_0 16 rfl rfl)
theorem dX0_save_17 : decode cX0_save 17 = .ok (.getfield 20, 3) := dk_180 0 20 (dk_at dksX0_save_0 17 rfl rfl)
theorem dX0_save_20 : decode cX0_save 20 = .ok (.getfield 157, 3) := dk_180 0 157 (dk_at dksX0_save_0 20 rfl rfl)
theorem dX0_save_23 : decode cX0_save 23 = .ok (.ireturn, 1) := dk_172 (dk_at dksX0_save_0 23 rfl rfl)
abbrev cX0_restore : ByteArray := prog_1_method_85_code
def yX0_restore : MethodName := ⟨RX0, "restore", "()I"⟩
def dkwX0_restore_1 : List UInt8 := [181, 0, 124, 42, 180, 0, 20, 180, 0, 157, 172]
abbrev dktX0_restore_1 : List UInt8 := dkwX0_restore_1 ++ []
def dkwX0_restore_0 : List UInt8 := [42, 180, 2, 71, 154, 0, 6, 16, 252, 172, 42, 180, 0, 20, 42, 180, 0, 32, 182, 0, 120, 42, 3]
abbrev dktX0_restore_0 : List UInt8 := dkwX0_restore_0 ++ dktX0_restore_1
theorem dksX0_restore_0 : cX0_restore.data.toList.drop 0 = dktX0_restore_0 := by decide +kernel
theorem dksX0_restore_1 : cX0_restore.data.toList.drop 23 = dktX0_restore_1 := dk_seg dksX0_restore_0 23 rfl rfl
theorem dX0_restore_0 : decode cX0_restore 0 = .ok (.aload_n 0, 1) := dk_42 (dk_at dksX0_restore_0 0 rfl rfl)
theorem dX0_restore_1 : decode cX0_restore 1 = .ok (.getfield 583, 3) := dk_180 2 71 (dk_at dksX0_restore_0 1 rfl rfl)
theorem dX0_restore_4 : decode cX0_restore 4 = .ok (.ifCond .ne 6, 3) := dk_154 0 6 (dk_at dksX0_restore_0 4 rfl rfl)
theorem dX0_restore_7 : decode cX0_restore 7 = .ok (.bipush (-4), 2) := dk_16 252 (dk_at dksX0_restore_0 7 rfl rfl)
theorem dX0_restore_9 : decode cX0_restore 9 = .ok (.ireturn, 1) := dk_172 (dk_at dksX0_restore_0 9 rfl rfl)
theorem dX0_restore_10 : decode cX0_restore 10 = .ok (.aload_n 0, 1) := dk_42 (dk_at dksX0_restore_0 10 rfl rfl)
theorem dX0_restore_11 : decode cX0_restore 11 = .ok (.getfield 20, 3) := dk_180 0 20 (dk_at dksX0_restore_0 11 rfl rfl)
theorem dX0_restore_14 : decode cX0_restore 14 = .ok (.aload_n 0, 1) := dk_42 (dk_at dksX0_restore_0 14 rfl rfl)
theorem dX0_restore_15 : decode cX0_restore 15 = .ok (.getfield 32, 3) := dk_180 0 32 (dk_at dksX0_restore_0 15 rfl rfl)
theorem dX0_restore_18 : decode cX0_restore 18 = .ok (.invokevirtual 120, 3) := dk_182 0 120 (dk_at dksX0_restore_0 18 rfl rfl)
theorem dX0_restore_21 : decode cX0_restore 21 = .ok (.aload_n 0, 1) := dk_42 (dk_at dksX0_restore_0 21 rfl rfl)
theorem dX0_restore_22 : decode cX0_restore 22 = .ok (.iconst 0, 1) := dk_3 (dk_at dksX0_restore_0 22 rfl rfl)
theorem dX0_restore_23 : decode cX0_restore 23 = .ok (.putfield 124, 3) := dk_181 0 124 (dk_at dksX0_restore_1 0 rfl rfl)
theorem dX0_restore_26 : decode cX0_restore 26 = .ok (.aload_n 0, 1) := dk_42 (dk_at dksX0_restore_1 3 rfl rfl)
theorem dX0_restore_27 : decode cX0_restore 27 = .ok (.getfield 20, 3) := dk_180 0 20 (dk_at dksX0_restore_1 4 rfl rfl)
theorem dX0_restore_30 : decode cX0_restore 30 = .ok (.getfield 157, 3) := dk_180 0 157 (dk_at dksX0_restore_1 7 rfl rfl)
theorem dX0_restore_33 : decode cX0_restore 33 = .ok (.ireturn, 1) := dk_172 (dk_at dksX0_restore_1 10 rfl rfl)
theorem q115 : (Jvm.Cond.initialized "MossLawn") ∈ lw_all := lw_g (lw_at lw_m1 1 rfl) rfl
theorem q167 : (Jvm.Cond.instantiable "MossLawn" (21 : Nat)) ∈ lw_all := lw_g (lw_at lw_m1 53 rfl) rfl
theorem q169 : (Jvm.Cond.instanceMethod ({ cls := "MossLawn", name := "<init>", desc := "()V" } : Jvm.MethodName)) ∈ lw_all := lw_g (lw_at lw_m1 55 rfl) rfl
theorem q170 : (Jvm.Cond.code ({ cls := "MossLawn", name := "<init>", desc := "()V" } : Jvm.MethodName) prog_1_method_4_code (2 : Nat) (Option.none : Option Jvm.ClassFile.FieldType)) ∈ lw_all := lw_g (lw_at lw_m1 56 rfl) rfl
theorem q171 : (Jvm.Cond.methodLink "MossLawn" (12 : Nat) ({ cls := "java/lang/Object", name := "<init>", desc := "()V" } : Jvm.MethodName)) ∈ lw_all := lw_g (lw_at lw_m1 57 rfl) rfl
theorem q174 : (Jvm.Cond.classLink "MossLawn" (17 : Nat) "MossLawn$State") ∈ lw_all := lw_g (lw_at lw_m1 60 rfl) rfl
theorem q176 : (Jvm.Cond.methodLinkNest "MossLawn" (19 : Nat) ({ cls := "MossLawn$State", name := "<init>", desc := "()V" } : Jvm.MethodName) "MossLawn") ∈ lw_tbl := lw_at lw_m1 62 rfl
theorem q248 : (Jvm.Cond.fieldLinkNest "MossLawn" (259 : Nat) "MossLawn$Gardener" "square" "I" "MossLawn") ∈ lw_tbl := lw_at lw_m1 134 rfl
theorem q251 : (Jvm.Cond.fieldLinkNest "MossLawn" (510 : Nat) "MossLawn$Gardener" "hours" "I" "MossLawn") ∈ lw_tbl := lw_at lw_m1 137 rfl
theorem q253 : (Jvm.Cond.fieldLinkNest "MossLawn" (283 : Nat) "MossLawn$Gardener" "bamboo" "I" "MossLawn") ∈ lw_tbl := lw_at lw_m1 139 rfl
theorem q255 : (Jvm.Cond.fieldLinkNest "MossLawn" (286 : Nat) "MossLawn$Gardener" "swept" "I" "MossLawn") ∈ lw_tbl := lw_at lw_m1 141 rfl
theorem q257 : (Jvm.Cond.fieldLinkNest "MossLawn" (276 : Nat) "MossLawn$Gardener" "steps" "I" "MossLawn") ∈ lw_tbl := lw_at lw_m1 143 rfl
theorem q276 : (Jvm.Cond.fieldLinkNest "MossLawn" (513 : Nat) "MossLawn$Mole" "square" "I" "MossLawn") ∈ lw_tbl := lw_at lw_m1 162 rfl
theorem q279 : (Jvm.Cond.fieldLinkNest "MossLawn" (514 : Nat) "MossLawn$Mole" "isCaught" "Z" "MossLawn") ∈ lw_tbl := lw_at lw_m1 165 rfl
theorem q282 : (Jvm.Cond.fieldLinkNest "MossLawn" (518 : Nat) "MossLawn$Mole" "took" "I" "MossLawn") ∈ lw_tbl := lw_at lw_m1 168 rfl
theorem q303 : (Jvm.Cond.fieldLinkNest "MossLawn" (169 : Nat) "MossLawn$State" "shade" "[I" "MossLawn") ∈ lw_tbl := lw_at lw_m1 189 rfl
theorem q305 : (Jvm.Cond.fieldLinkNest "MossLawn" (154 : Nat) "MossLawn$State" "moss" "[I" "MossLawn") ∈ lw_tbl := lw_at lw_m1 191 rfl
theorem q307 : (Jvm.Cond.fieldLinkNest "MossLawn" (215 : Nat) "MossLawn$State" "leaves" "[I" "MossLawn") ∈ lw_tbl := lw_at lw_m1 193 rfl
theorem q309 : (Jvm.Cond.fieldLinkNest "MossLawn" (144 : Nat) "MossLawn$State" "stones" "Ljava/util/BitSet;" "MossLawn") ∈ lw_tbl := lw_at lw_m1 195 rfl
theorem q311 : (Jvm.Cond.fieldLinkNest "MossLawn" (209 : Nat) "MossLawn$State" "traps" "Ljava/util/BitSet;" "MossLawn") ∈ lw_tbl := lw_at lw_m1 197 rfl
theorem q313 : (Jvm.Cond.fieldLinkNest "MossLawn" (244 : Nat) "MossLawn$State" "gardeners" "[LMossLawn$Gardener;" "MossLawn") ∈ lw_tbl := lw_at lw_m1 199 rfl
theorem q315 : (Jvm.Cond.fieldLinkNest "MossLawn" (181 : Nat) "MossLawn$State" "gardenerMany" "I" "MossLawn") ∈ lw_tbl := lw_at lw_m1 201 rfl
theorem q317 : (Jvm.Cond.fieldLinkNest "MossLawn" (307 : Nat) "MossLawn$State" "moles" "[LMossLawn$Mole;" "MossLawn") ∈ lw_tbl := lw_at lw_m1 203 rfl
theorem q319 : (Jvm.Cond.fieldLinkNest "MossLawn" (191 : Nat) "MossLawn$State" "moleMany" "I" "MossLawn") ∈ lw_tbl := lw_at lw_m1 205 rfl
theorem q321 : (Jvm.Cond.fieldLinkNest "MossLawn" (324 : Nat) "MossLawn$State" "pairs" "[I" "MossLawn") ∈ lw_tbl := lw_at lw_m1 207 rfl
theorem q323 : (Jvm.Cond.fieldLinkNest "MossLawn" (384 : Nat) "MossLawn$State" "walks" "Ljava/util/LinkedList;" "MossLawn") ∈ lw_tbl := lw_at lw_m1 209 rfl
theorem q325 : (Jvm.Cond.fieldLinkNest "MossLawn" (295 : Nat) "MossLawn$State" "trapsLeft" "I" "MossLawn") ∈ lw_tbl := lw_at lw_m1 211 rfl
theorem q327 : (Jvm.Cond.fieldLinkNest "MossLawn" (228 : Nat) "MossLawn$State" "rain" "I" "MossLawn") ∈ lw_tbl := lw_at lw_m1 213 rfl
theorem q329 : (Jvm.Cond.fieldLinkNest "MossLawn" (157 : Nat) "MossLawn$State" "day" "I" "MossLawn") ∈ lw_tbl := lw_at lw_m1 215 rfl
theorem q331 : (Jvm.Cond.fieldLinkNest "MossLawn" (540 : Nat) "MossLawn$State" "grown" "I" "MossLawn") ∈ lw_tbl := lw_at lw_m1 217 rfl
theorem q333 : (Jvm.Cond.fieldLinkNest "MossLawn" (543 : Nat) "MossLawn$State" "lost" "I" "MossLawn") ∈ lw_tbl := lw_at lw_m1 219 rfl
theorem q335 : (Jvm.Cond.fieldLinkNest "MossLawn" (405 : Nat) "MossLawn$State" "pilgrims" "I" "MossLawn") ∈ lw_tbl := lw_at lw_m1 221 rfl
theorem q337 : (Jvm.Cond.fieldLinkNest "MossLawn" (408 : Nat) "MossLawn$State" "coins" "I" "MossLawn") ∈ lw_tbl := lw_at lw_m1 223 rfl
theorem q339 : (Jvm.Cond.fieldLinkNest "MossLawn" (580 : Nat) "MossLawn$State" "strokes" "I" "MossLawn") ∈ lw_tbl := lw_at lw_m1 225 rfl
theorem q380 : (Jvm.Cond.classLink "MossLawn" (39 : Nat) "MossLawn$Pebble") ∈ lw_all := lw_g (lw_at lw_m2 26 rfl) rfl
theorem q382 : (Jvm.Cond.methodLinkNest "MossLawn" (41 : Nat) ({ cls := "MossLawn$Pebble", name := "<init>", desc := "()V" } : Jvm.MethodName) "MossLawn") ∈ lw_tbl := lw_at lw_m2 28 rfl
theorem q387 : (Jvm.Cond.classLink "MossLawn" (46 : Nat) "MossLawn$Bare") ∈ lw_all := lw_g (lw_at lw_m2 33 rfl) rfl
theorem q389 : (Jvm.Cond.methodLinkNest "MossLawn" (48 : Nat) ({ cls := "MossLawn$Bare", name := "<init>", desc := "()V" } : Jvm.MethodName) "MossLawn") ∈ lw_tbl := lw_at lw_m2 35 rfl
theorem q394 : (Jvm.Cond.classLink "MossLawn" (52 : Nat) "MossLawn$YoungMoss") ∈ lw_all := lw_g (lw_at lw_m2 40 rfl) rfl
theorem q396 : (Jvm.Cond.methodLinkNest "MossLawn" (54 : Nat) ({ cls := "MossLawn$YoungMoss", name := "<init>", desc := "()V" } : Jvm.MethodName) "MossLawn") ∈ lw_tbl := lw_at lw_m2 42 rfl
theorem q401 : (Jvm.Cond.classLink "MossLawn" (58 : Nat) "MossLawn$OldMoss") ∈ lw_all := lw_g (lw_at lw_m2 47 rfl) rfl
theorem q403 : (Jvm.Cond.methodLinkNest "MossLawn" (60 : Nat) ({ cls := "MossLawn$OldMoss", name := "<init>", desc := "()V" } : Jvm.MethodName) "MossLawn") ∈ lw_tbl := lw_at lw_m2 49 rfl
theorem q408 : (Jvm.Cond.fieldLink "MossLawn" (64 : Nat) "MossLawn$Side" "NORTH" "LMossLawn$Side;") ∈ lw_all := lw_g (lw_at lw_m2 54 rfl) rfl
theorem q410 : (Jvm.Cond.fieldLink "MossLawn" (70 : Nat) "MossLawn$Side" "WEST" "LMossLawn$Side;") ∈ lw_all := lw_g (lw_at lw_m2 56 rfl) rfl
theorem q412 : (Jvm.Cond.fieldLink "MossLawn" (73 : Nat) "MossLawn$Side" "EAST" "LMossLawn$Side;") ∈ lw_all := lw_g (lw_at lw_m2 58 rfl) rfl
theorem q414 : (Jvm.Cond.fieldLink "MossLawn" (76 : Nat) "MossLawn$Side" "SOUTH" "LMossLawn$Side;") ∈ lw_all := lw_g (lw_at lw_m2 60 rfl) rfl
theorem q416 : (Jvm.Cond.methodLink "MossLawn" (79 : Nat) ({ cls := "java/util/List", name := "of", desc := "(Ljava/lang/Object;Ljava/lang/Object;Ljava/lang/Object;Ljava/lang/Object;)Ljava/util/List;" } : Jvm.MethodName)) ∈ lw_all := lw_g (lw_at lw_m2 62 rfl) rfl
theorem q429 : (Jvm.Cond.selects "MossLawn" ({ cls := "java/lang/Object", name := "getClass", desc := "()Ljava/lang/Class;" } : Jvm.MethodName) ({ cls := "java/lang/Object", name := "getClass", desc := "()Ljava/lang/Class;" } : Jvm.MethodName)) ∈ lw_all := lw_g (lw_at lw_m2 75 rfl) rfl
theorem q504 : (Jvm.Cond.classLink "MossLawn" (93 : Nat) "java/lang/StringBuilder") ∈ lw_all := lw_g (lw_at lw_m2 150 rfl) rfl
theorem q506 : (Jvm.Cond.methodLink "MossLawn" (95 : Nat) ({ cls := "java/lang/StringBuilder", name := "<init>", desc := "(I)V" } : Jvm.MethodName)) ∈ lw_all := lw_g (lw_at lw_m2 152 rfl) rfl
theorem q537 : (Jvm.Cond.classLink "MossLawn" (107 : Nat) "java/util/ArrayDeque") ∈ lw_all := lw_g (lw_at lw_m2 183 rfl) rfl
theorem q539 : (Jvm.Cond.methodLink "MossLawn" (109 : Nat) ({ cls := "java/util/ArrayDeque", name := "<init>", desc := "(I)V" } : Jvm.MethodName)) ∈ lw_all := lw_g (lw_at lw_m2 185 rfl) rfl
theorem q555 : (Jvm.Cond.classLink "MossLawn" (114 : Nat) "MossLawn$Done") ∈ lw_all := lw_g (lw_at lw_m2 201 rfl) rfl
theorem q557 : (Jvm.Cond.fieldLink "MossLawn" (20 : Nat) "MossLawn" "now" "LMossLawn$State;") ∈ lw_all := lw_g (lw_at lw_m2 203 rfl) rfl
theorem q558 : (Jvm.Cond.fieldLink "MossLawn" (26 : Nat) "MossLawn" "before" "LMossLawn$State;") ∈ lw_all := lw_g (lw_at lw_m2 204 rfl) rfl
theorem q559 : (Jvm.Cond.fieldLink "MossLawn" (29 : Nat) "MossLawn" "aside" "LMossLawn$State;") ∈ lw_all := lw_g (lw_at lw_m2 205 rfl) rfl
theorem q560 : (Jvm.Cond.fieldLink "MossLawn" (32 : Nat) "MossLawn" "saved" "LMossLawn$State;") ∈ lw_all := lw_g (lw_at lw_m2 206 rfl) rfl
theorem q561 : (Jvm.Cond.fieldLink "MossLawn" (583 : Nat) "MossLawn" "isSaved" "Z") ∈ lw_all := lw_g (lw_at lw_m2 207 rfl) rfl
theorem q562 : (Jvm.Cond.fieldLink "MossLawn" (35 : Nat) "MossLawn" "past" "[LMossLawn$State;") ∈ lw_all := lw_g (lw_at lw_m2 208 rfl) rfl
theorem q563 : (Jvm.Cond.fieldLink "MossLawn" (124 : Nat) "MossLawn" "pastMany" "I") ∈ lw_all := lw_g (lw_at lw_m2 209 rfl) rfl
theorem q564 : (Jvm.Cond.fieldLink "MossLawn" (42 : Nat) "MossLawn" "pebble" "LMossLawn$Ground;") ∈ lw_all := lw_g (lw_at lw_m2 210 rfl) rfl
theorem q565 : (Jvm.Cond.fieldLink "MossLawn" (49 : Nat) "MossLawn" "bare" "LMossLawn$Ground;") ∈ lw_all := lw_g (lw_at lw_m2 211 rfl) rfl
theorem q566 : (Jvm.Cond.fieldLink "MossLawn" (55 : Nat) "MossLawn" "youngMoss" "LMossLawn$Ground;") ∈ lw_all := lw_g (lw_at lw_m2 212 rfl) rfl
theorem q567 : (Jvm.Cond.fieldLink "MossLawn" (61 : Nat) "MossLawn" "oldMoss" "LMossLawn$Ground;") ∈ lw_all := lw_g (lw_at lw_m2 213 rfl) rfl
theorem q568 : (Jvm.Cond.fieldLink "MossLawn" (85 : Nat) "MossLawn" "sides" "Ljava/util/List;") ∈ lw_all := lw_g (lw_at lw_m2 214 rfl) rfl
theorem q569 : (Jvm.Cond.fieldLink "MossLawn" (136 : Nat) "MossLawn" "refused" "LMossLawn$Refused;") ∈ lw_all := lw_g (lw_at lw_m2 215 rfl) rfl
theorem q570 : (Jvm.Cond.fieldLink "MossLawn" (89 : Nat) "MossLawn" "faultAt" "I") ∈ lw_all := lw_g (lw_at lw_m2 216 rfl) rfl
theorem q571 : (Jvm.Cond.fieldLink "MossLawn" (96 : Nat) "MossLawn" "input" "Ljava/lang/StringBuilder;") ∈ lw_all := lw_g (lw_at lw_m2 217 rfl) rfl
theorem q572 : (Jvm.Cond.fieldLink "MossLawn" (100 : Nat) "MossLawn" "line" "Ljava/lang/StringBuilder;") ∈ lw_all := lw_g (lw_at lw_m2 218 rfl) rfl
theorem q573 : (Jvm.Cond.fieldLink "MossLawn" (103 : Nat) "MossLawn" "far" "[I") ∈ lw_all := lw_g (lw_at lw_m2 219 rfl) rfl
theorem q574 : (Jvm.Cond.fieldLink "MossLawn" (110 : Nat) "MossLawn" "reached" "Ljava/util/ArrayDeque;") ∈ lw_all := lw_g (lw_at lw_m2 220 rfl) rfl
theorem q575 : (Jvm.Cond.fieldLink "MossLawn" (116 : Nat) "MossLawn" "orders" "[LMossLawn$Done;") ∈ lw_all := lw_g (lw_at lw_m2 221 rfl) rfl
theorem q576 : (Jvm.Cond.fieldLink "MossLawn" (483 : Nat) "MossLawn" "orderMany" "I") ∈ lw_all := lw_g (lw_at lw_m2 222 rfl) rfl
theorem q577 : (Jvm.Cond.fieldLink "MossLawn" (422 : Nat) "MossLawn" "readAt" "I") ∈ lw_all := lw_g (lw_at lw_m2 223 rfl) rfl
theorem q578 : (Jvm.Cond.laysFinal "MossLawn" "MossLawn" "now" "LMossLawn$State;") ∈ lw_all := lw_g (lw_at lw_m2 224 rfl) rfl
theorem q579 : (Jvm.Cond.soleField "MossLawn" "now") ∈ lw_all := lw_g (lw_at lw_m2 225 rfl) rfl
theorem q580 : (Jvm.Cond.laysFinal "MossLawn" "MossLawn" "before" "LMossLawn$State;") ∈ lw_all := lw_g (lw_at lw_m2 226 rfl) rfl
theorem q581 : (Jvm.Cond.soleField "MossLawn" "before") ∈ lw_all := lw_g (lw_at lw_m2 227 rfl) rfl
theorem q582 : (Jvm.Cond.laysFinal "MossLawn" "MossLawn" "aside" "LMossLawn$State;") ∈ lw_all := lw_g (lw_at lw_m2 228 rfl) rfl
theorem q583 : (Jvm.Cond.soleField "MossLawn" "aside") ∈ lw_all := lw_g (lw_at lw_m2 229 rfl) rfl
theorem q584 : (Jvm.Cond.laysFinal "MossLawn" "MossLawn" "saved" "LMossLawn$State;") ∈ lw_all := lw_g (lw_at lw_m2 230 rfl) rfl
theorem q585 : (Jvm.Cond.soleField "MossLawn" "saved") ∈ lw_all := lw_g (lw_at lw_m2 231 rfl) rfl
theorem q586 : (Jvm.Cond.lays "MossLawn" "MossLawn" "isSaved" "Z") ∈ lw_all := lw_g (lw_at lw_m2 232 rfl) rfl
theorem q587 : (Jvm.Cond.soleField "MossLawn" "isSaved") ∈ lw_all := lw_g (lw_at lw_m2 233 rfl) rfl
theorem q588 : (Jvm.Cond.laysFinal "MossLawn" "MossLawn" "past" "[LMossLawn$State;") ∈ lw_all := lw_g (lw_at lw_m2 234 rfl) rfl
theorem q589 : (Jvm.Cond.soleField "MossLawn" "past") ∈ lw_all := lw_g (lw_at lw_m2 235 rfl) rfl
theorem q590 : (Jvm.Cond.lays "MossLawn" "MossLawn" "pastMany" "I") ∈ lw_all := lw_g (lw_at lw_m2 236 rfl) rfl
theorem q591 : (Jvm.Cond.soleField "MossLawn" "pastMany") ∈ lw_all := lw_g (lw_at lw_m2 237 rfl) rfl
theorem q592 : (Jvm.Cond.laysFinal "MossLawn" "MossLawn" "pebble" "LMossLawn$Ground;") ∈ lw_all := lw_g (lw_at lw_m2 238 rfl) rfl
theorem q593 : (Jvm.Cond.soleField "MossLawn" "pebble") ∈ lw_all := lw_g (lw_at lw_m2 239 rfl) rfl
theorem q594 : (Jvm.Cond.laysFinal "MossLawn" "MossLawn" "bare" "LMossLawn$Ground;") ∈ lw_all := lw_g (lw_at lw_m3 0 rfl) rfl
theorem q595 : (Jvm.Cond.soleField "MossLawn" "bare") ∈ lw_all := lw_g (lw_at lw_m3 1 rfl) rfl
theorem q596 : (Jvm.Cond.laysFinal "MossLawn" "MossLawn" "youngMoss" "LMossLawn$Ground;") ∈ lw_all := lw_g (lw_at lw_m3 2 rfl) rfl
theorem q597 : (Jvm.Cond.soleField "MossLawn" "youngMoss") ∈ lw_all := lw_g (lw_at lw_m3 3 rfl) rfl
theorem q598 : (Jvm.Cond.laysFinal "MossLawn" "MossLawn" "oldMoss" "LMossLawn$Ground;") ∈ lw_all := lw_g (lw_at lw_m3 4 rfl) rfl
theorem q599 : (Jvm.Cond.soleField "MossLawn" "oldMoss") ∈ lw_all := lw_g (lw_at lw_m3 5 rfl) rfl
theorem q600 : (Jvm.Cond.laysFinal "MossLawn" "MossLawn" "sides" "Ljava/util/List;") ∈ lw_all := lw_g (lw_at lw_m3 6 rfl) rfl
theorem q601 : (Jvm.Cond.soleField "MossLawn" "sides") ∈ lw_all := lw_g (lw_at lw_m3 7 rfl) rfl
theorem q602 : (Jvm.Cond.lays "MossLawn" "MossLawn" "refused" "LMossLawn$Refused;") ∈ lw_all := lw_g (lw_at lw_m3 8 rfl) rfl
theorem q603 : (Jvm.Cond.soleField "MossLawn" "refused") ∈ lw_all := lw_g (lw_at lw_m3 9 rfl) rfl
theorem q604 : (Jvm.Cond.lays "MossLawn" "MossLawn" "faultAt" "I") ∈ lw_all := lw_g (lw_at lw_m3 10 rfl) rfl
theorem q605 : (Jvm.Cond.soleField "MossLawn" "faultAt") ∈ lw_all := lw_g (lw_at lw_m3 11 rfl) rfl
theorem q606 : (Jvm.Cond.laysFinal "MossLawn" "MossLawn" "input" "Ljava/lang/StringBuilder;") ∈ lw_all := lw_g (lw_at lw_m3 12 rfl) rfl
theorem q607 : (Jvm.Cond.soleField "MossLawn" "input") ∈ lw_all := lw_g (lw_at lw_m3 13 rfl) rfl
theorem q608 : (Jvm.Cond.laysFinal "MossLawn" "MossLawn" "line" "Ljava/lang/StringBuilder;") ∈ lw_all := lw_g (lw_at lw_m3 14 rfl) rfl
theorem q609 : (Jvm.Cond.soleField "MossLawn" "line") ∈ lw_all := lw_g (lw_at lw_m3 15 rfl) rfl
theorem q610 : (Jvm.Cond.laysFinal "MossLawn" "MossLawn" "far" "[I") ∈ lw_all := lw_g (lw_at lw_m3 16 rfl) rfl
theorem q611 : (Jvm.Cond.soleField "MossLawn" "far") ∈ lw_all := lw_g (lw_at lw_m3 17 rfl) rfl
theorem q612 : (Jvm.Cond.laysFinal "MossLawn" "MossLawn" "reached" "Ljava/util/ArrayDeque;") ∈ lw_all := lw_g (lw_at lw_m3 18 rfl) rfl
theorem q613 : (Jvm.Cond.soleField "MossLawn" "reached") ∈ lw_all := lw_g (lw_at lw_m3 19 rfl) rfl
theorem q614 : (Jvm.Cond.laysFinal "MossLawn" "MossLawn" "orders" "[LMossLawn$Done;") ∈ lw_all := lw_g (lw_at lw_m3 20 rfl) rfl
theorem q615 : (Jvm.Cond.soleField "MossLawn" "orders") ∈ lw_all := lw_g (lw_at lw_m3 21 rfl) rfl
theorem q616 : (Jvm.Cond.lays "MossLawn" "MossLawn" "orderMany" "I") ∈ lw_all := lw_g (lw_at lw_m3 22 rfl) rfl
theorem q617 : (Jvm.Cond.soleField "MossLawn" "orderMany") ∈ lw_all := lw_g (lw_at lw_m3 23 rfl) rfl
theorem q618 : (Jvm.Cond.lays "MossLawn" "MossLawn" "readAt" "I") ∈ lw_all := lw_g (lw_at lw_m3 24 rfl) rfl
theorem q619 : (Jvm.Cond.soleField "MossLawn" "readAt") ∈ lw_all := lw_g (lw_at lw_m3 25 rfl) rfl
theorem q620 : (Jvm.Cond.superclass "MossLawn" "java/lang/Object") ∈ lw_all := lw_g (lw_at lw_m3 26 rfl) rfl
theorem q622 : (Jvm.Cond.instanceMethod ({ cls := "MossLawn", name := "clear", desc := "()I" } : Jvm.MethodName)) ∈ lw_all := lw_g (lw_at lw_m3 28 rfl) rfl
theorem q623 : (Jvm.Cond.selects "MossLawn" ({ cls := "MossLawn", name := "clear", desc := "()I" } : Jvm.MethodName) ({ cls := "MossLawn", name := "clear", desc := "()I" } : Jvm.MethodName)) ∈ lw_all := lw_g (lw_at lw_m3 29 rfl) rfl
theorem q624 : (Jvm.Cond.code ({ cls := "MossLawn", name := "clear", desc := "()I" } : Jvm.MethodName) prog_1_method_10_code (2 : Nat) (Option.some Jvm.ClassFile.FieldType.int)) ∈ lw_all := lw_g (lw_at lw_m3 30 rfl) rfl
theorem q625 : (Jvm.Cond.methodLink "MossLawn" (160 : Nat) ({ cls := "MossLawn$State", name := "empties", desc := "()V" } : Jvm.MethodName)) ∈ lw_all := lw_g (lw_at lw_m3 31 rfl) rfl
theorem q627 : (Jvm.Cond.instanceMethod ({ cls := "MossLawn", name := "shade", desc := "(II)I" } : Jvm.MethodName)) ∈ lw_all := lw_g (lw_at lw_m3 33 rfl) rfl
theorem q628 : (Jvm.Cond.selects "MossLawn" ({ cls := "MossLawn", name := "shade", desc := "(II)I" } : Jvm.MethodName) ({ cls := "MossLawn", name := "shade", desc := "(II)I" } : Jvm.MethodName)) ∈ lw_all := lw_g (lw_at lw_m3 34 rfl) rfl
theorem q629 : (Jvm.Cond.code ({ cls := "MossLawn", name := "shade", desc := "(II)I" } : Jvm.MethodName) prog_1_method_11_code (4 : Nat) (Option.some Jvm.ClassFile.FieldType.int)) ∈ lw_all := lw_g (lw_at lw_m3 35 rfl) rfl
theorem q630 : (Jvm.Cond.methodLink "MossLawn" (163 : Nat) ({ cls := "MossLawn", name := "isSquare", desc := "(I)Z" } : Jvm.MethodName)) ∈ lw_all := lw_g (lw_at lw_m3 36 rfl) rfl
theorem q631 : (Jvm.Cond.static ({ cls := "MossLawn", name := "isSquare", desc := "(I)Z" } : Jvm.MethodName)) ∈ lw_all := lw_g (lw_at lw_m3 37 rfl) rfl
theorem q632 : (Jvm.Cond.code ({ cls := "MossLawn", name := "isSquare", desc := "(I)Z" } : Jvm.MethodName) prog_1_method_8_code (1 : Nat) (Option.some Jvm.ClassFile.FieldType.boolean)) ∈ lw_all := lw_g (lw_at lw_m3 38 rfl) rfl
theorem q633 : (Jvm.Cond.methodLink "MossLawn" (140 : Nat) ({ cls := "MossLawn", name := "within", desc := "(III)Z" } : Jvm.MethodName)) ∈ lw_all := lw_g (lw_at lw_m3 39 rfl) rfl
theorem q634 : (Jvm.Cond.static ({ cls := "MossLawn", name := "within", desc := "(III)Z" } : Jvm.MethodName)) ∈ lw_all := lw_g (lw_at lw_m3 40 rfl) rfl
theorem q635 : (Jvm.Cond.code ({ cls := "MossLawn", name := "within", desc := "(III)Z" } : Jvm.MethodName) prog_1_method_1_code (3 : Nat) (Option.some Jvm.ClassFile.FieldType.boolean)) ∈ lw_all := lw_g (lw_at lw_m3 41 rfl) rfl
theorem q636 : (Jvm.Cond.methodLink "MossLawn" (166 : Nat) ({ cls := "MossLawn", name := "begins", desc := "()V" } : Jvm.MethodName)) ∈ lw_all := lw_g (lw_at lw_m3 42 rfl) rfl
theorem q637 : (Jvm.Cond.privateMethod ({ cls := "MossLawn", name := "begins", desc := "()V" } : Jvm.MethodName)) ∈ lw_tbl := lw_at lw_m3 43 rfl
theorem q638 : (Jvm.Cond.instanceMethod ({ cls := "MossLawn", name := "begins", desc := "()V" } : Jvm.MethodName)) ∈ lw_all := lw_g (lw_at lw_m3 44 rfl) rfl
theorem q639 : (Jvm.Cond.code ({ cls := "MossLawn", name := "begins", desc := "()V" } : Jvm.MethodName) prog_1_method_5_code (1 : Nat) (Option.none : Option Jvm.ClassFile.FieldType)) ∈ lw_all := lw_g (lw_at lw_m3 45 rfl) rfl
theorem q640 : (Jvm.Cond.methodLink "MossLawn" (120 : Nat) ({ cls := "MossLawn$State", name := "like", desc := "(LMossLawn$State;)V" } : Jvm.MethodName)) ∈ lw_all := lw_g (lw_at lw_m3 46 rfl) rfl
theorem q777 : (Jvm.Cond.methodLink "MossLawn" (172 : Nat) ({ cls := "MossLawn", name := "changed", desc := "(I)I" } : Jvm.MethodName)) ∈ lw_all := lw_g (lw_at lw_m3 183 rfl) rfl
theorem q778 : (Jvm.Cond.privateMethod ({ cls := "MossLawn", name := "changed", desc := "(I)I" } : Jvm.MethodName)) ∈ lw_tbl := lw_at lw_m3 184 rfl
theorem q779 : (Jvm.Cond.instanceMethod ({ cls := "MossLawn", name := "changed", desc := "(I)I" } : Jvm.MethodName)) ∈ lw_all := lw_g (lw_at lw_m3 185 rfl) rfl
theorem q780 : (Jvm.Cond.code ({ cls := "MossLawn", name := "changed", desc := "(I)I" } : Jvm.MethodName) prog_1_method_6_code (3 : Nat) (Option.some Jvm.ClassFile.FieldType.int)) ∈ lw_all := lw_g (lw_at lw_m3 186 rfl) rfl
theorem q781 : (Jvm.Cond.methodLink "MossLawn" (127 : Nat) ({ cls := "java/lang/System", name := "arraycopy", desc := "(Ljava/lang/Object;ILjava/lang/Object;II)V" } : Jvm.MethodName)) ∈ lw_all := lw_g (lw_at lw_m3 187 rfl) rfl
theorem q783 : (Jvm.Cond.instanceMethod ({ cls := "MossLawn", name := "stone", desc := "(I)I" } : Jvm.MethodName)) ∈ lw_all := lw_g (lw_at lw_m3 189 rfl) rfl
theorem q784 : (Jvm.Cond.selects "MossLawn" ({ cls := "MossLawn", name := "stone", desc := "(I)I" } : Jvm.MethodName) ({ cls := "MossLawn", name := "stone", desc := "(I)I" } : Jvm.MethodName)) ∈ lw_all := lw_g (lw_at lw_m3 190 rfl) rfl
theorem q785 : (Jvm.Cond.codeWith ({ cls := "MossLawn", name := "stone", desc := "(I)I" } : Jvm.MethodName) prog_1_method_16_code (3 : Nat) (Option.some Jvm.ClassFile.FieldType.int) [((4 : Nat), (13 : Nat), (14 : Nat), (1 : Nat)), ((4 : Nat), (13 : Nat), (14 : Nat), (7 : Nat))]) ∈ lw_all := lw_g (lw_at lw_m3 191 rfl) rfl
theorem q786 : (Jvm.Cond.classLink "MossLawn" (1 : Nat) "MossLawn$Wrong") ∈ lw_all := lw_g (lw_at lw_m3 192 rfl) rfl
theorem q787 : (Jvm.Cond.classLink "MossLawn" (7 : Nat) "MossLawn$Refused") ∈ lw_all := lw_g (lw_at lw_m3 193 rfl) rfl
theorem q788 : (Jvm.Cond.methodLink "MossLawn" (221 : Nat) ({ cls := "MossLawn", name := "doStone", desc := "(I)I" } : Jvm.MethodName)) ∈ lw_all := lw_g (lw_at lw_m3 194 rfl) rfl
theorem q789 : (Jvm.Cond.privateMethod ({ cls := "MossLawn", name := "doStone", desc := "(I)I" } : Jvm.MethodName)) ∈ lw_tbl := lw_at lw_m3 195 rfl
theorem q790 : (Jvm.Cond.instanceMethod ({ cls := "MossLawn", name := "doStone", desc := "(I)I" } : Jvm.MethodName)) ∈ lw_all := lw_g (lw_at lw_m3 196 rfl) rfl
theorem q791 : (Jvm.Cond.code ({ cls := "MossLawn", name := "doStone", desc := "(I)I" } : Jvm.MethodName) prog_1_method_15_code (3 : Nat) (Option.some Jvm.ClassFile.FieldType.int)) ∈ lw_all := lw_g (lw_at lw_m3 197 rfl) rfl
theorem q792 : (Jvm.Cond.methodLink "MossLawn" (195 : Nat) ({ cls := "MossLawn", name := "want", desc := "(ZI)V" } : Jvm.MethodName)) ∈ lw_all := lw_g (lw_at lw_m3 198 rfl) rfl
theorem q793 : (Jvm.Cond.static ({ cls := "MossLawn", name := "want", desc := "(ZI)V" } : Jvm.MethodName)) ∈ lw_all := lw_g (lw_at lw_m3 199 rfl) rfl
theorem q794 : (Jvm.Cond.code ({ cls := "MossLawn", name := "want", desc := "(ZI)V" } : Jvm.MethodName) prog_1_method_2_code (2 : Nat) (Option.none : Option Jvm.ClassFile.FieldType)) ∈ lw_all := lw_g (lw_at lw_m3 200 rfl) rfl
theorem q834 : (Jvm.Cond.methodLink "MossLawn" (3 : Nat) ({ cls := "MossLawn$Wrong", name := "<init>", desc := "(I)V" } : Jvm.MethodName)) ∈ lw_all := lw_g (lw_at lw_m4 0 rfl) rfl
theorem q844 : (Jvm.Cond.fieldLinkNest "MossLawn" (133 : Nat) "MossLawn$Wrong" "code" "I" "MossLawn") ∈ lw_tbl := lw_at lw_m4 10 rfl
theorem q860 : (Jvm.Cond.methodLink "MossLawn" (148 : Nat) ({ cls := "java/util/BitSet", name := "get", desc := "(I)Z" } : Jvm.MethodName)) ∈ lw_all := lw_g (lw_at lw_m4 26 rfl) rfl
theorem q864 : (Jvm.Cond.methodLink "MossLawn" (199 : Nat) ({ cls := "MossLawn", name := "allow", desc := "(ZII)V" } : Jvm.MethodName)) ∈ lw_all := lw_g (lw_at lw_m4 30 rfl) rfl
theorem q865 : (Jvm.Cond.static ({ cls := "MossLawn", name := "allow", desc := "(ZII)V" } : Jvm.MethodName)) ∈ lw_all := lw_g (lw_at lw_m4 31 rfl) rfl
theorem q866 : (Jvm.Cond.code ({ cls := "MossLawn", name := "allow", desc := "(ZII)V" } : Jvm.MethodName) prog_1_method_3_code (3 : Nat) (Option.none : Option Jvm.ClassFile.FieldType)) ∈ lw_all := lw_g (lw_at lw_m4 32 rfl) rfl
theorem q875 : (Jvm.Cond.methodLink "MossLawn" (9 : Nat) ({ cls := "MossLawn$Refused", name := "<init>", desc := "(II)V" } : Jvm.MethodName)) ∈ lw_all := lw_g (lw_at lw_m4 41 rfl) rfl
theorem q883 : (Jvm.Cond.fieldLinkNest "MossLawn" (507 : Nat) "MossLawn$Refused" "reason" "I" "MossLawn") ∈ lw_tbl := lw_at lw_m4 49 rfl
theorem q885 : (Jvm.Cond.fieldLinkNest "MossLawn" (504 : Nat) "MossLawn$Refused" "detail" "I" "MossLawn") ∈ lw_tbl := lw_at lw_m4 51 rfl
theorem q892 : (Jvm.Cond.methodLink "MossLawn" (203 : Nat) ({ cls := "MossLawn", name := "gardenersOn", desc := "(I)I" } : Jvm.MethodName)) ∈ lw_all := lw_g (lw_at lw_m4 58 rfl) rfl
theorem q893 : (Jvm.Cond.privateMethod ({ cls := "MossLawn", name := "gardenersOn", desc := "(I)I" } : Jvm.MethodName)) ∈ lw_tbl := lw_at lw_m4 59 rfl
theorem q894 : (Jvm.Cond.instanceMethod ({ cls := "MossLawn", name := "gardenersOn", desc := "(I)I" } : Jvm.MethodName)) ∈ lw_all := lw_g (lw_at lw_m4 60 rfl) rfl
theorem q895 : (Jvm.Cond.code ({ cls := "MossLawn", name := "gardenersOn", desc := "(I)I" } : Jvm.MethodName) prog_1_method_13_code (2 : Nat) (Option.some Jvm.ClassFile.FieldType.int)) ∈ lw_all := lw_g (lw_at lw_m4 61 rfl) rfl
theorem q896 : (Jvm.Cond.privateMethod ({ cls := "MossLawn", name := "lambda$gardenersOn$0", desc := "(II)Z" } : Jvm.MethodName)) ∈ lw_tbl := lw_at lw_m4 62 rfl
theorem q897 : (Jvm.Cond.instanceMethod ({ cls := "MossLawn", name := "lambda$gardenersOn$0", desc := "(II)Z" } : Jvm.MethodName)) ∈ lw_all := lw_g (lw_at lw_m4 63 rfl) rfl
theorem q898 : (Jvm.Cond.code ({ cls := "MossLawn", name := "lambda$gardenersOn$0", desc := "(II)Z" } : Jvm.MethodName) prog_1_method_100_code (3 : Nat) (Option.some Jvm.ClassFile.FieldType.boolean)) ∈ lw_all := lw_g (lw_at lw_m4 64 rfl) rfl
theorem q899 : (Jvm.Cond.methodLink "MossLawn" (187 : Nat) ({ cls := "MossLawn", name := "setOf", desc := "(ILMossLawn$Chosen;)I" } : Jvm.MethodName)) ∈ lw_all := lw_g (lw_at lw_m4 65 rfl) rfl
theorem q900 : (Jvm.Cond.static ({ cls := "MossLawn", name := "setOf", desc := "(ILMossLawn$Chosen;)I" } : Jvm.MethodName)) ∈ lw_all := lw_g (lw_at lw_m4 66 rfl) rfl
theorem q901 : (Jvm.Cond.code ({ cls := "MossLawn", name := "setOf", desc := "(ILMossLawn$Chosen;)I" } : Jvm.MethodName) prog_1_method_12_code (4 : Nat) (Option.some Jvm.ClassFile.FieldType.int)) ∈ lw_all := lw_g (lw_at lw_m4 67 rfl) rfl
theorem q902 : (Jvm.Cond.interfaceEntry "MossLawn" (176 : Nat)) ∈ lw_tbl := lw_at lw_m4 68 rfl
theorem q903 : (Jvm.Cond.methodLink "MossLawn" (176 : Nat) ({ cls := "MossLawn$Chosen", name := "is", desc := "(I)Z" } : Jvm.MethodName)) ∈ lw_all := lw_g (lw_at lw_m4 69 rfl) rfl
theorem q906 : (Jvm.Cond.methodLink "MossLawn" (206 : Nat) ({ cls := "MossLawn", name := "molesOn", desc := "(I)I" } : Jvm.MethodName)) ∈ lw_all := lw_g (lw_at lw_m4 72 rfl) rfl
theorem q907 : (Jvm.Cond.privateMethod ({ cls := "MossLawn", name := "molesOn", desc := "(I)I" } : Jvm.MethodName)) ∈ lw_tbl := lw_at lw_m4 73 rfl
theorem q908 : (Jvm.Cond.instanceMethod ({ cls := "MossLawn", name := "molesOn", desc := "(I)I" } : Jvm.MethodName)) ∈ lw_all := lw_g (lw_at lw_m4 74 rfl) rfl
theorem q909 : (Jvm.Cond.code ({ cls := "MossLawn", name := "molesOn", desc := "(I)I" } : Jvm.MethodName) prog_1_method_14_code (2 : Nat) (Option.some Jvm.ClassFile.FieldType.int)) ∈ lw_all := lw_g (lw_at lw_m4 75 rfl) rfl
theorem q910 : (Jvm.Cond.privateMethod ({ cls := "MossLawn", name := "lambda$molesOn$1", desc := "(II)Z" } : Jvm.MethodName)) ∈ lw_tbl := lw_at lw_m4 76 rfl
theorem q911 : (Jvm.Cond.instanceMethod ({ cls := "MossLawn", name := "lambda$molesOn$1", desc := "(II)Z" } : Jvm.MethodName)) ∈ lw_all := lw_g (lw_at lw_m4 77 rfl) rfl
theorem q912 : (Jvm.Cond.code ({ cls := "MossLawn", name := "lambda$molesOn$1", desc := "(II)Z" } : Jvm.MethodName) prog_1_method_99_code (3 : Nat) (Option.some Jvm.ClassFile.FieldType.boolean)) ∈ lw_all := lw_g (lw_at lw_m4 78 rfl) rfl
theorem q913 : (Jvm.Cond.methodLink "MossLawn" (586 : Nat) ({ cls := "MossLawn$Mole", name := "isOn", desc := "(I)Z" } : Jvm.MethodName)) ∈ lw_all := lw_g (lw_at lw_m4 79 rfl) rfl
theorem q917 : (Jvm.Cond.methodLink "MossLawn" (212 : Nat) ({ cls := "MossLawn$State", name := "loses", desc := "(II)V" } : Jvm.MethodName)) ∈ lw_all := lw_g (lw_at lw_m4 83 rfl) rfl
theorem q921 : (Jvm.Cond.methodLink "MossLawn" (218 : Nat) ({ cls := "java/util/BitSet", name := "set", desc := "(I)V" } : Jvm.MethodName)) ∈ lw_all := lw_g (lw_at lw_m4 87 rfl) rfl
theorem q929 : (Jvm.Cond.methodLink "MossLawn" (224 : Nat) ({ cls := "MossLawn", name := "notDone", desc := "(Ljava/lang/Exception;)I" } : Jvm.MethodName)) ∈ lw_all := lw_g (lw_at lw_m4 95 rfl) rfl
theorem q930 : (Jvm.Cond.privateMethod ({ cls := "MossLawn", name := "notDone", desc := "(Ljava/lang/Exception;)I" } : Jvm.MethodName)) ∈ lw_tbl := lw_at lw_m4 96 rfl
theorem q931 : (Jvm.Cond.instanceMethod ({ cls := "MossLawn", name := "notDone", desc := "(Ljava/lang/Exception;)I" } : Jvm.MethodName)) ∈ lw_all := lw_g (lw_at lw_m4 97 rfl) rfl
theorem q932 : (Jvm.Cond.code ({ cls := "MossLawn", name := "notDone", desc := "(Ljava/lang/Exception;)I" } : Jvm.MethodName) prog_1_method_7_code (2 : Nat) (Option.some Jvm.ClassFile.FieldType.int)) ∈ lw_all := lw_g (lw_at lw_m4 98 rfl) rfl
theorem q934 : (Jvm.Cond.instanceMethod ({ cls := "MossLawn", name := "rain", desc := "(I)I" } : Jvm.MethodName)) ∈ lw_all := lw_g (lw_at lw_m4 100 rfl) rfl
theorem q935 : (Jvm.Cond.selects "MossLawn" ({ cls := "MossLawn", name := "rain", desc := "(I)I" } : Jvm.MethodName) ({ cls := "MossLawn", name := "rain", desc := "(I)I" } : Jvm.MethodName)) ∈ lw_all := lw_g (lw_at lw_m4 101 rfl) rfl
theorem q936 : (Jvm.Cond.codeWith ({ cls := "MossLawn", name := "rain", desc := "(I)I" } : Jvm.MethodName) prog_1_method_18_code (3 : Nat) (Option.some Jvm.ClassFile.FieldType.int) [((4 : Nat), (13 : Nat), (14 : Nat), (1 : Nat))]) ∈ lw_all := lw_g (lw_at lw_m4 102 rfl) rfl
theorem q937 : (Jvm.Cond.methodLink "MossLawn" (231 : Nat) ({ cls := "MossLawn", name := "doRain", desc := "(I)I" } : Jvm.MethodName)) ∈ lw_all := lw_g (lw_at lw_m4 103 rfl) rfl
theorem q938 : (Jvm.Cond.privateMethod ({ cls := "MossLawn", name := "doRain", desc := "(I)I" } : Jvm.MethodName)) ∈ lw_tbl := lw_at lw_m4 104 rfl
theorem q939 : (Jvm.Cond.instanceMethod ({ cls := "MossLawn", name := "doRain", desc := "(I)I" } : Jvm.MethodName)) ∈ lw_all := lw_g (lw_at lw_m4 105 rfl) rfl
theorem q940 : (Jvm.Cond.code ({ cls := "MossLawn", name := "doRain", desc := "(I)I" } : Jvm.MethodName) prog_1_method_17_code (3 : Nat) (Option.some Jvm.ClassFile.FieldType.int)) ∈ lw_all := lw_g (lw_at lw_m4 106 rfl) rfl
theorem q942 : (Jvm.Cond.instanceMethod ({ cls := "MossLawn", name := "gardener", desc := "(I)I" } : Jvm.MethodName)) ∈ lw_all := lw_g (lw_at lw_m4 108 rfl) rfl
theorem q943 : (Jvm.Cond.selects "MossLawn" ({ cls := "MossLawn", name := "gardener", desc := "(I)I" } : Jvm.MethodName) ({ cls := "MossLawn", name := "gardener", desc := "(I)I" } : Jvm.MethodName)) ∈ lw_all := lw_g (lw_at lw_m4 109 rfl) rfl
theorem q944 : (Jvm.Cond.codeWith ({ cls := "MossLawn", name := "gardener", desc := "(I)I" } : Jvm.MethodName) prog_1_method_21_code (3 : Nat) (Option.some Jvm.ClassFile.FieldType.int) [((4 : Nat), (13 : Nat), (14 : Nat), (1 : Nat)), ((4 : Nat), (13 : Nat), (14 : Nat), (7 : Nat))]) ∈ lw_all := lw_g (lw_at lw_m4 110 rfl) rfl
theorem q945 : (Jvm.Cond.methodLink "MossLawn" (253 : Nat) ({ cls := "MossLawn", name := "doGardener", desc := "(I)I" } : Jvm.MethodName)) ∈ lw_all := lw_g (lw_at lw_m4 111 rfl) rfl
theorem q946 : (Jvm.Cond.privateMethod ({ cls := "MossLawn", name := "doGardener", desc := "(I)I" } : Jvm.MethodName)) ∈ lw_tbl := lw_at lw_m4 112 rfl
theorem q947 : (Jvm.Cond.instanceMethod ({ cls := "MossLawn", name := "doGardener", desc := "(I)I" } : Jvm.MethodName)) ∈ lw_all := lw_g (lw_at lw_m4 113 rfl) rfl
theorem q948 : (Jvm.Cond.code ({ cls := "MossLawn", name := "doGardener", desc := "(I)I" } : Jvm.MethodName) prog_1_method_20_code (2 : Nat) (Option.some Jvm.ClassFile.FieldType.int)) ∈ lw_all := lw_g (lw_at lw_m4 114 rfl) rfl
theorem q949 : (Jvm.Cond.methodLink "MossLawn" (241 : Nat) ({ cls := "MossLawn", name := "tread", desc := "(I)V" } : Jvm.MethodName)) ∈ lw_all := lw_g (lw_at lw_m4 115 rfl) rfl
theorem q950 : (Jvm.Cond.privateMethod ({ cls := "MossLawn", name := "tread", desc := "(I)V" } : Jvm.MethodName)) ∈ lw_tbl := lw_at lw_m4 116 rfl
theorem q951 : (Jvm.Cond.instanceMethod ({ cls := "MossLawn", name := "tread", desc := "(I)V" } : Jvm.MethodName)) ∈ lw_all := lw_g (lw_at lw_m4 117 rfl) rfl
theorem q952 : (Jvm.Cond.code ({ cls := "MossLawn", name := "tread", desc := "(I)V" } : Jvm.MethodName) prog_1_method_19_code (2 : Nat) (Option.none : Option Jvm.ClassFile.FieldType)) ∈ lw_all := lw_g (lw_at lw_m4 118 rfl) rfl
theorem q953 : (Jvm.Cond.methodLink "MossLawn" (234 : Nat) ({ cls := "MossLawn", name := "groundOf", desc := "(I)LMossLawn$Ground;" } : Jvm.MethodName)) ∈ lw_all := lw_g (lw_at lw_m4 119 rfl) rfl
theorem q954 : (Jvm.Cond.privateMethod ({ cls := "MossLawn", name := "groundOf", desc := "(I)LMossLawn$Ground;" } : Jvm.MethodName)) ∈ lw_tbl := lw_at lw_m4 120 rfl
theorem q955 : (Jvm.Cond.instanceMethod ({ cls := "MossLawn", name := "groundOf", desc := "(I)LMossLawn$Ground;" } : Jvm.MethodName)) ∈ lw_all := lw_g (lw_at lw_m4 121 rfl) rfl
theorem q956 : (Jvm.Cond.code ({ cls := "MossLawn", name := "groundOf", desc := "(I)LMossLawn$Ground;" } : Jvm.MethodName) prog_1_method_9_code (3 : Nat) (Option.some (Jvm.ClassFile.FieldType.object "MossLawn$Ground"))) ∈ lw_all := lw_g (lw_at lw_m4 122 rfl) rfl
theorem q957 : (Jvm.Cond.methodLink "MossLawn" (238 : Nat) ({ cls := "MossLawn$Refused", name := "<init>", desc := "(IILMossLawn$Refused;)V" } : Jvm.MethodName)) ∈ lw_all := lw_g (lw_at lw_m4 123 rfl) rfl
theorem q958 : (Jvm.Cond.methodLink "MossLawn" (248 : Nat) ({ cls := "MossLawn$Gardener", name := "becomes", desc := "(I)V" } : Jvm.MethodName)) ∈ lw_all := lw_g (lw_at lw_m4 124 rfl) rfl
theorem q963 : (Jvm.Cond.instanceMethod ({ cls := "MossLawn", name := "walk", desc := "(IC)I" } : Jvm.MethodName)) ∈ lw_all := lw_g (lw_at lw_m4 129 rfl) rfl
theorem q964 : (Jvm.Cond.selects "MossLawn" ({ cls := "MossLawn", name := "walk", desc := "(IC)I" } : Jvm.MethodName) ({ cls := "MossLawn", name := "walk", desc := "(IC)I" } : Jvm.MethodName)) ∈ lw_all := lw_g (lw_at lw_m4 130 rfl) rfl
theorem q965 : (Jvm.Cond.codeWith ({ cls := "MossLawn", name := "walk", desc := "(IC)I" } : Jvm.MethodName) prog_1_method_25_code (4 : Nat) (Option.some Jvm.ClassFile.FieldType.int) [((4 : Nat), (14 : Nat), (15 : Nat), (1 : Nat)), ((4 : Nat), (14 : Nat), (15 : Nat), (7 : Nat))]) ∈ lw_all := lw_g (lw_at lw_m4 131 rfl) rfl
theorem q966 : (Jvm.Cond.methodLink "MossLawn" (279 : Nat) ({ cls := "MossLawn", name := "doWalk", desc := "(IC)I" } : Jvm.MethodName)) ∈ lw_all := lw_g (lw_at lw_m4 132 rfl) rfl
theorem q967 : (Jvm.Cond.privateMethod ({ cls := "MossLawn", name := "doWalk", desc := "(IC)I" } : Jvm.MethodName)) ∈ lw_tbl := lw_at lw_m4 133 rfl
theorem q968 : (Jvm.Cond.instanceMethod ({ cls := "MossLawn", name := "doWalk", desc := "(IC)I" } : Jvm.MethodName)) ∈ lw_all := lw_g (lw_at lw_m4 134 rfl) rfl
theorem q969 : (Jvm.Cond.code ({ cls := "MossLawn", name := "doWalk", desc := "(IC)I" } : Jvm.MethodName) prog_1_method_24_code (5 : Nat) (Option.some Jvm.ClassFile.FieldType.int)) ∈ lw_all := lw_g (lw_at lw_m4 135 rfl) rfl
theorem q970 : (Jvm.Cond.methodLink "MossLawn" (265 : Nat) ({ cls := "MossLawn", name := "gardenerAt", desc := "(I)LMossLawn$Gardener;" } : Jvm.MethodName)) ∈ lw_all := lw_g (lw_at lw_m4 136 rfl) rfl
theorem q971 : (Jvm.Cond.privateMethod ({ cls := "MossLawn", name := "gardenerAt", desc := "(I)LMossLawn$Gardener;" } : Jvm.MethodName)) ∈ lw_tbl := lw_at lw_m4 137 rfl
theorem q972 : (Jvm.Cond.instanceMethod ({ cls := "MossLawn", name := "gardenerAt", desc := "(I)LMossLawn$Gardener;" } : Jvm.MethodName)) ∈ lw_all := lw_g (lw_at lw_m4 138 rfl) rfl
theorem q973 : (Jvm.Cond.code ({ cls := "MossLawn", name := "gardenerAt", desc := "(I)LMossLawn$Gardener;" } : Jvm.MethodName) prog_1_method_22_code (2 : Nat) (Option.some (Jvm.ClassFile.FieldType.object "MossLawn$Gardener"))) ∈ lw_all := lw_g (lw_at lw_m4 139 rfl) rfl
theorem q974 : (Jvm.Cond.methodLink "MossLawn" (269 : Nat) ({ cls := "MossLawn", name := "beside", desc := "(LMossLawn$Gardener;C)I" } : Jvm.MethodName)) ∈ lw_all := lw_g (lw_at lw_m4 140 rfl) rfl
theorem q975 : (Jvm.Cond.privateMethod ({ cls := "MossLawn", name := "beside", desc := "(LMossLawn$Gardener;C)I" } : Jvm.MethodName)) ∈ lw_tbl := lw_at lw_m4 141 rfl
theorem q976 : (Jvm.Cond.instanceMethod ({ cls := "MossLawn", name := "beside", desc := "(LMossLawn$Gardener;C)I" } : Jvm.MethodName)) ∈ lw_all := lw_g (lw_at lw_m4 142 rfl) rfl
theorem q977 : (Jvm.Cond.code ({ cls := "MossLawn", name := "beside", desc := "(LMossLawn$Gardener;C)I" } : Jvm.MethodName) prog_1_method_23_code (5 : Nat) (Option.some Jvm.ClassFile.FieldType.int)) ∈ lw_all := lw_g (lw_at lw_m4 143 rfl) rfl
theorem q978 : (Jvm.Cond.methodLink "MossLawn" (256 : Nat) ({ cls := "MossLawn$Side", name := "of", desc := "(C)LMossLawn$Side;" } : Jvm.MethodName)) ∈ lw_all := lw_g (lw_at lw_m4 144 rfl) rfl
theorem q985 : (Jvm.Cond.methodLink "MossLawn" (262 : Nat) ({ cls := "MossLawn$Side", name := "from", desc := "(I)I" } : Jvm.MethodName)) ∈ lw_all := lw_g (lw_at lw_m4 151 rfl) rfl
theorem q1000 : (Jvm.Cond.methodLink "MossLawn" (273 : Nat) ({ cls := "MossLawn$Gardener", name := "works", desc := "(I)V" } : Jvm.MethodName)) ∈ lw_all := lw_g (lw_at lw_m4 166 rfl) rfl
theorem q1006 : (Jvm.Cond.instanceMethod ({ cls := "MossLawn", name := "sweep", desc := "(I)I" } : Jvm.MethodName)) ∈ lw_all := lw_g (lw_at lw_m4 172 rfl) rfl
theorem q1007 : (Jvm.Cond.selects "MossLawn" ({ cls := "MossLawn", name := "sweep", desc := "(I)I" } : Jvm.MethodName) ({ cls := "MossLawn", name := "sweep", desc := "(I)I" } : Jvm.MethodName)) ∈ lw_all := lw_g (lw_at lw_m4 173 rfl) rfl
theorem q1008 : (Jvm.Cond.codeWith ({ cls := "MossLawn", name := "sweep", desc := "(I)I" } : Jvm.MethodName) prog_1_method_27_code (3 : Nat) (Option.some Jvm.ClassFile.FieldType.int) [((4 : Nat), (13 : Nat), (14 : Nat), (1 : Nat)), ((4 : Nat), (13 : Nat), (14 : Nat), (7 : Nat))]) ∈ lw_all := lw_g (lw_at lw_m4 174 rfl) rfl
theorem q1009 : (Jvm.Cond.methodLink "MossLawn" (289 : Nat) ({ cls := "MossLawn", name := "doSweep", desc := "(I)I" } : Jvm.MethodName)) ∈ lw_all := lw_g (lw_at lw_m4 175 rfl) rfl
theorem q1010 : (Jvm.Cond.privateMethod ({ cls := "MossLawn", name := "doSweep", desc := "(I)I" } : Jvm.MethodName)) ∈ lw_tbl := lw_at lw_m4 176 rfl
theorem q1011 : (Jvm.Cond.instanceMethod ({ cls := "MossLawn", name := "doSweep", desc := "(I)I" } : Jvm.MethodName)) ∈ lw_all := lw_g (lw_at lw_m4 177 rfl) rfl
theorem q1012 : (Jvm.Cond.code ({ cls := "MossLawn", name := "doSweep", desc := "(I)I" } : Jvm.MethodName) prog_1_method_26_code (5 : Nat) (Option.some Jvm.ClassFile.FieldType.int)) ∈ lw_all := lw_g (lw_at lw_m4 178 rfl) rfl
theorem q1014 : (Jvm.Cond.instanceMethod ({ cls := "MossLawn", name := "bind", desc := "(I)I" } : Jvm.MethodName)) ∈ lw_all := lw_g (lw_at lw_m4 180 rfl) rfl
theorem q1015 : (Jvm.Cond.selects "MossLawn" ({ cls := "MossLawn", name := "bind", desc := "(I)I" } : Jvm.MethodName) ({ cls := "MossLawn", name := "bind", desc := "(I)I" } : Jvm.MethodName)) ∈ lw_all := lw_g (lw_at lw_m4 181 rfl) rfl
theorem q1016 : (Jvm.Cond.codeWith ({ cls := "MossLawn", name := "bind", desc := "(I)I" } : Jvm.MethodName) prog_1_method_29_code (3 : Nat) (Option.some Jvm.ClassFile.FieldType.int) [((4 : Nat), (13 : Nat), (14 : Nat), (1 : Nat)), ((4 : Nat), (13 : Nat), (14 : Nat), (7 : Nat))]) ∈ lw_all := lw_g (lw_at lw_m4 182 rfl) rfl
theorem q1017 : (Jvm.Cond.methodLink "MossLawn" (292 : Nat) ({ cls := "MossLawn", name := "doBind", desc := "(I)I" } : Jvm.MethodName)) ∈ lw_all := lw_g (lw_at lw_m4 183 rfl) rfl
theorem q1018 : (Jvm.Cond.privateMethod ({ cls := "MossLawn", name := "doBind", desc := "(I)I" } : Jvm.MethodName)) ∈ lw_tbl := lw_at lw_m4 184 rfl
theorem q1019 : (Jvm.Cond.instanceMethod ({ cls := "MossLawn", name := "doBind", desc := "(I)I" } : Jvm.MethodName)) ∈ lw_all := lw_g (lw_at lw_m4 185 rfl) rfl
theorem q1020 : (Jvm.Cond.code ({ cls := "MossLawn", name := "doBind", desc := "(I)I" } : Jvm.MethodName) prog_1_method_28_code (4 : Nat) (Option.some Jvm.ClassFile.FieldType.int)) ∈ lw_all := lw_g (lw_at lw_m4 186 rfl) rfl
theorem q1022 : (Jvm.Cond.instanceMethod ({ cls := "MossLawn", name := "trap", desc := "(I)I" } : Jvm.MethodName)) ∈ lw_all := lw_g (lw_at lw_m4 188 rfl) rfl
theorem q1023 : (Jvm.Cond.selects "MossLawn" ({ cls := "MossLawn", name := "trap", desc := "(I)I" } : Jvm.MethodName) ({ cls := "MossLawn", name := "trap", desc := "(I)I" } : Jvm.MethodName)) ∈ lw_all := lw_g (lw_at lw_m4 189 rfl) rfl
theorem q1024 : (Jvm.Cond.codeWith ({ cls := "MossLawn", name := "trap", desc := "(I)I" } : Jvm.MethodName) prog_1_method_31_code (3 : Nat) (Option.some Jvm.ClassFile.FieldType.int) [((4 : Nat), (13 : Nat), (14 : Nat), (1 : Nat)), ((4 : Nat), (13 : Nat), (14 : Nat), (7 : Nat))]) ∈ lw_all := lw_g (lw_at lw_m4 190 rfl) rfl
theorem q1025 : (Jvm.Cond.methodLink "MossLawn" (298 : Nat) ({ cls := "MossLawn", name := "doTrap", desc := "(I)I" } : Jvm.MethodName)) ∈ lw_all := lw_g (lw_at lw_m4 191 rfl) rfl
theorem q1026 : (Jvm.Cond.privateMethod ({ cls := "MossLawn", name := "doTrap", desc := "(I)I" } : Jvm.MethodName)) ∈ lw_tbl := lw_at lw_m4 192 rfl
theorem q1027 : (Jvm.Cond.instanceMethod ({ cls := "MossLawn", name := "doTrap", desc := "(I)I" } : Jvm.MethodName)) ∈ lw_all := lw_g (lw_at lw_m4 193 rfl) rfl
theorem q1028 : (Jvm.Cond.code ({ cls := "MossLawn", name := "doTrap", desc := "(I)I" } : Jvm.MethodName) prog_1_method_30_code (3 : Nat) (Option.some Jvm.ClassFile.FieldType.int)) ∈ lw_all := lw_g (lw_at lw_m4 194 rfl) rfl
theorem q1030 : (Jvm.Cond.instanceMethod ({ cls := "MossLawn", name := "plant", desc := "(IC)I" } : Jvm.MethodName)) ∈ lw_all := lw_g (lw_at lw_m4 196 rfl) rfl
theorem q1031 : (Jvm.Cond.selects "MossLawn" ({ cls := "MossLawn", name := "plant", desc := "(IC)I" } : Jvm.MethodName) ({ cls := "MossLawn", name := "plant", desc := "(IC)I" } : Jvm.MethodName)) ∈ lw_all := lw_g (lw_at lw_m4 197 rfl) rfl
theorem q1032 : (Jvm.Cond.codeWith ({ cls := "MossLawn", name := "plant", desc := "(IC)I" } : Jvm.MethodName) prog_1_method_33_code (4 : Nat) (Option.some Jvm.ClassFile.FieldType.int) [((4 : Nat), (14 : Nat), (15 : Nat), (1 : Nat)), ((4 : Nat), (14 : Nat), (15 : Nat), (7 : Nat))]) ∈ lw_all := lw_g (lw_at lw_m4 198 rfl) rfl
theorem q1033 : (Jvm.Cond.methodLink "MossLawn" (304 : Nat) ({ cls := "MossLawn", name := "doPlant", desc := "(IC)I" } : Jvm.MethodName)) ∈ lw_all := lw_g (lw_at lw_m4 199 rfl) rfl
theorem q1034 : (Jvm.Cond.privateMethod ({ cls := "MossLawn", name := "doPlant", desc := "(IC)I" } : Jvm.MethodName)) ∈ lw_tbl := lw_at lw_m4 200 rfl
theorem q1035 : (Jvm.Cond.instanceMethod ({ cls := "MossLawn", name := "doPlant", desc := "(IC)I" } : Jvm.MethodName)) ∈ lw_all := lw_g (lw_at lw_m4 201 rfl) rfl
theorem q1036 : (Jvm.Cond.code ({ cls := "MossLawn", name := "doPlant", desc := "(IC)I" } : Jvm.MethodName) prog_1_method_32_code (5 : Nat) (Option.some Jvm.ClassFile.FieldType.int)) ∈ lw_all := lw_g (lw_at lw_m4 202 rfl) rfl
theorem q1037 : (Jvm.Cond.methodLink "MossLawn" (301 : Nat) ({ cls := "MossLawn$State", name := "grows", desc := "(II)V" } : Jvm.MethodName)) ∈ lw_all := lw_g (lw_at lw_m4 203 rfl) rfl
theorem q1043 : (Jvm.Cond.instanceMethod ({ cls := "MossLawn", name := "mole", desc := "(I)I" } : Jvm.MethodName)) ∈ lw_all := lw_g (lw_at lw_m4 209 rfl) rfl
theorem q1044 : (Jvm.Cond.selects "MossLawn" ({ cls := "MossLawn", name := "mole", desc := "(I)I" } : Jvm.MethodName) ({ cls := "MossLawn", name := "mole", desc := "(I)I" } : Jvm.MethodName)) ∈ lw_all := lw_g (lw_at lw_m4 210 rfl) rfl
theorem q1045 : (Jvm.Cond.codeWith ({ cls := "MossLawn", name := "mole", desc := "(I)I" } : Jvm.MethodName) prog_1_method_35_code (3 : Nat) (Option.some Jvm.ClassFile.FieldType.int) [((4 : Nat), (13 : Nat), (14 : Nat), (1 : Nat)), ((4 : Nat), (13 : Nat), (14 : Nat), (7 : Nat))]) ∈ lw_all := lw_g (lw_at lw_m4 211 rfl) rfl
theorem q1046 : (Jvm.Cond.methodLink "MossLawn" (314 : Nat) ({ cls := "MossLawn", name := "doMole", desc := "(I)I" } : Jvm.MethodName)) ∈ lw_all := lw_g (lw_at lw_m4 212 rfl) rfl
theorem q1047 : (Jvm.Cond.privateMethod ({ cls := "MossLawn", name := "doMole", desc := "(I)I" } : Jvm.MethodName)) ∈ lw_tbl := lw_at lw_m4 213 rfl
theorem q1048 : (Jvm.Cond.instanceMethod ({ cls := "MossLawn", name := "doMole", desc := "(I)I" } : Jvm.MethodName)) ∈ lw_all := lw_g (lw_at lw_m4 214 rfl) rfl
theorem q1049 : (Jvm.Cond.code ({ cls := "MossLawn", name := "doMole", desc := "(I)I" } : Jvm.MethodName) prog_1_method_34_code (2 : Nat) (Option.some Jvm.ClassFile.FieldType.int)) ∈ lw_all := lw_g (lw_at lw_m4 215 rfl) rfl
theorem q1050 : (Jvm.Cond.methodLink "MossLawn" (311 : Nat) ({ cls := "MossLawn$Mole", name := "becomes", desc := "(I)V" } : Jvm.MethodName)) ∈ lw_all := lw_g (lw_at lw_m4 216 rfl) rfl
theorem q1055 : (Jvm.Cond.instanceMethod ({ cls := "MossLawn", name := "day", desc := "(I)I" } : Jvm.MethodName)) ∈ lw_all := lw_g (lw_at lw_m4 221 rfl) rfl
theorem q1056 : (Jvm.Cond.selects "MossLawn" ({ cls := "MossLawn", name := "day", desc := "(I)I" } : Jvm.MethodName) ({ cls := "MossLawn", name := "day", desc := "(I)I" } : Jvm.MethodName)) ∈ lw_all := lw_g (lw_at lw_m4 222 rfl) rfl
theorem q1057 : (Jvm.Cond.codeWith ({ cls := "MossLawn", name := "day", desc := "(I)I" } : Jvm.MethodName) prog_1_method_37_code (3 : Nat) (Option.some Jvm.ClassFile.FieldType.int) [((4 : Nat), (13 : Nat), (14 : Nat), (1 : Nat))]) ∈ lw_all := lw_g (lw_at lw_m4 223 rfl) rfl
theorem q1058 : (Jvm.Cond.methodLink "MossLawn" (321 : Nat) ({ cls := "MossLawn", name := "doDay", desc := "(I)I" } : Jvm.MethodName)) ∈ lw_all := lw_g (lw_at lw_m4 224 rfl) rfl
theorem q1059 : (Jvm.Cond.privateMethod ({ cls := "MossLawn", name := "doDay", desc := "(I)I" } : Jvm.MethodName)) ∈ lw_tbl := lw_at lw_m4 225 rfl
theorem q1060 : (Jvm.Cond.instanceMethod ({ cls := "MossLawn", name := "doDay", desc := "(I)I" } : Jvm.MethodName)) ∈ lw_all := lw_g (lw_at lw_m4 226 rfl) rfl
theorem q1061 : (Jvm.Cond.code ({ cls := "MossLawn", name := "doDay", desc := "(I)I" } : Jvm.MethodName) prog_1_method_36_code (4 : Nat) (Option.some Jvm.ClassFile.FieldType.int)) ∈ lw_all := lw_g (lw_at lw_m4 227 rfl) rfl
theorem q1062 : (Jvm.Cond.methodLink "MossLawn" (317 : Nat) ({ cls := "MossLawn$State", name := "ends", desc := "()I" } : Jvm.MethodName)) ∈ lw_all := lw_g (lw_at lw_m4 228 rfl) rfl
theorem q1133 : (Jvm.Cond.instanceMethod ({ cls := "MossLawn", name := "slippers", desc := "(II)I" } : Jvm.MethodName)) ∈ lw_all := lw_g (lw_at lw_m5 59 rfl) rfl
theorem q1134 : (Jvm.Cond.selects "MossLawn" ({ cls := "MossLawn", name := "slippers", desc := "(II)I" } : Jvm.MethodName) ({ cls := "MossLawn", name := "slippers", desc := "(II)I" } : Jvm.MethodName)) ∈ lw_all := lw_g (lw_at lw_m5 60 rfl) rfl
theorem q1135 : (Jvm.Cond.code ({ cls := "MossLawn", name := "slippers", desc := "(II)I" } : Jvm.MethodName) prog_1_method_38_code (3 : Nat) (Option.some Jvm.ClassFile.FieldType.int)) ∈ lw_all := lw_g (lw_at lw_m5 61 rfl) rfl
theorem q1136 : (Jvm.Cond.methodLink "MossLawn" (327 : Nat) ({ cls := "java/lang/Math", name := "min", desc := "(II)I" } : Jvm.MethodName)) ∈ lw_all := lw_g (lw_at lw_m5 62 rfl) rfl
theorem q1138 : (Jvm.Cond.instanceMethod ({ cls := "MossLawn", name := "pilgrim", desc := "(III)I" } : Jvm.MethodName)) ∈ lw_all := lw_g (lw_at lw_m5 64 rfl) rfl
theorem q1139 : (Jvm.Cond.selects "MossLawn" ({ cls := "MossLawn", name := "pilgrim", desc := "(III)I" } : Jvm.MethodName) ({ cls := "MossLawn", name := "pilgrim", desc := "(III)I" } : Jvm.MethodName)) ∈ lw_all := lw_g (lw_at lw_m5 65 rfl) rfl
theorem q1140 : (Jvm.Cond.codeWith ({ cls := "MossLawn", name := "pilgrim", desc := "(III)I" } : Jvm.MethodName) prog_1_method_44_code (5 : Nat) (Option.some Jvm.ClassFile.FieldType.int) [((4 : Nat), (15 : Nat), (16 : Nat), (1 : Nat)), ((4 : Nat), (15 : Nat), (16 : Nat), (7 : Nat))]) ∈ lw_all := lw_g (lw_at lw_m5 66 rfl) rfl
theorem q1141 : (Jvm.Cond.methodLink "MossLawn" (411 : Nat) ({ cls := "MossLawn", name := "doPilgrim", desc := "(III)I" } : Jvm.MethodName)) ∈ lw_all := lw_g (lw_at lw_m5 67 rfl) rfl
theorem q1142 : (Jvm.Cond.privateMethod ({ cls := "MossLawn", name := "doPilgrim", desc := "(III)I" } : Jvm.MethodName)) ∈ lw_tbl := lw_at lw_m5 68 rfl
theorem q1143 : (Jvm.Cond.instanceMethod ({ cls := "MossLawn", name := "doPilgrim", desc := "(III)I" } : Jvm.MethodName)) ∈ lw_all := lw_g (lw_at lw_m5 69 rfl) rfl
theorem q1144 : (Jvm.Cond.code ({ cls := "MossLawn", name := "doPilgrim", desc := "(III)I" } : Jvm.MethodName) prog_1_method_43_code (8 : Nat) (Option.some Jvm.ClassFile.FieldType.int)) ∈ lw_all := lw_g (lw_at lw_m5 70 rfl) rfl
theorem q1145 : (Jvm.Cond.methodLink "MossLawn" (372 : Nat) ({ cls := "MossLawn", name := "sizeFor", desc := "(I)I" } : Jvm.MethodName)) ∈ lw_all := lw_g (lw_at lw_m5 71 rfl) rfl
theorem q1146 : (Jvm.Cond.privateMethod ({ cls := "MossLawn", name := "sizeFor", desc := "(I)I" } : Jvm.MethodName)) ∈ lw_tbl := lw_at lw_m5 72 rfl
theorem q1147 : (Jvm.Cond.instanceMethod ({ cls := "MossLawn", name := "sizeFor", desc := "(I)I" } : Jvm.MethodName)) ∈ lw_all := lw_g (lw_at lw_m5 73 rfl) rfl
theorem q1148 : (Jvm.Cond.code ({ cls := "MossLawn", name := "sizeFor", desc := "(I)I" } : Jvm.MethodName) prog_1_method_39_code (3 : Nat) (Option.some Jvm.ClassFile.FieldType.int)) ∈ lw_all := lw_g (lw_at lw_m5 74 rfl) rfl
theorem q1149 : (Jvm.Cond.methodLink "MossLawn" (375 : Nat) ({ cls := "MossLawn", name := "goesOut", desc := "(I)V" } : Jvm.MethodName)) ∈ lw_all := lw_g (lw_at lw_m5 75 rfl) rfl
theorem q1150 : (Jvm.Cond.privateMethod ({ cls := "MossLawn", name := "goesOut", desc := "(I)V" } : Jvm.MethodName)) ∈ lw_tbl := lw_at lw_m5 76 rfl
theorem q1151 : (Jvm.Cond.instanceMethod ({ cls := "MossLawn", name := "goesOut", desc := "(I)V" } : Jvm.MethodName)) ∈ lw_all := lw_g (lw_at lw_m5 77 rfl) rfl
theorem q1152 : (Jvm.Cond.code ({ cls := "MossLawn", name := "goesOut", desc := "(I)V" } : Jvm.MethodName) prog_1_method_40_code (6 : Nat) (Option.none : Option Jvm.ClassFile.FieldType)) ∈ lw_all := lw_g (lw_at lw_m5 78 rfl) rfl
theorem q1153 : (Jvm.Cond.methodLink "MossLawn" (333 : Nat) ({ cls := "java/util/ArrayDeque", name := "clear", desc := "()V" } : Jvm.MethodName)) ∈ lw_all := lw_g (lw_at lw_m5 79 rfl) rfl
theorem q1160 : (Jvm.Cond.methodLink "MossLawn" (336 : Nat) ({ cls := "MossLawn$State", name := "mayBeTrodden", desc := "(I)Z" } : Jvm.MethodName)) ∈ lw_all := lw_g (lw_at lw_m5 86 rfl) rfl
theorem q1165 : (Jvm.Cond.methodLink "MossLawn" (339 : Nat) ({ cls := "java/lang/Integer", name := "valueOf", desc := "(I)Ljava/lang/Integer;" } : Jvm.MethodName)) ∈ lw_all := lw_g (lw_at lw_m5 91 rfl) rfl
theorem q1185 : (Jvm.Cond.methodLink "MossLawn" (345 : Nat) ({ cls := "java/util/ArrayDeque", name := "add", desc := "(Ljava/lang/Object;)Z" } : Jvm.MethodName)) ∈ lw_all := lw_g (lw_at lw_m5 111 rfl) rfl
theorem q1206 : (Jvm.Cond.methodLink "MossLawn" (349 : Nat) ({ cls := "java/util/ArrayDeque", name := "isEmpty", desc := "()Z" } : Jvm.MethodName)) ∈ lw_all := lw_g (lw_at lw_m5 132 rfl) rfl
theorem q1210 : (Jvm.Cond.methodLink "MossLawn" (353 : Nat) ({ cls := "java/util/ArrayDeque", name := "poll", desc := "()Ljava/lang/Object;" } : Jvm.MethodName)) ∈ lw_all := lw_g (lw_at lw_m5 136 rfl) rfl
theorem q1221 : (Jvm.Cond.classLink "MossLawn" (340 : Nat) "java/lang/Integer") ∈ lw_all := lw_g (lw_at lw_m5 147 rfl) rfl
theorem q1222 : (Jvm.Cond.methodLink "MossLawn" (357 : Nat) ({ cls := "java/lang/Integer", name := "intValue", desc := "()I" } : Jvm.MethodName)) ∈ lw_all := lw_g (lw_at lw_m5 148 rfl) rfl
theorem q1226 : (Jvm.Cond.interfaceEntry "MossLawn" (360 : Nat)) ∈ lw_tbl := lw_at lw_m5 152 rfl
theorem q1227 : (Jvm.Cond.methodLink "MossLawn" (360 : Nat) ({ cls := "java/util/List", name := "iterator", desc := "()Ljava/util/Iterator;" } : Jvm.MethodName)) ∈ lw_all := lw_g (lw_at lw_m5 153 rfl) rfl
theorem q1309 : (Jvm.Cond.interfaceEntry "MossLawn" (364 : Nat)) ∈ lw_tbl := lw_at lw_m5 235 rfl
theorem q1310 : (Jvm.Cond.methodLink "MossLawn" (364 : Nat) ({ cls := "java/util/Iterator", name := "hasNext", desc := "()Z" } : Jvm.MethodName)) ∈ lw_all := lw_g (lw_at lw_m5 236 rfl) rfl
theorem q1336 : (Jvm.Cond.interfaceEntry "MossLawn" (369 : Nat)) ∈ lw_tbl := lw_at lw_m6 22 rfl
theorem q1337 : (Jvm.Cond.methodLink "MossLawn" (369 : Nat) ({ cls := "java/util/Iterator", name := "next", desc := "()Ljava/lang/Object;" } : Jvm.MethodName)) ∈ lw_all := lw_g (lw_at lw_m6 23 rfl) rfl
theorem q1617 : (Jvm.Cond.classLink "MossLawn" (65 : Nat) "MossLawn$Side") ∈ lw_all := lw_g (lw_at lw_m7 63 rfl) rfl
theorem q1618 : (Jvm.Cond.methodLink "MossLawn" (378 : Nat) ({ cls := "MossLawn", name := "isTrodden", desc := "(I)V" } : Jvm.MethodName)) ∈ lw_all := lw_g (lw_at lw_m7 64 rfl) rfl
theorem q1619 : (Jvm.Cond.privateMethod ({ cls := "MossLawn", name := "isTrodden", desc := "(I)V" } : Jvm.MethodName)) ∈ lw_tbl := lw_at lw_m7 65 rfl
theorem q1620 : (Jvm.Cond.instanceMethod ({ cls := "MossLawn", name := "isTrodden", desc := "(I)V" } : Jvm.MethodName)) ∈ lw_all := lw_g (lw_at lw_m7 66 rfl) rfl
theorem q1621 : (Jvm.Cond.code ({ cls := "MossLawn", name := "isTrodden", desc := "(I)V" } : Jvm.MethodName) prog_1_method_42_code (2 : Nat) (Option.none : Option Jvm.ClassFile.FieldType)) ∈ lw_all := lw_g (lw_at lw_m7 67 rfl) rfl
theorem q1622 : (Jvm.Cond.methodLink "MossLawn" (381 : Nat) ({ cls := "MossLawn", name := "nextOnWay", desc := "(I)I" } : Jvm.MethodName)) ∈ lw_all := lw_g (lw_at lw_m7 68 rfl) rfl
theorem q1623 : (Jvm.Cond.privateMethod ({ cls := "MossLawn", name := "nextOnWay", desc := "(I)I" } : Jvm.MethodName)) ∈ lw_tbl := lw_at lw_m7 69 rfl
theorem q1624 : (Jvm.Cond.instanceMethod ({ cls := "MossLawn", name := "nextOnWay", desc := "(I)I" } : Jvm.MethodName)) ∈ lw_all := lw_g (lw_at lw_m7 70 rfl) rfl
theorem q1625 : (Jvm.Cond.code ({ cls := "MossLawn", name := "nextOnWay", desc := "(I)I" } : Jvm.MethodName) prog_1_method_41_code (7 : Nat) (Option.some Jvm.ClassFile.FieldType.int)) ∈ lw_all := lw_g (lw_at lw_m7 71 rfl) rfl
theorem q1626 : (Jvm.Cond.classLink "MossLawn" (388 : Nat) "MossLawn$Walk") ∈ lw_all := lw_g (lw_at lw_m7 72 rfl) rfl
theorem q1628 : (Jvm.Cond.methodLink "MossLawn" (390 : Nat) ({ cls := "MossLawn$Walk", name := "<init>", desc := "(IIII)V" } : Jvm.MethodName)) ∈ lw_all := lw_g (lw_at lw_m7 74 rfl) rfl
theorem q1633 : (Jvm.Cond.fieldLinkNest "MossLawn" (529 : Nat) "MossLawn$Walk" "size" "I" "MossLawn") ∈ lw_tbl := lw_at lw_m7 79 rfl
theorem q1635 : (Jvm.Cond.fieldLinkNest "MossLawn" (531 : Nat) "MossLawn$Walk" "from" "I" "MossLawn") ∈ lw_tbl := lw_at lw_m7 81 rfl
theorem q1637 : (Jvm.Cond.fieldLinkNest "MossLawn" (533 : Nat) "MossLawn$Walk" "to" "I" "MossLawn") ∈ lw_tbl := lw_at lw_m7 83 rfl
theorem q1639 : (Jvm.Cond.fieldLinkNest "MossLawn" (536 : Nat) "MossLawn$Walk" "steps" "I" "MossLawn") ∈ lw_tbl := lw_at lw_m7 85 rfl
theorem q1649 : (Jvm.Cond.methodLink "MossLawn" (393 : Nat) ({ cls := "java/util/LinkedList", name := "addFirst", desc := "(Ljava/lang/Object;)V" } : Jvm.MethodName)) ∈ lw_all := lw_g (lw_at lw_m7 95 rfl) rfl
theorem q1657 : (Jvm.Cond.methodLink "MossLawn" (399 : Nat) ({ cls := "java/util/LinkedList", name := "size", desc := "()I" } : Jvm.MethodName)) ∈ lw_all := lw_g (lw_at lw_m7 103 rfl) rfl
theorem q1658 : (Jvm.Cond.methodLink "MossLawn" (402 : Nat) ({ cls := "java/util/LinkedList", name := "removeLast", desc := "()Ljava/lang/Object;" } : Jvm.MethodName)) ∈ lw_all := lw_g (lw_at lw_m7 104 rfl) rfl
theorem q1667 : (Jvm.Cond.instanceMethod ({ cls := "MossLawn", name := "append", desc := "(C)I" } : Jvm.MethodName)) ∈ lw_all := lw_g (lw_at lw_m7 113 rfl) rfl
theorem q1668 : (Jvm.Cond.selects "MossLawn" ({ cls := "MossLawn", name := "append", desc := "(C)I" } : Jvm.MethodName) ({ cls := "MossLawn", name := "append", desc := "(C)I" } : Jvm.MethodName)) ∈ lw_all := lw_g (lw_at lw_m7 114 rfl) rfl
theorem q1669 : (Jvm.Cond.code ({ cls := "MossLawn", name := "append", desc := "(C)I" } : Jvm.MethodName) prog_1_method_45_code (2 : Nat) (Option.some Jvm.ClassFile.FieldType.int)) ∈ lw_all := lw_g (lw_at lw_m7 115 rfl) rfl
theorem q1670 : (Jvm.Cond.methodLink "MossLawn" (415 : Nat) ({ cls := "java/lang/StringBuilder", name := "length", desc := "()I" } : Jvm.MethodName)) ∈ lw_all := lw_g (lw_at lw_m7 116 rfl) rfl
theorem q1671 : (Jvm.Cond.methodLink "MossLawn" (418 : Nat) ({ cls := "java/lang/StringBuilder", name := "append", desc := "(C)Ljava/lang/StringBuilder;" } : Jvm.MethodName)) ∈ lw_all := lw_g (lw_at lw_m7 117 rfl) rfl
theorem q1685 : (Jvm.Cond.instanceMethod ({ cls := "MossLawn", name := "fault", desc := "()I" } : Jvm.MethodName)) ∈ lw_all := lw_g (lw_at lw_m7 131 rfl) rfl
theorem q1686 : (Jvm.Cond.selects "MossLawn" ({ cls := "MossLawn", name := "fault", desc := "()I" } : Jvm.MethodName) ({ cls := "MossLawn", name := "fault", desc := "()I" } : Jvm.MethodName)) ∈ lw_all := lw_g (lw_at lw_m7 132 rfl) rfl
theorem q1687 : (Jvm.Cond.code ({ cls := "MossLawn", name := "fault", desc := "()I" } : Jvm.MethodName) prog_1_method_46_code (1 : Nat) (Option.some Jvm.ClassFile.FieldType.int)) ∈ lw_all := lw_g (lw_at lw_m7 133 rfl) rfl
theorem q1689 : (Jvm.Cond.instanceMethod ({ cls := "MossLawn", name := "script", desc := "()I" } : Jvm.MethodName)) ∈ lw_all := lw_g (lw_at lw_m7 135 rfl) rfl
theorem q1690 : (Jvm.Cond.selects "MossLawn" ({ cls := "MossLawn", name := "script", desc := "()I" } : Jvm.MethodName) ({ cls := "MossLawn", name := "script", desc := "()I" } : Jvm.MethodName)) ∈ lw_all := lw_g (lw_at lw_m7 136 rfl) rfl
theorem q1691 : (Jvm.Cond.codeWith ({ cls := "MossLawn", name := "script", desc := "()I" } : Jvm.MethodName) prog_1_method_60_code (2 : Nat) (Option.some Jvm.ClassFile.FieldType.int) [((14 : Nat), (22 : Nat), (23 : Nat), (7 : Nat))]) ∈ lw_all := lw_g (lw_at lw_m7 137 rfl) rfl
theorem q1692 : (Jvm.Cond.methodLink "MossLawn" (494 : Nat) ({ cls := "MossLawn", name := "readsScript", desc := "()Z" } : Jvm.MethodName)) ∈ lw_all := lw_g (lw_at lw_m7 138 rfl) rfl
theorem q1693 : (Jvm.Cond.privateMethod ({ cls := "MossLawn", name := "readsScript", desc := "()Z" } : Jvm.MethodName)) ∈ lw_tbl := lw_at lw_m7 139 rfl
theorem q1694 : (Jvm.Cond.instanceMethod ({ cls := "MossLawn", name := "readsScript", desc := "()Z" } : Jvm.MethodName)) ∈ lw_all := lw_g (lw_at lw_m7 140 rfl) rfl
theorem q1695 : (Jvm.Cond.codeWith ({ cls := "MossLawn", name := "readsScript", desc := "()Z" } : Jvm.MethodName) prog_1_method_58_code (4 : Nat) (Option.some Jvm.ClassFile.FieldType.boolean) [((10 : Nat), (66 : Nat), (76 : Nat), (437 : Nat)), ((10 : Nat), (66 : Nat), (97 : Nat), (0 : Nat)), ((76 : Nat), (87 : Nat), (97 : Nat), (0 : Nat))]) ∈ lw_all := lw_g (lw_at lw_m7 141 rfl) rfl
theorem q1696 : (Jvm.Cond.classLink "MossLawn" (437 : Nat) "MossLawn$Fault") ∈ lw_all := lw_g (lw_at lw_m7 142 rfl) rfl
theorem q1697 : (Jvm.Cond.methodLink "MossLawn" (486 : Nat) ({ cls := "MossLawn", name := "order", desc := "()LMossLawn$Done;" } : Jvm.MethodName)) ∈ lw_all := lw_g (lw_at lw_m7 143 rfl) rfl
theorem q1698 : (Jvm.Cond.privateMethod ({ cls := "MossLawn", name := "order", desc := "()LMossLawn$Done;" } : Jvm.MethodName)) ∈ lw_tbl := lw_at lw_m7 144 rfl
theorem q1699 : (Jvm.Cond.instanceMethod ({ cls := "MossLawn", name := "order", desc := "()LMossLawn$Done;" } : Jvm.MethodName)) ∈ lw_all := lw_g (lw_at lw_m7 145 rfl) rfl
theorem q1700 : (Jvm.Cond.code ({ cls := "MossLawn", name := "order", desc := "()LMossLawn$Done;" } : Jvm.MethodName) prog_1_method_57_code (4 : Nat) (Option.some (Jvm.ClassFile.FieldType.object "MossLawn$Done"))) ∈ lw_all := lw_g (lw_at lw_m7 146 rfl) rfl
theorem q1709 : (Jvm.Cond.methodLink "MossLawn" (439 : Nat) ({ cls := "MossLawn$Fault", name := "<init>", desc := "()V" } : Jvm.MethodName)) ∈ lw_all := lw_g (lw_at lw_m7 155 rfl) rfl
theorem q1715 : (Jvm.Cond.methodLink "MossLawn" (425 : Nat) ({ cls := "java/lang/StringBuilder", name := "charAt", desc := "(I)C" } : Jvm.MethodName)) ∈ lw_all := lw_g (lw_at lw_m7 161 rfl) rfl
theorem q1725 : (Jvm.Cond.methodLink "MossLawn" (467 : Nat) ({ cls := "MossLawn", name := "walking", desc := "()LMossLawn$Done;" } : Jvm.MethodName)) ∈ lw_all := lw_g (lw_at lw_m7 171 rfl) rfl
theorem q1726 : (Jvm.Cond.privateMethod ({ cls := "MossLawn", name := "walking", desc := "()LMossLawn$Done;" } : Jvm.MethodName)) ∈ lw_tbl := lw_at lw_m7 172 rfl
theorem q1727 : (Jvm.Cond.instanceMethod ({ cls := "MossLawn", name := "walking", desc := "()LMossLawn$Done;" } : Jvm.MethodName)) ∈ lw_all := lw_g (lw_at lw_m7 173 rfl) rfl
theorem q1728 : (Jvm.Cond.code ({ cls := "MossLawn", name := "walking", desc := "()LMossLawn$Done;" } : Jvm.MethodName) prog_1_method_53_code (3 : Nat) (Option.some (Jvm.ClassFile.FieldType.object "MossLawn$Done"))) ∈ lw_all := lw_g (lw_at lw_m7 174 rfl) rfl
theorem q1729 : (Jvm.Cond.methodLink "MossLawn" (440 : Nat) ({ cls := "MossLawn", name := "digit", desc := "()I" } : Jvm.MethodName)) ∈ lw_all := lw_g (lw_at lw_m7 175 rfl) rfl
theorem q1730 : (Jvm.Cond.privateMethod ({ cls := "MossLawn", name := "digit", desc := "()I" } : Jvm.MethodName)) ∈ lw_tbl := lw_at lw_m7 176 rfl
theorem q1731 : (Jvm.Cond.instanceMethod ({ cls := "MossLawn", name := "digit", desc := "()I" } : Jvm.MethodName)) ∈ lw_all := lw_g (lw_at lw_m7 177 rfl) rfl
theorem q1732 : (Jvm.Cond.code ({ cls := "MossLawn", name := "digit", desc := "()I" } : Jvm.MethodName) prog_1_method_50_code (1 : Nat) (Option.some Jvm.ClassFile.FieldType.int)) ∈ lw_all := lw_g (lw_at lw_m7 178 rfl) rfl
theorem q1733 : (Jvm.Cond.methodLink "MossLawn" (429 : Nat) ({ cls := "MossLawn", name := "isHere", desc := "(CC)Z" } : Jvm.MethodName)) ∈ lw_all := lw_g (lw_at lw_m7 179 rfl) rfl
theorem q1734 : (Jvm.Cond.privateMethod ({ cls := "MossLawn", name := "isHere", desc := "(CC)Z" } : Jvm.MethodName)) ∈ lw_tbl := lw_at lw_m7 180 rfl
theorem q1735 : (Jvm.Cond.instanceMethod ({ cls := "MossLawn", name := "isHere", desc := "(CC)Z" } : Jvm.MethodName)) ∈ lw_all := lw_g (lw_at lw_m7 181 rfl) rfl
theorem q1736 : (Jvm.Cond.code ({ cls := "MossLawn", name := "isHere", desc := "(CC)Z" } : Jvm.MethodName) prog_1_method_47_code (3 : Nat) (Option.some Jvm.ClassFile.FieldType.boolean)) ∈ lw_all := lw_g (lw_at lw_m7 182 rfl) rfl
theorem q1737 : (Jvm.Cond.methodLink "MossLawn" (443 : Nat) ({ cls := "MossLawn", name := "side", desc := "()C" } : Jvm.MethodName)) ∈ lw_all := lw_g (lw_at lw_m7 183 rfl) rfl
theorem q1738 : (Jvm.Cond.privateMethod ({ cls := "MossLawn", name := "side", desc := "()C" } : Jvm.MethodName)) ∈ lw_tbl := lw_at lw_m7 184 rfl
theorem q1739 : (Jvm.Cond.instanceMethod ({ cls := "MossLawn", name := "side", desc := "()C" } : Jvm.MethodName)) ∈ lw_all := lw_g (lw_at lw_m7 185 rfl) rfl
theorem q1740 : (Jvm.Cond.code ({ cls := "MossLawn", name := "side", desc := "()C" } : Jvm.MethodName) prog_1_method_52_code (1 : Nat) (Option.some Jvm.ClassFile.FieldType.char)) ∈ lw_all := lw_g (lw_at lw_m7 186 rfl) rfl
theorem q1741 : (Jvm.Cond.privateMethod ({ cls := "MossLawn", name := "lambda$walking$2", desc := "(IC)I" } : Jvm.MethodName)) ∈ lw_tbl := lw_at lw_m7 187 rfl
theorem q1742 : (Jvm.Cond.instanceMethod ({ cls := "MossLawn", name := "lambda$walking$2", desc := "(IC)I" } : Jvm.MethodName)) ∈ lw_all := lw_g (lw_at lw_m7 188 rfl) rfl
theorem q1743 : (Jvm.Cond.code ({ cls := "MossLawn", name := "lambda$walking$2", desc := "(IC)I" } : Jvm.MethodName) prog_1_method_98_code (3 : Nat) (Option.some Jvm.ClassFile.FieldType.int)) ∈ lw_all := lw_g (lw_at lw_m7 189 rfl) rfl
theorem q1744 : (Jvm.Cond.methodLink "MossLawn" (471 : Nat) ({ cls := "MossLawn", name := "planting", desc := "()LMossLawn$Done;" } : Jvm.MethodName)) ∈ lw_all := lw_g (lw_at lw_m7 190 rfl) rfl
theorem q1745 : (Jvm.Cond.privateMethod ({ cls := "MossLawn", name := "planting", desc := "()LMossLawn$Done;" } : Jvm.MethodName)) ∈ lw_tbl := lw_at lw_m7 191 rfl
theorem q1746 : (Jvm.Cond.instanceMethod ({ cls := "MossLawn", name := "planting", desc := "()LMossLawn$Done;" } : Jvm.MethodName)) ∈ lw_all := lw_g (lw_at lw_m7 192 rfl) rfl
theorem q1747 : (Jvm.Cond.code ({ cls := "MossLawn", name := "planting", desc := "()LMossLawn$Done;" } : Jvm.MethodName) prog_1_method_54_code (3 : Nat) (Option.some (Jvm.ClassFile.FieldType.object "MossLawn$Done"))) ∈ lw_all := lw_g (lw_at lw_m7 193 rfl) rfl
theorem q1748 : (Jvm.Cond.privateMethod ({ cls := "MossLawn", name := "lambda$planting$3", desc := "(IC)I" } : Jvm.MethodName)) ∈ lw_tbl := lw_at lw_m7 194 rfl
theorem q1749 : (Jvm.Cond.instanceMethod ({ cls := "MossLawn", name := "lambda$planting$3", desc := "(IC)I" } : Jvm.MethodName)) ∈ lw_all := lw_g (lw_at lw_m7 195 rfl) rfl
theorem q1750 : (Jvm.Cond.code ({ cls := "MossLawn", name := "lambda$planting$3", desc := "(IC)I" } : Jvm.MethodName) prog_1_method_97_code (3 : Nat) (Option.some Jvm.ClassFile.FieldType.int)) ∈ lw_all := lw_g (lw_at lw_m7 196 rfl) rfl
theorem q1751 : (Jvm.Cond.methodLink "MossLawn" (474 : Nat) ({ cls := "MossLawn", name := "visiting", desc := "()LMossLawn$Done;" } : Jvm.MethodName)) ∈ lw_all := lw_g (lw_at lw_m7 197 rfl) rfl
theorem q1752 : (Jvm.Cond.privateMethod ({ cls := "MossLawn", name := "visiting", desc := "()LMossLawn$Done;" } : Jvm.MethodName)) ∈ lw_tbl := lw_at lw_m7 198 rfl
theorem q1753 : (Jvm.Cond.instanceMethod ({ cls := "MossLawn", name := "visiting", desc := "()LMossLawn$Done;" } : Jvm.MethodName)) ∈ lw_all := lw_g (lw_at lw_m7 199 rfl) rfl
theorem q1754 : (Jvm.Cond.code ({ cls := "MossLawn", name := "visiting", desc := "()LMossLawn$Done;" } : Jvm.MethodName) prog_1_method_55_code (4 : Nat) (Option.some (Jvm.ClassFile.FieldType.object "MossLawn$Done"))) ∈ lw_all := lw_g (lw_at lw_m7 200 rfl) rfl
theorem q1755 : (Jvm.Cond.methodLink "MossLawn" (452 : Nat) ({ cls := "MossLawn", name := "wants", desc := "(C)V" } : Jvm.MethodName)) ∈ lw_all := lw_g (lw_at lw_m7 201 rfl) rfl
theorem q1756 : (Jvm.Cond.privateMethod ({ cls := "MossLawn", name := "wants", desc := "(C)V" } : Jvm.MethodName)) ∈ lw_tbl := lw_at lw_m7 202 rfl
theorem q1757 : (Jvm.Cond.instanceMethod ({ cls := "MossLawn", name := "wants", desc := "(C)V" } : Jvm.MethodName)) ∈ lw_all := lw_g (lw_at lw_m7 203 rfl) rfl
theorem q1758 : (Jvm.Cond.code ({ cls := "MossLawn", name := "wants", desc := "(C)V" } : Jvm.MethodName) prog_1_method_49_code (2 : Nat) (Option.none : Option Jvm.ClassFile.FieldType)) ∈ lw_all := lw_g (lw_at lw_m7 204 rfl) rfl
theorem q1759 : (Jvm.Cond.methodLink "MossLawn" (433 : Nat) ({ cls := "MossLawn", name := "takesIf", desc := "(C)Z" } : Jvm.MethodName)) ∈ lw_all := lw_g (lw_at lw_m7 205 rfl) rfl
theorem q1760 : (Jvm.Cond.privateMethod ({ cls := "MossLawn", name := "takesIf", desc := "(C)Z" } : Jvm.MethodName)) ∈ lw_tbl := lw_at lw_m7 206 rfl
theorem q1761 : (Jvm.Cond.instanceMethod ({ cls := "MossLawn", name := "takesIf", desc := "(C)Z" } : Jvm.MethodName)) ∈ lw_all := lw_g (lw_at lw_m7 207 rfl) rfl
theorem q1762 : (Jvm.Cond.code ({ cls := "MossLawn", name := "takesIf", desc := "(C)Z" } : Jvm.MethodName) prog_1_method_48_code (3 : Nat) (Option.some Jvm.ClassFile.FieldType.boolean)) ∈ lw_all := lw_g (lw_at lw_m7 208 rfl) rfl
theorem q1763 : (Jvm.Cond.methodLink "MossLawn" (456 : Nat) ({ cls := "MossLawn", name := "number", desc := "()I" } : Jvm.MethodName)) ∈ lw_all := lw_g (lw_at lw_m7 209 rfl) rfl
theorem q1764 : (Jvm.Cond.privateMethod ({ cls := "MossLawn", name := "number", desc := "()I" } : Jvm.MethodName)) ∈ lw_tbl := lw_at lw_m7 210 rfl
theorem q1765 : (Jvm.Cond.instanceMethod ({ cls := "MossLawn", name := "number", desc := "()I" } : Jvm.MethodName)) ∈ lw_all := lw_g (lw_at lw_m7 211 rfl) rfl
theorem q1766 : (Jvm.Cond.code ({ cls := "MossLawn", name := "number", desc := "()I" } : Jvm.MethodName) prog_1_method_51_code (2 : Nat) (Option.some Jvm.ClassFile.FieldType.int)) ∈ lw_all := lw_g (lw_at lw_m7 212 rfl) rfl
theorem q1767 : (Jvm.Cond.privateMethod ({ cls := "MossLawn", name := "lambda$visiting$4", desc := "(III)I" } : Jvm.MethodName)) ∈ lw_tbl := lw_at lw_m7 213 rfl
theorem q1768 : (Jvm.Cond.instanceMethod ({ cls := "MossLawn", name := "lambda$visiting$4", desc := "(III)I" } : Jvm.MethodName)) ∈ lw_all := lw_g (lw_at lw_m7 214 rfl) rfl
theorem q1769 : (Jvm.Cond.code ({ cls := "MossLawn", name := "lambda$visiting$4", desc := "(III)I" } : Jvm.MethodName) prog_1_method_96_code (4 : Nat) (Option.some Jvm.ClassFile.FieldType.int)) ∈ lw_all := lw_g (lw_at lw_m7 215 rfl) rfl
theorem q1770 : (Jvm.Cond.methodLink "MossLawn" (477 : Nat) ({ cls := "MossLawn", name := "working", desc := "(C)LMossLawn$Done;" } : Jvm.MethodName)) ∈ lw_all := lw_g (lw_at lw_m7 216 rfl) rfl
theorem q1771 : (Jvm.Cond.privateMethod ({ cls := "MossLawn", name := "working", desc := "(C)LMossLawn$Done;" } : Jvm.MethodName)) ∈ lw_tbl := lw_at lw_m7 217 rfl
theorem q1772 : (Jvm.Cond.instanceMethod ({ cls := "MossLawn", name := "working", desc := "(C)LMossLawn$Done;" } : Jvm.MethodName)) ∈ lw_all := lw_g (lw_at lw_m7 218 rfl) rfl
theorem q1773 : (Jvm.Cond.code ({ cls := "MossLawn", name := "working", desc := "(C)LMossLawn$Done;" } : Jvm.MethodName) prog_1_method_56_code (3 : Nat) (Option.some (Jvm.ClassFile.FieldType.object "MossLawn$Done"))) ∈ lw_all := lw_g (lw_at lw_m7 219 rfl) rfl
theorem q1774 : (Jvm.Cond.privateMethod ({ cls := "MossLawn", name := "lambda$working$5", desc := "(I)I" } : Jvm.MethodName)) ∈ lw_tbl := lw_at lw_m7 220 rfl
theorem q1775 : (Jvm.Cond.instanceMethod ({ cls := "MossLawn", name := "lambda$working$5", desc := "(I)I" } : Jvm.MethodName)) ∈ lw_all := lw_g (lw_at lw_m7 221 rfl) rfl
theorem q1776 : (Jvm.Cond.code ({ cls := "MossLawn", name := "lambda$working$5", desc := "(I)I" } : Jvm.MethodName) prog_1_method_95_code (2 : Nat) (Option.some Jvm.ClassFile.FieldType.int)) ∈ lw_all := lw_g (lw_at lw_m7 222 rfl) rfl
theorem q1777 : (Jvm.Cond.privateMethod ({ cls := "MossLawn", name := "lambda$working$6", desc := "(I)I" } : Jvm.MethodName)) ∈ lw_tbl := lw_at lw_m7 223 rfl
theorem q1778 : (Jvm.Cond.instanceMethod ({ cls := "MossLawn", name := "lambda$working$6", desc := "(I)I" } : Jvm.MethodName)) ∈ lw_all := lw_g (lw_at lw_m7 224 rfl) rfl
theorem q1779 : (Jvm.Cond.code ({ cls := "MossLawn", name := "lambda$working$6", desc := "(I)I" } : Jvm.MethodName) prog_1_method_94_code (2 : Nat) (Option.some Jvm.ClassFile.FieldType.int)) ∈ lw_all := lw_g (lw_at lw_m7 225 rfl) rfl
theorem q1780 : (Jvm.Cond.privateMethod ({ cls := "MossLawn", name := "lambda$working$7", desc := "(I)I" } : Jvm.MethodName)) ∈ lw_tbl := lw_at lw_m7 226 rfl
theorem q1781 : (Jvm.Cond.instanceMethod ({ cls := "MossLawn", name := "lambda$working$7", desc := "(I)I" } : Jvm.MethodName)) ∈ lw_all := lw_g (lw_at lw_m7 227 rfl) rfl
theorem q1782 : (Jvm.Cond.code ({ cls := "MossLawn", name := "lambda$working$7", desc := "(I)I" } : Jvm.MethodName) prog_1_method_93_code (2 : Nat) (Option.some Jvm.ClassFile.FieldType.int)) ∈ lw_all := lw_g (lw_at lw_m7 228 rfl) rfl
theorem q1783 : (Jvm.Cond.privateMethod ({ cls := "MossLawn", name := "lambda$order$8", desc := "(I)I" } : Jvm.MethodName)) ∈ lw_tbl := lw_at lw_m7 229 rfl
theorem q1784 : (Jvm.Cond.instanceMethod ({ cls := "MossLawn", name := "lambda$order$8", desc := "(I)I" } : Jvm.MethodName)) ∈ lw_all := lw_g (lw_at lw_m7 230 rfl) rfl
theorem q1785 : (Jvm.Cond.code ({ cls := "MossLawn", name := "lambda$order$8", desc := "(I)I" } : Jvm.MethodName) prog_1_method_92_code (2 : Nat) (Option.some Jvm.ClassFile.FieldType.int)) ∈ lw_all := lw_g (lw_at lw_m7 231 rfl) rfl
theorem q1786 : (Jvm.Cond.privateMethod ({ cls := "MossLawn", name := "lambda$order$9", desc := "(I)I" } : Jvm.MethodName)) ∈ lw_tbl := lw_at lw_m7 232 rfl
theorem q1787 : (Jvm.Cond.instanceMethod ({ cls := "MossLawn", name := "lambda$order$9", desc := "(I)I" } : Jvm.MethodName)) ∈ lw_all := lw_g (lw_at lw_m7 233 rfl) rfl
theorem q1788 : (Jvm.Cond.code ({ cls := "MossLawn", name := "lambda$order$9", desc := "(I)I" } : Jvm.MethodName) prog_1_method_91_code (2 : Nat) (Option.some Jvm.ClassFile.FieldType.int)) ∈ lw_all := lw_g (lw_at lw_m7 234 rfl) rfl
theorem q1789 : (Jvm.Cond.methodLink "MossLawn" (489 : Nat) ({ cls := "java/lang/StringBuilder", name := "setLength", desc := "(I)V" } : Jvm.MethodName)) ∈ lw_all := lw_g (lw_at lw_m7 235 rfl) rfl
theorem q1809 : (Jvm.Cond.methodLink "MossLawn" (497 : Nat) ({ cls := "MossLawn", name := "doScript", desc := "()I" } : Jvm.MethodName)) ∈ lw_all := lw_g (lw_at lw_m8 15 rfl) rfl
theorem q1810 : (Jvm.Cond.privateMethod ({ cls := "MossLawn", name := "doScript", desc := "()I" } : Jvm.MethodName)) ∈ lw_tbl := lw_at lw_m8 16 rfl
theorem q1811 : (Jvm.Cond.instanceMethod ({ cls := "MossLawn", name := "doScript", desc := "()I" } : Jvm.MethodName)) ∈ lw_all := lw_g (lw_at lw_m8 17 rfl) rfl
theorem q1812 : (Jvm.Cond.codeWith ({ cls := "MossLawn", name := "doScript", desc := "()I" } : Jvm.MethodName) prog_1_method_59_code (3 : Nat) (Option.some Jvm.ClassFile.FieldType.int) [((10 : Nat), (22 : Nat), (25 : Nat), (1 : Nat)), ((10 : Nat), (22 : Nat), (37 : Nat), (7 : Nat))]) ∈ lw_all := lw_g (lw_at lw_m8 18 rfl) rfl
theorem q1813 : (Jvm.Cond.interfaceEntry "MossLawn" (492 : Nat)) ∈ lw_tbl := lw_at lw_m8 19 rfl
theorem q1814 : (Jvm.Cond.methodLink "MossLawn" (492 : Nat) ({ cls := "MossLawn$Done", name := "done", desc := "()I" } : Jvm.MethodName)) ∈ lw_all := lw_g (lw_at lw_m8 20 rfl) rfl
theorem q1818 : (Jvm.Cond.instanceMethod ({ cls := "MossLawn", name := "reason", desc := "(IZ)I" } : Jvm.MethodName)) ∈ lw_all := lw_g (lw_at lw_m8 24 rfl) rfl
theorem q1819 : (Jvm.Cond.selects "MossLawn" ({ cls := "MossLawn", name := "reason", desc := "(IZ)I" } : Jvm.MethodName) ({ cls := "MossLawn", name := "reason", desc := "(IZ)I" } : Jvm.MethodName)) ∈ lw_all := lw_g (lw_at lw_m8 25 rfl) rfl
theorem q1820 : (Jvm.Cond.code ({ cls := "MossLawn", name := "reason", desc := "(IZ)I" } : Jvm.MethodName) prog_1_method_61_code (4 : Nat) (Option.some Jvm.ClassFile.FieldType.int)) ∈ lw_all := lw_g (lw_at lw_m8 26 rfl) rfl
theorem q1821 : (Jvm.Cond.methodLink "MossLawn" (500 : Nat) ({ cls := "MossLawn$Refused", name := "behind", desc := "(I)LMossLawn$Refused;" } : Jvm.MethodName)) ∈ lw_all := lw_g (lw_at lw_m8 27 rfl) rfl
theorem q1835 : (Jvm.Cond.instanceMethod ({ cls := "MossLawn", name := "squareOf", desc := "(II)I" } : Jvm.MethodName)) ∈ lw_all := lw_g (lw_at lw_m8 41 rfl) rfl
theorem q1836 : (Jvm.Cond.selects "MossLawn" ({ cls := "MossLawn", name := "squareOf", desc := "(II)I" } : Jvm.MethodName) ({ cls := "MossLawn", name := "squareOf", desc := "(II)I" } : Jvm.MethodName)) ∈ lw_all := lw_g (lw_at lw_m8 42 rfl) rfl
theorem q1837 : (Jvm.Cond.code ({ cls := "MossLawn", name := "squareOf", desc := "(II)I" } : Jvm.MethodName) prog_1_method_62_code (3 : Nat) (Option.some Jvm.ClassFile.FieldType.int)) ∈ lw_all := lw_g (lw_at lw_m8 43 rfl) rfl
theorem q1839 : (Jvm.Cond.instanceMethod ({ cls := "MossLawn", name := "gardenerOf", desc := "(II)I" } : Jvm.MethodName)) ∈ lw_all := lw_g (lw_at lw_m8 45 rfl) rfl
theorem q1840 : (Jvm.Cond.selects "MossLawn" ({ cls := "MossLawn", name := "gardenerOf", desc := "(II)I" } : Jvm.MethodName) ({ cls := "MossLawn", name := "gardenerOf", desc := "(II)I" } : Jvm.MethodName)) ∈ lw_all := lw_g (lw_at lw_m8 46 rfl) rfl
theorem q1841 : (Jvm.Cond.code ({ cls := "MossLawn", name := "gardenerOf", desc := "(II)I" } : Jvm.MethodName) prog_1_method_63_code (4 : Nat) (Option.some Jvm.ClassFile.FieldType.int)) ∈ lw_all := lw_g (lw_at lw_m8 47 rfl) rfl
theorem q1843 : (Jvm.Cond.instanceMethod ({ cls := "MossLawn", name := "moleOf", desc := "(II)I" } : Jvm.MethodName)) ∈ lw_all := lw_g (lw_at lw_m8 49 rfl) rfl
theorem q1844 : (Jvm.Cond.selects "MossLawn" ({ cls := "MossLawn", name := "moleOf", desc := "(II)I" } : Jvm.MethodName) ({ cls := "MossLawn", name := "moleOf", desc := "(II)I" } : Jvm.MethodName)) ∈ lw_all := lw_g (lw_at lw_m8 50 rfl) rfl
theorem q1845 : (Jvm.Cond.code ({ cls := "MossLawn", name := "moleOf", desc := "(II)I" } : Jvm.MethodName) prog_1_method_64_code (4 : Nat) (Option.some Jvm.ClassFile.FieldType.int)) ∈ lw_all := lw_g (lw_at lw_m8 51 rfl) rfl
theorem q1847 : (Jvm.Cond.instanceMethod ({ cls := "MossLawn", name := "pairs", desc := "(I)I" } : Jvm.MethodName)) ∈ lw_all := lw_g (lw_at lw_m8 53 rfl) rfl
theorem q1848 : (Jvm.Cond.selects "MossLawn" ({ cls := "MossLawn", name := "pairs", desc := "(I)I" } : Jvm.MethodName) ({ cls := "MossLawn", name := "pairs", desc := "(I)I" } : Jvm.MethodName)) ∈ lw_all := lw_g (lw_at lw_m8 54 rfl) rfl
theorem q1849 : (Jvm.Cond.code ({ cls := "MossLawn", name := "pairs", desc := "(I)I" } : Jvm.MethodName) prog_1_method_65_code (2 : Nat) (Option.some Jvm.ClassFile.FieldType.int)) ∈ lw_all := lw_g (lw_at lw_m8 55 rfl) rfl
theorem q1851 : (Jvm.Cond.instanceMethod ({ cls := "MossLawn", name := "steps", desc := "(II)I" } : Jvm.MethodName)) ∈ lw_all := lw_g (lw_at lw_m8 57 rfl) rfl
theorem q1852 : (Jvm.Cond.selects "MossLawn" ({ cls := "MossLawn", name := "steps", desc := "(II)I" } : Jvm.MethodName) ({ cls := "MossLawn", name := "steps", desc := "(II)I" } : Jvm.MethodName)) ∈ lw_all := lw_g (lw_at lw_m8 58 rfl) rfl
theorem q1853 : (Jvm.Cond.code ({ cls := "MossLawn", name := "steps", desc := "(II)I" } : Jvm.MethodName) prog_1_method_66_code (3 : Nat) (Option.some Jvm.ClassFile.FieldType.int)) ∈ lw_all := lw_g (lw_at lw_m8 59 rfl) rfl
theorem q1855 : (Jvm.Cond.instanceMethod ({ cls := "MossLawn", name := "stepsAgain", desc := "(II)I" } : Jvm.MethodName)) ∈ lw_all := lw_g (lw_at lw_m8 61 rfl) rfl
theorem q1856 : (Jvm.Cond.selects "MossLawn" ({ cls := "MossLawn", name := "stepsAgain", desc := "(II)I" } : Jvm.MethodName) ({ cls := "MossLawn", name := "stepsAgain", desc := "(II)I" } : Jvm.MethodName)) ∈ lw_all := lw_g (lw_at lw_m8 62 rfl) rfl
theorem q1857 : (Jvm.Cond.code ({ cls := "MossLawn", name := "stepsAgain", desc := "(II)I" } : Jvm.MethodName) prog_1_method_68_code (6 : Nat) (Option.some Jvm.ClassFile.FieldType.int)) ∈ lw_all := lw_g (lw_at lw_m8 63 rfl) rfl
theorem q1858 : (Jvm.Cond.methodLink "MossLawn" (521 : Nat) ({ cls := "MossLawn", name := "spread", desc := "(I)I" } : Jvm.MethodName)) ∈ lw_all := lw_g (lw_at lw_m8 64 rfl) rfl
theorem q1859 : (Jvm.Cond.privateMethod ({ cls := "MossLawn", name := "spread", desc := "(I)I" } : Jvm.MethodName)) ∈ lw_tbl := lw_at lw_m8 65 rfl
theorem q1860 : (Jvm.Cond.instanceMethod ({ cls := "MossLawn", name := "spread", desc := "(I)I" } : Jvm.MethodName)) ∈ lw_all := lw_g (lw_at lw_m8 66 rfl) rfl
theorem q1861 : (Jvm.Cond.code ({ cls := "MossLawn", name := "spread", desc := "(I)I" } : Jvm.MethodName) prog_1_method_67_code (7 : Nat) (Option.some Jvm.ClassFile.FieldType.int)) ∈ lw_all := lw_g (lw_at lw_m8 67 rfl) rfl
theorem q1863 : (Jvm.Cond.instanceMethod ({ cls := "MossLawn", name := "wayAt", desc := "(III)I" } : Jvm.MethodName)) ∈ lw_all := lw_g (lw_at lw_m8 69 rfl) rfl
theorem q1864 : (Jvm.Cond.selects "MossLawn" ({ cls := "MossLawn", name := "wayAt", desc := "(III)I" } : Jvm.MethodName) ({ cls := "MossLawn", name := "wayAt", desc := "(III)I" } : Jvm.MethodName)) ∈ lw_all := lw_g (lw_at lw_m8 70 rfl) rfl
theorem q1865 : (Jvm.Cond.code ({ cls := "MossLawn", name := "wayAt", desc := "(III)I" } : Jvm.MethodName) prog_1_method_69_code (7 : Nat) (Option.some Jvm.ClassFile.FieldType.int)) ∈ lw_all := lw_g (lw_at lw_m8 71 rfl) rfl
theorem q1866 : (Jvm.Cond.methodLink "MossLawn" (524 : Nat) ({ cls := "MossLawn", name := "steps", desc := "(II)I" } : Jvm.MethodName)) ∈ lw_all := lw_g (lw_at lw_m8 72 rfl) rfl
theorem q1868 : (Jvm.Cond.instanceMethod ({ cls := "MossLawn", name := "walked", desc := "(II)I" } : Jvm.MethodName)) ∈ lw_all := lw_g (lw_at lw_m8 74 rfl) rfl
theorem q1869 : (Jvm.Cond.selects "MossLawn" ({ cls := "MossLawn", name := "walked", desc := "(II)I" } : Jvm.MethodName) ({ cls := "MossLawn", name := "walked", desc := "(II)I" } : Jvm.MethodName)) ∈ lw_all := lw_g (lw_at lw_m8 75 rfl) rfl
theorem q1870 : (Jvm.Cond.code ({ cls := "MossLawn", name := "walked", desc := "(II)I" } : Jvm.MethodName) prog_1_method_70_code (4 : Nat) (Option.some Jvm.ClassFile.FieldType.int)) ∈ lw_all := lw_g (lw_at lw_m8 76 rfl) rfl
theorem q1871 : (Jvm.Cond.methodLink "MossLawn" (526 : Nat) ({ cls := "java/util/LinkedList", name := "get", desc := "(I)Ljava/lang/Object;" } : Jvm.MethodName)) ∈ lw_all := lw_g (lw_at lw_m8 77 rfl) rfl
theorem q1873 : (Jvm.Cond.instanceMethod ({ cls := "MossLawn", name := "young", desc := "()I" } : Jvm.MethodName)) ∈ lw_all := lw_g (lw_at lw_m8 79 rfl) rfl
theorem q1874 : (Jvm.Cond.selects "MossLawn" ({ cls := "MossLawn", name := "young", desc := "()I" } : Jvm.MethodName) ({ cls := "MossLawn", name := "young", desc := "()I" } : Jvm.MethodName)) ∈ lw_all := lw_g (lw_at lw_m8 80 rfl) rfl
theorem q1875 : (Jvm.Cond.code ({ cls := "MossLawn", name := "young", desc := "()I" } : Jvm.MethodName) prog_1_method_71_code (1 : Nat) (Option.some Jvm.ClassFile.FieldType.int)) ∈ lw_all := lw_g (lw_at lw_m8 81 rfl) rfl
theorem q1876 : (Jvm.Cond.privateMethod ({ cls := "MossLawn", name := "lambda$young$10", desc := "(I)Z" } : Jvm.MethodName)) ∈ lw_tbl := lw_at lw_m8 82 rfl
theorem q1877 : (Jvm.Cond.instanceMethod ({ cls := "MossLawn", name := "lambda$young$10", desc := "(I)Z" } : Jvm.MethodName)) ∈ lw_all := lw_g (lw_at lw_m8 83 rfl) rfl
theorem q1878 : (Jvm.Cond.code ({ cls := "MossLawn", name := "lambda$young$10", desc := "(I)Z" } : Jvm.MethodName) prog_1_method_90_code (2 : Nat) (Option.some Jvm.ClassFile.FieldType.boolean)) ∈ lw_all := lw_g (lw_at lw_m8 84 rfl) rfl
theorem q1880 : (Jvm.Cond.instanceMethod ({ cls := "MossLawn", name := "oldIn", desc := "(I)I" } : Jvm.MethodName)) ∈ lw_all := lw_g (lw_at lw_m8 86 rfl) rfl
theorem q1881 : (Jvm.Cond.selects "MossLawn" ({ cls := "MossLawn", name := "oldIn", desc := "(I)I" } : Jvm.MethodName) ({ cls := "MossLawn", name := "oldIn", desc := "(I)I" } : Jvm.MethodName)) ∈ lw_all := lw_g (lw_at lw_m8 87 rfl) rfl
theorem q1882 : (Jvm.Cond.code ({ cls := "MossLawn", name := "oldIn", desc := "(I)I" } : Jvm.MethodName) prog_1_method_72_code (4 : Nat) (Option.some Jvm.ClassFile.FieldType.int)) ∈ lw_all := lw_g (lw_at lw_m8 88 rfl) rfl
theorem q1884 : (Jvm.Cond.instanceMethod ({ cls := "MossLawn", name := "mossIn", desc := "(II)I" } : Jvm.MethodName)) ∈ lw_all := lw_g (lw_at lw_m8 90 rfl) rfl
theorem q1885 : (Jvm.Cond.selects "MossLawn" ({ cls := "MossLawn", name := "mossIn", desc := "(II)I" } : Jvm.MethodName) ({ cls := "MossLawn", name := "mossIn", desc := "(II)I" } : Jvm.MethodName)) ∈ lw_all := lw_g (lw_at lw_m8 91 rfl) rfl
theorem q1886 : (Jvm.Cond.code ({ cls := "MossLawn", name := "mossIn", desc := "(II)I" } : Jvm.MethodName) prog_1_method_73_code (5 : Nat) (Option.some Jvm.ClassFile.FieldType.int)) ∈ lw_all := lw_g (lw_at lw_m8 92 rfl) rfl
theorem q1888 : (Jvm.Cond.instanceMethod ({ cls := "MossLawn", name := "worst", desc := "()I" } : Jvm.MethodName)) ∈ lw_all := lw_g (lw_at lw_m8 94 rfl) rfl
theorem q1889 : (Jvm.Cond.selects "MossLawn" ({ cls := "MossLawn", name := "worst", desc := "()I" } : Jvm.MethodName) ({ cls := "MossLawn", name := "worst", desc := "()I" } : Jvm.MethodName)) ∈ lw_all := lw_g (lw_at lw_m8 95 rfl) rfl
theorem q1890 : (Jvm.Cond.code ({ cls := "MossLawn", name := "worst", desc := "()I" } : Jvm.MethodName) prog_1_method_74_code (3 : Nat) (Option.some Jvm.ClassFile.FieldType.int)) ∈ lw_all := lw_g (lw_at lw_m8 96 rfl) rfl
theorem q1892 : (Jvm.Cond.instanceMethod ({ cls := "MossLawn", name := "moss", desc := "(Z)I" } : Jvm.MethodName)) ∈ lw_all := lw_g (lw_at lw_m8 98 rfl) rfl
theorem q1893 : (Jvm.Cond.selects "MossLawn" ({ cls := "MossLawn", name := "moss", desc := "(Z)I" } : Jvm.MethodName) ({ cls := "MossLawn", name := "moss", desc := "(Z)I" } : Jvm.MethodName)) ∈ lw_all := lw_g (lw_at lw_m8 99 rfl) rfl
theorem q1894 : (Jvm.Cond.code ({ cls := "MossLawn", name := "moss", desc := "(Z)I" } : Jvm.MethodName) prog_1_method_75_code (4 : Nat) (Option.some Jvm.ClassFile.FieldType.int)) ∈ lw_all := lw_g (lw_at lw_m8 100 rfl) rfl
theorem q1896 : (Jvm.Cond.instanceMethod ({ cls := "MossLawn", name := "describe", desc := "(I)I" } : Jvm.MethodName)) ∈ lw_all := lw_g (lw_at lw_m8 102 rfl) rfl
theorem q1897 : (Jvm.Cond.selects "MossLawn" ({ cls := "MossLawn", name := "describe", desc := "(I)I" } : Jvm.MethodName) ({ cls := "MossLawn", name := "describe", desc := "(I)I" } : Jvm.MethodName)) ∈ lw_all := lw_g (lw_at lw_m8 103 rfl) rfl
theorem q1898 : (Jvm.Cond.code ({ cls := "MossLawn", name := "describe", desc := "(I)I" } : Jvm.MethodName) prog_1_method_76_code (4 : Nat) (Option.some Jvm.ClassFile.FieldType.int)) ∈ lw_all := lw_g (lw_at lw_m8 104 rfl) rfl
theorem q1899 : (Jvm.Cond.interfaceEntry "MossLawn" (546 : Nat)) ∈ lw_tbl := lw_at lw_m8 105 rfl
theorem q1900 : (Jvm.Cond.methodLink "MossLawn" (546 : Nat) ({ cls := "MossLawn$Ground", name := "sign", desc := "()C" } : Jvm.MethodName)) ∈ lw_all := lw_g (lw_at lw_m8 106 rfl) rfl
theorem q1928 : (Jvm.Cond.instanceMethod ({ cls := "MossLawn", name := "written", desc := "(I)I" } : Jvm.MethodName)) ∈ lw_all := lw_g (lw_at lw_m8 134 rfl) rfl
theorem q1929 : (Jvm.Cond.selects "MossLawn" ({ cls := "MossLawn", name := "written", desc := "(I)I" } : Jvm.MethodName) ({ cls := "MossLawn", name := "written", desc := "(I)I" } : Jvm.MethodName)) ∈ lw_all := lw_g (lw_at lw_m8 135 rfl) rfl
theorem q1930 : (Jvm.Cond.code ({ cls := "MossLawn", name := "written", desc := "(I)I" } : Jvm.MethodName) prog_1_method_77_code (2 : Nat) (Option.some Jvm.ClassFile.FieldType.int)) ∈ lw_all := lw_g (lw_at lw_m8 136 rfl) rfl
theorem q1932 : (Jvm.Cond.instanceMethod ({ cls := "MossLawn", name := "meanMoss", desc := "()F" } : Jvm.MethodName)) ∈ lw_all := lw_g (lw_at lw_m8 138 rfl) rfl
theorem q1933 : (Jvm.Cond.selects "MossLawn" ({ cls := "MossLawn", name := "meanMoss", desc := "()F" } : Jvm.MethodName) ({ cls := "MossLawn", name := "meanMoss", desc := "()F" } : Jvm.MethodName)) ∈ lw_all := lw_g (lw_at lw_m8 139 rfl) rfl
theorem q1934 : (Jvm.Cond.code ({ cls := "MossLawn", name := "meanMoss", desc := "()F" } : Jvm.MethodName) prog_1_method_78_code (2 : Nat) (Option.some Jvm.ClassFile.FieldType.float)) ∈ lw_all := lw_g (lw_at lw_m8 140 rfl) rfl
theorem q1935 : (Jvm.Cond.methodLink "MossLawn" (551 : Nat) ({ cls := "java/util/BitSet", name := "cardinality", desc := "()I" } : Jvm.MethodName)) ∈ lw_all := lw_g (lw_at lw_m8 141 rfl) rfl
theorem q1945 : (Jvm.Cond.methodLink "MossLawn" (554 : Nat) ({ cls := "MossLawn", name := "moss", desc := "(Z)I" } : Jvm.MethodName)) ∈ lw_all := lw_g (lw_at lw_m8 151 rfl) rfl
theorem q1947 : (Jvm.Cond.instanceMethod ({ cls := "MossLawn", name := "oldShare", desc := "()D" } : Jvm.MethodName)) ∈ lw_all := lw_g (lw_at lw_m8 153 rfl) rfl
theorem q1948 : (Jvm.Cond.selects "MossLawn" ({ cls := "MossLawn", name := "oldShare", desc := "()D" } : Jvm.MethodName) ({ cls := "MossLawn", name := "oldShare", desc := "()D" } : Jvm.MethodName)) ∈ lw_all := lw_g (lw_at lw_m8 154 rfl) rfl
theorem q1949 : (Jvm.Cond.code ({ cls := "MossLawn", name := "oldShare", desc := "()D" } : Jvm.MethodName) prog_1_method_79_code (3 : Nat) (Option.some Jvm.ClassFile.FieldType.double)) ∈ lw_all := lw_g (lw_at lw_m8 155 rfl) rfl
theorem q1950 : (Jvm.Cond.privateMethod ({ cls := "MossLawn", name := "lambda$oldShare$11", desc := "(I)Z" } : Jvm.MethodName)) ∈ lw_tbl := lw_at lw_m8 156 rfl
theorem q1951 : (Jvm.Cond.instanceMethod ({ cls := "MossLawn", name := "lambda$oldShare$11", desc := "(I)Z" } : Jvm.MethodName)) ∈ lw_all := lw_g (lw_at lw_m8 157 rfl) rfl
theorem q1952 : (Jvm.Cond.code ({ cls := "MossLawn", name := "lambda$oldShare$11", desc := "(I)Z" } : Jvm.MethodName) prog_1_method_89_code (2 : Nat) (Option.some Jvm.ClassFile.FieldType.boolean)) ∈ lw_all := lw_g (lw_at lw_m8 158 rfl) rfl
theorem q1953 : (Jvm.Cond.methodLink "MossLawn" (558 : Nat) ({ cls := "java/lang/Integer", name := "bitCount", desc := "(I)I" } : Jvm.MethodName)) ∈ lw_all := lw_g (lw_at lw_m8 159 rfl) rfl
theorem q1959 : (Jvm.Cond.methodLink "MossLawn" (561 : Nat) ({ cls := "MossLawn", name := "young", desc := "()I" } : Jvm.MethodName)) ∈ lw_all := lw_g (lw_at lw_m8 165 rfl) rfl
theorem q1961 : (Jvm.Cond.instanceMethod ({ cls := "MossLawn", name := "account", desc := "(I)I" } : Jvm.MethodName)) ∈ lw_all := lw_g (lw_at lw_m8 167 rfl) rfl
theorem q1962 : (Jvm.Cond.selects "MossLawn" ({ cls := "MossLawn", name := "account", desc := "(I)I" } : Jvm.MethodName) ({ cls := "MossLawn", name := "account", desc := "(I)I" } : Jvm.MethodName)) ∈ lw_all := lw_g (lw_at lw_m8 168 rfl) rfl
theorem q1963 : (Jvm.Cond.code ({ cls := "MossLawn", name := "account", desc := "(I)I" } : Jvm.MethodName) prog_1_method_82_code (2 : Nat) (Option.some Jvm.ClassFile.FieldType.int)) ∈ lw_all := lw_g (lw_at lw_m8 169 rfl) rfl
theorem q1964 : (Jvm.Cond.methodLink "MossLawn" (575 : Nat) ({ cls := "MossLawn", name := "caughtMany", desc := "()I" } : Jvm.MethodName)) ∈ lw_all := lw_g (lw_at lw_m8 170 rfl) rfl
theorem q1965 : (Jvm.Cond.privateMethod ({ cls := "MossLawn", name := "caughtMany", desc := "()I" } : Jvm.MethodName)) ∈ lw_tbl := lw_at lw_m8 171 rfl
theorem q1966 : (Jvm.Cond.instanceMethod ({ cls := "MossLawn", name := "caughtMany", desc := "()I" } : Jvm.MethodName)) ∈ lw_all := lw_g (lw_at lw_m8 172 rfl) rfl
theorem q1967 : (Jvm.Cond.code ({ cls := "MossLawn", name := "caughtMany", desc := "()I" } : Jvm.MethodName) prog_1_method_81_code (1 : Nat) (Option.some Jvm.ClassFile.FieldType.int)) ∈ lw_all := lw_g (lw_at lw_m8 173 rfl) rfl
theorem q1968 : (Jvm.Cond.privateMethod ({ cls := "MossLawn", name := "lambda$caughtMany$12", desc := "(I)I" } : Jvm.MethodName)) ∈ lw_tbl := lw_at lw_m8 174 rfl
theorem q1969 : (Jvm.Cond.instanceMethod ({ cls := "MossLawn", name := "lambda$caughtMany$12", desc := "(I)I" } : Jvm.MethodName)) ∈ lw_all := lw_g (lw_at lw_m8 175 rfl) rfl
theorem q1970 : (Jvm.Cond.code ({ cls := "MossLawn", name := "lambda$caughtMany$12", desc := "(I)I" } : Jvm.MethodName) prog_1_method_88_code (2 : Nat) (Option.some Jvm.ClassFile.FieldType.int)) ∈ lw_all := lw_g (lw_at lw_m8 176 rfl) rfl
theorem q1971 : (Jvm.Cond.methodLink "MossLawn" (571 : Nat) ({ cls := "MossLawn", name := "sum", desc := "(ILMossLawn$Counted;)I" } : Jvm.MethodName)) ∈ lw_all := lw_g (lw_at lw_m8 177 rfl) rfl
theorem q1972 : (Jvm.Cond.static ({ cls := "MossLawn", name := "sum", desc := "(ILMossLawn$Counted;)I" } : Jvm.MethodName)) ∈ lw_all := lw_g (lw_at lw_m8 178 rfl) rfl
theorem q1973 : (Jvm.Cond.code ({ cls := "MossLawn", name := "sum", desc := "(ILMossLawn$Counted;)I" } : Jvm.MethodName) prog_1_method_80_code (4 : Nat) (Option.some Jvm.ClassFile.FieldType.int)) ∈ lw_all := lw_g (lw_at lw_m8 179 rfl) rfl
theorem q1974 : (Jvm.Cond.interfaceEntry "MossLawn" (564 : Nat)) ∈ lw_tbl := lw_at lw_m8 180 rfl
theorem q1975 : (Jvm.Cond.methodLink "MossLawn" (564 : Nat) ({ cls := "MossLawn$Counted", name := "of", desc := "(I)I" } : Jvm.MethodName)) ∈ lw_all := lw_g (lw_at lw_m8 181 rfl) rfl
theorem q1978 : (Jvm.Cond.privateMethod ({ cls := "MossLawn", name := "lambda$account$13", desc := "(I)I" } : Jvm.MethodName)) ∈ lw_tbl := lw_at lw_m8 184 rfl
theorem q1979 : (Jvm.Cond.instanceMethod ({ cls := "MossLawn", name := "lambda$account$13", desc := "(I)I" } : Jvm.MethodName)) ∈ lw_all := lw_g (lw_at lw_m8 185 rfl) rfl
theorem q1980 : (Jvm.Cond.code ({ cls := "MossLawn", name := "lambda$account$13", desc := "(I)I" } : Jvm.MethodName) prog_1_method_87_code (2 : Nat) (Option.some Jvm.ClassFile.FieldType.int)) ∈ lw_all := lw_g (lw_at lw_m8 186 rfl) rfl
theorem q1981 : (Jvm.Cond.privateMethod ({ cls := "MossLawn", name := "lambda$account$14", desc := "(I)I" } : Jvm.MethodName)) ∈ lw_tbl := lw_at lw_m8 187 rfl
theorem q1982 : (Jvm.Cond.instanceMethod ({ cls := "MossLawn", name := "lambda$account$14", desc := "(I)I" } : Jvm.MethodName)) ∈ lw_all := lw_g (lw_at lw_m8 188 rfl) rfl
theorem q1983 : (Jvm.Cond.code ({ cls := "MossLawn", name := "lambda$account$14", desc := "(I)I" } : Jvm.MethodName) prog_1_method_86_code (2 : Nat) (Option.some Jvm.ClassFile.FieldType.int)) ∈ lw_all := lw_g (lw_at lw_m8 189 rfl) rfl
theorem q1985 : (Jvm.Cond.instanceMethod ({ cls := "MossLawn", name := "undo", desc := "()I" } : Jvm.MethodName)) ∈ lw_all := lw_g (lw_at lw_m8 191 rfl) rfl
theorem q1986 : (Jvm.Cond.selects "MossLawn" ({ cls := "MossLawn", name := "undo", desc := "()I" } : Jvm.MethodName) ({ cls := "MossLawn", name := "undo", desc := "()I" } : Jvm.MethodName)) ∈ lw_all := lw_g (lw_at lw_m8 192 rfl) rfl
theorem q1987 : (Jvm.Cond.code ({ cls := "MossLawn", name := "undo", desc := "()I" } : Jvm.MethodName) prog_1_method_83_code (1 : Nat) (Option.some Jvm.ClassFile.FieldType.int)) ∈ lw_all := lw_g (lw_at lw_m8 193 rfl) rfl
theorem q1989 : (Jvm.Cond.instanceMethod ({ cls := "MossLawn", name := "save", desc := "()I" } : Jvm.MethodName)) ∈ lw_all := lw_g (lw_at lw_m8 195 rfl) rfl
theorem q1990 : (Jvm.Cond.selects "MossLawn" ({ cls := "MossLawn", name := "save", desc := "()I" } : Jvm.MethodName) ({ cls := "MossLawn", name := "save", desc := "()I" } : Jvm.MethodName)) ∈ lw_all := lw_g (lw_at lw_m8 196 rfl) rfl
theorem q1991 : (Jvm.Cond.code ({ cls := "MossLawn", name := "save", desc := "()I" } : Jvm.MethodName) prog_1_method_84_code (1 : Nat) (Option.some Jvm.ClassFile.FieldType.int)) ∈ lw_all := lw_g (lw_at lw_m8 197 rfl) rfl
theorem q1993 : (Jvm.Cond.instanceMethod ({ cls := "MossLawn", name := "restore", desc := "()I" } : Jvm.MethodName)) ∈ lw_all := lw_g (lw_at lw_m8 199 rfl) rfl
theorem q1994 : (Jvm.Cond.selects "MossLawn" ({ cls := "MossLawn", name := "restore", desc := "()I" } : Jvm.MethodName) ({ cls := "MossLawn", name := "restore", desc := "()I" } : Jvm.MethodName)) ∈ lw_all := lw_g (lw_at lw_m8 200 rfl) rfl
theorem q1995 : (Jvm.Cond.code ({ cls := "MossLawn", name := "restore", desc := "()I" } : Jvm.MethodName) prog_1_method_85_code (1 : Nat) (Option.some Jvm.ClassFile.FieldType.int)) ∈ lw_all := lw_g (lw_at lw_m8 201 rfl) rfl
theorem q2450 : (Jvm.Cond.castable "MossLawn" "java/lang/Object") ∈ lw_tbl := lw_at lw_m10 176 rfl
theorem in_X0 : ∀ w ∈ wsX00, w ∈ lw_all := lw_in wsX00 [578, 580, 582, 584, 586, 588, 590, 592, 594, 596, 598, 600, 602, 604, 606, 608, 610, 612, 614, 616, 618] (by decide +kernel) (by decide +kernel)
