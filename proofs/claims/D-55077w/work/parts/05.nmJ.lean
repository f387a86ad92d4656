/-! java/util/BitSet -/
set_option maxRecDepth 100000
def RJ0 : String := "java/util/BitSet"
def TJ0 : u_T := fun k => match k with
  | 0 => ("java/util/BitSet", "words", "[J", false)
  | 1 => ("java/util/BitSet", "wordsInUse", "I", false)
  | _ => ("java/util/BitSet", "sizeIsSticky", "Z", false)
def tyJ0 : Nat → FieldType := fun k => match k with
  | 0 => .array .long
  | 1 => .int
  | _ => .boolean
abbrev wsJ00 : List Cond := u_ws RJ0 TJ0 3
theorem nmJ0 : ∀ a, a < 3 → ∀ b, b < 3 → a ≠ b → (TJ0 a).2.1 ≠ (TJ0 b).2.1 := by decide +kernel
theorem tyJ0_ok : ∀ k, k < 3 → parseFieldDescriptor (TJ0 k).2.2.1 = some (tyJ0 k) := by decide +kernel
abbrev cJ0_init : ByteArray := prog_55_method_5_code
def yJ0_init : MethodName := ⟨RJ0, "<init>", "(I)V"⟩
def dkwJ0_init_2 : List UInt8 := [27, 182, 0, 27, 42, 4, 181, 0, 24, 177]
abbrev dktJ0_init_2 : List UInt8 := dkwJ0_init_2 ++ []
def dkwJ0_init_1 : List UInt8 := [187, 0, 33, 89, 183, 0, 35, 18, 36, 182, 0, 38, 27, 182, 0, 42, 182, 0, 45, 183, 0, 49, 191, 42]
abbrev dktJ0_init_1 : List UInt8 := dkwJ0_init_1 ++ dktJ0_init_2
def dkwJ0_init_0 : List UInt8 := [42, 183, 0, 21, 42, 3, 181, 0, 7, 42, 3, 181, 0, 24, 27, 156, 0, 30, 187, 0, 31, 89]
abbrev dktJ0_init_0 : List UInt8 := dkwJ0_init_0 ++ dktJ0_init_1
theorem dksJ0_init_0 : cJ0_init.data.toList.drop 0 = dktJ0_init_0 := by decide +kernel
theorem dksJ0_init_1 : cJ0_init.data.toList.drop 22 = dktJ0_init_1 := dk_seg dksJ0_init_0 22 rfl rfl
theorem dksJ0_init_2 : cJ0_init.data.toList.drop 46 = dktJ0_init_2 := dk_seg dksJ0_init_1 24 rfl rfl
theorem dJ0_init_0 : decode cJ0_init 0 = .ok (.aload_n 0, 1) := dk_42 (dk_at dksJ0_init_0 0 rfl rfl)
theorem dJ0_init_1 : decode cJ0_init 1 = .ok (.invokespecial 21, 3) := dk_183 0 21 (dk_at dksJ0_init_0 1 rfl rfl)
theorem dJ0_init_4 : decode cJ0_init 4 = .ok (.aload_n 0, 1) := dk_42 (dk_at dksJ0_init_0 4 rfl rfl)
theorem dJ0_init_5 : decode cJ0_init 5 = .ok (.iconst 0, 1) := dk_3 (dk_at dksJ0_init_0 5 rfl rfl)
theorem dJ0_init_6 : decode cJ0_init 6 = .ok (.putfield 7, 3) := dk_181 0 7 (dk_at dksJ0_init_0 6 rfl rfl)
theorem dJ0_init_9 : decode cJ0_init 9 = .ok (.aload_n 0, 1) := dk_42 (dk_at dksJ0_init_0 9 rfl rfl)
theorem dJ0_init_10 : decode cJ0_init 10 = .ok (.iconst 0, 1) := dk_3 (dk_at dksJ0_init_0 10 rfl rfl)
theorem dJ0_init_11 : decode cJ0_init 11 = .ok (.putfield 24, 3) := dk_181 0 24 (dk_at dksJ0_init_0 11 rfl rfl)
theorem dJ0_init_14 : decode cJ0_init 14 = .ok (.iload_n 1, 1) := dk_27 (dk_at dksJ0_init_0 14 rfl rfl)
theorem dJ0_init_15 : decode cJ0_init 15 = .ok (.ifCond .ge 30, 3) := dk_156 0 30 (dk_at dksJ0_init_0 15 rfl rfl)
theorem dJ0_init_18 : decode cJ0_init 18 = .ok (.new 31, 3) := dk_187 0 31 (dk_at dksJ0_init_0 18 rfl rfl)
theorem dJ0_init_21 : decode cJ0_init 21 = .ok (.dup, 1) := dk_89 (dk_at dksJ0_init_0 21 rfl rfl)
theorem dJ0_init_22 : decode cJ0_init 22 = .ok (.new 33, 3) := dk_187 0 33 (dk_at dksJ0_init_1 0 rfl rfl)
theorem dJ0_init_25 : decode cJ0_init 25 = .ok (.dup, 1) := dk_89 (dk_at dksJ0_init_1 3 rfl rfl)
theorem dJ0_init_26 : decode cJ0_init 26 = .ok (.invokespecial 35, 3) := dk_183 0 35 (dk_at dksJ0_init_1 4 rfl rfl)
theorem dJ0_init_29 : decode cJ0_init 29 = .ok (.ldc 36, 2) := dk_18 36 (dk_at dksJ0_init_1 7 rfl rfl)
theorem dJ0_init_31 : decode cJ0_init 31 = .ok (.invokevirtual 38, 3) := dk_182 0 38 (dk_at dksJ0_init_1 9 rfl rfl)
theorem dJ0_init_34 : decode cJ0_init 34 = .ok (.iload_n 1, 1) := dk_27 (dk_at dksJ0_init_1 12 rfl rfl)
theorem dJ0_init_35 : decode cJ0_init 35 = .ok (.invokevirtual 42, 3) := dk_182 0 42 (dk_at dksJ0_init_1 13 rfl rfl)
theorem dJ0_init_38 : decode cJ0_init 38 = .ok (.invokevirtual 45, 3) := dk_182 0 45 (dk_at dksJ0_init_1 16 rfl rfl)
theorem dJ0_init_41 : decode cJ0_init 41 = .ok (.invokespecial 49, 3) := dk_183 0 49 (dk_at dksJ0_init_1 19 rfl rfl)
theorem dJ0_init_44 : decode cJ0_init 44 = .ok (.athrow, 1) := dk_191 (dk_at dksJ0_init_1 22 rfl rfl)
theorem dJ0_init_45 : decode cJ0_init 45 = .ok (.aload_n 0, 1) := dk_42 (dk_at dksJ0_init_1 23 rfl rfl)
theorem dJ0_init_46 : decode cJ0_init 46 = .ok (.iload_n 1, 1) := dk_27 (dk_at dksJ0_init_2 0 rfl rfl)
theorem dJ0_init_47 : decode cJ0_init 47 = .ok (.invokevirtual 27, 3) := dk_182 0 27 (dk_at dksJ0_init_2 1 rfl rfl)
theorem dJ0_init_50 : decode cJ0_init 50 = .ok (.aload_n 0, 1) := dk_42 (dk_at dksJ0_init_2 4 rfl rfl)
theorem dJ0_init_51 : decode cJ0_init 51 = .ok (.iconst 1, 1) := dk_4 (dk_at dksJ0_init_2 5 rfl rfl)
theorem dJ0_init_52 : decode cJ0_init 52 = .ok (.putfield 24, 3) := dk_181 0 24 (dk_at dksJ0_init_2 6 rfl rfl)
theorem dJ0_init_55 : decode cJ0_init 55 = .ok (.return_, 1) := dk_177 (dk_at dksJ0_init_2 9 rfl rfl)
abbrev cJ0_initWords : ByteArray := prog_55_method_6_code
def yJ0_initWords : MethodName := ⟨RJ0, "initWords", "(I)V"⟩
def dkwJ0_initWords_0 : List UInt8 := [42, 27, 4, 100, 184, 0, 52, 4, 96, 188, 11, 181, 0, 11, 177]
abbrev dktJ0_initWords_0 : List UInt8 := dkwJ0_initWords_0 ++ []
theorem dksJ0_initWords_0 : cJ0_initWords.data.toList.drop 0 = dktJ0_initWords_0 := by decide +kernel
theorem dJ0_initWords_0 : decode cJ0_initWords 0 = .ok (.aload_n 0, 1) := dk_42 (dk_at dksJ0_initWords_0 0 rfl rfl)
theorem dJ0_initWords_1 : decode cJ0_initWords 1 = .ok (.iload_n 1, 1) := dk_27 (dk_at dksJ0_initWords_0 1 rfl rfl)
theorem dJ0_initWords_2 : decode cJ0_initWords 2 = .ok (.iconst 1, 1) := dk_4 (dk_at dksJ0_initWords_0 2 rfl rfl)
theorem dJ0_initWords_3 : decode cJ0_initWords 3 = .ok (.isub, 1) := dk_100 (dk_at dksJ0_initWords_0 3 rfl rfl)
theorem dJ0_initWords_4 : decode cJ0_initWords 4 = .ok (.invokestatic 52, 3) := dk_184 0 52 (dk_at dksJ0_initWords_0 4 rfl rfl)
theorem dJ0_initWords_7 : decode cJ0_initWords 7 = .ok (.iconst 1, 1) := dk_4 (dk_at dksJ0_initWords_0 7 rfl rfl)
theorem dJ0_initWords_8 : decode cJ0_initWords 8 = .ok (.iadd, 1) := dk_96 (dk_at dksJ0_initWords_0 8 rfl rfl)
theorem dJ0_initWords_9 : decode cJ0_initWords 9 = .ok (.newarray .long, 2) := dk_188_11 (dk_at dksJ0_initWords_0 9 rfl rfl)
theorem dJ0_initWords_11 : decode cJ0_initWords 11 = .ok (.putfield 11, 3) := dk_181 0 11 (dk_at dksJ0_initWords_0 11 rfl rfl)
theorem dJ0_initWords_14 : decode cJ0_initWords 14 = .ok (.return_, 1) := dk_177 (dk_at dksJ0_initWords_0 14 rfl rfl)
abbrev cJ0_wordIndex : ByteArray := prog_55_method_1_code
def yJ0_wordIndex : MethodName := ⟨RJ0, "wordIndex", "(I)I"⟩
def dkwJ0_wordIndex_0 : List UInt8 := [26, 16, 6, 122, 172]
abbrev dktJ0_wordIndex_0 : List UInt8 := dkwJ0_wordIndex_0 ++ []
theorem dksJ0_wordIndex_0 : cJ0_wordIndex.data.toList.drop 0 = dktJ0_wordIndex_0 := by decide +kernel
theorem dJ0_wordIndex_0 : decode cJ0_wordIndex 0 = .ok (.iload_n 0, 1) := dk_26 (dk_at dksJ0_wordIndex_0 0 rfl rfl)
theorem dJ0_wordIndex_1 : decode cJ0_wordIndex 1 = .ok (.bipush 6, 2) := dk_16 6 (dk_at dksJ0_wordIndex_0 1 rfl rfl)
theorem dJ0_wordIndex_3 : decode cJ0_wordIndex 3 = .ok (.ishr, 1) := dk_122 (dk_at dksJ0_wordIndex_0 3 rfl rfl)
theorem dJ0_wordIndex_4 : decode cJ0_wordIndex 4 = .ok (.ireturn, 1) := dk_172 (dk_at dksJ0_wordIndex_0 4 rfl rfl)
abbrev cJ0_clear : ByteArray := prog_55_method_25_code
def yJ0_clear : MethodName := ⟨RJ0, "clear", "()V"⟩
def dkwJ0_clear_1 : List UInt8 := [167, 255, 232, 177]
abbrev dktJ0_clear_1 : List UInt8 := dkwJ0_clear_1 ++ []
def dkwJ0_clear_0 : List UInt8 := [42, 180, 0, 7, 158, 0, 23, 42, 180, 0, 11, 42, 89, 180, 0, 7, 4, 100, 90, 181, 0, 7, 9, 80]
abbrev dktJ0_clear_0 : List UInt8 := dkwJ0_clear_0 ++ dktJ0_clear_1
theorem dksJ0_clear_0 : cJ0_clear.data.toList.drop 0 = dktJ0_clear_0 := by decide +kernel
theorem dksJ0_clear_1 : cJ0_clear.data.toList.drop 24 = dktJ0_clear_1 := dk_seg dksJ0_clear_0 24 rfl rfl
theorem dJ0_clear_0 : decode cJ0_clear 0 = .ok (.aload_n 0, 1) := dk_42 (dk_at dksJ0_clear_0 0 rfl rfl)
theorem dJ0_clear_1 : decode cJ0_clear 1 = .ok (.getfield 7, 3) := dk_180 0 7 (dk_at dksJ0_clear_0 1 rfl rfl)
theorem dJ0_clear_4 : decode cJ0_clear 4 = .ok (.ifCond .le 23, 3) := dk_158 0 23 (dk_at dksJ0_clear_0 4 rfl rfl)
theorem dJ0_clear_7 : decode cJ0_clear 7 = .ok (.aload_n 0, 1) := dk_42 (dk_at dksJ0_clear_0 7 rfl rfl)
theorem dJ0_clear_8 : decode cJ0_clear 8 = .ok (.getfield 11, 3) := dk_180 0 11 (dk_at dksJ0_clear_0 8 rfl rfl)
theorem dJ0_clear_11 : decode cJ0_clear 11 = .ok (.aload_n 0, 1) := dk_42 (dk_at dksJ0_clear_0 11 rfl rfl)
theorem dJ0_clear_12 : decode cJ0_clear 12 = .ok (.dup, 1) := dk_89 (dk_at dksJ0_clear_0 12 rfl rfl)
theorem dJ0_clear_13 : decode cJ0_clear 13 = .ok (.getfield 7, 3) := dk_180 0 7 (dk_at dksJ0_clear_0 13 rfl rfl)
theorem dJ0_clear_16 : decode cJ0_clear 16 = .ok (.iconst 1, 1) := dk_4 (dk_at dksJ0_clear_0 16 rfl rfl)
theorem dJ0_clear_17 : decode cJ0_clear 17 = .ok (.isub, 1) := dk_100 (dk_at dksJ0_clear_0 17 rfl rfl)
theorem dJ0_clear_18 : decode cJ0_clear 18 = .ok (.dup_x1, 1) := dk_90 (dk_at dksJ0_clear_0 18 rfl rfl)
theorem dJ0_clear_19 : decode cJ0_clear 19 = .ok (.putfield 7, 3) := dk_181 0 7 (dk_at dksJ0_clear_0 19 rfl rfl)
theorem dJ0_clear_22 : decode cJ0_clear 22 = .ok (.lconst 0, 1) := dk_9 (dk_at dksJ0_clear_0 22 rfl rfl)
theorem dJ0_clear_23 : decode cJ0_clear 23 = .ok (.lastore, 1) := dk_80 (dk_at dksJ0_clear_0 23 rfl rfl)
theorem dJ0_clear_24 : decode cJ0_clear 24 = .ok (.goto (-24), 3) := dk_167 255 232 (dk_at dksJ0_clear_1 0 rfl rfl)
theorem dJ0_clear_27 : decode cJ0_clear 27 = .ok (.return_, 1) := dk_177 (dk_at dksJ0_clear_1 3 rfl rfl)
abbrev cJ0_or : ByteArray := prog_55_method_37_code
def yJ0_or : MethodName := ⟨RJ0, "or", "(Ljava/util/BitSet;)V"⟩
def dkwJ0_or_4 : List UInt8 := [180, 0, 7, 28, 100, 184, 0, 199, 42, 182, 0, 56, 177]
abbrev dktJ0_or_4 : List UInt8 := dkwJ0_or_4 ++ []
def dkwJ0_or_3 : List UInt8 := [167, 255, 233, 28, 43, 180, 0, 7, 162, 0, 22, 43, 180, 0, 11, 28, 42, 180, 0, 11, 28, 42]
abbrev dktJ0_or_3 : List UInt8 := dkwJ0_or_3 ++ dktJ0_or_4
def dkwJ0_or_2 : List UInt8 := [29, 28, 162, 0, 24, 42, 180, 0, 11, 29, 92, 47, 43, 180, 0, 11, 29, 47, 129, 80, 132, 3, 1]
abbrev dktJ0_or_2 : List UInt8 := dkwJ0_or_2 ++ dktJ0_or_3
def dkwJ0_or_1 : List UInt8 := [180, 0, 7, 162, 0, 19, 42, 43, 180, 0, 7, 182, 0, 139, 42, 43, 180, 0, 7, 181, 0, 7, 3, 62]
abbrev dktJ0_or_1 : List UInt8 := dkwJ0_or_1 ++ dktJ0_or_2
def dkwJ0_or_0 : List UInt8 := [42, 43, 166, 0, 4, 177, 42, 180, 0, 7, 43, 180, 0, 7, 184, 0, 193, 61, 42, 180, 0, 7, 43]
abbrev dktJ0_or_0 : List UInt8 := dkwJ0_or_0 ++ dktJ0_or_1
theorem dksJ0_or_0 : cJ0_or.data.toList.drop 0 = dktJ0_or_0 := by decide +kernel
theorem dksJ0_or_1 : cJ0_or.data.toList.drop 23 = dktJ0_or_1 := dk_seg dksJ0_or_0 23 rfl rfl
theorem dksJ0_or_2 : cJ0_or.data.toList.drop 47 = dktJ0_or_2 := dk_seg dksJ0_or_1 24 rfl rfl
theorem dksJ0_or_3 : cJ0_or.data.toList.drop 70 = dktJ0_or_3 := dk_seg dksJ0_or_2 23 rfl rfl
theorem dksJ0_or_4 : cJ0_or.data.toList.drop 92 = dktJ0_or_4 := dk_seg dksJ0_or_3 22 rfl rfl
theorem dJ0_or_0 : decode cJ0_or 0 = .ok (.aload_n 0, 1) := dk_42 (dk_at dksJ0_or_0 0 rfl rfl)
theorem dJ0_or_1 : decode cJ0_or 1 = .ok (.aload_n 1, 1) := dk_43 (dk_at dksJ0_or_0 1 rfl rfl)
theorem dJ0_or_2 : decode cJ0_or 2 = .ok (.if_acmp .ne 4, 3) := dk_166 0 4 (dk_at dksJ0_or_0 2 rfl rfl)
theorem dJ0_or_5 : decode cJ0_or 5 = .ok (.return_, 1) := dk_177 (dk_at dksJ0_or_0 5 rfl rfl)
theorem dJ0_or_6 : decode cJ0_or 6 = .ok (.aload_n 0, 1) := dk_42 (dk_at dksJ0_or_0 6 rfl rfl)
theorem dJ0_or_7 : decode cJ0_or 7 = .ok (.getfield 7, 3) := dk_180 0 7 (dk_at dksJ0_or_0 7 rfl rfl)
theorem dJ0_or_10 : decode cJ0_or 10 = .ok (.aload_n 1, 1) := dk_43 (dk_at dksJ0_or_0 10 rfl rfl)
theorem dJ0_or_11 : decode cJ0_or 11 = .ok (.getfield 7, 3) := dk_180 0 7 (dk_at dksJ0_or_0 11 rfl rfl)
theorem dJ0_or_14 : decode cJ0_or 14 = .ok (.invokestatic 193, 3) := dk_184 0 193 (dk_at dksJ0_or_0 14 rfl rfl)
theorem dJ0_or_17 : decode cJ0_or 17 = .ok (.istore_n 2, 1) := dk_61 (dk_at dksJ0_or_0 17 rfl rfl)
theorem dJ0_or_18 : decode cJ0_or 18 = .ok (.aload_n 0, 1) := dk_42 (dk_at dksJ0_or_0 18 rfl rfl)
theorem dJ0_or_19 : decode cJ0_or 19 = .ok (.getfield 7, 3) := dk_180 0 7 (dk_at dksJ0_or_0 19 rfl rfl)
theorem dJ0_or_22 : decode cJ0_or 22 = .ok (.aload_n 1, 1) := dk_43 (dk_at dksJ0_or_0 22 rfl rfl)
theorem dJ0_or_23 : decode cJ0_or 23 = .ok (.getfield 7, 3) := dk_180 0 7 (dk_at dksJ0_or_1 0 rfl rfl)
theorem dJ0_or_26 : decode cJ0_or 26 = .ok (.if_icmp .ge 19, 3) := dk_162 0 19 (dk_at dksJ0_or_1 3 rfl rfl)
theorem dJ0_or_29 : decode cJ0_or 29 = .ok (.aload_n 0, 1) := dk_42 (dk_at dksJ0_or_1 6 rfl rfl)
theorem dJ0_or_30 : decode cJ0_or 30 = .ok (.aload_n 1, 1) := dk_43 (dk_at dksJ0_or_1 7 rfl rfl)
theorem dJ0_or_31 : decode cJ0_or 31 = .ok (.getfield 7, 3) := dk_180 0 7 (dk_at dksJ0_or_1 8 rfl rfl)
theorem dJ0_or_34 : decode cJ0_or 34 = .ok (.invokevirtual 139, 3) := dk_182 0 139 (dk_at dksJ0_or_1 11 rfl rfl)
theorem dJ0_or_37 : decode cJ0_or 37 = .ok (.aload_n 0, 1) := dk_42 (dk_at dksJ0_or_1 14 rfl rfl)
theorem dJ0_or_38 : decode cJ0_or 38 = .ok (.aload_n 1, 1) := dk_43 (dk_at dksJ0_or_1 15 rfl rfl)
theorem dJ0_or_39 : decode cJ0_or 39 = .ok (.getfield 7, 3) := dk_180 0 7 (dk_at dksJ0_or_1 16 rfl rfl)
theorem dJ0_or_42 : decode cJ0_or 42 = .ok (.putfield 7, 3) := dk_181 0 7 (dk_at dksJ0_or_1 19 rfl rfl)
theorem dJ0_or_45 : decode cJ0_or 45 = .ok (.iconst 0, 1) := dk_3 (dk_at dksJ0_or_1 22 rfl rfl)
theorem dJ0_or_46 : decode cJ0_or 46 = .ok (.istore_n 3, 1) := dk_62 (dk_at dksJ0_or_1 23 rfl rfl)
theorem dJ0_or_47 : decode cJ0_or 47 = .ok (.iload_n 3, 1) := dk_29 (dk_at dksJ0_or_2 0 rfl rfl)
theorem dJ0_or_48 : decode cJ0_or 48 = .ok (.iload_n 2, 1) := dk_28 (dk_at dksJ0_or_2 1 rfl rfl)
theorem dJ0_or_49 : decode cJ0_or 49 = .ok (.if_icmp .ge 24, 3) := dk_162 0 24 (dk_at dksJ0_or_2 2 rfl rfl)
theorem dJ0_or_52 : decode cJ0_or 52 = .ok (.aload_n 0, 1) := dk_42 (dk_at dksJ0_or_2 5 rfl rfl)
theorem dJ0_or_53 : decode cJ0_or 53 = .ok (.getfield 11, 3) := dk_180 0 11 (dk_at dksJ0_or_2 6 rfl rfl)
theorem dJ0_or_56 : decode cJ0_or 56 = .ok (.iload_n 3, 1) := dk_29 (dk_at dksJ0_or_2 9 rfl rfl)
theorem dJ0_or_57 : decode cJ0_or 57 = .ok (.dup2, 1) := dk_92 (dk_at dksJ0_or_2 10 rfl rfl)
theorem dJ0_or_58 : decode cJ0_or 58 = .ok (.laload, 1) := dk_47 (dk_at dksJ0_or_2 11 rfl rfl)
theorem dJ0_or_59 : decode cJ0_or 59 = .ok (.aload_n 1, 1) := dk_43 (dk_at dksJ0_or_2 12 rfl rfl)
theorem dJ0_or_60 : decode cJ0_or 60 = .ok (.getfield 11, 3) := dk_180 0 11 (dk_at dksJ0_or_2 13 rfl rfl)
theorem dJ0_or_63 : decode cJ0_or 63 = .ok (.iload_n 3, 1) := dk_29 (dk_at dksJ0_or_2 16 rfl rfl)
theorem dJ0_or_64 : decode cJ0_or 64 = .ok (.laload, 1) := dk_47 (dk_at dksJ0_or_2 17 rfl rfl)
theorem dJ0_or_65 : decode cJ0_or 65 = .ok (.lor, 1) := dk_129 (dk_at dksJ0_or_2 18 rfl rfl)
theorem dJ0_or_66 : decode cJ0_or 66 = .ok (.lastore, 1) := dk_80 (dk_at dksJ0_or_2 19 rfl rfl)
theorem dJ0_or_67 : decode cJ0_or 67 = .ok (.iinc 3 1, 3) := dk_132 3 1 (dk_at dksJ0_or_2 20 rfl rfl)
theorem dJ0_or_70 : decode cJ0_or 70 = .ok (.goto (-23), 3) := dk_167 255 233 (dk_at dksJ0_or_3 0 rfl rfl)
theorem dJ0_or_73 : decode cJ0_or 73 = .ok (.iload_n 2, 1) := dk_28 (dk_at dksJ0_or_3 3 rfl rfl)
theorem dJ0_or_74 : decode cJ0_or 74 = .ok (.aload_n 1, 1) := dk_43 (dk_at dksJ0_or_3 4 rfl rfl)
theorem dJ0_or_75 : decode cJ0_or 75 = .ok (.getfield 7, 3) := dk_180 0 7 (dk_at dksJ0_or_3 5 rfl rfl)
theorem dJ0_or_78 : decode cJ0_or 78 = .ok (.if_icmp .ge 22, 3) := dk_162 0 22 (dk_at dksJ0_or_3 8 rfl rfl)
theorem dJ0_or_81 : decode cJ0_or 81 = .ok (.aload_n 1, 1) := dk_43 (dk_at dksJ0_or_3 11 rfl rfl)
theorem dJ0_or_82 : decode cJ0_or 82 = .ok (.getfield 11, 3) := dk_180 0 11 (dk_at dksJ0_or_3 12 rfl rfl)
theorem dJ0_or_85 : decode cJ0_or 85 = .ok (.iload_n 2, 1) := dk_28 (dk_at dksJ0_or_3 15 rfl rfl)
theorem dJ0_or_86 : decode cJ0_or 86 = .ok (.aload_n 0, 1) := dk_42 (dk_at dksJ0_or_3 16 rfl rfl)
theorem dJ0_or_87 : decode cJ0_or 87 = .ok (.getfield 11, 3) := dk_180 0 11 (dk_at dksJ0_or_3 17 rfl rfl)
theorem dJ0_or_90 : decode cJ0_or 90 = .ok (.iload_n 2, 1) := dk_28 (dk_at dksJ0_or_3 20 rfl rfl)
theorem dJ0_or_91 : decode cJ0_or 91 = .ok (.aload_n 0, 1) := dk_42 (dk_at dksJ0_or_3 21 rfl rfl)
theorem dJ0_or_92 : decode cJ0_or 92 = .ok (.getfield 7, 3) := dk_180 0 7 (dk_at dksJ0_or_4 0 rfl rfl)
theorem dJ0_or_95 : decode cJ0_or 95 = .ok (.iload_n 2, 1) := dk_28 (dk_at dksJ0_or_4 3 rfl rfl)
theorem dJ0_or_96 : decode cJ0_or 96 = .ok (.isub, 1) := dk_100 (dk_at dksJ0_or_4 4 rfl rfl)
theorem dJ0_or_97 : decode cJ0_or 97 = .ok (.invokestatic 199, 3) := dk_184 0 199 (dk_at dksJ0_or_4 5 rfl rfl)
theorem dJ0_or_100 : decode cJ0_or 100 = .ok (.aload_n 0, 1) := dk_42 (dk_at dksJ0_or_4 8 rfl rfl)
theorem dJ0_or_101 : decode cJ0_or 101 = .ok (.invokevirtual 56, 3) := dk_182 0 56 (dk_at dksJ0_or_4 9 rfl rfl)
theorem dJ0_or_104 : decode cJ0_or 104 = .ok (.return_, 1) := dk_177 (dk_at dksJ0_or_4 12 rfl rfl)
abbrev cJ0_ensureCapacity : ByteArray := prog_55_method_14_code
def yJ0_ensureCapacity : MethodName := ⟨RJ0, "ensureCapacity", "(I)V"⟩
def dkwJ0_ensureCapacity_1 : List UInt8 := [180, 0, 11, 28, 184, 0, 59, 181, 0, 11, 42, 3, 181, 0, 24, 177]
abbrev dktJ0_ensureCapacity_1 : List UInt8 := dkwJ0_ensureCapacity_1 ++ []
def dkwJ0_ensureCapacity_0 : List UInt8 := [42, 180, 0, 11, 190, 27, 162, 0, 32, 5, 42, 180, 0, 11, 190, 104, 27, 184, 0, 133, 61, 42, 42]
abbrev dktJ0_ensureCapacity_0 : List UInt8 := dkwJ0_ensureCapacity_0 ++ dktJ0_ensureCapacity_1
theorem dksJ0_ensureCapacity_0 : cJ0_ensureCapacity.data.toList.drop 0 = dktJ0_ensureCapacity_0 := by decide +kernel
theorem dksJ0_ensureCapacity_1 : cJ0_ensureCapacity.data.toList.drop 23 = dktJ0_ensureCapacity_1 := dk_seg dksJ0_ensureCapacity_0 23 rfl rfl
theorem dJ0_ensureCapacity_0 : decode cJ0_ensureCapacity 0 = .ok (.aload_n 0, 1) := dk_42 (dk_at dksJ0_ensureCapacity_0 0 rfl rfl)
theorem dJ0_ensureCapacity_1 : decode cJ0_ensureCapacity 1 = .ok (.getfield 11, 3) := dk_180 0 11 (dk_at dksJ0_ensureCapacity_0 1 rfl rfl)
theorem dJ0_ensureCapacity_4 : decode cJ0_ensureCapacity 4 = .ok (.arraylength, 1) := dk_190 (dk_at dksJ0_ensureCapacity_0 4 rfl rfl)
theorem dJ0_ensureCapacity_5 : decode cJ0_ensureCapacity 5 = .ok (.iload_n 1, 1) := dk_27 (dk_at dksJ0_ensureCapacity_0 5 rfl rfl)
theorem dJ0_ensureCapacity_6 : decode cJ0_ensureCapacity 6 = .ok (.if_icmp .ge 32, 3) := dk_162 0 32 (dk_at dksJ0_ensureCapacity_0 6 rfl rfl)
theorem dJ0_ensureCapacity_9 : decode cJ0_ensureCapacity 9 = .ok (.iconst 2, 1) := dk_5 (dk_at dksJ0_ensureCapacity_0 9 rfl rfl)
theorem dJ0_ensureCapacity_10 : decode cJ0_ensureCapacity 10 = .ok (.aload_n 0, 1) := dk_42 (dk_at dksJ0_ensureCapacity_0 10 rfl rfl)
theorem dJ0_ensureCapacity_11 : decode cJ0_ensureCapacity 11 = .ok (.getfield 11, 3) := dk_180 0 11 (dk_at dksJ0_ensureCapacity_0 11 rfl rfl)
theorem dJ0_ensureCapacity_14 : decode cJ0_ensureCapacity 14 = .ok (.arraylength, 1) := dk_190 (dk_at dksJ0_ensureCapacity_0 14 rfl rfl)
theorem dJ0_ensureCapacity_15 : decode cJ0_ensureCapacity 15 = .ok (.imul, 1) := dk_104 (dk_at dksJ0_ensureCapacity_0 15 rfl rfl)
theorem dJ0_ensureCapacity_16 : decode cJ0_ensureCapacity 16 = .ok (.iload_n 1, 1) := dk_27 (dk_at dksJ0_ensureCapacity_0 16 rfl rfl)
theorem dJ0_ensureCapacity_17 : decode cJ0_ensureCapacity 17 = .ok (.invokestatic 133, 3) := dk_184 0 133 (dk_at dksJ0_ensureCapacity_0 17 rfl rfl)
theorem dJ0_ensureCapacity_20 : decode cJ0_ensureCapacity 20 = .ok (.istore_n 2, 1) := dk_61 (dk_at dksJ0_ensureCapacity_0 20 rfl rfl)
theorem dJ0_ensureCapacity_21 : decode cJ0_ensureCapacity 21 = .ok (.aload_n 0, 1) := dk_42 (dk_at dksJ0_ensureCapacity_0 21 rfl rfl)
theorem dJ0_ensureCapacity_22 : decode cJ0_ensureCapacity 22 = .ok (.aload_n 0, 1) := dk_42 (dk_at dksJ0_ensureCapacity_0 22 rfl rfl)
theorem dJ0_ensureCapacity_23 : decode cJ0_ensureCapacity 23 = .ok (.getfield 11, 3) := dk_180 0 11 (dk_at dksJ0_ensureCapacity_1 0 rfl rfl)
theorem dJ0_ensureCapacity_26 : decode cJ0_ensureCapacity 26 = .ok (.iload_n 2, 1) := dk_28 (dk_at dksJ0_ensureCapacity_1 3 rfl rfl)
theorem dJ0_ensureCapacity_27 : decode cJ0_ensureCapacity 27 = .ok (.invokestatic 59, 3) := dk_184 0 59 (dk_at dksJ0_ensureCapacity_1 4 rfl rfl)
theorem dJ0_ensureCapacity_30 : decode cJ0_ensureCapacity 30 = .ok (.putfield 11, 3) := dk_181 0 11 (dk_at dksJ0_ensureCapacity_1 7 rfl rfl)
theorem dJ0_ensureCapacity_33 : decode cJ0_ensureCapacity 33 = .ok (.aload_n 0, 1) := dk_42 (dk_at dksJ0_ensureCapacity_1 10 rfl rfl)
theorem dJ0_ensureCapacity_34 : decode cJ0_ensureCapacity 34 = .ok (.iconst 0, 1) := dk_3 (dk_at dksJ0_ensureCapacity_1 11 rfl rfl)
theorem dJ0_ensureCapacity_35 : decode cJ0_ensureCapacity 35 = .ok (.putfield 24, 3) := dk_181 0 24 (dk_at dksJ0_ensureCapacity_1 12 rfl rfl)
theorem dJ0_ensureCapacity_38 : decode cJ0_ensureCapacity 38 = .ok (.return_, 1) := dk_177 (dk_at dksJ0_ensureCapacity_1 15 rfl rfl)
abbrev cJ0_checkInvariants : ByteArray := prog_55_method_2_code
def yJ0_checkInvariants : MethodName := ⟨RJ0, "checkInvariants", "()V"⟩
def dkwJ0_checkInvariants_4 : List UInt8 := [180, 0, 7, 47, 9, 148, 153, 0, 11, 187, 0, 15, 89, 183, 0, 17, 191, 177]
abbrev dktJ0_checkInvariants_4 : List UInt8 := dkwJ0_checkInvariants_4 ++ []
def dkwJ0_checkInvariants_3 : List UInt8 := [178, 0, 3, 154, 0, 37, 42, 180, 0, 7, 42, 180, 0, 11, 190, 159, 0, 25, 42, 180, 0, 11, 42]
abbrev dktJ0_checkInvariants_3 : List UInt8 := dkwJ0_checkInvariants_3 ++ dktJ0_checkInvariants_4
def dkwJ0_checkInvariants_2 : List UInt8 := [155, 0, 15, 42, 180, 0, 7, 42, 180, 0, 11, 190, 164, 0, 11, 187, 0, 15, 89, 183, 0, 17, 191]
abbrev dktJ0_checkInvariants_2 : List UInt8 := dkwJ0_checkInvariants_2 ++ dktJ0_checkInvariants_3
def dkwJ0_checkInvariants_1 : List UInt8 := [9, 148, 154, 0, 11, 187, 0, 15, 89, 183, 0, 17, 191, 178, 0, 3, 154, 0, 30, 42, 180, 0, 7]
abbrev dktJ0_checkInvariants_1 : List UInt8 := dkwJ0_checkInvariants_1 ++ dktJ0_checkInvariants_2
def dkwJ0_checkInvariants_0 : List UInt8 := [178, 0, 3, 154, 0, 34, 42, 180, 0, 7, 153, 0, 27, 42, 180, 0, 11, 42, 180, 0, 7, 4, 100, 47]
abbrev dktJ0_checkInvariants_0 : List UInt8 := dkwJ0_checkInvariants_0 ++ dktJ0_checkInvariants_1
theorem dksJ0_checkInvariants_0 : cJ0_checkInvariants.data.toList.drop 0 = dktJ0_checkInvariants_0 := by decide +kernel
theorem dksJ0_checkInvariants_1 : cJ0_checkInvariants.data.toList.drop 24 = dktJ0_checkInvariants_1 := dk_seg dksJ0_checkInvariants_0 24 rfl rfl
theorem dksJ0_checkInvariants_2 : cJ0_checkInvariants.data.toList.drop 47 = dktJ0_checkInvariants_2 := dk_seg dksJ0_checkInvariants_1 23 rfl rfl
theorem dksJ0_checkInvariants_3 : cJ0_checkInvariants.data.toList.drop 70 = dktJ0_checkInvariants_3 := dk_seg dksJ0_checkInvariants_2 23 rfl rfl
theorem dksJ0_checkInvariants_4 : cJ0_checkInvariants.data.toList.drop 93 = dktJ0_checkInvariants_4 := dk_seg dksJ0_checkInvariants_3 23 rfl rfl
theorem dJ0_checkInvariants_0 : decode cJ0_checkInvariants 0 = .ok (.getstatic 3, 3) := dk_178 0 3 (dk_at dksJ0_checkInvariants_0 0 rfl rfl)
theorem dJ0_checkInvariants_3 : decode cJ0_checkInvariants 3 = .ok (.ifCond .ne 34, 3) := dk_154 0 34 (dk_at dksJ0_checkInvariants_0 3 rfl rfl)
theorem dJ0_checkInvariants_6 : decode cJ0_checkInvariants 6 = .ok (.aload_n 0, 1) := dk_42 (dk_at dksJ0_checkInvariants_0 6 rfl rfl)
theorem dJ0_checkInvariants_7 : decode cJ0_checkInvariants 7 = .ok (.getfield 7, 3) := dk_180 0 7 (dk_at dksJ0_checkInvariants_0 7 rfl rfl)
theorem dJ0_checkInvariants_10 : decode cJ0_checkInvariants 10 = .ok (.ifCond .eq 27, 3) := dk_153 0 27 (dk_at dksJ0_checkInvariants_0 10 rfl rfl)
theorem dJ0_checkInvariants_13 : decode cJ0_checkInvariants 13 = .ok (.aload_n 0, 1) := dk_42 (dk_at dksJ0_checkInvariants_0 13 rfl rfl)
theorem dJ0_checkInvariants_14 : decode cJ0_checkInvariants 14 = .ok (.getfield 11, 3) := dk_180 0 11 (dk_at dksJ0_checkInvariants_0 14 rfl rfl)
theorem dJ0_checkInvariants_17 : decode cJ0_checkInvariants 17 = .ok (.aload_n 0, 1) := dk_42 (dk_at dksJ0_checkInvariants_0 17 rfl rfl)
theorem dJ0_checkInvariants_18 : decode cJ0_checkInvariants 18 = .ok (.getfield 7, 3) := dk_180 0 7 (dk_at dksJ0_checkInvariants_0 18 rfl rfl)
theorem dJ0_checkInvariants_21 : decode cJ0_checkInvariants 21 = .ok (.iconst 1, 1) := dk_4 (dk_at dksJ0_checkInvariants_0 21 rfl rfl)
theorem dJ0_checkInvariants_22 : decode cJ0_checkInvariants 22 = .ok (.isub, 1) := dk_100 (dk_at dksJ0_checkInvariants_0 22 rfl rfl)
theorem dJ0_checkInvariants_23 : decode cJ0_checkInvariants 23 = .ok (.laload, 1) := dk_47 (dk_at dksJ0_checkInvariants_0 23 rfl rfl)
theorem dJ0_checkInvariants_24 : decode cJ0_checkInvariants 24 = .ok (.lconst 0, 1) := dk_9 (dk_at dksJ0_checkInvariants_1 0 rfl rfl)
theorem dJ0_checkInvariants_25 : decode cJ0_checkInvariants 25 = .ok (.lcmp, 1) := dk_148 (dk_at dksJ0_checkInvariants_1 1 rfl rfl)
theorem dJ0_checkInvariants_26 : decode cJ0_checkInvariants 26 = .ok (.ifCond .ne 11, 3) := dk_154 0 11 (dk_at dksJ0_checkInvariants_1 2 rfl rfl)
theorem dJ0_checkInvariants_29 : decode cJ0_checkInvariants 29 = .ok (.new 15, 3) := dk_187 0 15 (dk_at dksJ0_checkInvariants_1 5 rfl rfl)
theorem dJ0_checkInvariants_32 : decode cJ0_checkInvariants 32 = .ok (.dup, 1) := dk_89 (dk_at dksJ0_checkInvariants_1 8 rfl rfl)
theorem dJ0_checkInvariants_33 : decode cJ0_checkInvariants 33 = .ok (.invokespecial 17, 3) := dk_183 0 17 (dk_at dksJ0_checkInvariants_1 9 rfl rfl)
theorem dJ0_checkInvariants_36 : decode cJ0_checkInvariants 36 = .ok (.athrow, 1) := dk_191 (dk_at dksJ0_checkInvariants_1 12 rfl rfl)
theorem dJ0_checkInvariants_37 : decode cJ0_checkInvariants 37 = .ok (.getstatic 3, 3) := dk_178 0 3 (dk_at dksJ0_checkInvariants_1 13 rfl rfl)
theorem dJ0_checkInvariants_40 : decode cJ0_checkInvariants 40 = .ok (.ifCond .ne 30, 3) := dk_154 0 30 (dk_at dksJ0_checkInvariants_1 16 rfl rfl)
theorem dJ0_checkInvariants_43 : decode cJ0_checkInvariants 43 = .ok (.aload_n 0, 1) := dk_42 (dk_at dksJ0_checkInvariants_1 19 rfl rfl)
theorem dJ0_checkInvariants_44 : decode cJ0_checkInvariants 44 = .ok (.getfield 7, 3) := dk_180 0 7 (dk_at dksJ0_checkInvariants_1 20 rfl rfl)
theorem dJ0_checkInvariants_47 : decode cJ0_checkInvariants 47 = .ok (.ifCond .lt 15, 3) := dk_155 0 15 (dk_at dksJ0_checkInvariants_2 0 rfl rfl)
theorem dJ0_checkInvariants_50 : decode cJ0_checkInvariants 50 = .ok (.aload_n 0, 1) := dk_42 (dk_at dksJ0_checkInvariants_2 3 rfl rfl)
theorem dJ0_checkInvariants_51 : decode cJ0_checkInvariants 51 = .ok (.getfield 7, 3) := dk_180 0 7 (dk_at dksJ0_checkInvariants_2 4 rfl rfl)
theorem dJ0_checkInvariants_54 : decode cJ0_checkInvariants 54 = .ok (.aload_n 0, 1) := dk_42 (dk_at dksJ0_checkInvariants_2 7 rfl rfl)
theorem dJ0_checkInvariants_55 : decode cJ0_checkInvariants 55 = .ok (.getfield 11, 3) := dk_180 0 11 (dk_at dksJ0_checkInvariants_2 8 rfl rfl)
theorem dJ0_checkInvariants_58 : decode cJ0_checkInvariants 58 = .ok (.arraylength, 1) := dk_190 (dk_at dksJ0_checkInvariants_2 11 rfl rfl)
theorem dJ0_checkInvariants_59 : decode cJ0_checkInvariants 59 = .ok (.if_icmp .le 11, 3) := dk_164 0 11 (dk_at dksJ0_checkInvariants_2 12 rfl rfl)
theorem dJ0_checkInvariants_62 : decode cJ0_checkInvariants 62 = .ok (.new 15, 3) := dk_187 0 15 (dk_at dksJ0_checkInvariants_2 15 rfl rfl)
theorem dJ0_checkInvariants_65 : decode cJ0_checkInvariants 65 = .ok (.dup, 1) := dk_89 (dk_at dksJ0_checkInvariants_2 18 rfl rfl)
theorem dJ0_checkInvariants_66 : decode cJ0_checkInvariants 66 = .ok (.invokespecial 17, 3) := dk_183 0 17 (dk_at dksJ0_checkInvariants_2 19 rfl rfl)
theorem dJ0_checkInvariants_69 : decode cJ0_checkInvariants 69 = .ok (.athrow, 1) := dk_191 (dk_at dksJ0_checkInvariants_2 22 rfl rfl)
theorem dJ0_checkInvariants_70 : decode cJ0_checkInvariants 70 = .ok (.getstatic 3, 3) := dk_178 0 3 (dk_at dksJ0_checkInvariants_3 0 rfl rfl)
theorem dJ0_checkInvariants_73 : decode cJ0_checkInvariants 73 = .ok (.ifCond .ne 37, 3) := dk_154 0 37 (dk_at dksJ0_checkInvariants_3 3 rfl rfl)
theorem dJ0_checkInvariants_76 : decode cJ0_checkInvariants 76 = .ok (.aload_n 0, 1) := dk_42 (dk_at dksJ0_checkInvariants_3 6 rfl rfl)
theorem dJ0_checkInvariants_77 : decode cJ0_checkInvariants 77 = .ok (.getfield 7, 3) := dk_180 0 7 (dk_at dksJ0_checkInvariants_3 7 rfl rfl)
theorem dJ0_checkInvariants_80 : decode cJ0_checkInvariants 80 = .ok (.aload_n 0, 1) := dk_42 (dk_at dksJ0_checkInvariants_3 10 rfl rfl)
theorem dJ0_checkInvariants_81 : decode cJ0_checkInvariants 81 = .ok (.getfield 11, 3) := dk_180 0 11 (dk_at dksJ0_checkInvariants_3 11 rfl rfl)
theorem dJ0_checkInvariants_84 : decode cJ0_checkInvariants 84 = .ok (.arraylength, 1) := dk_190 (dk_at dksJ0_checkInvariants_3 14 rfl rfl)
theorem dJ0_checkInvariants_85 : decode cJ0_checkInvariants 85 = .ok (.if_icmp .eq 25, 3) := dk_159 0 25 (dk_at dksJ0_checkInvariants_3 15 rfl rfl)
theorem dJ0_checkInvariants_88 : decode cJ0_checkInvariants 88 = .ok (.aload_n 0, 1) := dk_42 (dk_at dksJ0_checkInvariants_3 18 rfl rfl)
theorem dJ0_checkInvariants_89 : decode cJ0_checkInvariants 89 = .ok (.getfield 11, 3) := dk_180 0 11 (dk_at dksJ0_checkInvariants_3 19 rfl rfl)
theorem dJ0_checkInvariants_92 : decode cJ0_checkInvariants 92 = .ok (.aload_n 0, 1) := dk_42 (dk_at dksJ0_checkInvariants_3 22 rfl rfl)
theorem dJ0_checkInvariants_93 : decode cJ0_checkInvariants 93 = .ok (.getfield 7, 3) := dk_180 0 7 (dk_at dksJ0_checkInvariants_4 0 rfl rfl)
theorem dJ0_checkInvariants_96 : decode cJ0_checkInvariants 96 = .ok (.laload, 1) := dk_47 (dk_at dksJ0_checkInvariants_4 3 rfl rfl)
theorem dJ0_checkInvariants_97 : decode cJ0_checkInvariants 97 = .ok (.lconst 0, 1) := dk_9 (dk_at dksJ0_checkInvariants_4 4 rfl rfl)
theorem dJ0_checkInvariants_98 : decode cJ0_checkInvariants 98 = .ok (.lcmp, 1) := dk_148 (dk_at dksJ0_checkInvariants_4 5 rfl rfl)
theorem dJ0_checkInvariants_99 : decode cJ0_checkInvariants 99 = .ok (.ifCond .eq 11, 3) := dk_153 0 11 (dk_at dksJ0_checkInvariants_4 6 rfl rfl)
theorem dJ0_checkInvariants_102 : decode cJ0_checkInvariants 102 = .ok (.new 15, 3) := dk_187 0 15 (dk_at dksJ0_checkInvariants_4 9 rfl rfl)
theorem dJ0_checkInvariants_105 : decode cJ0_checkInvariants 105 = .ok (.dup, 1) := dk_89 (dk_at dksJ0_checkInvariants_4 12 rfl rfl)
theorem dJ0_checkInvariants_106 : decode cJ0_checkInvariants 106 = .ok (.invokespecial 17, 3) := dk_183 0 17 (dk_at dksJ0_checkInvariants_4 13 rfl rfl)
theorem dJ0_checkInvariants_109 : decode cJ0_checkInvariants 109 = .ok (.athrow, 1) := dk_191 (dk_at dksJ0_checkInvariants_4 16 rfl rfl)
theorem dJ0_checkInvariants_110 : decode cJ0_checkInvariants 110 = .ok (.return_, 1) := dk_177 (dk_at dksJ0_checkInvariants_4 17 rfl rfl)
abbrev cJ0_get : ByteArray := prog_55_method_26_code
def yJ0_get : MethodName := ⟨RJ0, "get", "(I)Z"⟩
def dkwJ0_get_2 : List UInt8 := [42, 180, 0, 11, 28, 47, 10, 27, 121, 127, 9, 148, 153, 0, 7, 4, 167, 0, 4, 3, 172]
abbrev dktJ0_get_2 : List UInt8 := dkwJ0_get_2 ++ []
def dkwJ0_get_1 : List UInt8 := [182, 0, 45, 183, 0, 146, 191, 42, 182, 0, 56, 27, 184, 0, 52, 61, 28, 42, 180, 0, 7, 162, 0, 22]
abbrev dktJ0_get_1 : List UInt8 := dkwJ0_get_1 ++ dktJ0_get_2
def dkwJ0_get_0 : List UInt8 := [27, 156, 0, 30, 187, 0, 142, 89, 187, 0, 33, 89, 183, 0, 35, 18, 153, 182, 0, 38, 27, 182, 0, 42]
abbrev dktJ0_get_0 : List UInt8 := dkwJ0_get_0 ++ dktJ0_get_1
theorem dksJ0_get_0 : cJ0_get.data.toList.drop 0 = dktJ0_get_0 := by decide +kernel
theorem dksJ0_get_1 : cJ0_get.data.toList.drop 24 = dktJ0_get_1 := dk_seg dksJ0_get_0 24 rfl rfl
theorem dksJ0_get_2 : cJ0_get.data.toList.drop 48 = dktJ0_get_2 := dk_seg dksJ0_get_1 24 rfl rfl
theorem dJ0_get_0 : decode cJ0_get 0 = .ok (.iload_n 1, 1) := dk_27 (dk_at dksJ0_get_0 0 rfl rfl)
theorem dJ0_get_1 : decode cJ0_get 1 = .ok (.ifCond .ge 30, 3) := dk_156 0 30 (dk_at dksJ0_get_0 1 rfl rfl)
theorem dJ0_get_4 : decode cJ0_get 4 = .ok (.new 142, 3) := dk_187 0 142 (dk_at dksJ0_get_0 4 rfl rfl)
theorem dJ0_get_7 : decode cJ0_get 7 = .ok (.dup, 1) := dk_89 (dk_at dksJ0_get_0 7 rfl rfl)
theorem dJ0_get_8 : decode cJ0_get 8 = .ok (.new 33, 3) := dk_187 0 33 (dk_at dksJ0_get_0 8 rfl rfl)
theorem dJ0_get_11 : decode cJ0_get 11 = .ok (.dup, 1) := dk_89 (dk_at dksJ0_get_0 11 rfl rfl)
theorem dJ0_get_12 : decode cJ0_get 12 = .ok (.invokespecial 35, 3) := dk_183 0 35 (dk_at dksJ0_get_0 12 rfl rfl)
theorem dJ0_get_15 : decode cJ0_get 15 = .ok (.ldc 153, 2) := dk_18 153 (dk_at dksJ0_get_0 15 rfl rfl)
theorem dJ0_get_17 : decode cJ0_get 17 = .ok (.invokevirtual 38, 3) := dk_182 0 38 (dk_at dksJ0_get_0 17 rfl rfl)
theorem dJ0_get_20 : decode cJ0_get 20 = .ok (.iload_n 1, 1) := dk_27 (dk_at dksJ0_get_0 20 rfl rfl)
theorem dJ0_get_21 : decode cJ0_get 21 = .ok (.invokevirtual 42, 3) := dk_182 0 42 (dk_at dksJ0_get_0 21 rfl rfl)
theorem dJ0_get_24 : decode cJ0_get 24 = .ok (.invokevirtual 45, 3) := dk_182 0 45 (dk_at dksJ0_get_1 0 rfl rfl)
theorem dJ0_get_27 : decode cJ0_get 27 = .ok (.invokespecial 146, 3) := dk_183 0 146 (dk_at dksJ0_get_1 3 rfl rfl)
theorem dJ0_get_30 : decode cJ0_get 30 = .ok (.athrow, 1) := dk_191 (dk_at dksJ0_get_1 6 rfl rfl)
theorem dJ0_get_31 : decode cJ0_get 31 = .ok (.aload_n 0, 1) := dk_42 (dk_at dksJ0_get_1 7 rfl rfl)
theorem dJ0_get_32 : decode cJ0_get 32 = .ok (.invokevirtual 56, 3) := dk_182 0 56 (dk_at dksJ0_get_1 8 rfl rfl)
theorem dJ0_get_35 : decode cJ0_get 35 = .ok (.iload_n 1, 1) := dk_27 (dk_at dksJ0_get_1 11 rfl rfl)
theorem dJ0_get_36 : decode cJ0_get 36 = .ok (.invokestatic 52, 3) := dk_184 0 52 (dk_at dksJ0_get_1 12 rfl rfl)
theorem dJ0_get_39 : decode cJ0_get 39 = .ok (.istore_n 2, 1) := dk_61 (dk_at dksJ0_get_1 15 rfl rfl)
theorem dJ0_get_40 : decode cJ0_get 40 = .ok (.iload_n 2, 1) := dk_28 (dk_at dksJ0_get_1 16 rfl rfl)
theorem dJ0_get_41 : decode cJ0_get 41 = .ok (.aload_n 0, 1) := dk_42 (dk_at dksJ0_get_1 17 rfl rfl)
theorem dJ0_get_42 : decode cJ0_get 42 = .ok (.getfield 7, 3) := dk_180 0 7 (dk_at dksJ0_get_1 18 rfl rfl)
theorem dJ0_get_45 : decode cJ0_get 45 = .ok (.if_icmp .ge 22, 3) := dk_162 0 22 (dk_at dksJ0_get_1 21 rfl rfl)
theorem dJ0_get_48 : decode cJ0_get 48 = .ok (.aload_n 0, 1) := dk_42 (dk_at dksJ0_get_2 0 rfl rfl)
theorem dJ0_get_49 : decode cJ0_get 49 = .ok (.getfield 11, 3) := dk_180 0 11 (dk_at dksJ0_get_2 1 rfl rfl)
theorem dJ0_get_52 : decode cJ0_get 52 = .ok (.iload_n 2, 1) := dk_28 (dk_at dksJ0_get_2 4 rfl rfl)
theorem dJ0_get_53 : decode cJ0_get 53 = .ok (.laload, 1) := dk_47 (dk_at dksJ0_get_2 5 rfl rfl)
theorem dJ0_get_54 : decode cJ0_get 54 = .ok (.lconst 1, 1) := dk_10 (dk_at dksJ0_get_2 6 rfl rfl)
theorem dJ0_get_55 : decode cJ0_get 55 = .ok (.iload_n 1, 1) := dk_27 (dk_at dksJ0_get_2 7 rfl rfl)
theorem dJ0_get_56 : decode cJ0_get 56 = .ok (.lshl, 1) := dk_121 (dk_at dksJ0_get_2 8 rfl rfl)
theorem dJ0_get_57 : decode cJ0_get 57 = .ok (.land, 1) := dk_127 (dk_at dksJ0_get_2 9 rfl rfl)
theorem dJ0_get_58 : decode cJ0_get 58 = .ok (.lconst 0, 1) := dk_9 (dk_at dksJ0_get_2 10 rfl rfl)
theorem dJ0_get_59 : decode cJ0_get 59 = .ok (.lcmp, 1) := dk_148 (dk_at dksJ0_get_2 11 rfl rfl)
theorem dJ0_get_60 : decode cJ0_get 60 = .ok (.ifCond .eq 7, 3) := dk_153 0 7 (dk_at dksJ0_get_2 12 rfl rfl)
theorem dJ0_get_63 : decode cJ0_get 63 = .ok (.iconst 1, 1) := dk_4 (dk_at dksJ0_get_2 15 rfl rfl)
theorem dJ0_get_64 : decode cJ0_get 64 = .ok (.goto 4, 3) := dk_167 0 4 (dk_at dksJ0_get_2 16 rfl rfl)
theorem dJ0_get_67 : decode cJ0_get 67 = .ok (.iconst 0, 1) := dk_3 (dk_at dksJ0_get_2 19 rfl rfl)
theorem dJ0_get_68 : decode cJ0_get 68 = .ok (.ireturn, 1) := dk_172 (dk_at dksJ0_get_2 20 rfl rfl)
abbrev cJ0_set : ByteArray := prog_55_method_19_code
def yJ0_set : MethodName := ⟨RJ0, "set", "(I)V"⟩
def dkwJ0_set_2 : List UInt8 := [10, 27, 121, 129, 80, 42, 182, 0, 56, 177]
abbrev dktJ0_set_2 : List UInt8 := dkwJ0_set_2 ++ []
def dkwJ0_set_1 : List UInt8 := [182, 0, 45, 183, 0, 146, 191, 27, 184, 0, 52, 61, 42, 28, 182, 0, 155, 42, 180, 0, 11, 28, 92, 47]
abbrev dktJ0_set_1 : List UInt8 := dkwJ0_set_1 ++ dktJ0_set_2
def dkwJ0_set_0 : List UInt8 := [27, 156, 0, 30, 187, 0, 142, 89, 187, 0, 33, 89, 183, 0, 35, 18, 153, 182, 0, 38, 27, 182, 0, 42]
abbrev dktJ0_set_0 : List UInt8 := dkwJ0_set_0 ++ dktJ0_set_1
theorem dksJ0_set_0 : cJ0_set.data.toList.drop 0 = dktJ0_set_0 := by decide +kernel
theorem dksJ0_set_1 : cJ0_set.data.toList.drop 24 = dktJ0_set_1 := dk_seg dksJ0_set_0 24 rfl rfl
theorem dksJ0_set_2 : cJ0_set.data.toList.drop 48 = dktJ0_set_2 := dk_seg dksJ0_set_1 24 rfl rfl
theorem dJ0_set_0 : decode cJ0_set 0 = .ok (.iload_n 1, 1) := dk_27 (dk_at dksJ0_set_0 0 rfl rfl)
theorem dJ0_set_1 : decode cJ0_set 1 = .ok (.ifCond .ge 30, 3) := dk_156 0 30 (dk_at dksJ0_set_0 1 rfl rfl)
theorem dJ0_set_4 : decode cJ0_set 4 = .ok (.new 142, 3) := dk_187 0 142 (dk_at dksJ0_set_0 4 rfl rfl)
theorem dJ0_set_7 : decode cJ0_set 7 = .ok (.dup, 1) := dk_89 (dk_at dksJ0_set_0 7 rfl rfl)
theorem dJ0_set_8 : decode cJ0_set 8 = .ok (.new 33, 3) := dk_187 0 33 (dk_at dksJ0_set_0 8 rfl rfl)
theorem dJ0_set_11 : decode cJ0_set 11 = .ok (.dup, 1) := dk_89 (dk_at dksJ0_set_0 11 rfl rfl)
theorem dJ0_set_12 : decode cJ0_set 12 = .ok (.invokespecial 35, 3) := dk_183 0 35 (dk_at dksJ0_set_0 12 rfl rfl)
theorem dJ0_set_15 : decode cJ0_set 15 = .ok (.ldc 153, 2) := dk_18 153 (dk_at dksJ0_set_0 15 rfl rfl)
theorem dJ0_set_17 : decode cJ0_set 17 = .ok (.invokevirtual 38, 3) := dk_182 0 38 (dk_at dksJ0_set_0 17 rfl rfl)
theorem dJ0_set_20 : decode cJ0_set 20 = .ok (.iload_n 1, 1) := dk_27 (dk_at dksJ0_set_0 20 rfl rfl)
theorem dJ0_set_21 : decode cJ0_set 21 = .ok (.invokevirtual 42, 3) := dk_182 0 42 (dk_at dksJ0_set_0 21 rfl rfl)
theorem dJ0_set_24 : decode cJ0_set 24 = .ok (.invokevirtual 45, 3) := dk_182 0 45 (dk_at dksJ0_set_1 0 rfl rfl)
theorem dJ0_set_27 : decode cJ0_set 27 = .ok (.invokespecial 146, 3) := dk_183 0 146 (dk_at dksJ0_set_1 3 rfl rfl)
theorem dJ0_set_30 : decode cJ0_set 30 = .ok (.athrow, 1) := dk_191 (dk_at dksJ0_set_1 6 rfl rfl)
theorem dJ0_set_31 : decode cJ0_set 31 = .ok (.iload_n 1, 1) := dk_27 (dk_at dksJ0_set_1 7 rfl rfl)
theorem dJ0_set_32 : decode cJ0_set 32 = .ok (.invokestatic 52, 3) := dk_184 0 52 (dk_at dksJ0_set_1 8 rfl rfl)
theorem dJ0_set_35 : decode cJ0_set 35 = .ok (.istore_n 2, 1) := dk_61 (dk_at dksJ0_set_1 11 rfl rfl)
theorem dJ0_set_36 : decode cJ0_set 36 = .ok (.aload_n 0, 1) := dk_42 (dk_at dksJ0_set_1 12 rfl rfl)
theorem dJ0_set_37 : decode cJ0_set 37 = .ok (.iload_n 2, 1) := dk_28 (dk_at dksJ0_set_1 13 rfl rfl)
theorem dJ0_set_38 : decode cJ0_set 38 = .ok (.invokevirtual 155, 3) := dk_182 0 155 (dk_at dksJ0_set_1 14 rfl rfl)
theorem dJ0_set_41 : decode cJ0_set 41 = .ok (.aload_n 0, 1) := dk_42 (dk_at dksJ0_set_1 17 rfl rfl)
theorem dJ0_set_42 : decode cJ0_set 42 = .ok (.getfield 11, 3) := dk_180 0 11 (dk_at dksJ0_set_1 18 rfl rfl)
theorem dJ0_set_45 : decode cJ0_set 45 = .ok (.iload_n 2, 1) := dk_28 (dk_at dksJ0_set_1 21 rfl rfl)
theorem dJ0_set_46 : decode cJ0_set 46 = .ok (.dup2, 1) := dk_92 (dk_at dksJ0_set_1 22 rfl rfl)
theorem dJ0_set_47 : decode cJ0_set 47 = .ok (.laload, 1) := dk_47 (dk_at dksJ0_set_1 23 rfl rfl)
theorem dJ0_set_48 : decode cJ0_set 48 = .ok (.lconst 1, 1) := dk_10 (dk_at dksJ0_set_2 0 rfl rfl)
theorem dJ0_set_49 : decode cJ0_set 49 = .ok (.iload_n 1, 1) := dk_27 (dk_at dksJ0_set_2 1 rfl rfl)
theorem dJ0_set_50 : decode cJ0_set 50 = .ok (.lshl, 1) := dk_121 (dk_at dksJ0_set_2 2 rfl rfl)
theorem dJ0_set_51 : decode cJ0_set 51 = .ok (.lor, 1) := dk_129 (dk_at dksJ0_set_2 3 rfl rfl)
theorem dJ0_set_52 : decode cJ0_set 52 = .ok (.lastore, 1) := dk_80 (dk_at dksJ0_set_2 4 rfl rfl)
theorem dJ0_set_53 : decode cJ0_set 53 = .ok (.aload_n 0, 1) := dk_42 (dk_at dksJ0_set_2 5 rfl rfl)
theorem dJ0_set_54 : decode cJ0_set 54 = .ok (.invokevirtual 56, 3) := dk_182 0 56 (dk_at dksJ0_set_2 6 rfl rfl)
theorem dJ0_set_57 : decode cJ0_set 57 = .ok (.return_, 1) := dk_177 (dk_at dksJ0_set_2 9 rfl rfl)
abbrev cJ0_expandTo : ByteArray := prog_55_method_15_code
def yJ0_expandTo : MethodName := ⟨RJ0, "expandTo", "(I)V"⟩
def dkwJ0_expandTo_0 : List UInt8 := [27, 4, 96, 61, 42, 180, 0, 7, 28, 162, 0, 13, 42, 28, 182, 0, 139, 42, 28, 181, 0, 7, 177]
abbrev dktJ0_expandTo_0 : List UInt8 := dkwJ0_expandTo_0 ++ []
theorem dksJ0_expandTo_0 : cJ0_expandTo.data.toList.drop 0 = dktJ0_expandTo_0 := by decide +kernel
theorem dJ0_expandTo_0 : decode cJ0_expandTo 0 = .ok (.iload_n 1, 1) := dk_27 (dk_at dksJ0_expandTo_0 0 rfl rfl)
theorem dJ0_expandTo_1 : decode cJ0_expandTo 1 = .ok (.iconst 1, 1) := dk_4 (dk_at dksJ0_expandTo_0 1 rfl rfl)
theorem dJ0_expandTo_2 : decode cJ0_expandTo 2 = .ok (.iadd, 1) := dk_96 (dk_at dksJ0_expandTo_0 2 rfl rfl)
theorem dJ0_expandTo_3 : decode cJ0_expandTo 3 = .ok (.istore_n 2, 1) := dk_61 (dk_at dksJ0_expandTo_0 3 rfl rfl)
theorem dJ0_expandTo_4 : decode cJ0_expandTo 4 = .ok (.aload_n 0, 1) := dk_42 (dk_at dksJ0_expandTo_0 4 rfl rfl)
theorem dJ0_expandTo_5 : decode cJ0_expandTo 5 = .ok (.getfield 7, 3) := dk_180 0 7 (dk_at dksJ0_expandTo_0 5 rfl rfl)
theorem dJ0_expandTo_8 : decode cJ0_expandTo 8 = .ok (.iload_n 2, 1) := dk_28 (dk_at dksJ0_expandTo_0 8 rfl rfl)
theorem dJ0_expandTo_9 : decode cJ0_expandTo 9 = .ok (.if_icmp .ge 13, 3) := dk_162 0 13 (dk_at dksJ0_expandTo_0 9 rfl rfl)
theorem dJ0_expandTo_12 : decode cJ0_expandTo 12 = .ok (.aload_n 0, 1) := dk_42 (dk_at dksJ0_expandTo_0 12 rfl rfl)
theorem dJ0_expandTo_13 : decode cJ0_expandTo 13 = .ok (.iload_n 2, 1) := dk_28 (dk_at dksJ0_expandTo_0 13 rfl rfl)
theorem dJ0_expandTo_14 : decode cJ0_expandTo 14 = .ok (.invokevirtual 139, 3) := dk_182 0 139 (dk_at dksJ0_expandTo_0 14 rfl rfl)
theorem dJ0_expandTo_17 : decode cJ0_expandTo 17 = .ok (.aload_n 0, 1) := dk_42 (dk_at dksJ0_expandTo_0 17 rfl rfl)
theorem dJ0_expandTo_18 : decode cJ0_expandTo 18 = .ok (.iload_n 2, 1) := dk_28 (dk_at dksJ0_expandTo_0 18 rfl rfl)
theorem dJ0_expandTo_19 : decode cJ0_expandTo 19 = .ok (.putfield 7, 3) := dk_181 0 7 (dk_at dksJ0_expandTo_0 19 rfl rfl)
theorem dJ0_expandTo_22 : decode cJ0_expandTo 22 = .ok (.return_, 1) := dk_177 (dk_at dksJ0_expandTo_0 22 rfl rfl)
abbrev cJ0_clear_2 : ByteArray := prog_55_method_23_code
def yJ0_clear_2 : MethodName := ⟨RJ0, "clear", "(I)V"⟩
def dkwJ0_clear_2_2 : List UInt8 := [180, 0, 11, 28, 92, 47, 10, 27, 121, 20, 0, 165, 131, 127, 80, 42, 182, 0, 158, 42, 182, 0, 56, 177]
abbrev dktJ0_clear_2_2 : List UInt8 := dkwJ0_clear_2_2 ++ []
def dkwJ0_clear_2_1 : List UInt8 := [182, 0, 45, 183, 0, 146, 191, 27, 184, 0, 52, 61, 28, 42, 180, 0, 7, 161, 0, 4, 177, 42]
abbrev dktJ0_clear_2_1 : List UInt8 := dkwJ0_clear_2_1 ++ dktJ0_clear_2_2
def dkwJ0_clear_2_0 : List UInt8 := [27, 156, 0, 30, 187, 0, 142, 89, 187, 0, 33, 89, 183, 0, 35, 18, 153, 182, 0, 38, 27, 182, 0, 42]
abbrev dktJ0_clear_2_0 : List UInt8 := dkwJ0_clear_2_0 ++ dktJ0_clear_2_1
theorem dksJ0_clear_2_0 : cJ0_clear_2.data.toList.drop 0 = dktJ0_clear_2_0 := by decide +kernel
theorem dksJ0_clear_2_1 : cJ0_clear_2.data.toList.drop 24 = dktJ0_clear_2_1 := dk_seg dksJ0_clear_2_0 24 rfl rfl
theorem dksJ0_clear_2_2 : cJ0_clear_2.data.toList.drop 46 = dktJ0_clear_2_2 := dk_seg dksJ0_clear_2_1 22 rfl rfl
theorem dJ0_clear_2_0 : decode cJ0_clear_2 0 = .ok (.iload_n 1, 1) := dk_27 (dk_at dksJ0_clear_2_0 0 rfl rfl)
theorem dJ0_clear_2_1 : decode cJ0_clear_2 1 = .ok (.ifCond .ge 30, 3) := dk_156 0 30 (dk_at dksJ0_clear_2_0 1 rfl rfl)
theorem dJ0_clear_2_4 : decode cJ0_clear_2 4 = .ok (.new 142, 3) := dk_187 0 142 (dk_at dksJ0_clear_2_0 4 rfl rfl)
theorem dJ0_clear_2_7 : decode cJ0_clear_2 7 = .ok (.dup, 1) := dk_89 (dk_at dksJ0_clear_2_0 7 rfl rfl)
theorem dJ0_clear_2_8 : decode cJ0_clear_2 8 = .ok (.new 33, 3) := dk_187 0 33 (dk_at dksJ0_clear_2_0 8 rfl rfl)
theorem dJ0_clear_2_11 : decode cJ0_clear_2 11 = .ok (.dup, 1) := dk_89 (dk_at dksJ0_clear_2_0 11 rfl rfl)
theorem dJ0_clear_2_12 : decode cJ0_clear_2 12 = .ok (.invokespecial 35, 3) := dk_183 0 35 (dk_at dksJ0_clear_2_0 12 rfl rfl)
theorem dJ0_clear_2_15 : decode cJ0_clear_2 15 = .ok (.ldc 153, 2) := dk_18 153 (dk_at dksJ0_clear_2_0 15 rfl rfl)
theorem dJ0_clear_2_17 : decode cJ0_clear_2 17 = .ok (.invokevirtual 38, 3) := dk_182 0 38 (dk_at dksJ0_clear_2_0 17 rfl rfl)
theorem dJ0_clear_2_20 : decode cJ0_clear_2 20 = .ok (.iload_n 1, 1) := dk_27 (dk_at dksJ0_clear_2_0 20 rfl rfl)
theorem dJ0_clear_2_21 : decode cJ0_clear_2 21 = .ok (.invokevirtual 42, 3) := dk_182 0 42 (dk_at dksJ0_clear_2_0 21 rfl rfl)
theorem dJ0_clear_2_24 : decode cJ0_clear_2 24 = .ok (.invokevirtual 45, 3) := dk_182 0 45 (dk_at dksJ0_clear_2_1 0 rfl rfl)
theorem dJ0_clear_2_27 : decode cJ0_clear_2 27 = .ok (.invokespecial 146, 3) := dk_183 0 146 (dk_at dksJ0_clear_2_1 3 rfl rfl)
theorem dJ0_clear_2_30 : decode cJ0_clear_2 30 = .ok (.athrow, 1) := dk_191 (dk_at dksJ0_clear_2_1 6 rfl rfl)
theorem dJ0_clear_2_31 : decode cJ0_clear_2 31 = .ok (.iload_n 1, 1) := dk_27 (dk_at dksJ0_clear_2_1 7 rfl rfl)
theorem dJ0_clear_2_32 : decode cJ0_clear_2 32 = .ok (.invokestatic 52, 3) := dk_184 0 52 (dk_at dksJ0_clear_2_1 8 rfl rfl)
theorem dJ0_clear_2_35 : decode cJ0_clear_2 35 = .ok (.istore_n 2, 1) := dk_61 (dk_at dksJ0_clear_2_1 11 rfl rfl)
theorem dJ0_clear_2_36 : decode cJ0_clear_2 36 = .ok (.iload_n 2, 1) := dk_28 (dk_at dksJ0_clear_2_1 12 rfl rfl)
theorem dJ0_clear_2_37 : decode cJ0_clear_2 37 = .ok (.aload_n 0, 1) := dk_42 (dk_at dksJ0_clear_2_1 13 rfl rfl)
theorem dJ0_clear_2_38 : decode cJ0_clear_2 38 = .ok (.getfield 7, 3) := dk_180 0 7 (dk_at dksJ0_clear_2_1 14 rfl rfl)
theorem dJ0_clear_2_41 : decode cJ0_clear_2 41 = .ok (.if_icmp .lt 4, 3) := dk_161 0 4 (dk_at dksJ0_clear_2_1 17 rfl rfl)
theorem dJ0_clear_2_44 : decode cJ0_clear_2 44 = .ok (.return_, 1) := dk_177 (dk_at dksJ0_clear_2_1 20 rfl rfl)
theorem dJ0_clear_2_45 : decode cJ0_clear_2 45 = .ok (.aload_n 0, 1) := dk_42 (dk_at dksJ0_clear_2_1 21 rfl rfl)
theorem dJ0_clear_2_46 : decode cJ0_clear_2 46 = .ok (.getfield 11, 3) := dk_180 0 11 (dk_at dksJ0_clear_2_2 0 rfl rfl)
theorem dJ0_clear_2_49 : decode cJ0_clear_2 49 = .ok (.iload_n 2, 1) := dk_28 (dk_at dksJ0_clear_2_2 3 rfl rfl)
theorem dJ0_clear_2_50 : decode cJ0_clear_2 50 = .ok (.dup2, 1) := dk_92 (dk_at dksJ0_clear_2_2 4 rfl rfl)
theorem dJ0_clear_2_51 : decode cJ0_clear_2 51 = .ok (.laload, 1) := dk_47 (dk_at dksJ0_clear_2_2 5 rfl rfl)
theorem dJ0_clear_2_52 : decode cJ0_clear_2 52 = .ok (.lconst 1, 1) := dk_10 (dk_at dksJ0_clear_2_2 6 rfl rfl)
theorem dJ0_clear_2_53 : decode cJ0_clear_2 53 = .ok (.iload_n 1, 1) := dk_27 (dk_at dksJ0_clear_2_2 7 rfl rfl)
theorem dJ0_clear_2_54 : decode cJ0_clear_2 54 = .ok (.lshl, 1) := dk_121 (dk_at dksJ0_clear_2_2 8 rfl rfl)
theorem dJ0_clear_2_55 : decode cJ0_clear_2 55 = .ok (.ldc2_w 165, 3) := dk_20 0 165 (dk_at dksJ0_clear_2_2 9 rfl rfl)
theorem dJ0_clear_2_58 : decode cJ0_clear_2 58 = .ok (.lxor, 1) := dk_131 (dk_at dksJ0_clear_2_2 12 rfl rfl)
theorem dJ0_clear_2_59 : decode cJ0_clear_2 59 = .ok (.land, 1) := dk_127 (dk_at dksJ0_clear_2_2 13 rfl rfl)
theorem dJ0_clear_2_60 : decode cJ0_clear_2 60 = .ok (.lastore, 1) := dk_80 (dk_at dksJ0_clear_2_2 14 rfl rfl)
theorem dJ0_clear_2_61 : decode cJ0_clear_2 61 = .ok (.aload_n 0, 1) := dk_42 (dk_at dksJ0_clear_2_2 15 rfl rfl)
theorem dJ0_clear_2_62 : decode cJ0_clear_2 62 = .ok (.invokevirtual 158, 3) := dk_182 0 158 (dk_at dksJ0_clear_2_2 16 rfl rfl)
theorem dJ0_clear_2_65 : decode cJ0_clear_2 65 = .ok (.aload_n 0, 1) := dk_42 (dk_at dksJ0_clear_2_2 19 rfl rfl)
theorem dJ0_clear_2_66 : decode cJ0_clear_2 66 = .ok (.invokevirtual 56, 3) := dk_182 0 56 (dk_at dksJ0_clear_2_2 20 rfl rfl)
theorem dJ0_clear_2_69 : decode cJ0_clear_2 69 = .ok (.return_, 1) := dk_177 (dk_at dksJ0_clear_2_2 23 rfl rfl)
abbrev cJ0_recalculateWordsInUse : ByteArray := prog_55_method_3_code
def yJ0_recalculateWordsInUse : MethodName := ⟨RJ0, "recalculateWordsInUse", "()V"⟩
def dkwJ0_recalculateWordsInUse_1 : List UInt8 := [167, 0, 9, 132, 1, 255, 167, 255, 235, 42, 27, 4, 96, 181, 0, 7, 177]
abbrev dktJ0_recalculateWordsInUse_1 : List UInt8 := dkwJ0_recalculateWordsInUse_1 ++ []
def dkwJ0_recalculateWordsInUse_0 : List UInt8 := [42, 180, 0, 7, 4, 100, 60, 27, 155, 0, 23, 42, 180, 0, 11, 27, 47, 9, 148, 153, 0, 6]
abbrev dktJ0_recalculateWordsInUse_0 : List UInt8 := dkwJ0_recalculateWordsInUse_0 ++ dktJ0_recalculateWordsInUse_1
theorem dksJ0_recalculateWordsInUse_0 : cJ0_recalculateWordsInUse.data.toList.drop 0 = dktJ0_recalculateWordsInUse_0 := by decide +kernel
theorem dksJ0_recalculateWordsInUse_1 : cJ0_recalculateWordsInUse.data.toList.drop 22 = dktJ0_recalculateWordsInUse_1 := dk_seg dksJ0_recalculateWordsInUse_0 22 rfl rfl
theorem dJ0_recalculateWordsInUse_0 : decode cJ0_recalculateWordsInUse 0 = .ok (.aload_n 0, 1) := dk_42 (dk_at dksJ0_recalculateWordsInUse_0 0 rfl rfl)
theorem dJ0_recalculateWordsInUse_1 : decode cJ0_recalculateWordsInUse 1 = .ok (.getfield 7, 3) := dk_180 0 7 (dk_at dksJ0_recalculateWordsInUse_0 1 rfl rfl)
theorem dJ0_recalculateWordsInUse_4 : decode cJ0_recalculateWordsInUse 4 = .ok (.iconst 1, 1) := dk_4 (dk_at dksJ0_recalculateWordsInUse_0 4 rfl rfl)
theorem dJ0_recalculateWordsInUse_5 : decode cJ0_recalculateWordsInUse 5 = .ok (.isub, 1) := dk_100 (dk_at dksJ0_recalculateWordsInUse_0 5 rfl rfl)
theorem dJ0_recalculateWordsInUse_6 : decode cJ0_recalculateWordsInUse 6 = .ok (.istore_n 1, 1) := dk_60 (dk_at dksJ0_recalculateWordsInUse_0 6 rfl rfl)
theorem dJ0_recalculateWordsInUse_7 : decode cJ0_recalculateWordsInUse 7 = .ok (.iload_n 1, 1) := dk_27 (dk_at dksJ0_recalculateWordsInUse_0 7 rfl rfl)
theorem dJ0_recalculateWordsInUse_8 : decode cJ0_recalculateWordsInUse 8 = .ok (.ifCond .lt 23, 3) := dk_155 0 23 (dk_at dksJ0_recalculateWordsInUse_0 8 rfl rfl)
theorem dJ0_recalculateWordsInUse_11 : decode cJ0_recalculateWordsInUse 11 = .ok (.aload_n 0, 1) := dk_42 (dk_at dksJ0_recalculateWordsInUse_0 11 rfl rfl)
theorem dJ0_recalculateWordsInUse_12 : decode cJ0_recalculateWordsInUse 12 = .ok (.getfield 11, 3) := dk_180 0 11 (dk_at dksJ0_recalculateWordsInUse_0 12 rfl rfl)
theorem dJ0_recalculateWordsInUse_15 : decode cJ0_recalculateWordsInUse 15 = .ok (.iload_n 1, 1) := dk_27 (dk_at dksJ0_recalculateWordsInUse_0 15 rfl rfl)
theorem dJ0_recalculateWordsInUse_16 : decode cJ0_recalculateWordsInUse 16 = .ok (.laload, 1) := dk_47 (dk_at dksJ0_recalculateWordsInUse_0 16 rfl rfl)
theorem dJ0_recalculateWordsInUse_17 : decode cJ0_recalculateWordsInUse 17 = .ok (.lconst 0, 1) := dk_9 (dk_at dksJ0_recalculateWordsInUse_0 17 rfl rfl)
theorem dJ0_recalculateWordsInUse_18 : decode cJ0_recalculateWordsInUse 18 = .ok (.lcmp, 1) := dk_148 (dk_at dksJ0_recalculateWordsInUse_0 18 rfl rfl)
theorem dJ0_recalculateWordsInUse_19 : decode cJ0_recalculateWordsInUse 19 = .ok (.ifCond .eq 6, 3) := dk_153 0 6 (dk_at dksJ0_recalculateWordsInUse_0 19 rfl rfl)
theorem dJ0_recalculateWordsInUse_22 : decode cJ0_recalculateWordsInUse 22 = .ok (.goto 9, 3) := dk_167 0 9 (dk_at dksJ0_recalculateWordsInUse_1 0 rfl rfl)
theorem dJ0_recalculateWordsInUse_25 : decode cJ0_recalculateWordsInUse 25 = .ok (.iinc 1 (-1), 3) := dk_132 1 255 (dk_at dksJ0_recalculateWordsInUse_1 3 rfl rfl)
theorem dJ0_recalculateWordsInUse_28 : decode cJ0_recalculateWordsInUse 28 = .ok (.goto (-21), 3) := dk_167 255 235 (dk_at dksJ0_recalculateWordsInUse_1 6 rfl rfl)
theorem dJ0_recalculateWordsInUse_31 : decode cJ0_recalculateWordsInUse 31 = .ok (.aload_n 0, 1) := dk_42 (dk_at dksJ0_recalculateWordsInUse_1 9 rfl rfl)
theorem dJ0_recalculateWordsInUse_32 : decode cJ0_recalculateWordsInUse 32 = .ok (.iload_n 1, 1) := dk_27 (dk_at dksJ0_recalculateWordsInUse_1 10 rfl rfl)
theorem dJ0_recalculateWordsInUse_33 : decode cJ0_recalculateWordsInUse 33 = .ok (.iconst 1, 1) := dk_4 (dk_at dksJ0_recalculateWordsInUse_1 11 rfl rfl)
theorem dJ0_recalculateWordsInUse_34 : decode cJ0_recalculateWordsInUse 34 = .ok (.iadd, 1) := dk_96 (dk_at dksJ0_recalculateWordsInUse_1 12 rfl rfl)
theorem dJ0_recalculateWordsInUse_35 : decode cJ0_recalculateWordsInUse 35 = .ok (.putfield 7, 3) := dk_181 0 7 (dk_at dksJ0_recalculateWordsInUse_1 13 rfl rfl)
theorem dJ0_recalculateWordsInUse_38 : decode cJ0_recalculateWordsInUse 38 = .ok (.return_, 1) := dk_177 (dk_at dksJ0_recalculateWordsInUse_1 16 rfl rfl)
abbrev cJ0_cardinality : ByteArray := prog_55_method_35_code
def yJ0_cardinality : MethodName := ⟨RJ0, "cardinality", "()I"⟩
def dkwJ0_cardinality_1 : List UInt8 := [132, 2, 1, 167, 255, 233, 27, 172]
abbrev dktJ0_cardinality_1 : List UInt8 := dkwJ0_cardinality_1 ++ []
def dkwJ0_cardinality_0 : List UInt8 := [3, 60, 3, 61, 28, 42, 180, 0, 7, 162, 0, 21, 27, 42, 180, 0, 11, 28, 47, 184, 0, 196, 96, 60]
abbrev dktJ0_cardinality_0 : List UInt8 := dkwJ0_cardinality_0 ++ dktJ0_cardinality_1
theorem dksJ0_cardinality_0 : cJ0_cardinality.data.toList.drop 0 = dktJ0_cardinality_0 := by decide +kernel
theorem dksJ0_cardinality_1 : cJ0_cardinality.data.toList.drop 24 = dktJ0_cardinality_1 := dk_seg dksJ0_cardinality_0 24 rfl rfl
theorem dJ0_cardinality_0 : decode cJ0_cardinality 0 = .ok (.iconst 0, 1) := dk_3 (dk_at dksJ0_cardinality_0 0 rfl rfl)
theorem dJ0_cardinality_1 : decode cJ0_cardinality 1 = .ok (.istore_n 1, 1) := dk_60 (dk_at dksJ0_cardinality_0 1 rfl rfl)
theorem dJ0_cardinality_2 : decode cJ0_cardinality 2 = .ok (.iconst 0, 1) := dk_3 (dk_at dksJ0_cardinality_0 2 rfl rfl)
theorem dJ0_cardinality_3 : decode cJ0_cardinality 3 = .ok (.istore_n 2, 1) := dk_61 (dk_at dksJ0_cardinality_0 3 rfl rfl)
theorem dJ0_cardinality_4 : decode cJ0_cardinality 4 = .ok (.iload_n 2, 1) := dk_28 (dk_at dksJ0_cardinality_0 4 rfl rfl)
theorem dJ0_cardinality_5 : decode cJ0_cardinality 5 = .ok (.aload_n 0, 1) := dk_42 (dk_at dksJ0_cardinality_0 5 rfl rfl)
theorem dJ0_cardinality_6 : decode cJ0_cardinality 6 = .ok (.getfield 7, 3) := dk_180 0 7 (dk_at dksJ0_cardinality_0 6 rfl rfl)
theorem dJ0_cardinality_9 : decode cJ0_cardinality 9 = .ok (.if_icmp .ge 21, 3) := dk_162 0 21 (dk_at dksJ0_cardinality_0 9 rfl rfl)
theorem dJ0_cardinality_12 : decode cJ0_cardinality 12 = .ok (.iload_n 1, 1) := dk_27 (dk_at dksJ0_cardinality_0 12 rfl rfl)
theorem dJ0_cardinality_13 : decode cJ0_cardinality 13 = .ok (.aload_n 0, 1) := dk_42 (dk_at dksJ0_cardinality_0 13 rfl rfl)
theorem dJ0_cardinality_14 : decode cJ0_cardinality 14 = .ok (.getfield 11, 3) := dk_180 0 11 (dk_at dksJ0_cardinality_0 14 rfl rfl)
theorem dJ0_cardinality_17 : decode cJ0_cardinality 17 = .ok (.iload_n 2, 1) := dk_28 (dk_at dksJ0_cardinality_0 17 rfl rfl)
theorem dJ0_cardinality_18 : decode cJ0_cardinality 18 = .ok (.laload, 1) := dk_47 (dk_at dksJ0_cardinality_0 18 rfl rfl)
theorem dJ0_cardinality_19 : decode cJ0_cardinality 19 = .ok (.invokestatic 196, 3) := dk_184 0 196 (dk_at dksJ0_cardinality_0 19 rfl rfl)
theorem dJ0_cardinality_22 : decode cJ0_cardinality 22 = .ok (.iadd, 1) := dk_96 (dk_at dksJ0_cardinality_0 22 rfl rfl)
theorem dJ0_cardinality_23 : decode cJ0_cardinality 23 = .ok (.istore_n 1, 1) := dk_60 (dk_at dksJ0_cardinality_0 23 rfl rfl)
theorem dJ0_cardinality_24 : decode cJ0_cardinality 24 = .ok (.iinc 2 1, 3) := dk_132 2 1 (dk_at dksJ0_cardinality_1 0 rfl rfl)
theorem dJ0_cardinality_27 : decode cJ0_cardinality 27 = .ok (.goto (-23), 3) := dk_167 255 233 (dk_at dksJ0_cardinality_1 3 rfl rfl)
theorem dJ0_cardinality_30 : decode cJ0_cardinality 30 = .ok (.iload_n 1, 1) := dk_27 (dk_at dksJ0_cardinality_1 6 rfl rfl)
theorem dJ0_cardinality_31 : decode cJ0_cardinality 31 = .ok (.ireturn, 1) := dk_172 (dk_at dksJ0_cardinality_1 7 rfl rfl)
theorem q117 : (Jvm.Cond.initialized "java/util/BitSet") ∈ lw_all := lw_g (lw_at lw_m1 3 rfl) rfl
theorem q181 : (Jvm.Cond.instantiable "java/util/BitSet" (3 : Nat)) ∈ lw_all := lw_g (lw_at lw_m1 67 rfl) rfl
theorem q183 : (Jvm.Cond.instanceMethod ({ cls := "java/util/BitSet", name := "<init>", desc := "(I)V" } : Jvm.MethodName)) ∈ lw_all := lw_g (lw_at lw_m1 69 rfl) rfl
theorem q184 : (Jvm.Cond.code ({ cls := "java/util/BitSet", name := "<init>", desc := "(I)V" } : Jvm.MethodName) prog_55_method_5_code (2 : Nat) (Option.none : Option Jvm.ClassFile.FieldType)) ∈ lw_all := lw_g (lw_at lw_m1 70 rfl) rfl
theorem q185 : (Jvm.Cond.methodLink "java/util/BitSet" (21 : Nat) ({ cls := "java/lang/Object", name := "<init>", desc := "()V" } : Jvm.MethodName)) ∈ lw_all := lw_g (lw_at lw_m1 71 rfl) rfl
theorem q186 : (Jvm.Cond.methodLink "java/util/BitSet" (27 : Nat) ({ cls := "java/util/BitSet", name := "initWords", desc := "(I)V" } : Jvm.MethodName)) ∈ lw_all := lw_g (lw_at lw_m1 72 rfl) rfl
theorem q187 : (Jvm.Cond.privateMethod ({ cls := "java/util/BitSet", name := "initWords", desc := "(I)V" } : Jvm.MethodName)) ∈ lw_tbl := lw_at lw_m1 73 rfl
theorem q188 : (Jvm.Cond.instanceMethod ({ cls := "java/util/BitSet", name := "initWords", desc := "(I)V" } : Jvm.MethodName)) ∈ lw_all := lw_g (lw_at lw_m1 74 rfl) rfl
theorem q189 : (Jvm.Cond.code ({ cls := "java/util/BitSet", name := "initWords", desc := "(I)V" } : Jvm.MethodName) prog_55_method_6_code (2 : Nat) (Option.none : Option Jvm.ClassFile.FieldType)) ∈ lw_all := lw_g (lw_at lw_m1 75 rfl) rfl
theorem q190 : (Jvm.Cond.methodLink "java/util/BitSet" (52 : Nat) ({ cls := "java/util/BitSet", name := "wordIndex", desc := "(I)I" } : Jvm.MethodName)) ∈ lw_all := lw_g (lw_at lw_m1 76 rfl) rfl
theorem q191 : (Jvm.Cond.static ({ cls := "java/util/BitSet", name := "wordIndex", desc := "(I)I" } : Jvm.MethodName)) ∈ lw_all := lw_g (lw_at lw_m1 77 rfl) rfl
theorem q192 : (Jvm.Cond.code ({ cls := "java/util/BitSet", name := "wordIndex", desc := "(I)I" } : Jvm.MethodName) prog_55_method_1_code (1 : Nat) (Option.some Jvm.ClassFile.FieldType.int)) ∈ lw_all := lw_g (lw_at lw_m1 78 rfl) rfl
theorem q193 : (Jvm.Cond.fieldLink "java/util/BitSet" (11 : Nat) "java/util/BitSet" "words" "[J") ∈ lw_all := lw_g (lw_at lw_m1 79 rfl) rfl
theorem q194 : (Jvm.Cond.fieldLink "java/util/BitSet" (7 : Nat) "java/util/BitSet" "wordsInUse" "I") ∈ lw_all := lw_g (lw_at lw_m1 80 rfl) rfl
theorem q195 : (Jvm.Cond.fieldLink "java/util/BitSet" (24 : Nat) "java/util/BitSet" "sizeIsSticky" "Z") ∈ lw_all := lw_g (lw_at lw_m1 81 rfl) rfl
theorem q196 : (Jvm.Cond.lays "java/util/BitSet" "java/util/BitSet" "words" "[J") ∈ lw_all := lw_g (lw_at lw_m1 82 rfl) rfl
theorem q197 : (Jvm.Cond.soleField "java/util/BitSet" "words") ∈ lw_all := lw_g (lw_at lw_m1 83 rfl) rfl
theorem q198 : (Jvm.Cond.lays "java/util/BitSet" "java/util/BitSet" "wordsInUse" "I") ∈ lw_all := lw_g (lw_at lw_m1 84 rfl) rfl
theorem q199 : (Jvm.Cond.soleField "java/util/BitSet" "wordsInUse") ∈ lw_all := lw_g (lw_at lw_m1 85 rfl) rfl
theorem q200 : (Jvm.Cond.lays "java/util/BitSet" "java/util/BitSet" "sizeIsSticky" "Z") ∈ lw_all := lw_g (lw_at lw_m1 86 rfl) rfl
theorem q201 : (Jvm.Cond.soleField "java/util/BitSet" "sizeIsSticky") ∈ lw_all := lw_g (lw_at lw_m1 87 rfl) rfl
theorem q202 : (Jvm.Cond.superclass "java/util/BitSet" "java/lang/Object") ∈ lw_all := lw_g (lw_at lw_m1 88 rfl) rfl
theorem q295 : (Jvm.Cond.instanceMethod ({ cls := "java/util/BitSet", name := "clear", desc := "()V" } : Jvm.MethodName)) ∈ lw_all := lw_g (lw_at lw_m1 181 rfl) rfl
theorem q296 : (Jvm.Cond.selects "java/util/BitSet" ({ cls := "java/util/BitSet", name := "clear", desc := "()V" } : Jvm.MethodName) ({ cls := "java/util/BitSet", name := "clear", desc := "()V" } : Jvm.MethodName)) ∈ lw_all := lw_g (lw_at lw_m1 182 rfl) rfl
theorem q297 : (Jvm.Cond.code ({ cls := "java/util/BitSet", name := "clear", desc := "()V" } : Jvm.MethodName) prog_55_method_25_code (1 : Nat) (Option.none : Option Jvm.ClassFile.FieldType)) ∈ lw_all := lw_g (lw_at lw_m1 183 rfl) rfl
theorem q451 : (Jvm.Cond.selects "java/util/BitSet" ({ cls := "java/lang/Object", name := "getClass", desc := "()Ljava/lang/Class;" } : Jvm.MethodName) ({ cls := "java/lang/Object", name := "getClass", desc := "()Ljava/lang/Class;" } : Jvm.MethodName)) ∈ lw_all := lw_g (lw_at lw_m2 97 rfl) rfl
theorem q648 : (Jvm.Cond.instanceMethod ({ cls := "java/util/BitSet", name := "or", desc := "(Ljava/util/BitSet;)V" } : Jvm.MethodName)) ∈ lw_all := lw_g (lw_at lw_m3 54 rfl) rfl
theorem q649 : (Jvm.Cond.selects "java/util/BitSet" ({ cls := "java/util/BitSet", name := "or", desc := "(Ljava/util/BitSet;)V" } : Jvm.MethodName) ({ cls := "java/util/BitSet", name := "or", desc := "(Ljava/util/BitSet;)V" } : Jvm.MethodName)) ∈ lw_all := lw_g (lw_at lw_m3 55 rfl) rfl
theorem q650 : (Jvm.Cond.code ({ cls := "java/util/BitSet", name := "or", desc := "(Ljava/util/BitSet;)V" } : Jvm.MethodName) prog_55_method_37_code (4 : Nat) (Option.none : Option Jvm.ClassFile.FieldType)) ∈ lw_all := lw_g (lw_at lw_m3 56 rfl) rfl
theorem q651 : (Jvm.Cond.methodLink "java/util/BitSet" (193 : Nat) ({ cls := "java/lang/Math", name := "min", desc := "(II)I" } : Jvm.MethodName)) ∈ lw_all := lw_g (lw_at lw_m3 57 rfl) rfl
theorem q654 : (Jvm.Cond.methodLink "java/util/BitSet" (139 : Nat) ({ cls := "java/util/BitSet", name := "ensureCapacity", desc := "(I)V" } : Jvm.MethodName)) ∈ lw_all := lw_g (lw_at lw_m3 60 rfl) rfl
theorem q655 : (Jvm.Cond.privateMethod ({ cls := "java/util/BitSet", name := "ensureCapacity", desc := "(I)V" } : Jvm.MethodName)) ∈ lw_tbl := lw_at lw_m3 61 rfl
theorem q656 : (Jvm.Cond.instanceMethod ({ cls := "java/util/BitSet", name := "ensureCapacity", desc := "(I)V" } : Jvm.MethodName)) ∈ lw_all := lw_g (lw_at lw_m3 62 rfl) rfl
theorem q657 : (Jvm.Cond.code ({ cls := "java/util/BitSet", name := "ensureCapacity", desc := "(I)V" } : Jvm.MethodName) prog_55_method_14_code (3 : Nat) (Option.none : Option Jvm.ClassFile.FieldType)) ∈ lw_all := lw_g (lw_at lw_m3 63 rfl) rfl
theorem q658 : (Jvm.Cond.methodLink "java/util/BitSet" (133 : Nat) ({ cls := "java/lang/Math", name := "max", desc := "(II)I" } : Jvm.MethodName)) ∈ lw_all := lw_g (lw_at lw_m3 64 rfl) rfl
theorem q661 : (Jvm.Cond.methodLink "java/util/BitSet" (59 : Nat) ({ cls := "java/util/Arrays", name := "copyOf", desc := "([JI)[J" } : Jvm.MethodName)) ∈ lw_all := lw_g (lw_at lw_m3 67 rfl) rfl
theorem q673 : (Jvm.Cond.methodLink "java/util/BitSet" (199 : Nat) ({ cls := "java/lang/System", name := "arraycopy", desc := "(Ljava/lang/Object;ILjava/lang/Object;II)V" } : Jvm.MethodName)) ∈ lw_all := lw_g (lw_at lw_m3 79 rfl) rfl
theorem q674 : (Jvm.Cond.methodLink "java/util/BitSet" (56 : Nat) ({ cls := "java/util/BitSet", name := "checkInvariants", desc := "()V" } : Jvm.MethodName)) ∈ lw_all := lw_g (lw_at lw_m3 80 rfl) rfl
theorem q675 : (Jvm.Cond.privateMethod ({ cls := "java/util/BitSet", name := "checkInvariants", desc := "()V" } : Jvm.MethodName)) ∈ lw_tbl := lw_at lw_m3 81 rfl
theorem q676 : (Jvm.Cond.instanceMethod ({ cls := "java/util/BitSet", name := "checkInvariants", desc := "()V" } : Jvm.MethodName)) ∈ lw_all := lw_g (lw_at lw_m3 82 rfl) rfl
theorem q677 : (Jvm.Cond.code ({ cls := "java/util/BitSet", name := "checkInvariants", desc := "()V" } : Jvm.MethodName) prog_55_method_2_code (1 : Nat) (Option.none : Option Jvm.ClassFile.FieldType)) ∈ lw_all := lw_g (lw_at lw_m3 83 rfl) rfl
theorem q678 : (Jvm.Cond.fieldLink "java/util/BitSet" (3 : Nat) "java/util/BitSet" "$assertionsDisabled" "Z") ∈ lw_all := lw_g (lw_at lw_m3 84 rfl) rfl
theorem q679 : (Jvm.Cond.laysStatic "java/util/BitSet" "$assertionsDisabled" "Z") ∈ lw_tbl := lw_at lw_m3 85 rfl
theorem q861 : (Jvm.Cond.instanceMethod ({ cls := "java/util/BitSet", name := "get", desc := "(I)Z" } : Jvm.MethodName)) ∈ lw_all := lw_g (lw_at lw_m4 27 rfl) rfl
theorem q862 : (Jvm.Cond.selects "java/util/BitSet" ({ cls := "java/util/BitSet", name := "get", desc := "(I)Z" } : Jvm.MethodName) ({ cls := "java/util/BitSet", name := "get", desc := "(I)Z" } : Jvm.MethodName)) ∈ lw_all := lw_g (lw_at lw_m4 28 rfl) rfl
theorem q863 : (Jvm.Cond.code ({ cls := "java/util/BitSet", name := "get", desc := "(I)Z" } : Jvm.MethodName) prog_55_method_26_code (3 : Nat) (Option.some Jvm.ClassFile.FieldType.boolean)) ∈ lw_all := lw_g (lw_at lw_m4 29 rfl) rfl
theorem q922 : (Jvm.Cond.instanceMethod ({ cls := "java/util/BitSet", name := "set", desc := "(I)V" } : Jvm.MethodName)) ∈ lw_all := lw_g (lw_at lw_m4 88 rfl) rfl
theorem q923 : (Jvm.Cond.selects "java/util/BitSet" ({ cls := "java/util/BitSet", name := "set", desc := "(I)V" } : Jvm.MethodName) ({ cls := "java/util/BitSet", name := "set", desc := "(I)V" } : Jvm.MethodName)) ∈ lw_all := lw_g (lw_at lw_m4 89 rfl) rfl
theorem q924 : (Jvm.Cond.code ({ cls := "java/util/BitSet", name := "set", desc := "(I)V" } : Jvm.MethodName) prog_55_method_19_code (3 : Nat) (Option.none : Option Jvm.ClassFile.FieldType)) ∈ lw_all := lw_g (lw_at lw_m4 90 rfl) rfl
theorem q925 : (Jvm.Cond.methodLink "java/util/BitSet" (155 : Nat) ({ cls := "java/util/BitSet", name := "expandTo", desc := "(I)V" } : Jvm.MethodName)) ∈ lw_all := lw_g (lw_at lw_m4 91 rfl) rfl
theorem q926 : (Jvm.Cond.privateMethod ({ cls := "java/util/BitSet", name := "expandTo", desc := "(I)V" } : Jvm.MethodName)) ∈ lw_tbl := lw_at lw_m4 92 rfl
theorem q927 : (Jvm.Cond.instanceMethod ({ cls := "java/util/BitSet", name := "expandTo", desc := "(I)V" } : Jvm.MethodName)) ∈ lw_all := lw_g (lw_at lw_m4 93 rfl) rfl
theorem q928 : (Jvm.Cond.code ({ cls := "java/util/BitSet", name := "expandTo", desc := "(I)V" } : Jvm.MethodName) prog_55_method_15_code (3 : Nat) (Option.none : Option Jvm.ClassFile.FieldType)) ∈ lw_all := lw_g (lw_at lw_m4 94 rfl) rfl
theorem q1124 : (Jvm.Cond.instanceMethod ({ cls := "java/util/BitSet", name := "clear", desc := "(I)V" } : Jvm.MethodName)) ∈ lw_all := lw_g (lw_at lw_m5 50 rfl) rfl
theorem q1125 : (Jvm.Cond.selects "java/util/BitSet" ({ cls := "java/util/BitSet", name := "clear", desc := "(I)V" } : Jvm.MethodName) ({ cls := "java/util/BitSet", name := "clear", desc := "(I)V" } : Jvm.MethodName)) ∈ lw_all := lw_g (lw_at lw_m5 51 rfl) rfl
theorem q1126 : (Jvm.Cond.code ({ cls := "java/util/BitSet", name := "clear", desc := "(I)V" } : Jvm.MethodName) prog_55_method_23_code (3 : Nat) (Option.none : Option Jvm.ClassFile.FieldType)) ∈ lw_all := lw_g (lw_at lw_m5 52 rfl) rfl
theorem q1127 : (Jvm.Cond.constantLong "java/util/BitSet" (165 : Nat) (-1 : Int64)) ∈ lw_all := lw_g (lw_at lw_m5 53 rfl) rfl
theorem q1128 : (Jvm.Cond.methodLink "java/util/BitSet" (158 : Nat) ({ cls := "java/util/BitSet", name := "recalculateWordsInUse", desc := "()V" } : Jvm.MethodName)) ∈ lw_all := lw_g (lw_at lw_m5 54 rfl) rfl
theorem q1129 : (Jvm.Cond.privateMethod ({ cls := "java/util/BitSet", name := "recalculateWordsInUse", desc := "()V" } : Jvm.MethodName)) ∈ lw_tbl := lw_at lw_m5 55 rfl
theorem q1130 : (Jvm.Cond.instanceMethod ({ cls := "java/util/BitSet", name := "recalculateWordsInUse", desc := "()V" } : Jvm.MethodName)) ∈ lw_all := lw_g (lw_at lw_m5 56 rfl) rfl
theorem q1131 : (Jvm.Cond.code ({ cls := "java/util/BitSet", name := "recalculateWordsInUse", desc := "()V" } : Jvm.MethodName) prog_55_method_3_code (2 : Nat) (Option.none : Option Jvm.ClassFile.FieldType)) ∈ lw_all := lw_g (lw_at lw_m5 57 rfl) rfl
theorem q1936 : (Jvm.Cond.instanceMethod ({ cls := "java/util/BitSet", name := "cardinality", desc := "()I" } : Jvm.MethodName)) ∈ lw_all := lw_g (lw_at lw_m8 142 rfl) rfl
theorem q1937 : (Jvm.Cond.selects "java/util/BitSet" ({ cls := "java/util/BitSet", name := "cardinality", desc := "()I" } : Jvm.MethodName) ({ cls := "java/util/BitSet", name := "cardinality", desc := "()I" } : Jvm.MethodName)) ∈ lw_all := lw_g (lw_at lw_m8 143 rfl) rfl
theorem q1938 : (Jvm.Cond.code ({ cls := "java/util/BitSet", name := "cardinality", desc := "()I" } : Jvm.MethodName) prog_55_method_35_code (3 : Nat) (Option.some Jvm.ClassFile.FieldType.int)) ∈ lw_all := lw_g (lw_at lw_m8 144 rfl) rfl
theorem q1939 : (Jvm.Cond.methodLink "java/util/BitSet" (196 : Nat) ({ cls := "java/lang/Long", name := "bitCount", desc := "(J)I" } : Jvm.MethodName)) ∈ lw_all := lw_g (lw_at lw_m8 145 rfl) rfl
theorem q2451 : (Jvm.Cond.castable "java/util/BitSet" "java/lang/Object") ∈ lw_tbl := lw_at lw_m10 177 rfl
theorem in_J0 : ∀ w ∈ wsJ00, w ∈ lw_all := lw_in wsJ00 [196, 198, 200] (by decide +kernel) (by decide +kernel)
/-! java/util/AbstractCollection -/
set_option maxRecDepth 100000
def RJ1 : String := "java/util/AbstractCollection"
abbrev cJ1_init : ByteArray := prog_47_method_1_code
def yJ1_init : MethodName := ⟨RJ1, "<init>", "()V"⟩
theorem dJ1_init_0 : decode cJ1_init 0 = .ok (.aload_n 0, 1) := by decide +kernel
theorem dJ1_init_1 : decode cJ1_init 1 = .ok (.invokespecial 1, 3) := by decide +kernel
theorem dJ1_init_4 : decode cJ1_init 4 = .ok (.return_, 1) := by decide +kernel
theorem q118 : (Jvm.Cond.initialized "java/util/AbstractCollection") ∈ lw_all := lw_g (lw_at lw_m1 4 rfl) rfl
theorem q221 : (Jvm.Cond.instanceMethod ({ cls := "java/util/AbstractCollection", name := "<init>", desc := "()V" } : Jvm.MethodName)) ∈ lw_all := lw_g (lw_at lw_m1 107 rfl) rfl
theorem q222 : (Jvm.Cond.code ({ cls := "java/util/AbstractCollection", name := "<init>", desc := "()V" } : Jvm.MethodName) prog_47_method_1_code (1 : Nat) (Option.none : Option Jvm.ClassFile.FieldType)) ∈ lw_all := lw_g (lw_at lw_m1 108 rfl) rfl
theorem q223 : (Jvm.Cond.methodLink "java/util/AbstractCollection" (1 : Nat) ({ cls := "java/lang/Object", name := "<init>", desc := "()V" } : Jvm.MethodName)) ∈ lw_all := lw_g (lw_at lw_m1 109 rfl) rfl
theorem q1240 : (Jvm.Cond.declares ({ cls := "java/util/AbstractCollection", name := "size", desc := "()I" } : Jvm.MethodName)) ∈ lw_tbl := lw_at lw_m5 166 rfl
/-! java/util/AbstractList -/
set_option maxRecDepth 100000
def RJ2 : String := "java/util/AbstractList"
abbrev cJ2_init : ByteArray := prog_48_method_1_code
def yJ2_init : MethodName := ⟨RJ2, "<init>", "()V"⟩
def dkwJ2_init_0 : List UInt8 := [42, 183, 0, 1, 42, 3, 181, 0, 7, 177]
abbrev dktJ2_init_0 : List UInt8 := dkwJ2_init_0 ++ []
theorem dksJ2_init_0 : cJ2_init.data.toList.drop 0 = dktJ2_init_0 := by decide +kernel
theorem dJ2_init_0 : decode cJ2_init 0 = .ok (.aload_n 0, 1) := dk_42 (dk_at dksJ2_init_0 0 rfl rfl)
theorem dJ2_init_1 : decode cJ2_init 1 = .ok (.invokespecial 1, 3) := dk_183 0 1 (dk_at dksJ2_init_0 1 rfl rfl)
theorem dJ2_init_4 : decode cJ2_init 4 = .ok (.aload_n 0, 1) := dk_42 (dk_at dksJ2_init_0 4 rfl rfl)
theorem dJ2_init_5 : decode cJ2_init 5 = .ok (.iconst 0, 1) := dk_3 (dk_at dksJ2_init_0 5 rfl rfl)
theorem dJ2_init_6 : decode cJ2_init 6 = .ok (.putfield 7, 3) := dk_181 0 7 (dk_at dksJ2_init_0 6 rfl rfl)
theorem dJ2_init_9 : decode cJ2_init 9 = .ok (.return_, 1) := dk_177 (dk_at dksJ2_init_0 9 rfl rfl)
abbrev cJ2_listIterator : ByteArray := prog_48_method_12_code
def yJ2_listIterator : MethodName := ⟨RJ2, "listIterator", "()Ljava/util/ListIterator;"⟩
def dkwJ2_listIterator_0 : List UInt8 := [42, 3, 182, 0, 47, 176]
abbrev dktJ2_listIterator_0 : List UInt8 := dkwJ2_listIterator_0 ++ []
theorem dksJ2_listIterator_0 : cJ2_listIterator.data.toList.drop 0 = dktJ2_listIterator_0 := by decide +kernel
theorem dJ2_listIterator_0 : decode cJ2_listIterator 0 = .ok (.aload_n 0, 1) := dk_42 (dk_at dksJ2_listIterator_0 0 rfl rfl)
theorem dJ2_listIterator_1 : decode cJ2_listIterator 1 = .ok (.iconst 0, 1) := dk_3 (dk_at dksJ2_listIterator_0 1 rfl rfl)
theorem dJ2_listIterator_2 : decode cJ2_listIterator 2 = .ok (.invokevirtual 47, 3) := dk_182 0 47 (dk_at dksJ2_listIterator_0 2 rfl rfl)
theorem dJ2_listIterator_5 : decode cJ2_listIterator 5 = .ok (.areturn, 1) := dk_176 (dk_at dksJ2_listIterator_0 5 rfl rfl)
theorem q119 : (Jvm.Cond.initialized "java/util/AbstractList") ∈ lw_all := lw_g (lw_at lw_m1 5 rfl) rfl
theorem q218 : (Jvm.Cond.instanceMethod ({ cls := "java/util/AbstractList", name := "<init>", desc := "()V" } : Jvm.MethodName)) ∈ lw_all := lw_g (lw_at lw_m1 104 rfl) rfl
theorem q219 : (Jvm.Cond.code ({ cls := "java/util/AbstractList", name := "<init>", desc := "()V" } : Jvm.MethodName) prog_48_method_1_code (1 : Nat) (Option.none : Option Jvm.ClassFile.FieldType)) ∈ lw_all := lw_g (lw_at lw_m1 105 rfl) rfl
theorem q220 : (Jvm.Cond.methodLink "java/util/AbstractList" (1 : Nat) ({ cls := "java/util/AbstractCollection", name := "<init>", desc := "()V" } : Jvm.MethodName)) ∈ lw_all := lw_g (lw_at lw_m1 106 rfl) rfl
theorem q228 : (Jvm.Cond.fieldLink "java/util/AbstractList" (7 : Nat) "java/util/AbstractList" "modCount" "I") ∈ lw_all := lw_g (lw_at lw_m1 114 rfl) rfl
theorem q240 : (Jvm.Cond.soleField "java/util/AbstractList" "modCount") ∈ lw_all := lw_g (lw_at lw_m1 126 rfl) rfl
theorem q1275 : (Jvm.Cond.declares ({ cls := "java/util/AbstractList", name := "listIterator", desc := "()Ljava/util/ListIterator;" } : Jvm.MethodName)) ∈ lw_tbl := lw_at lw_m5 201 rfl
theorem q1277 : (Jvm.Cond.instanceMethod ({ cls := "java/util/AbstractList", name := "listIterator", desc := "()Ljava/util/ListIterator;" } : Jvm.MethodName)) ∈ lw_all := lw_g (lw_at lw_m5 203 rfl) rfl
theorem q1278 : (Jvm.Cond.code ({ cls := "java/util/AbstractList", name := "listIterator", desc := "()Ljava/util/ListIterator;" } : Jvm.MethodName) prog_48_method_12_code (1 : Nat) (Option.some (Jvm.ClassFile.FieldType.object "java/util/ListIterator"))) ∈ lw_all := lw_g (lw_at lw_m5 204 rfl) rfl
theorem q1279 : (Jvm.Cond.methodLink "java/util/AbstractList" (47 : Nat) ({ cls := "java/util/AbstractList", name := "listIterator", desc := "(I)Ljava/util/ListIterator;" } : Jvm.MethodName)) ∈ lw_all := lw_g (lw_at lw_m5 205 rfl) rfl
theorem q1280 : (Jvm.Cond.instanceMethod ({ cls := "java/util/AbstractList", name := "listIterator", desc := "(I)Ljava/util/ListIterator;" } : Jvm.MethodName)) ∈ lw_all := lw_g (lw_at lw_m5 206 rfl) rfl
theorem q1281 : (Jvm.Cond.sameMethod "java/util/AbstractList" "java/util/AbstractList" "listIterator" "(I)Ljava/util/ListIterator;") ∈ lw_all := lw_g (lw_at lw_m5 207 rfl) rfl
theorem q1308 : (Jvm.Cond.declares ({ cls := "java/util/AbstractList", name := "listIterator", desc := "(I)Ljava/util/ListIterator;" } : Jvm.MethodName)) ∈ lw_tbl := lw_at lw_m5 234 rfl
theorem q1320 : (Jvm.Cond.sameMethod "java/util/AbstractList" "java/util/AbstractCollection" "size" "()I") ∈ lw_all := lw_g (lw_at lw_m6 6 rfl) rfl
theorem q1351 : (Jvm.Cond.declares ({ cls := "java/util/AbstractList", name := "get", desc := "(I)Ljava/lang/Object;" } : Jvm.MethodName)) ∈ lw_tbl := lw_at lw_m6 37 rfl
theorem q1352 : (Jvm.Cond.sameMethod "java/util/AbstractList" "java/util/AbstractList" "get" "(I)Ljava/lang/Object;") ∈ lw_all := lw_g (lw_at lw_m6 38 rfl) rfl
/-! java/util/AbstractSequentialList -/
set_option maxRecDepth 100000
def RJ3 : String := "java/util/AbstractSequentialList"
abbrev cJ3_init : ByteArray := prog_51_method_1_code
def yJ3_init : MethodName := ⟨RJ3, "<init>", "()V"⟩
theorem dJ3_init_0 : decode cJ3_init 0 = .ok (.aload_n 0, 1) := by decide +kernel
theorem dJ3_init_1 : decode cJ3_init 1 = .ok (.invokespecial 1, 3) := by decide +kernel
theorem dJ3_init_4 : decode cJ3_init 4 = .ok (.return_, 1) := by decide +kernel
abbrev cJ3_iterator : ByteArray := prog_51_method_7_code
def yJ3_iterator : MethodName := ⟨RJ3, "iterator", "()Ljava/util/Iterator;"⟩
theorem dJ3_iterator_0 : decode cJ3_iterator 0 = .ok (.aload_n 0, 1) := by decide +kernel
theorem dJ3_iterator_1 : decode cJ3_iterator 1 = .ok (.invokevirtual 65, 3) := by decide +kernel
theorem dJ3_iterator_4 : decode cJ3_iterator 4 = .ok (.areturn, 1) := by decide +kernel
theorem q120 : (Jvm.Cond.initialized "java/util/AbstractSequentialList") ∈ lw_all := lw_g (lw_at lw_m1 6 rfl) rfl
theorem q215 : (Jvm.Cond.instanceMethod ({ cls := "java/util/AbstractSequentialList", name := "<init>", desc := "()V" } : Jvm.MethodName)) ∈ lw_all := lw_g (lw_at lw_m1 101 rfl) rfl
theorem q216 : (Jvm.Cond.code ({ cls := "java/util/AbstractSequentialList", name := "<init>", desc := "()V" } : Jvm.MethodName) prog_51_method_1_code (1 : Nat) (Option.none : Option Jvm.ClassFile.FieldType)) ∈ lw_all := lw_g (lw_at lw_m1 102 rfl) rfl
theorem q217 : (Jvm.Cond.methodLink "java/util/AbstractSequentialList" (1 : Nat) ({ cls := "java/util/AbstractList", name := "<init>", desc := "()V" } : Jvm.MethodName)) ∈ lw_all := lw_g (lw_at lw_m1 103 rfl) rfl
theorem q1270 : (Jvm.Cond.instanceMethod ({ cls := "java/util/AbstractSequentialList", name := "iterator", desc := "()Ljava/util/Iterator;" } : Jvm.MethodName)) ∈ lw_all := lw_g (lw_at lw_m5 196 rfl) rfl
theorem q1271 : (Jvm.Cond.publicMethod ({ cls := "java/util/AbstractSequentialList", name := "iterator", desc := "()Ljava/util/Iterator;" } : Jvm.MethodName)) ∈ lw_tbl := lw_at lw_m5 197 rfl
theorem q1272 : (Jvm.Cond.code ({ cls := "java/util/AbstractSequentialList", name := "iterator", desc := "()Ljava/util/Iterator;" } : Jvm.MethodName) prog_51_method_7_code (1 : Nat) (Option.some (Jvm.ClassFile.FieldType.object "java/util/Iterator"))) ∈ lw_all := lw_g (lw_at lw_m5 198 rfl) rfl
theorem q1273 : (Jvm.Cond.methodLink "java/util/AbstractSequentialList" (65 : Nat) ({ cls := "java/util/AbstractSequentialList", name := "listIterator", desc := "()Ljava/util/ListIterator;" } : Jvm.MethodName)) ∈ lw_all := lw_g (lw_at lw_m5 199 rfl) rfl
theorem q1274 : (Jvm.Cond.sameMethod "java/util/AbstractSequentialList" "java/util/AbstractList" "listIterator" "()Ljava/util/ListIterator;") ∈ lw_all := lw_g (lw_at lw_m5 200 rfl) rfl
/-! java/util/LinkedList -/
set_option maxRecDepth 100000
def RJ4 : String := "java/util/LinkedList"
def TJ4 : u_T := fun k => match k with
  | 0 => ("java/util/AbstractList", "modCount", "I", false)
  | 1 => ("java/util/LinkedList", "size", "I", false)
  | 2 => ("java/util/LinkedList", "first", "Ljava/util/LinkedList$Node;", false)
  | _ => ("java/util/LinkedList", "last", "Ljava/util/LinkedList$Node;", false)
def tyJ4 : Nat → FieldType := fun k => match k with
  | 0 => .int
  | 1 => .int
  | 2 => .object "java/util/LinkedList$Node"
  | _ => .object "java/util/LinkedList$Node"
abbrev wsJ40 : List Cond := u_ws RJ4 TJ4 4
theorem nmJ4 : ∀ a, a < 4 → ∀ b, b < 4 → a ≠ b → (TJ4 a).2.1 ≠ (TJ4 b).2.1 := by decide +kernel
theorem tyJ4_ok : ∀ k, k < 4 → parseFieldDescriptor (TJ4 k).2.2.1 = some (tyJ4 k) := by decide +kernel
abbrev cJ4_init : ByteArray := prog_65_method_1_code
def yJ4_init : MethodName := ⟨RJ4, "<init>", "()V"⟩
def dkwJ4_init_0 : List UInt8 := [42, 183, 0, 1, 42, 3, 181, 0, 7, 177]
abbrev dktJ4_init_0 : List UInt8 := dkwJ4_init_0 ++ []
theorem dksJ4_init_0 : cJ4_init.data.toList.drop 0 = dktJ4_init_0 := by decide +kernel
theorem dJ4_init_0 : decode cJ4_init 0 = .ok (.aload_n 0, 1) := dk_42 (dk_at dksJ4_init_0 0 rfl rfl)
theorem dJ4_init_1 : decode cJ4_init 1 = .ok (.invokespecial 1, 3) := dk_183 0 1 (dk_at dksJ4_init_0 1 rfl rfl)
theorem dJ4_init_4 : decode cJ4_init 4 = .ok (.aload_n 0, 1) := dk_42 (dk_at dksJ4_init_0 4 rfl rfl)
theorem dJ4_init_5 : decode cJ4_init 5 = .ok (.iconst 0, 1) := dk_3 (dk_at dksJ4_init_0 5 rfl rfl)
theorem dJ4_init_6 : decode cJ4_init 6 = .ok (.putfield 7, 3) := dk_181 0 7 (dk_at dksJ4_init_0 6 rfl rfl)
theorem dJ4_init_9 : decode cJ4_init 9 = .ok (.return_, 1) := dk_177 (dk_at dksJ4_init_0 9 rfl rfl)
abbrev cJ4_clear : ByteArray := prog_65_method_21_code
def yJ4_clear : MethodName := ⟨RJ4, "clear", "()V"⟩
def dkwJ4_clear_2 : List UInt8 := [181, 0, 7, 42, 89, 180, 0, 33, 4, 96, 181, 0, 33, 177]
abbrev dktJ4_clear_2 : List UInt8 := dkwJ4_clear_2 ++ []
def dkwJ4_clear_1 : List UInt8 := [43, 1, 181, 0, 30, 44, 76, 167, 255, 230, 42, 42, 1, 90, 181, 0, 27, 181, 0, 18, 42, 3]
abbrev dktJ4_clear_1 : List UInt8 := dkwJ4_clear_1 ++ dktJ4_clear_2
def dkwJ4_clear_0 : List UInt8 := [42, 180, 0, 18, 76, 43, 198, 0, 28, 43, 180, 0, 36, 77, 43, 1, 181, 0, 39, 43, 1, 181, 0, 36]
abbrev dktJ4_clear_0 : List UInt8 := dkwJ4_clear_0 ++ dktJ4_clear_1
theorem dksJ4_clear_0 : cJ4_clear.data.toList.drop 0 = dktJ4_clear_0 := by decide +kernel
theorem dksJ4_clear_1 : cJ4_clear.data.toList.drop 24 = dktJ4_clear_1 := dk_seg dksJ4_clear_0 24 rfl rfl
theorem dksJ4_clear_2 : cJ4_clear.data.toList.drop 46 = dktJ4_clear_2 := dk_seg dksJ4_clear_1 22 rfl rfl
theorem dJ4_clear_0 : decode cJ4_clear 0 = .ok (.aload_n 0, 1) := dk_42 (dk_at dksJ4_clear_0 0 rfl rfl)
theorem dJ4_clear_1 : decode cJ4_clear 1 = .ok (.getfield 18, 3) := dk_180 0 18 (dk_at dksJ4_clear_0 1 rfl rfl)
theorem dJ4_clear_4 : decode cJ4_clear 4 = .ok (.astore_n 1, 1) := dk_76 (dk_at dksJ4_clear_0 4 rfl rfl)
theorem dJ4_clear_5 : decode cJ4_clear 5 = .ok (.aload_n 1, 1) := dk_43 (dk_at dksJ4_clear_0 5 rfl rfl)
theorem dJ4_clear_6 : decode cJ4_clear 6 = .ok (.ifnull 28, 3) := dk_198 0 28 (dk_at dksJ4_clear_0 6 rfl rfl)
theorem dJ4_clear_9 : decode cJ4_clear 9 = .ok (.aload_n 1, 1) := dk_43 (dk_at dksJ4_clear_0 9 rfl rfl)
theorem dJ4_clear_10 : decode cJ4_clear 10 = .ok (.getfield 36, 3) := dk_180 0 36 (dk_at dksJ4_clear_0 10 rfl rfl)
theorem dJ4_clear_13 : decode cJ4_clear 13 = .ok (.astore_n 2, 1) := dk_77 (dk_at dksJ4_clear_0 13 rfl rfl)
theorem dJ4_clear_14 : decode cJ4_clear 14 = .ok (.aload_n 1, 1) := dk_43 (dk_at dksJ4_clear_0 14 rfl rfl)
theorem dJ4_clear_15 : decode cJ4_clear 15 = .ok (.aconst_null, 1) := dk_1 (dk_at dksJ4_clear_0 15 rfl rfl)
theorem dJ4_clear_16 : decode cJ4_clear 16 = .ok (.putfield 39, 3) := dk_181 0 39 (dk_at dksJ4_clear_0 16 rfl rfl)
theorem dJ4_clear_19 : decode cJ4_clear 19 = .ok (.aload_n 1, 1) := dk_43 (dk_at dksJ4_clear_0 19 rfl rfl)
theorem dJ4_clear_20 : decode cJ4_clear 20 = .ok (.aconst_null, 1) := dk_1 (dk_at dksJ4_clear_0 20 rfl rfl)
theorem dJ4_clear_21 : decode cJ4_clear 21 = .ok (.putfield 36, 3) := dk_181 0 36 (dk_at dksJ4_clear_0 21 rfl rfl)
theorem dJ4_clear_24 : decode cJ4_clear 24 = .ok (.aload_n 1, 1) := dk_43 (dk_at dksJ4_clear_1 0 rfl rfl)
theorem dJ4_clear_25 : decode cJ4_clear 25 = .ok (.aconst_null, 1) := dk_1 (dk_at dksJ4_clear_1 1 rfl rfl)
theorem dJ4_clear_26 : decode cJ4_clear 26 = .ok (.putfield 30, 3) := dk_181 0 30 (dk_at dksJ4_clear_1 2 rfl rfl)
theorem dJ4_clear_29 : decode cJ4_clear 29 = .ok (.aload_n 2, 1) := dk_44 (dk_at dksJ4_clear_1 5 rfl rfl)
theorem dJ4_clear_30 : decode cJ4_clear 30 = .ok (.astore_n 1, 1) := dk_76 (dk_at dksJ4_clear_1 6 rfl rfl)
theorem dJ4_clear_31 : decode cJ4_clear 31 = .ok (.goto (-26), 3) := dk_167 255 230 (dk_at dksJ4_clear_1 7 rfl rfl)
theorem dJ4_clear_34 : decode cJ4_clear 34 = .ok (.aload_n 0, 1) := dk_42 (dk_at dksJ4_clear_1 10 rfl rfl)
theorem dJ4_clear_35 : decode cJ4_clear 35 = .ok (.aload_n 0, 1) := dk_42 (dk_at dksJ4_clear_1 11 rfl rfl)
theorem dJ4_clear_36 : decode cJ4_clear 36 = .ok (.aconst_null, 1) := dk_1 (dk_at dksJ4_clear_1 12 rfl rfl)
theorem dJ4_clear_37 : decode cJ4_clear 37 = .ok (.dup_x1, 1) := dk_90 (dk_at dksJ4_clear_1 13 rfl rfl)
theorem dJ4_clear_38 : decode cJ4_clear 38 = .ok (.putfield 27, 3) := dk_181 0 27 (dk_at dksJ4_clear_1 14 rfl rfl)
theorem dJ4_clear_41 : decode cJ4_clear 41 = .ok (.putfield 18, 3) := dk_181 0 18 (dk_at dksJ4_clear_1 17 rfl rfl)
theorem dJ4_clear_44 : decode cJ4_clear 44 = .ok (.aload_n 0, 1) := dk_42 (dk_at dksJ4_clear_1 20 rfl rfl)
theorem dJ4_clear_45 : decode cJ4_clear 45 = .ok (.iconst 0, 1) := dk_3 (dk_at dksJ4_clear_1 21 rfl rfl)
theorem dJ4_clear_46 : decode cJ4_clear 46 = .ok (.putfield 7, 3) := dk_181 0 7 (dk_at dksJ4_clear_2 0 rfl rfl)
theorem dJ4_clear_49 : decode cJ4_clear 49 = .ok (.aload_n 0, 1) := dk_42 (dk_at dksJ4_clear_2 3 rfl rfl)
theorem dJ4_clear_50 : decode cJ4_clear 50 = .ok (.dup, 1) := dk_89 (dk_at dksJ4_clear_2 4 rfl rfl)
theorem dJ4_clear_51 : decode cJ4_clear 51 = .ok (.getfield 33, 3) := dk_180 0 33 (dk_at dksJ4_clear_2 5 rfl rfl)
theorem dJ4_clear_54 : decode cJ4_clear 54 = .ok (.iconst 1, 1) := dk_4 (dk_at dksJ4_clear_2 8 rfl rfl)
theorem dJ4_clear_55 : decode cJ4_clear 55 = .ok (.iadd, 1) := dk_96 (dk_at dksJ4_clear_2 9 rfl rfl)
theorem dJ4_clear_56 : decode cJ4_clear 56 = .ok (.putfield 33, 3) := dk_181 0 33 (dk_at dksJ4_clear_2 10 rfl rfl)
theorem dJ4_clear_59 : decode cJ4_clear 59 = .ok (.return_, 1) := dk_177 (dk_at dksJ4_clear_2 13 rfl rfl)
abbrev cJ4_addAll : ByteArray := prog_65_method_19_code
def yJ4_addAll : MethodName := ⟨RJ4, "addAll", "(Ljava/util/Collection;)Z"⟩
def dkwJ4_addAll_0 : List UInt8 := [42, 42, 180, 0, 7, 43, 182, 0, 73, 172]
abbrev dktJ4_addAll_0 : List UInt8 := dkwJ4_addAll_0 ++ []
theorem dksJ4_addAll_0 : cJ4_addAll.data.toList.drop 0 = dktJ4_addAll_0 := by decide +kernel
theorem dJ4_addAll_0 : decode cJ4_addAll 0 = .ok (.aload_n 0, 1) := dk_42 (dk_at dksJ4_addAll_0 0 rfl rfl)
theorem dJ4_addAll_1 : decode cJ4_addAll 1 = .ok (.aload_n 0, 1) := dk_42 (dk_at dksJ4_addAll_0 1 rfl rfl)
theorem dJ4_addAll_2 : decode cJ4_addAll 2 = .ok (.getfield 7, 3) := dk_180 0 7 (dk_at dksJ4_addAll_0 2 rfl rfl)
theorem dJ4_addAll_5 : decode cJ4_addAll 5 = .ok (.aload_n 1, 1) := dk_43 (dk_at dksJ4_addAll_0 5 rfl rfl)
theorem dJ4_addAll_6 : decode cJ4_addAll 6 = .ok (.invokevirtual 73, 3) := dk_182 0 73 (dk_at dksJ4_addAll_0 6 rfl rfl)
theorem dJ4_addAll_9 : decode cJ4_addAll 9 = .ok (.ireturn, 1) := dk_172 (dk_at dksJ4_addAll_0 9 rfl rfl)
abbrev cJ4_addAll_2 : ByteArray := prog_65_method_20_code
def yJ4_addAll_2 : MethodName := ⟨RJ4, "addAll", "(ILjava/util/Collection;)Z"⟩
def dkwJ4_addAll_2_7 : List UInt8 := [96, 181, 0, 7, 42, 89, 180, 0, 33, 4, 96, 181, 0, 33, 4, 172]
abbrev dktJ4_addAll_2_7 : List UInt8 := dkwJ4_addAll_2_7 ++ []
def dkwJ4_addAll_2_6 : List UInt8 := [167, 0, 17, 25, 5, 25, 6, 181, 0, 36, 25, 6, 25, 5, 181, 0, 30, 42, 89, 180, 0, 7, 21, 4]
abbrev dktJ4_addAll_2_6 : List UInt8 := dkwJ4_addAll_2_6 ++ dktJ4_addAll_2_7
def dkwJ4_addAll_2_5 : List UInt8 := [181, 0, 36, 25, 12, 58, 5, 132, 9, 1, 167, 255, 196, 25, 6, 199, 0, 12, 42, 25, 5, 181, 0, 27]
abbrev dktJ4_addAll_2_5 : List UInt8 := dkwJ4_addAll_2_5 ++ dktJ4_addAll_2_6
def dkwJ4_addAll_2_4 : List UInt8 := [183, 0, 24, 58, 12, 25, 5, 199, 0, 12, 42, 25, 12, 181, 0, 18, 167, 0, 10, 25, 5, 25, 12]
abbrev dktJ4_addAll_2_4 : List UInt8 := dkwJ4_addAll_2_4 ++ dktJ4_addAll_2_5
def dkwJ4_addAll_2_3 : List UInt8 := [162, 0, 59, 25, 7, 21, 9, 50, 58, 10, 25, 10, 58, 11, 187, 0, 22, 89, 25, 5, 25, 11, 1]
abbrev dktJ4_addAll_2_3 : List UInt8 := dkwJ4_addAll_2_3 ++ dktJ4_addAll_2_4
def dkwJ4_addAll_2_2 : List UInt8 := [58, 6, 25, 6, 180, 0, 30, 58, 5, 45, 58, 7, 25, 7, 190, 54, 8, 3, 54, 9, 21, 9, 21, 8]
abbrev dktJ4_addAll_2_2 : List UInt8 := dkwJ4_addAll_2_2 ++ dktJ4_addAll_2_3
def dkwJ4_addAll_2_1 : List UInt8 := [42, 180, 0, 7, 160, 0, 15, 1, 58, 6, 42, 180, 0, 27, 58, 5, 167, 0, 17, 42, 27, 182, 0, 86]
abbrev dktJ4_addAll_2_1 : List UInt8 := dkwJ4_addAll_2_1 ++ dktJ4_addAll_2_2
def dkwJ4_addAll_2_0 : List UInt8 := [42, 27, 182, 0, 76, 44, 185, 0, 80, 1, 0, 78, 45, 190, 54, 4, 21, 4, 154, 0, 5, 3, 172, 27]
abbrev dktJ4_addAll_2_0 : List UInt8 := dkwJ4_addAll_2_0 ++ dktJ4_addAll_2_1
theorem dksJ4_addAll_2_0 : cJ4_addAll_2.data.toList.drop 0 = dktJ4_addAll_2_0 := by decide +kernel
theorem dksJ4_addAll_2_1 : cJ4_addAll_2.data.toList.drop 24 = dktJ4_addAll_2_1 := dk_seg dksJ4_addAll_2_0 24 rfl rfl
theorem dksJ4_addAll_2_2 : cJ4_addAll_2.data.toList.drop 48 = dktJ4_addAll_2_2 := dk_seg dksJ4_addAll_2_1 24 rfl rfl
theorem dksJ4_addAll_2_3 : cJ4_addAll_2.data.toList.drop 72 = dktJ4_addAll_2_3 := dk_seg dksJ4_addAll_2_2 24 rfl rfl
theorem dksJ4_addAll_2_4 : cJ4_addAll_2.data.toList.drop 95 = dktJ4_addAll_2_4 := dk_seg dksJ4_addAll_2_3 23 rfl rfl
theorem dksJ4_addAll_2_5 : cJ4_addAll_2.data.toList.drop 118 = dktJ4_addAll_2_5 := dk_seg dksJ4_addAll_2_4 23 rfl rfl
theorem dksJ4_addAll_2_6 : cJ4_addAll_2.data.toList.drop 142 = dktJ4_addAll_2_6 := dk_seg dksJ4_addAll_2_5 24 rfl rfl
theorem dksJ4_addAll_2_7 : cJ4_addAll_2.data.toList.drop 166 = dktJ4_addAll_2_7 := dk_seg dksJ4_addAll_2_6 24 rfl rfl
theorem dJ4_addAll_2_0 : decode cJ4_addAll_2 0 = .ok (.aload_n 0, 1) := dk_42 (dk_at dksJ4_addAll_2_0 0 rfl rfl)
theorem dJ4_addAll_2_1 : decode cJ4_addAll_2 1 = .ok (.iload_n 1, 1) := dk_27 (dk_at dksJ4_addAll_2_0 1 rfl rfl)
theorem dJ4_addAll_2_2 : decode cJ4_addAll_2 2 = .ok (.invokevirtual 76, 3) := dk_182 0 76 (dk_at dksJ4_addAll_2_0 2 rfl rfl)
theorem dJ4_addAll_2_5 : decode cJ4_addAll_2 5 = .ok (.aload_n 2, 1) := dk_44 (dk_at dksJ4_addAll_2_0 5 rfl rfl)
theorem dJ4_addAll_2_6 : decode cJ4_addAll_2 6 = .ok (.invokeinterface 80 1, 5) := by decide +kernel
theorem dJ4_addAll_2_11 : decode cJ4_addAll_2 11 = .ok (.astore_n 3, 1) := dk_78 (dk_at dksJ4_addAll_2_0 11 rfl rfl)
theorem dJ4_addAll_2_12 : decode cJ4_addAll_2 12 = .ok (.aload_n 3, 1) := dk_45 (dk_at dksJ4_addAll_2_0 12 rfl rfl)
theorem dJ4_addAll_2_13 : decode cJ4_addAll_2 13 = .ok (.arraylength, 1) := dk_190 (dk_at dksJ4_addAll_2_0 13 rfl rfl)
theorem dJ4_addAll_2_14 : decode cJ4_addAll_2 14 = .ok (.istore 4, 2) := dk_54 4 (dk_at dksJ4_addAll_2_0 14 rfl rfl)
theorem dJ4_addAll_2_16 : decode cJ4_addAll_2 16 = .ok (.iload 4, 2) := dk_21 4 (dk_at dksJ4_addAll_2_0 16 rfl rfl)
theorem dJ4_addAll_2_18 : decode cJ4_addAll_2 18 = .ok (.ifCond .ne 5, 3) := dk_154 0 5 (dk_at dksJ4_addAll_2_0 18 rfl rfl)
theorem dJ4_addAll_2_21 : decode cJ4_addAll_2 21 = .ok (.iconst 0, 1) := dk_3 (dk_at dksJ4_addAll_2_0 21 rfl rfl)
theorem dJ4_addAll_2_22 : decode cJ4_addAll_2 22 = .ok (.ireturn, 1) := dk_172 (dk_at dksJ4_addAll_2_0 22 rfl rfl)
theorem dJ4_addAll_2_23 : decode cJ4_addAll_2 23 = .ok (.iload_n 1, 1) := dk_27 (dk_at dksJ4_addAll_2_0 23 rfl rfl)
theorem dJ4_addAll_2_24 : decode cJ4_addAll_2 24 = .ok (.aload_n 0, 1) := dk_42 (dk_at dksJ4_addAll_2_1 0 rfl rfl)
theorem dJ4_addAll_2_25 : decode cJ4_addAll_2 25 = .ok (.getfield 7, 3) := dk_180 0 7 (dk_at dksJ4_addAll_2_1 1 rfl rfl)
theorem dJ4_addAll_2_28 : decode cJ4_addAll_2 28 = .ok (.if_icmp .ne 15, 3) := dk_160 0 15 (dk_at dksJ4_addAll_2_1 4 rfl rfl)
theorem dJ4_addAll_2_31 : decode cJ4_addAll_2 31 = .ok (.aconst_null, 1) := dk_1 (dk_at dksJ4_addAll_2_1 7 rfl rfl)
theorem dJ4_addAll_2_32 : decode cJ4_addAll_2 32 = .ok (.astore 6, 2) := dk_58 6 (dk_at dksJ4_addAll_2_1 8 rfl rfl)
theorem dJ4_addAll_2_34 : decode cJ4_addAll_2 34 = .ok (.aload_n 0, 1) := dk_42 (dk_at dksJ4_addAll_2_1 10 rfl rfl)
theorem dJ4_addAll_2_35 : decode cJ4_addAll_2 35 = .ok (.getfield 27, 3) := dk_180 0 27 (dk_at dksJ4_addAll_2_1 11 rfl rfl)
theorem dJ4_addAll_2_38 : decode cJ4_addAll_2 38 = .ok (.astore 5, 2) := dk_58 5 (dk_at dksJ4_addAll_2_1 14 rfl rfl)
theorem dJ4_addAll_2_40 : decode cJ4_addAll_2 40 = .ok (.goto 17, 3) := dk_167 0 17 (dk_at dksJ4_addAll_2_1 16 rfl rfl)
theorem dJ4_addAll_2_43 : decode cJ4_addAll_2 43 = .ok (.aload_n 0, 1) := dk_42 (dk_at dksJ4_addAll_2_1 19 rfl rfl)
theorem dJ4_addAll_2_44 : decode cJ4_addAll_2 44 = .ok (.iload_n 1, 1) := dk_27 (dk_at dksJ4_addAll_2_1 20 rfl rfl)
theorem dJ4_addAll_2_45 : decode cJ4_addAll_2 45 = .ok (.invokevirtual 86, 3) := dk_182 0 86 (dk_at dksJ4_addAll_2_1 21 rfl rfl)
theorem dJ4_addAll_2_48 : decode cJ4_addAll_2 48 = .ok (.astore 6, 2) := dk_58 6 (dk_at dksJ4_addAll_2_2 0 rfl rfl)
theorem dJ4_addAll_2_50 : decode cJ4_addAll_2 50 = .ok (.aload 6, 2) := dk_25 6 (dk_at dksJ4_addAll_2_2 2 rfl rfl)
theorem dJ4_addAll_2_52 : decode cJ4_addAll_2 52 = .ok (.getfield 30, 3) := dk_180 0 30 (dk_at dksJ4_addAll_2_2 4 rfl rfl)
theorem dJ4_addAll_2_55 : decode cJ4_addAll_2 55 = .ok (.astore 5, 2) := dk_58 5 (dk_at dksJ4_addAll_2_2 7 rfl rfl)
theorem dJ4_addAll_2_57 : decode cJ4_addAll_2 57 = .ok (.aload_n 3, 1) := dk_45 (dk_at dksJ4_addAll_2_2 9 rfl rfl)
theorem dJ4_addAll_2_58 : decode cJ4_addAll_2 58 = .ok (.astore 7, 2) := dk_58 7 (dk_at dksJ4_addAll_2_2 10 rfl rfl)
theorem dJ4_addAll_2_60 : decode cJ4_addAll_2 60 = .ok (.aload 7, 2) := dk_25 7 (dk_at dksJ4_addAll_2_2 12 rfl rfl)
theorem dJ4_addAll_2_62 : decode cJ4_addAll_2 62 = .ok (.arraylength, 1) := dk_190 (dk_at dksJ4_addAll_2_2 14 rfl rfl)
theorem dJ4_addAll_2_63 : decode cJ4_addAll_2 63 = .ok (.istore 8, 2) := dk_54 8 (dk_at dksJ4_addAll_2_2 15 rfl rfl)
theorem dJ4_addAll_2_65 : decode cJ4_addAll_2 65 = .ok (.iconst 0, 1) := dk_3 (dk_at dksJ4_addAll_2_2 17 rfl rfl)
theorem dJ4_addAll_2_66 : decode cJ4_addAll_2 66 = .ok (.istore 9, 2) := dk_54 9 (dk_at dksJ4_addAll_2_2 18 rfl rfl)
theorem dJ4_addAll_2_68 : decode cJ4_addAll_2 68 = .ok (.iload 9, 2) := dk_21 9 (dk_at dksJ4_addAll_2_2 20 rfl rfl)
theorem dJ4_addAll_2_70 : decode cJ4_addAll_2 70 = .ok (.iload 8, 2) := dk_21 8 (dk_at dksJ4_addAll_2_2 22 rfl rfl)
theorem dJ4_addAll_2_72 : decode cJ4_addAll_2 72 = .ok (.if_icmp .ge 59, 3) := dk_162 0 59 (dk_at dksJ4_addAll_2_3 0 rfl rfl)
theorem dJ4_addAll_2_75 : decode cJ4_addAll_2 75 = .ok (.aload 7, 2) := dk_25 7 (dk_at dksJ4_addAll_2_3 3 rfl rfl)
theorem dJ4_addAll_2_77 : decode cJ4_addAll_2 77 = .ok (.iload 9, 2) := dk_21 9 (dk_at dksJ4_addAll_2_3 5 rfl rfl)
theorem dJ4_addAll_2_79 : decode cJ4_addAll_2 79 = .ok (.aaload, 1) := dk_50 (dk_at dksJ4_addAll_2_3 7 rfl rfl)
theorem dJ4_addAll_2_80 : decode cJ4_addAll_2 80 = .ok (.astore 10, 2) := dk_58 10 (dk_at dksJ4_addAll_2_3 8 rfl rfl)
theorem dJ4_addAll_2_82 : decode cJ4_addAll_2 82 = .ok (.aload 10, 2) := dk_25 10 (dk_at dksJ4_addAll_2_3 10 rfl rfl)
theorem dJ4_addAll_2_84 : decode cJ4_addAll_2 84 = .ok (.astore 11, 2) := dk_58 11 (dk_at dksJ4_addAll_2_3 12 rfl rfl)
theorem dJ4_addAll_2_86 : decode cJ4_addAll_2 86 = .ok (.new 22, 3) := dk_187 0 22 (dk_at dksJ4_addAll_2_3 14 rfl rfl)
theorem dJ4_addAll_2_89 : decode cJ4_addAll_2 89 = .ok (.dup, 1) := dk_89 (dk_at dksJ4_addAll_2_3 17 rfl rfl)
theorem dJ4_addAll_2_90 : decode cJ4_addAll_2 90 = .ok (.aload 5, 2) := dk_25 5 (dk_at dksJ4_addAll_2_3 18 rfl rfl)
theorem dJ4_addAll_2_92 : decode cJ4_addAll_2 92 = .ok (.aload 11, 2) := dk_25 11 (dk_at dksJ4_addAll_2_3 20 rfl rfl)
theorem dJ4_addAll_2_94 : decode cJ4_addAll_2 94 = .ok (.aconst_null, 1) := dk_1 (dk_at dksJ4_addAll_2_3 22 rfl rfl)
theorem dJ4_addAll_2_95 : decode cJ4_addAll_2 95 = .ok (.invokespecial 24, 3) := dk_183 0 24 (dk_at dksJ4_addAll_2_4 0 rfl rfl)
theorem dJ4_addAll_2_98 : decode cJ4_addAll_2 98 = .ok (.astore 12, 2) := dk_58 12 (dk_at dksJ4_addAll_2_4 3 rfl rfl)
theorem dJ4_addAll_2_100 : decode cJ4_addAll_2 100 = .ok (.aload 5, 2) := dk_25 5 (dk_at dksJ4_addAll_2_4 5 rfl rfl)
theorem dJ4_addAll_2_102 : decode cJ4_addAll_2 102 = .ok (.ifnonnull 12, 3) := dk_199 0 12 (dk_at dksJ4_addAll_2_4 7 rfl rfl)
theorem dJ4_addAll_2_105 : decode cJ4_addAll_2 105 = .ok (.aload_n 0, 1) := dk_42 (dk_at dksJ4_addAll_2_4 10 rfl rfl)
theorem dJ4_addAll_2_106 : decode cJ4_addAll_2 106 = .ok (.aload 12, 2) := dk_25 12 (dk_at dksJ4_addAll_2_4 11 rfl rfl)
theorem dJ4_addAll_2_108 : decode cJ4_addAll_2 108 = .ok (.putfield 18, 3) := dk_181 0 18 (dk_at dksJ4_addAll_2_4 13 rfl rfl)
theorem dJ4_addAll_2_111 : decode cJ4_addAll_2 111 = .ok (.goto 10, 3) := dk_167 0 10 (dk_at dksJ4_addAll_2_4 16 rfl rfl)
theorem dJ4_addAll_2_114 : decode cJ4_addAll_2 114 = .ok (.aload 5, 2) := dk_25 5 (dk_at dksJ4_addAll_2_4 19 rfl rfl)
theorem dJ4_addAll_2_116 : decode cJ4_addAll_2 116 = .ok (.aload 12, 2) := dk_25 12 (dk_at dksJ4_addAll_2_4 21 rfl rfl)
theorem dJ4_addAll_2_118 : decode cJ4_addAll_2 118 = .ok (.putfield 36, 3) := dk_181 0 36 (dk_at dksJ4_addAll_2_5 0 rfl rfl)
theorem dJ4_addAll_2_121 : decode cJ4_addAll_2 121 = .ok (.aload 12, 2) := dk_25 12 (dk_at dksJ4_addAll_2_5 3 rfl rfl)
theorem dJ4_addAll_2_123 : decode cJ4_addAll_2 123 = .ok (.astore 5, 2) := dk_58 5 (dk_at dksJ4_addAll_2_5 5 rfl rfl)
theorem dJ4_addAll_2_125 : decode cJ4_addAll_2 125 = .ok (.iinc 9 1, 3) := dk_132 9 1 (dk_at dksJ4_addAll_2_5 7 rfl rfl)
theorem dJ4_addAll_2_128 : decode cJ4_addAll_2 128 = .ok (.goto (-60), 3) := dk_167 255 196 (dk_at dksJ4_addAll_2_5 10 rfl rfl)
theorem dJ4_addAll_2_131 : decode cJ4_addAll_2 131 = .ok (.aload 6, 2) := dk_25 6 (dk_at dksJ4_addAll_2_5 13 rfl rfl)
theorem dJ4_addAll_2_133 : decode cJ4_addAll_2 133 = .ok (.ifnonnull 12, 3) := dk_199 0 12 (dk_at dksJ4_addAll_2_5 15 rfl rfl)
theorem dJ4_addAll_2_136 : decode cJ4_addAll_2 136 = .ok (.aload_n 0, 1) := dk_42 (dk_at dksJ4_addAll_2_5 18 rfl rfl)
theorem dJ4_addAll_2_137 : decode cJ4_addAll_2 137 = .ok (.aload 5, 2) := dk_25 5 (dk_at dksJ4_addAll_2_5 19 rfl rfl)
theorem dJ4_addAll_2_139 : decode cJ4_addAll_2 139 = .ok (.putfield 27, 3) := dk_181 0 27 (dk_at dksJ4_addAll_2_5 21 rfl rfl)
theorem dJ4_addAll_2_142 : decode cJ4_addAll_2 142 = .ok (.goto 17, 3) := dk_167 0 17 (dk_at dksJ4_addAll_2_6 0 rfl rfl)
theorem dJ4_addAll_2_145 : decode cJ4_addAll_2 145 = .ok (.aload 5, 2) := dk_25 5 (dk_at dksJ4_addAll_2_6 3 rfl rfl)
theorem dJ4_addAll_2_147 : decode cJ4_addAll_2 147 = .ok (.aload 6, 2) := dk_25 6 (dk_at dksJ4_addAll_2_6 5 rfl rfl)
theorem dJ4_addAll_2_149 : decode cJ4_addAll_2 149 = .ok (.putfield 36, 3) := dk_181 0 36 (dk_at dksJ4_addAll_2_6 7 rfl rfl)
theorem dJ4_addAll_2_152 : decode cJ4_addAll_2 152 = .ok (.aload 6, 2) := dk_25 6 (dk_at dksJ4_addAll_2_6 10 rfl rfl)
theorem dJ4_addAll_2_154 : decode cJ4_addAll_2 154 = .ok (.aload 5, 2) := dk_25 5 (dk_at dksJ4_addAll_2_6 12 rfl rfl)
theorem dJ4_addAll_2_156 : decode cJ4_addAll_2 156 = .ok (.putfield 30, 3) := dk_181 0 30 (dk_at dksJ4_addAll_2_6 14 rfl rfl)
theorem dJ4_addAll_2_159 : decode cJ4_addAll_2 159 = .ok (.aload_n 0, 1) := dk_42 (dk_at dksJ4_addAll_2_6 17 rfl rfl)
theorem dJ4_addAll_2_160 : decode cJ4_addAll_2 160 = .ok (.dup, 1) := dk_89 (dk_at dksJ4_addAll_2_6 18 rfl rfl)
theorem dJ4_addAll_2_161 : decode cJ4_addAll_2 161 = .ok (.getfield 7, 3) := dk_180 0 7 (dk_at dksJ4_addAll_2_6 19 rfl rfl)
theorem dJ4_addAll_2_164 : decode cJ4_addAll_2 164 = .ok (.iload 4, 2) := dk_21 4 (dk_at dksJ4_addAll_2_6 22 rfl rfl)
theorem dJ4_addAll_2_166 : decode cJ4_addAll_2 166 = .ok (.iadd, 1) := dk_96 (dk_at dksJ4_addAll_2_7 0 rfl rfl)
theorem dJ4_addAll_2_167 : decode cJ4_addAll_2 167 = .ok (.putfield 7, 3) := dk_181 0 7 (dk_at dksJ4_addAll_2_7 1 rfl rfl)
theorem dJ4_addAll_2_170 : decode cJ4_addAll_2 170 = .ok (.aload_n 0, 1) := dk_42 (dk_at dksJ4_addAll_2_7 4 rfl rfl)
theorem dJ4_addAll_2_171 : decode cJ4_addAll_2 171 = .ok (.dup, 1) := dk_89 (dk_at dksJ4_addAll_2_7 5 rfl rfl)
theorem dJ4_addAll_2_172 : decode cJ4_addAll_2 172 = .ok (.getfield 33, 3) := dk_180 0 33 (dk_at dksJ4_addAll_2_7 6 rfl rfl)
theorem dJ4_addAll_2_175 : decode cJ4_addAll_2 175 = .ok (.iconst 1, 1) := dk_4 (dk_at dksJ4_addAll_2_7 9 rfl rfl)
theorem dJ4_addAll_2_176 : decode cJ4_addAll_2 176 = .ok (.iadd, 1) := dk_96 (dk_at dksJ4_addAll_2_7 10 rfl rfl)
theorem dJ4_addAll_2_177 : decode cJ4_addAll_2 177 = .ok (.putfield 33, 3) := dk_181 0 33 (dk_at dksJ4_addAll_2_7 11 rfl rfl)
theorem dJ4_addAll_2_180 : decode cJ4_addAll_2 180 = .ok (.iconst 1, 1) := dk_4 (dk_at dksJ4_addAll_2_7 14 rfl rfl)
theorem dJ4_addAll_2_181 : decode cJ4_addAll_2 181 = .ok (.ireturn, 1) := dk_172 (dk_at dksJ4_addAll_2_7 15 rfl rfl)
abbrev cJ4_checkPositionIndex : ByteArray := prog_65_method_30_code
def yJ4_checkPositionIndex : MethodName := ⟨RJ4, "checkPositionIndex", "(I)V"⟩
def dkwJ4_checkPositionIndex_0 : List UInt8 := [42, 27, 182, 0, 128, 154, 0, 16, 187, 0, 119, 89, 42, 27, 182, 0, 121, 183, 0, 125, 191, 177]
abbrev dktJ4_checkPositionIndex_0 : List UInt8 := dkwJ4_checkPositionIndex_0 ++ []
theorem dksJ4_checkPositionIndex_0 : cJ4_checkPositionIndex.data.toList.drop 0 = dktJ4_checkPositionIndex_0 := by decide +kernel
theorem dJ4_checkPositionIndex_0 : decode cJ4_checkPositionIndex 0 = .ok (.aload_n 0, 1) := dk_42 (dk_at dksJ4_checkPositionIndex_0 0 rfl rfl)
theorem dJ4_checkPositionIndex_1 : decode cJ4_checkPositionIndex 1 = .ok (.iload_n 1, 1) := dk_27 (dk_at dksJ4_checkPositionIndex_0 1 rfl rfl)
theorem dJ4_checkPositionIndex_2 : decode cJ4_checkPositionIndex 2 = .ok (.invokevirtual 128, 3) := dk_182 0 128 (dk_at dksJ4_checkPositionIndex_0 2 rfl rfl)
theorem dJ4_checkPositionIndex_5 : decode cJ4_checkPositionIndex 5 = .ok (.ifCond .ne 16, 3) := dk_154 0 16 (dk_at dksJ4_checkPositionIndex_0 5 rfl rfl)
theorem dJ4_checkPositionIndex_8 : decode cJ4_checkPositionIndex 8 = .ok (.new 119, 3) := dk_187 0 119 (dk_at dksJ4_checkPositionIndex_0 8 rfl rfl)
theorem dJ4_checkPositionIndex_11 : decode cJ4_checkPositionIndex 11 = .ok (.dup, 1) := dk_89 (dk_at dksJ4_checkPositionIndex_0 11 rfl rfl)
theorem dJ4_checkPositionIndex_12 : decode cJ4_checkPositionIndex 12 = .ok (.aload_n 0, 1) := dk_42 (dk_at dksJ4_checkPositionIndex_0 12 rfl rfl)
theorem dJ4_checkPositionIndex_13 : decode cJ4_checkPositionIndex 13 = .ok (.iload_n 1, 1) := dk_27 (dk_at dksJ4_checkPositionIndex_0 13 rfl rfl)
theorem dJ4_checkPositionIndex_14 : decode cJ4_checkPositionIndex 14 = .ok (.invokevirtual 121, 3) := dk_182 0 121 (dk_at dksJ4_checkPositionIndex_0 14 rfl rfl)
theorem dJ4_checkPositionIndex_17 : decode cJ4_checkPositionIndex 17 = .ok (.invokespecial 125, 3) := dk_183 0 125 (dk_at dksJ4_checkPositionIndex_0 17 rfl rfl)
theorem dJ4_checkPositionIndex_20 : decode cJ4_checkPositionIndex 20 = .ok (.athrow, 1) := dk_191 (dk_at dksJ4_checkPositionIndex_0 20 rfl rfl)
theorem dJ4_checkPositionIndex_21 : decode cJ4_checkPositionIndex 21 = .ok (.return_, 1) := dk_177 (dk_at dksJ4_checkPositionIndex_0 21 rfl rfl)
abbrev cJ4_isPositionIndex : ByteArray := prog_65_method_27_code
def yJ4_isPositionIndex : MethodName := ⟨RJ4, "isPositionIndex", "(I)Z"⟩
def dkwJ4_isPositionIndex_0 : List UInt8 := [27, 155, 0, 15, 27, 42, 180, 0, 7, 163, 0, 7, 4, 167, 0, 4, 3, 172]
abbrev dktJ4_isPositionIndex_0 : List UInt8 := dkwJ4_isPositionIndex_0 ++ []
theorem dksJ4_isPositionIndex_0 : cJ4_isPositionIndex.data.toList.drop 0 = dktJ4_isPositionIndex_0 := by decide +kernel
theorem dJ4_isPositionIndex_0 : decode cJ4_isPositionIndex 0 = .ok (.iload_n 1, 1) := dk_27 (dk_at dksJ4_isPositionIndex_0 0 rfl rfl)
theorem dJ4_isPositionIndex_1 : decode cJ4_isPositionIndex 1 = .ok (.ifCond .lt 15, 3) := dk_155 0 15 (dk_at dksJ4_isPositionIndex_0 1 rfl rfl)
theorem dJ4_isPositionIndex_4 : decode cJ4_isPositionIndex 4 = .ok (.iload_n 1, 1) := dk_27 (dk_at dksJ4_isPositionIndex_0 4 rfl rfl)
theorem dJ4_isPositionIndex_5 : decode cJ4_isPositionIndex 5 = .ok (.aload_n 0, 1) := dk_42 (dk_at dksJ4_isPositionIndex_0 5 rfl rfl)
theorem dJ4_isPositionIndex_6 : decode cJ4_isPositionIndex 6 = .ok (.getfield 7, 3) := dk_180 0 7 (dk_at dksJ4_isPositionIndex_0 6 rfl rfl)
theorem dJ4_isPositionIndex_9 : decode cJ4_isPositionIndex 9 = .ok (.if_icmp .gt 7, 3) := dk_163 0 7 (dk_at dksJ4_isPositionIndex_0 9 rfl rfl)
theorem dJ4_isPositionIndex_12 : decode cJ4_isPositionIndex 12 = .ok (.iconst 1, 1) := dk_4 (dk_at dksJ4_isPositionIndex_0 12 rfl rfl)
theorem dJ4_isPositionIndex_13 : decode cJ4_isPositionIndex 13 = .ok (.goto 4, 3) := dk_167 0 4 (dk_at dksJ4_isPositionIndex_0 13 rfl rfl)
theorem dJ4_isPositionIndex_16 : decode cJ4_isPositionIndex 16 = .ok (.iconst 0, 1) := dk_3 (dk_at dksJ4_isPositionIndex_0 16 rfl rfl)
theorem dJ4_isPositionIndex_17 : decode cJ4_isPositionIndex 17 = .ok (.ireturn, 1) := dk_172 (dk_at dksJ4_isPositionIndex_0 17 rfl rfl)
abbrev cJ4_toArray : ByteArray := prog_65_method_53_code
def yJ4_toArray : MethodName := ⟨RJ4, "toArray", "()[Ljava/lang/Object;"⟩
def dkwJ4_toArray_1 : List UInt8 := [45, 180, 0, 39, 83, 45, 180, 0, 36, 78, 167, 255, 237, 43, 176]
abbrev dktJ4_toArray_1 : List UInt8 := dkwJ4_toArray_1 ++ []
def dkwJ4_toArray_0 : List UInt8 := [42, 180, 0, 7, 189, 0, 68, 76, 3, 61, 42, 180, 0, 18, 78, 45, 198, 0, 21, 43, 28, 132, 2, 1]
abbrev dktJ4_toArray_0 : List UInt8 := dkwJ4_toArray_0 ++ dktJ4_toArray_1
theorem dksJ4_toArray_0 : cJ4_toArray.data.toList.drop 0 = dktJ4_toArray_0 := by decide +kernel
theorem dksJ4_toArray_1 : cJ4_toArray.data.toList.drop 24 = dktJ4_toArray_1 := dk_seg dksJ4_toArray_0 24 rfl rfl
theorem dJ4_toArray_0 : decode cJ4_toArray 0 = .ok (.aload_n 0, 1) := dk_42 (dk_at dksJ4_toArray_0 0 rfl rfl)
theorem dJ4_toArray_1 : decode cJ4_toArray 1 = .ok (.getfield 7, 3) := dk_180 0 7 (dk_at dksJ4_toArray_0 1 rfl rfl)
theorem dJ4_toArray_4 : decode cJ4_toArray 4 = .ok (.anewarray 68, 3) := dk_189 0 68 (dk_at dksJ4_toArray_0 4 rfl rfl)
theorem dJ4_toArray_7 : decode cJ4_toArray 7 = .ok (.astore_n 1, 1) := dk_76 (dk_at dksJ4_toArray_0 7 rfl rfl)
theorem dJ4_toArray_8 : decode cJ4_toArray 8 = .ok (.iconst 0, 1) := dk_3 (dk_at dksJ4_toArray_0 8 rfl rfl)
theorem dJ4_toArray_9 : decode cJ4_toArray 9 = .ok (.istore_n 2, 1) := dk_61 (dk_at dksJ4_toArray_0 9 rfl rfl)
theorem dJ4_toArray_10 : decode cJ4_toArray 10 = .ok (.aload_n 0, 1) := dk_42 (dk_at dksJ4_toArray_0 10 rfl rfl)
theorem dJ4_toArray_11 : decode cJ4_toArray 11 = .ok (.getfield 18, 3) := dk_180 0 18 (dk_at dksJ4_toArray_0 11 rfl rfl)
theorem dJ4_toArray_14 : decode cJ4_toArray 14 = .ok (.astore_n 3, 1) := dk_78 (dk_at dksJ4_toArray_0 14 rfl rfl)
theorem dJ4_toArray_15 : decode cJ4_toArray 15 = .ok (.aload_n 3, 1) := dk_45 (dk_at dksJ4_toArray_0 15 rfl rfl)
theorem dJ4_toArray_16 : decode cJ4_toArray 16 = .ok (.ifnull 21, 3) := dk_198 0 21 (dk_at dksJ4_toArray_0 16 rfl rfl)
theorem dJ4_toArray_19 : decode cJ4_toArray 19 = .ok (.aload_n 1, 1) := dk_43 (dk_at dksJ4_toArray_0 19 rfl rfl)
theorem dJ4_toArray_20 : decode cJ4_toArray 20 = .ok (.iload_n 2, 1) := dk_28 (dk_at dksJ4_toArray_0 20 rfl rfl)
theorem dJ4_toArray_21 : decode cJ4_toArray 21 = .ok (.iinc 2 1, 3) := dk_132 2 1 (dk_at dksJ4_toArray_0 21 rfl rfl)
theorem dJ4_toArray_24 : decode cJ4_toArray 24 = .ok (.aload_n 3, 1) := dk_45 (dk_at dksJ4_toArray_1 0 rfl rfl)
theorem dJ4_toArray_25 : decode cJ4_toArray 25 = .ok (.getfield 39, 3) := dk_180 0 39 (dk_at dksJ4_toArray_1 1 rfl rfl)
theorem dJ4_toArray_28 : decode cJ4_toArray 28 = .ok (.aastore, 1) := dk_83 (dk_at dksJ4_toArray_1 4 rfl rfl)
theorem dJ4_toArray_29 : decode cJ4_toArray 29 = .ok (.aload_n 3, 1) := dk_45 (dk_at dksJ4_toArray_1 5 rfl rfl)
theorem dJ4_toArray_30 : decode cJ4_toArray 30 = .ok (.getfield 36, 3) := dk_180 0 36 (dk_at dksJ4_toArray_1 6 rfl rfl)
theorem dJ4_toArray_33 : decode cJ4_toArray 33 = .ok (.astore_n 3, 1) := dk_78 (dk_at dksJ4_toArray_1 9 rfl rfl)
theorem dJ4_toArray_34 : decode cJ4_toArray 34 = .ok (.goto (-19), 3) := dk_167 255 237 (dk_at dksJ4_toArray_1 10 rfl rfl)
theorem dJ4_toArray_37 : decode cJ4_toArray 37 = .ok (.aload_n 1, 1) := dk_43 (dk_at dksJ4_toArray_1 13 rfl rfl)
theorem dJ4_toArray_38 : decode cJ4_toArray 38 = .ok (.areturn, 1) := dk_176 (dk_at dksJ4_toArray_1 14 rfl rfl)
abbrev cJ4_node : ByteArray := prog_65_method_31_code
def yJ4_node : MethodName := ⟨RJ4, "node", "(I)Ljava/util/LinkedList$Node;"⟩
def dkwJ4_node_2 : List UInt8 := [29, 27, 164, 0, 14, 44, 180, 0, 30, 77, 132, 3, 255, 167, 255, 243, 44, 176]
abbrev dktJ4_node_2 : List UInt8 := dkwJ4_node_2 ++ []
def dkwJ4_node_1 : List UInt8 := [180, 0, 36, 77, 132, 3, 1, 167, 255, 243, 44, 176, 42, 180, 0, 27, 77, 42, 180, 0, 7, 4, 100, 62]
abbrev dktJ4_node_1 : List UInt8 := dkwJ4_node_1 ++ dktJ4_node_2
def dkwJ4_node_0 : List UInt8 := [27, 42, 180, 0, 7, 4, 122, 162, 0, 28, 42, 180, 0, 18, 77, 3, 62, 29, 27, 162, 0, 14, 44]
abbrev dktJ4_node_0 : List UInt8 := dkwJ4_node_0 ++ dktJ4_node_1
theorem dksJ4_node_0 : cJ4_node.data.toList.drop 0 = dktJ4_node_0 := by decide +kernel
theorem dksJ4_node_1 : cJ4_node.data.toList.drop 23 = dktJ4_node_1 := dk_seg dksJ4_node_0 23 rfl rfl
theorem dksJ4_node_2 : cJ4_node.data.toList.drop 47 = dktJ4_node_2 := dk_seg dksJ4_node_1 24 rfl rfl
theorem dJ4_node_0 : decode cJ4_node 0 = .ok (.iload_n 1, 1) := dk_27 (dk_at dksJ4_node_0 0 rfl rfl)
theorem dJ4_node_1 : decode cJ4_node 1 = .ok (.aload_n 0, 1) := dk_42 (dk_at dksJ4_node_0 1 rfl rfl)
theorem dJ4_node_2 : decode cJ4_node 2 = .ok (.getfield 7, 3) := dk_180 0 7 (dk_at dksJ4_node_0 2 rfl rfl)
theorem dJ4_node_5 : decode cJ4_node 5 = .ok (.iconst 1, 1) := dk_4 (dk_at dksJ4_node_0 5 rfl rfl)
theorem dJ4_node_6 : decode cJ4_node 6 = .ok (.ishr, 1) := dk_122 (dk_at dksJ4_node_0 6 rfl rfl)
theorem dJ4_node_7 : decode cJ4_node 7 = .ok (.if_icmp .ge 28, 3) := dk_162 0 28 (dk_at dksJ4_node_0 7 rfl rfl)
theorem dJ4_node_10 : decode cJ4_node 10 = .ok (.aload_n 0, 1) := dk_42 (dk_at dksJ4_node_0 10 rfl rfl)
theorem dJ4_node_11 : decode cJ4_node 11 = .ok (.getfield 18, 3) := dk_180 0 18 (dk_at dksJ4_node_0 11 rfl rfl)
theorem dJ4_node_14 : decode cJ4_node 14 = .ok (.astore_n 2, 1) := dk_77 (dk_at dksJ4_node_0 14 rfl rfl)
theorem dJ4_node_15 : decode cJ4_node 15 = .ok (.iconst 0, 1) := dk_3 (dk_at dksJ4_node_0 15 rfl rfl)
theorem dJ4_node_16 : decode cJ4_node 16 = .ok (.istore_n 3, 1) := dk_62 (dk_at dksJ4_node_0 16 rfl rfl)
theorem dJ4_node_17 : decode cJ4_node 17 = .ok (.iload_n 3, 1) := dk_29 (dk_at dksJ4_node_0 17 rfl rfl)
theorem dJ4_node_18 : decode cJ4_node 18 = .ok (.iload_n 1, 1) := dk_27 (dk_at dksJ4_node_0 18 rfl rfl)
theorem dJ4_node_19 : decode cJ4_node 19 = .ok (.if_icmp .ge 14, 3) := dk_162 0 14 (dk_at dksJ4_node_0 19 rfl rfl)
theorem dJ4_node_22 : decode cJ4_node 22 = .ok (.aload_n 2, 1) := dk_44 (dk_at dksJ4_node_0 22 rfl rfl)
theorem dJ4_node_23 : decode cJ4_node 23 = .ok (.getfield 36, 3) := dk_180 0 36 (dk_at dksJ4_node_1 0 rfl rfl)
theorem dJ4_node_26 : decode cJ4_node 26 = .ok (.astore_n 2, 1) := dk_77 (dk_at dksJ4_node_1 3 rfl rfl)
theorem dJ4_node_27 : decode cJ4_node 27 = .ok (.iinc 3 1, 3) := dk_132 3 1 (dk_at dksJ4_node_1 4 rfl rfl)
theorem dJ4_node_30 : decode cJ4_node 30 = .ok (.goto (-13), 3) := dk_167 255 243 (dk_at dksJ4_node_1 7 rfl rfl)
theorem dJ4_node_33 : decode cJ4_node 33 = .ok (.aload_n 2, 1) := dk_44 (dk_at dksJ4_node_1 10 rfl rfl)
theorem dJ4_node_34 : decode cJ4_node 34 = .ok (.areturn, 1) := dk_176 (dk_at dksJ4_node_1 11 rfl rfl)
theorem dJ4_node_35 : decode cJ4_node 35 = .ok (.aload_n 0, 1) := dk_42 (dk_at dksJ4_node_1 12 rfl rfl)
theorem dJ4_node_36 : decode cJ4_node 36 = .ok (.getfield 27, 3) := dk_180 0 27 (dk_at dksJ4_node_1 13 rfl rfl)
theorem dJ4_node_39 : decode cJ4_node 39 = .ok (.astore_n 2, 1) := dk_77 (dk_at dksJ4_node_1 16 rfl rfl)
theorem dJ4_node_40 : decode cJ4_node 40 = .ok (.aload_n 0, 1) := dk_42 (dk_at dksJ4_node_1 17 rfl rfl)
theorem dJ4_node_41 : decode cJ4_node 41 = .ok (.getfield 7, 3) := dk_180 0 7 (dk_at dksJ4_node_1 18 rfl rfl)
theorem dJ4_node_44 : decode cJ4_node 44 = .ok (.iconst 1, 1) := dk_4 (dk_at dksJ4_node_1 21 rfl rfl)
theorem dJ4_node_45 : decode cJ4_node 45 = .ok (.isub, 1) := dk_100 (dk_at dksJ4_node_1 22 rfl rfl)
theorem dJ4_node_46 : decode cJ4_node 46 = .ok (.istore_n 3, 1) := dk_62 (dk_at dksJ4_node_1 23 rfl rfl)
theorem dJ4_node_47 : decode cJ4_node 47 = .ok (.iload_n 3, 1) := dk_29 (dk_at dksJ4_node_2 0 rfl rfl)
theorem dJ4_node_48 : decode cJ4_node 48 = .ok (.iload_n 1, 1) := dk_27 (dk_at dksJ4_node_2 1 rfl rfl)
theorem dJ4_node_49 : decode cJ4_node 49 = .ok (.if_icmp .le 14, 3) := dk_164 0 14 (dk_at dksJ4_node_2 2 rfl rfl)
theorem dJ4_node_52 : decode cJ4_node 52 = .ok (.aload_n 2, 1) := dk_44 (dk_at dksJ4_node_2 5 rfl rfl)
theorem dJ4_node_53 : decode cJ4_node 53 = .ok (.getfield 30, 3) := dk_180 0 30 (dk_at dksJ4_node_2 6 rfl rfl)
theorem dJ4_node_56 : decode cJ4_node 56 = .ok (.astore_n 2, 1) := dk_77 (dk_at dksJ4_node_2 9 rfl rfl)
theorem dJ4_node_57 : decode cJ4_node 57 = .ok (.iinc 3 (-1), 3) := dk_132 3 255 (dk_at dksJ4_node_2 10 rfl rfl)
theorem dJ4_node_60 : decode cJ4_node 60 = .ok (.goto (-13), 3) := dk_167 255 243 (dk_at dksJ4_node_2 13 rfl rfl)
theorem dJ4_node_63 : decode cJ4_node 63 = .ok (.aload_n 2, 1) := dk_44 (dk_at dksJ4_node_2 16 rfl rfl)
theorem dJ4_node_64 : decode cJ4_node 64 = .ok (.areturn, 1) := dk_176 (dk_at dksJ4_node_2 17 rfl rfl)
abbrev cJ4_listIterator : ByteArray := prog_65_method_49_code
def yJ4_listIterator : MethodName := ⟨RJ4, "listIterator", "(I)Ljava/util/ListIterator;"⟩
def dkwJ4_listIterator_0 : List UInt8 := [42, 27, 182, 0, 76, 187, 0, 150, 89, 42, 27, 183, 0, 152, 176]
abbrev dktJ4_listIterator_0 : List UInt8 := dkwJ4_listIterator_0 ++ []
theorem dksJ4_listIterator_0 : cJ4_listIterator.data.toList.drop 0 = dktJ4_listIterator_0 := by decide +kernel
theorem dJ4_listIterator_0 : decode cJ4_listIterator 0 = .ok (.aload_n 0, 1) := dk_42 (dk_at dksJ4_listIterator_0 0 rfl rfl)
theorem dJ4_listIterator_1 : decode cJ4_listIterator 1 = .ok (.iload_n 1, 1) := dk_27 (dk_at dksJ4_listIterator_0 1 rfl rfl)
theorem dJ4_listIterator_2 : decode cJ4_listIterator 2 = .ok (.invokevirtual 76, 3) := dk_182 0 76 (dk_at dksJ4_listIterator_0 2 rfl rfl)
theorem dJ4_listIterator_5 : decode cJ4_listIterator 5 = .ok (.new 150, 3) := dk_187 0 150 (dk_at dksJ4_listIterator_0 5 rfl rfl)
theorem dJ4_listIterator_8 : decode cJ4_listIterator 8 = .ok (.dup, 1) := dk_89 (dk_at dksJ4_listIterator_0 8 rfl rfl)
theorem dJ4_listIterator_9 : decode cJ4_listIterator 9 = .ok (.aload_n 0, 1) := dk_42 (dk_at dksJ4_listIterator_0 9 rfl rfl)
theorem dJ4_listIterator_10 : decode cJ4_listIterator 10 = .ok (.iload_n 1, 1) := dk_27 (dk_at dksJ4_listIterator_0 10 rfl rfl)
theorem dJ4_listIterator_11 : decode cJ4_listIterator 11 = .ok (.invokespecial 152, 3) := dk_183 0 152 (dk_at dksJ4_listIterator_0 11 rfl rfl)
theorem dJ4_listIterator_14 : decode cJ4_listIterator 14 = .ok (.areturn, 1) := dk_176 (dk_at dksJ4_listIterator_0 14 rfl rfl)
abbrev cJ4_size : ByteArray := prog_65_method_16_code
def yJ4_size : MethodName := ⟨RJ4, "size", "()I"⟩
theorem dJ4_size_0 : decode cJ4_size 0 = .ok (.aload_n 0, 1) := by decide +kernel
theorem dJ4_size_1 : decode cJ4_size 1 = .ok (.getfield 7, 3) := by decide +kernel
theorem dJ4_size_4 : decode cJ4_size 4 = .ok (.ireturn, 1) := by decide +kernel
abbrev cJ4_get : ByteArray := prog_65_method_22_code
def yJ4_get : MethodName := ⟨RJ4, "get", "(I)Ljava/lang/Object;"⟩
def dkwJ4_get_0 : List UInt8 := [42, 27, 182, 0, 90, 42, 27, 182, 0, 86, 180, 0, 39, 176]
abbrev dktJ4_get_0 : List UInt8 := dkwJ4_get_0 ++ []
theorem dksJ4_get_0 : cJ4_get.data.toList.drop 0 = dktJ4_get_0 := by decide +kernel
theorem dJ4_get_0 : decode cJ4_get 0 = .ok (.aload_n 0, 1) := dk_42 (dk_at dksJ4_get_0 0 rfl rfl)
theorem dJ4_get_1 : decode cJ4_get 1 = .ok (.iload_n 1, 1) := dk_27 (dk_at dksJ4_get_0 1 rfl rfl)
theorem dJ4_get_2 : decode cJ4_get 2 = .ok (.invokevirtual 90, 3) := dk_182 0 90 (dk_at dksJ4_get_0 2 rfl rfl)
theorem dJ4_get_5 : decode cJ4_get 5 = .ok (.aload_n 0, 1) := dk_42 (dk_at dksJ4_get_0 5 rfl rfl)
theorem dJ4_get_6 : decode cJ4_get 6 = .ok (.iload_n 1, 1) := dk_27 (dk_at dksJ4_get_0 6 rfl rfl)
theorem dJ4_get_7 : decode cJ4_get 7 = .ok (.invokevirtual 86, 3) := dk_182 0 86 (dk_at dksJ4_get_0 7 rfl rfl)
theorem dJ4_get_10 : decode cJ4_get 10 = .ok (.getfield 39, 3) := dk_180 0 39 (dk_at dksJ4_get_0 10 rfl rfl)
theorem dJ4_get_13 : decode cJ4_get 13 = .ok (.areturn, 1) := dk_176 (dk_at dksJ4_get_0 13 rfl rfl)
abbrev cJ4_checkElementIndex : ByteArray := prog_65_method_29_code
def yJ4_checkElementIndex : MethodName := ⟨RJ4, "checkElementIndex", "(I)V"⟩
def dkwJ4_checkElementIndex_0 : List UInt8 := [42, 27, 182, 0, 115, 154, 0, 16, 187, 0, 119, 89, 42, 27, 182, 0, 121, 183, 0, 125, 191, 177]
abbrev dktJ4_checkElementIndex_0 : List UInt8 := dkwJ4_checkElementIndex_0 ++ []
theorem dksJ4_checkElementIndex_0 : cJ4_checkElementIndex.data.toList.drop 0 = dktJ4_checkElementIndex_0 := by decide +kernel
theorem dJ4_checkElementIndex_0 : decode cJ4_checkElementIndex 0 = .ok (.aload_n 0, 1) := dk_42 (dk_at dksJ4_checkElementIndex_0 0 rfl rfl)
theorem dJ4_checkElementIndex_1 : decode cJ4_checkElementIndex 1 = .ok (.iload_n 1, 1) := dk_27 (dk_at dksJ4_checkElementIndex_0 1 rfl rfl)
theorem dJ4_checkElementIndex_2 : decode cJ4_checkElementIndex 2 = .ok (.invokevirtual 115, 3) := dk_182 0 115 (dk_at dksJ4_checkElementIndex_0 2 rfl rfl)
theorem dJ4_checkElementIndex_5 : decode cJ4_checkElementIndex 5 = .ok (.ifCond .ne 16, 3) := dk_154 0 16 (dk_at dksJ4_checkElementIndex_0 5 rfl rfl)
theorem dJ4_checkElementIndex_8 : decode cJ4_checkElementIndex 8 = .ok (.new 119, 3) := dk_187 0 119 (dk_at dksJ4_checkElementIndex_0 8 rfl rfl)
theorem dJ4_checkElementIndex_11 : decode cJ4_checkElementIndex 11 = .ok (.dup, 1) := dk_89 (dk_at dksJ4_checkElementIndex_0 11 rfl rfl)
theorem dJ4_checkElementIndex_12 : decode cJ4_checkElementIndex 12 = .ok (.aload_n 0, 1) := dk_42 (dk_at dksJ4_checkElementIndex_0 12 rfl rfl)
theorem dJ4_checkElementIndex_13 : decode cJ4_checkElementIndex 13 = .ok (.iload_n 1, 1) := dk_27 (dk_at dksJ4_checkElementIndex_0 13 rfl rfl)
theorem dJ4_checkElementIndex_14 : decode cJ4_checkElementIndex 14 = .ok (.invokevirtual 121, 3) := dk_182 0 121 (dk_at dksJ4_checkElementIndex_0 14 rfl rfl)
theorem dJ4_checkElementIndex_17 : decode cJ4_checkElementIndex 17 = .ok (.invokespecial 125, 3) := dk_183 0 125 (dk_at dksJ4_checkElementIndex_0 17 rfl rfl)
theorem dJ4_checkElementIndex_20 : decode cJ4_checkElementIndex 20 = .ok (.athrow, 1) := dk_191 (dk_at dksJ4_checkElementIndex_0 20 rfl rfl)
theorem dJ4_checkElementIndex_21 : decode cJ4_checkElementIndex 21 = .ok (.return_, 1) := dk_177 (dk_at dksJ4_checkElementIndex_0 21 rfl rfl)
abbrev cJ4_isElementIndex : ByteArray := prog_65_method_26_code
def yJ4_isElementIndex : MethodName := ⟨RJ4, "isElementIndex", "(I)Z"⟩
def dkwJ4_isElementIndex_0 : List UInt8 := [27, 155, 0, 15, 27, 42, 180, 0, 7, 162, 0, 7, 4, 167, 0, 4, 3, 172]
abbrev dktJ4_isElementIndex_0 : List UInt8 := dkwJ4_isElementIndex_0 ++ []
theorem dksJ4_isElementIndex_0 : cJ4_isElementIndex.data.toList.drop 0 = dktJ4_isElementIndex_0 := by decide +kernel
theorem dJ4_isElementIndex_0 : decode cJ4_isElementIndex 0 = .ok (.iload_n 1, 1) := dk_27 (dk_at dksJ4_isElementIndex_0 0 rfl rfl)
theorem dJ4_isElementIndex_1 : decode cJ4_isElementIndex 1 = .ok (.ifCond .lt 15, 3) := dk_155 0 15 (dk_at dksJ4_isElementIndex_0 1 rfl rfl)
theorem dJ4_isElementIndex_4 : decode cJ4_isElementIndex 4 = .ok (.iload_n 1, 1) := dk_27 (dk_at dksJ4_isElementIndex_0 4 rfl rfl)
theorem dJ4_isElementIndex_5 : decode cJ4_isElementIndex 5 = .ok (.aload_n 0, 1) := dk_42 (dk_at dksJ4_isElementIndex_0 5 rfl rfl)
theorem dJ4_isElementIndex_6 : decode cJ4_isElementIndex 6 = .ok (.getfield 7, 3) := dk_180 0 7 (dk_at dksJ4_isElementIndex_0 6 rfl rfl)
theorem dJ4_isElementIndex_9 : decode cJ4_isElementIndex 9 = .ok (.if_icmp .ge 7, 3) := dk_162 0 7 (dk_at dksJ4_isElementIndex_0 9 rfl rfl)
theorem dJ4_isElementIndex_12 : decode cJ4_isElementIndex 12 = .ok (.iconst 1, 1) := dk_4 (dk_at dksJ4_isElementIndex_0 12 rfl rfl)
theorem dJ4_isElementIndex_13 : decode cJ4_isElementIndex 13 = .ok (.goto 4, 3) := dk_167 0 4 (dk_at dksJ4_isElementIndex_0 13 rfl rfl)
theorem dJ4_isElementIndex_16 : decode cJ4_isElementIndex 16 = .ok (.iconst 0, 1) := dk_3 (dk_at dksJ4_isElementIndex_0 16 rfl rfl)
theorem dJ4_isElementIndex_17 : decode cJ4_isElementIndex 17 = .ok (.ireturn, 1) := dk_172 (dk_at dksJ4_isElementIndex_0 17 rfl rfl)
abbrev cJ4_addFirst : ByteArray := prog_65_method_13_code
def yJ4_addFirst : MethodName := ⟨RJ4, "addFirst", "(Ljava/lang/Object;)V"⟩
def dkwJ4_addFirst_0 : List UInt8 := [42, 43, 182, 0, 53, 177]
abbrev dktJ4_addFirst_0 : List UInt8 := dkwJ4_addFirst_0 ++ []
theorem dksJ4_addFirst_0 : cJ4_addFirst.data.toList.drop 0 = dktJ4_addFirst_0 := by decide +kernel
theorem dJ4_addFirst_0 : decode cJ4_addFirst 0 = .ok (.aload_n 0, 1) := dk_42 (dk_at dksJ4_addFirst_0 0 rfl rfl)
theorem dJ4_addFirst_1 : decode cJ4_addFirst 1 = .ok (.aload_n 1, 1) := dk_43 (dk_at dksJ4_addFirst_0 1 rfl rfl)
theorem dJ4_addFirst_2 : decode cJ4_addFirst 2 = .ok (.invokevirtual 53, 3) := dk_182 0 53 (dk_at dksJ4_addFirst_0 2 rfl rfl)
theorem dJ4_addFirst_5 : decode cJ4_addFirst 5 = .ok (.return_, 1) := dk_177 (dk_at dksJ4_addFirst_0 5 rfl rfl)
abbrev cJ4_linkFirst : ByteArray := prog_65_method_3_code
def yJ4_linkFirst : MethodName := ⟨RJ4, "linkFirst", "(Ljava/lang/Object;)V"⟩
def dkwJ4_linkFirst_2 : List UInt8 := [181, 0, 7, 42, 89, 180, 0, 33, 4, 96, 181, 0, 33, 177]
abbrev dktJ4_linkFirst_2 : List UInt8 := dkwJ4_linkFirst_2 ++ []
def dkwJ4_linkFirst_1 : List UInt8 := [199, 0, 11, 42, 45, 181, 0, 27, 167, 0, 8, 44, 45, 181, 0, 30, 42, 89, 180, 0, 7, 4, 96]
abbrev dktJ4_linkFirst_1 : List UInt8 := dkwJ4_linkFirst_1 ++ dktJ4_linkFirst_2
def dkwJ4_linkFirst_0 : List UInt8 := [42, 180, 0, 18, 77, 187, 0, 22, 89, 1, 43, 44, 183, 0, 24, 78, 42, 45, 181, 0, 18, 44]
abbrev dktJ4_linkFirst_0 : List UInt8 := dkwJ4_linkFirst_0 ++ dktJ4_linkFirst_1
theorem dksJ4_linkFirst_0 : cJ4_linkFirst.data.toList.drop 0 = dktJ4_linkFirst_0 := by decide +kernel
theorem dksJ4_linkFirst_1 : cJ4_linkFirst.data.toList.drop 22 = dktJ4_linkFirst_1 := dk_seg dksJ4_linkFirst_0 22 rfl rfl
theorem dksJ4_linkFirst_2 : cJ4_linkFirst.data.toList.drop 45 = dktJ4_linkFirst_2 := dk_seg dksJ4_linkFirst_1 23 rfl rfl
theorem dJ4_linkFirst_0 : decode cJ4_linkFirst 0 = .ok (.aload_n 0, 1) := dk_42 (dk_at dksJ4_linkFirst_0 0 rfl rfl)
theorem dJ4_linkFirst_1 : decode cJ4_linkFirst 1 = .ok (.getfield 18, 3) := dk_180 0 18 (dk_at dksJ4_linkFirst_0 1 rfl rfl)
theorem dJ4_linkFirst_4 : decode cJ4_linkFirst 4 = .ok (.astore_n 2, 1) := dk_77 (dk_at dksJ4_linkFirst_0 4 rfl rfl)
theorem dJ4_linkFirst_5 : decode cJ4_linkFirst 5 = .ok (.new 22, 3) := dk_187 0 22 (dk_at dksJ4_linkFirst_0 5 rfl rfl)
theorem dJ4_linkFirst_8 : decode cJ4_linkFirst 8 = .ok (.dup, 1) := dk_89 (dk_at dksJ4_linkFirst_0 8 rfl rfl)
theorem dJ4_linkFirst_9 : decode cJ4_linkFirst 9 = .ok (.aconst_null, 1) := dk_1 (dk_at dksJ4_linkFirst_0 9 rfl rfl)
theorem dJ4_linkFirst_10 : decode cJ4_linkFirst 10 = .ok (.aload_n 1, 1) := dk_43 (dk_at dksJ4_linkFirst_0 10 rfl rfl)
theorem dJ4_linkFirst_11 : decode cJ4_linkFirst 11 = .ok (.aload_n 2, 1) := dk_44 (dk_at dksJ4_linkFirst_0 11 rfl rfl)
theorem dJ4_linkFirst_12 : decode cJ4_linkFirst 12 = .ok (.invokespecial 24, 3) := dk_183 0 24 (dk_at dksJ4_linkFirst_0 12 rfl rfl)
theorem dJ4_linkFirst_15 : decode cJ4_linkFirst 15 = .ok (.astore_n 3, 1) := dk_78 (dk_at dksJ4_linkFirst_0 15 rfl rfl)
theorem dJ4_linkFirst_16 : decode cJ4_linkFirst 16 = .ok (.aload_n 0, 1) := dk_42 (dk_at dksJ4_linkFirst_0 16 rfl rfl)
theorem dJ4_linkFirst_17 : decode cJ4_linkFirst 17 = .ok (.aload_n 3, 1) := dk_45 (dk_at dksJ4_linkFirst_0 17 rfl rfl)
theorem dJ4_linkFirst_18 : decode cJ4_linkFirst 18 = .ok (.putfield 18, 3) := dk_181 0 18 (dk_at dksJ4_linkFirst_0 18 rfl rfl)
theorem dJ4_linkFirst_21 : decode cJ4_linkFirst 21 = .ok (.aload_n 2, 1) := dk_44 (dk_at dksJ4_linkFirst_0 21 rfl rfl)
theorem dJ4_linkFirst_22 : decode cJ4_linkFirst 22 = .ok (.ifnonnull 11, 3) := dk_199 0 11 (dk_at dksJ4_linkFirst_1 0 rfl rfl)
theorem dJ4_linkFirst_25 : decode cJ4_linkFirst 25 = .ok (.aload_n 0, 1) := dk_42 (dk_at dksJ4_linkFirst_1 3 rfl rfl)
theorem dJ4_linkFirst_26 : decode cJ4_linkFirst 26 = .ok (.aload_n 3, 1) := dk_45 (dk_at dksJ4_linkFirst_1 4 rfl rfl)
theorem dJ4_linkFirst_27 : decode cJ4_linkFirst 27 = .ok (.putfield 27, 3) := dk_181 0 27 (dk_at dksJ4_linkFirst_1 5 rfl rfl)
theorem dJ4_linkFirst_30 : decode cJ4_linkFirst 30 = .ok (.goto 8, 3) := dk_167 0 8 (dk_at dksJ4_linkFirst_1 8 rfl rfl)
theorem dJ4_linkFirst_33 : decode cJ4_linkFirst 33 = .ok (.aload_n 2, 1) := dk_44 (dk_at dksJ4_linkFirst_1 11 rfl rfl)
theorem dJ4_linkFirst_34 : decode cJ4_linkFirst 34 = .ok (.aload_n 3, 1) := dk_45 (dk_at dksJ4_linkFirst_1 12 rfl rfl)
theorem dJ4_linkFirst_35 : decode cJ4_linkFirst 35 = .ok (.putfield 30, 3) := dk_181 0 30 (dk_at dksJ4_linkFirst_1 13 rfl rfl)
theorem dJ4_linkFirst_38 : decode cJ4_linkFirst 38 = .ok (.aload_n 0, 1) := dk_42 (dk_at dksJ4_linkFirst_1 16 rfl rfl)
theorem dJ4_linkFirst_39 : decode cJ4_linkFirst 39 = .ok (.dup, 1) := dk_89 (dk_at dksJ4_linkFirst_1 17 rfl rfl)
theorem dJ4_linkFirst_40 : decode cJ4_linkFirst 40 = .ok (.getfield 7, 3) := dk_180 0 7 (dk_at dksJ4_linkFirst_1 18 rfl rfl)
theorem dJ4_linkFirst_43 : decode cJ4_linkFirst 43 = .ok (.iconst 1, 1) := dk_4 (dk_at dksJ4_linkFirst_1 21 rfl rfl)
theorem dJ4_linkFirst_44 : decode cJ4_linkFirst 44 = .ok (.iadd, 1) := dk_96 (dk_at dksJ4_linkFirst_1 22 rfl rfl)
theorem dJ4_linkFirst_45 : decode cJ4_linkFirst 45 = .ok (.putfield 7, 3) := dk_181 0 7 (dk_at dksJ4_linkFirst_2 0 rfl rfl)
theorem dJ4_linkFirst_48 : decode cJ4_linkFirst 48 = .ok (.aload_n 0, 1) := dk_42 (dk_at dksJ4_linkFirst_2 3 rfl rfl)
theorem dJ4_linkFirst_49 : decode cJ4_linkFirst 49 = .ok (.dup, 1) := dk_89 (dk_at dksJ4_linkFirst_2 4 rfl rfl)
theorem dJ4_linkFirst_50 : decode cJ4_linkFirst 50 = .ok (.getfield 33, 3) := dk_180 0 33 (dk_at dksJ4_linkFirst_2 5 rfl rfl)
theorem dJ4_linkFirst_53 : decode cJ4_linkFirst 53 = .ok (.iconst 1, 1) := dk_4 (dk_at dksJ4_linkFirst_2 8 rfl rfl)
theorem dJ4_linkFirst_54 : decode cJ4_linkFirst 54 = .ok (.iadd, 1) := dk_96 (dk_at dksJ4_linkFirst_2 9 rfl rfl)
theorem dJ4_linkFirst_55 : decode cJ4_linkFirst 55 = .ok (.putfield 33, 3) := dk_181 0 33 (dk_at dksJ4_linkFirst_2 10 rfl rfl)
theorem dJ4_linkFirst_58 : decode cJ4_linkFirst 58 = .ok (.return_, 1) := dk_177 (dk_at dksJ4_linkFirst_2 13 rfl rfl)
abbrev cJ4_removeLast : ByteArray := prog_65_method_12_code
def yJ4_removeLast : MethodName := ⟨RJ4, "removeLast", "()Ljava/lang/Object;"⟩
def dkwJ4_removeLast_0 : List UInt8 := [42, 180, 0, 27, 76, 43, 199, 0, 11, 187, 0, 43, 89, 183, 0, 45, 191, 42, 43, 182, 0, 50, 176]
abbrev dktJ4_removeLast_0 : List UInt8 := dkwJ4_removeLast_0 ++ []
theorem dksJ4_removeLast_0 : cJ4_removeLast.data.toList.drop 0 = dktJ4_removeLast_0 := by decide +kernel
theorem dJ4_removeLast_0 : decode cJ4_removeLast 0 = .ok (.aload_n 0, 1) := dk_42 (dk_at dksJ4_removeLast_0 0 rfl rfl)
theorem dJ4_removeLast_1 : decode cJ4_removeLast 1 = .ok (.getfield 27, 3) := dk_180 0 27 (dk_at dksJ4_removeLast_0 1 rfl rfl)
theorem dJ4_removeLast_4 : decode cJ4_removeLast 4 = .ok (.astore_n 1, 1) := dk_76 (dk_at dksJ4_removeLast_0 4 rfl rfl)
theorem dJ4_removeLast_5 : decode cJ4_removeLast 5 = .ok (.aload_n 1, 1) := dk_43 (dk_at dksJ4_removeLast_0 5 rfl rfl)
theorem dJ4_removeLast_6 : decode cJ4_removeLast 6 = .ok (.ifnonnull 11, 3) := dk_199 0 11 (dk_at dksJ4_removeLast_0 6 rfl rfl)
theorem dJ4_removeLast_9 : decode cJ4_removeLast 9 = .ok (.new 43, 3) := dk_187 0 43 (dk_at dksJ4_removeLast_0 9 rfl rfl)
theorem dJ4_removeLast_12 : decode cJ4_removeLast 12 = .ok (.dup, 1) := dk_89 (dk_at dksJ4_removeLast_0 12 rfl rfl)
theorem dJ4_removeLast_13 : decode cJ4_removeLast 13 = .ok (.invokespecial 45, 3) := dk_183 0 45 (dk_at dksJ4_removeLast_0 13 rfl rfl)
theorem dJ4_removeLast_16 : decode cJ4_removeLast 16 = .ok (.athrow, 1) := dk_191 (dk_at dksJ4_removeLast_0 16 rfl rfl)
theorem dJ4_removeLast_17 : decode cJ4_removeLast 17 = .ok (.aload_n 0, 1) := dk_42 (dk_at dksJ4_removeLast_0 17 rfl rfl)
theorem dJ4_removeLast_18 : decode cJ4_removeLast 18 = .ok (.aload_n 1, 1) := dk_43 (dk_at dksJ4_removeLast_0 18 rfl rfl)
theorem dJ4_removeLast_19 : decode cJ4_removeLast 19 = .ok (.invokevirtual 50, 3) := dk_182 0 50 (dk_at dksJ4_removeLast_0 19 rfl rfl)
theorem dJ4_removeLast_22 : decode cJ4_removeLast 22 = .ok (.areturn, 1) := dk_176 (dk_at dksJ4_removeLast_0 22 rfl rfl)
abbrev cJ4_unlinkLast : ByteArray := prog_65_method_7_code
def yJ4_unlinkLast : MethodName := ⟨RJ4, "unlinkLast", "(Ljava/util/LinkedList$Node;)Ljava/lang/Object;"⟩
def dkwJ4_unlinkLast_2 : List UInt8 := [180, 0, 7, 4, 100, 181, 0, 7, 42, 89, 180, 0, 33, 4, 96, 181, 0, 33, 44, 176]
abbrev dktJ4_unlinkLast_2 : List UInt8 := dkwJ4_unlinkLast_2 ++ []
def dkwJ4_unlinkLast_1 : List UInt8 := [181, 0, 27, 45, 199, 0, 11, 42, 1, 181, 0, 18, 167, 0, 8, 45, 1, 181, 0, 36, 42, 89]
abbrev dktJ4_unlinkLast_1 : List UInt8 := dkwJ4_unlinkLast_1 ++ dktJ4_unlinkLast_2
def dkwJ4_unlinkLast_0 : List UInt8 := [43, 180, 0, 39, 77, 43, 180, 0, 30, 78, 43, 1, 181, 0, 39, 43, 1, 181, 0, 30, 42, 45]
abbrev dktJ4_unlinkLast_0 : List UInt8 := dkwJ4_unlinkLast_0 ++ dktJ4_unlinkLast_1
theorem dksJ4_unlinkLast_0 : cJ4_unlinkLast.data.toList.drop 0 = dktJ4_unlinkLast_0 := by decide +kernel
theorem dksJ4_unlinkLast_1 : cJ4_unlinkLast.data.toList.drop 22 = dktJ4_unlinkLast_1 := dk_seg dksJ4_unlinkLast_0 22 rfl rfl
theorem dksJ4_unlinkLast_2 : cJ4_unlinkLast.data.toList.drop 44 = dktJ4_unlinkLast_2 := dk_seg dksJ4_unlinkLast_1 22 rfl rfl
theorem dJ4_unlinkLast_0 : decode cJ4_unlinkLast 0 = .ok (.aload_n 1, 1) := dk_43 (dk_at dksJ4_unlinkLast_0 0 rfl rfl)
theorem dJ4_unlinkLast_1 : decode cJ4_unlinkLast 1 = .ok (.getfield 39, 3) := dk_180 0 39 (dk_at dksJ4_unlinkLast_0 1 rfl rfl)
theorem dJ4_unlinkLast_4 : decode cJ4_unlinkLast 4 = .ok (.astore_n 2, 1) := dk_77 (dk_at dksJ4_unlinkLast_0 4 rfl rfl)
theorem dJ4_unlinkLast_5 : decode cJ4_unlinkLast 5 = .ok (.aload_n 1, 1) := dk_43 (dk_at dksJ4_unlinkLast_0 5 rfl rfl)
theorem dJ4_unlinkLast_6 : decode cJ4_unlinkLast 6 = .ok (.getfield 30, 3) := dk_180 0 30 (dk_at dksJ4_unlinkLast_0 6 rfl rfl)
theorem dJ4_unlinkLast_9 : decode cJ4_unlinkLast 9 = .ok (.astore_n 3, 1) := dk_78 (dk_at dksJ4_unlinkLast_0 9 rfl rfl)
theorem dJ4_unlinkLast_10 : decode cJ4_unlinkLast 10 = .ok (.aload_n 1, 1) := dk_43 (dk_at dksJ4_unlinkLast_0 10 rfl rfl)
theorem dJ4_unlinkLast_11 : decode cJ4_unlinkLast 11 = .ok (.aconst_null, 1) := dk_1 (dk_at dksJ4_unlinkLast_0 11 rfl rfl)
theorem dJ4_unlinkLast_12 : decode cJ4_unlinkLast 12 = .ok (.putfield 39, 3) := dk_181 0 39 (dk_at dksJ4_unlinkLast_0 12 rfl rfl)
theorem dJ4_unlinkLast_15 : decode cJ4_unlinkLast 15 = .ok (.aload_n 1, 1) := dk_43 (dk_at dksJ4_unlinkLast_0 15 rfl rfl)
theorem dJ4_unlinkLast_16 : decode cJ4_unlinkLast 16 = .ok (.aconst_null, 1) := dk_1 (dk_at dksJ4_unlinkLast_0 16 rfl rfl)
theorem dJ4_unlinkLast_17 : decode cJ4_unlinkLast 17 = .ok (.putfield 30, 3) := dk_181 0 30 (dk_at dksJ4_unlinkLast_0 17 rfl rfl)
theorem dJ4_unlinkLast_20 : decode cJ4_unlinkLast 20 = .ok (.aload_n 0, 1) := dk_42 (dk_at dksJ4_unlinkLast_0 20 rfl rfl)
theorem dJ4_unlinkLast_21 : decode cJ4_unlinkLast 21 = .ok (.aload_n 3, 1) := dk_45 (dk_at dksJ4_unlinkLast_0 21 rfl rfl)
theorem dJ4_unlinkLast_22 : decode cJ4_unlinkLast 22 = .ok (.putfield 27, 3) := dk_181 0 27 (dk_at dksJ4_unlinkLast_1 0 rfl rfl)
theorem dJ4_unlinkLast_25 : decode cJ4_unlinkLast 25 = .ok (.aload_n 3, 1) := dk_45 (dk_at dksJ4_unlinkLast_1 3 rfl rfl)
theorem dJ4_unlinkLast_26 : decode cJ4_unlinkLast 26 = .ok (.ifnonnull 11, 3) := dk_199 0 11 (dk_at dksJ4_unlinkLast_1 4 rfl rfl)
theorem dJ4_unlinkLast_29 : decode cJ4_unlinkLast 29 = .ok (.aload_n 0, 1) := dk_42 (dk_at dksJ4_unlinkLast_1 7 rfl rfl)
theorem dJ4_unlinkLast_30 : decode cJ4_unlinkLast 30 = .ok (.aconst_null, 1) := dk_1 (dk_at dksJ4_unlinkLast_1 8 rfl rfl)
theorem dJ4_unlinkLast_31 : decode cJ4_unlinkLast 31 = .ok (.putfield 18, 3) := dk_181 0 18 (dk_at dksJ4_unlinkLast_1 9 rfl rfl)
theorem dJ4_unlinkLast_34 : decode cJ4_unlinkLast 34 = .ok (.goto 8, 3) := dk_167 0 8 (dk_at dksJ4_unlinkLast_1 12 rfl rfl)
theorem dJ4_unlinkLast_37 : decode cJ4_unlinkLast 37 = .ok (.aload_n 3, 1) := dk_45 (dk_at dksJ4_unlinkLast_1 15 rfl rfl)
theorem dJ4_unlinkLast_38 : decode cJ4_unlinkLast 38 = .ok (.aconst_null, 1) := dk_1 (dk_at dksJ4_unlinkLast_1 16 rfl rfl)
theorem dJ4_unlinkLast_39 : decode cJ4_unlinkLast 39 = .ok (.putfield 36, 3) := dk_181 0 36 (dk_at dksJ4_unlinkLast_1 17 rfl rfl)
theorem dJ4_unlinkLast_42 : decode cJ4_unlinkLast 42 = .ok (.aload_n 0, 1) := dk_42 (dk_at dksJ4_unlinkLast_1 20 rfl rfl)
theorem dJ4_unlinkLast_43 : decode cJ4_unlinkLast 43 = .ok (.dup, 1) := dk_89 (dk_at dksJ4_unlinkLast_1 21 rfl rfl)
theorem dJ4_unlinkLast_44 : decode cJ4_unlinkLast 44 = .ok (.getfield 7, 3) := dk_180 0 7 (dk_at dksJ4_unlinkLast_2 0 rfl rfl)
theorem dJ4_unlinkLast_47 : decode cJ4_unlinkLast 47 = .ok (.iconst 1, 1) := dk_4 (dk_at dksJ4_unlinkLast_2 3 rfl rfl)
theorem dJ4_unlinkLast_48 : decode cJ4_unlinkLast 48 = .ok (.isub, 1) := dk_100 (dk_at dksJ4_unlinkLast_2 4 rfl rfl)
theorem dJ4_unlinkLast_49 : decode cJ4_unlinkLast 49 = .ok (.putfield 7, 3) := dk_181 0 7 (dk_at dksJ4_unlinkLast_2 5 rfl rfl)
theorem dJ4_unlinkLast_52 : decode cJ4_unlinkLast 52 = .ok (.aload_n 0, 1) := dk_42 (dk_at dksJ4_unlinkLast_2 8 rfl rfl)
theorem dJ4_unlinkLast_53 : decode cJ4_unlinkLast 53 = .ok (.dup, 1) := dk_89 (dk_at dksJ4_unlinkLast_2 9 rfl rfl)
theorem dJ4_unlinkLast_54 : decode cJ4_unlinkLast 54 = .ok (.getfield 33, 3) := dk_180 0 33 (dk_at dksJ4_unlinkLast_2 10 rfl rfl)
theorem dJ4_unlinkLast_57 : decode cJ4_unlinkLast 57 = .ok (.iconst 1, 1) := dk_4 (dk_at dksJ4_unlinkLast_2 13 rfl rfl)
theorem dJ4_unlinkLast_58 : decode cJ4_unlinkLast 58 = .ok (.iadd, 1) := dk_96 (dk_at dksJ4_unlinkLast_2 14 rfl rfl)
theorem dJ4_unlinkLast_59 : decode cJ4_unlinkLast 59 = .ok (.putfield 33, 3) := dk_181 0 33 (dk_at dksJ4_unlinkLast_2 15 rfl rfl)
theorem dJ4_unlinkLast_62 : decode cJ4_unlinkLast 62 = .ok (.aload_n 2, 1) := dk_44 (dk_at dksJ4_unlinkLast_2 18 rfl rfl)
theorem dJ4_unlinkLast_63 : decode cJ4_unlinkLast 63 = .ok (.areturn, 1) := dk_176 (dk_at dksJ4_unlinkLast_2 19 rfl rfl)
theorem q121 : (Jvm.Cond.initialized "java/util/LinkedList") ∈ lw_all := lw_g (lw_at lw_m1 7 rfl) rfl
theorem q210 : (Jvm.Cond.instantiable "java/util/LinkedList" (4 : Nat)) ∈ lw_all := lw_g (lw_at lw_m1 96 rfl) rfl
theorem q212 : (Jvm.Cond.instanceMethod ({ cls := "java/util/LinkedList", name := "<init>", desc := "()V" } : Jvm.MethodName)) ∈ lw_all := lw_g (lw_at lw_m1 98 rfl) rfl
theorem q213 : (Jvm.Cond.code ({ cls := "java/util/LinkedList", name := "<init>", desc := "()V" } : Jvm.MethodName) prog_65_method_1_code (1 : Nat) (Option.none : Option Jvm.ClassFile.FieldType)) ∈ lw_all := lw_g (lw_at lw_m1 99 rfl) rfl
theorem q214 : (Jvm.Cond.methodLink "java/util/LinkedList" (1 : Nat) ({ cls := "java/util/AbstractSequentialList", name := "<init>", desc := "()V" } : Jvm.MethodName)) ∈ lw_all := lw_g (lw_at lw_m1 100 rfl) rfl
theorem q224 : (Jvm.Cond.fieldLink "java/util/LinkedList" (7 : Nat) "java/util/LinkedList" "size" "I") ∈ lw_all := lw_g (lw_at lw_m1 110 rfl) rfl
theorem q226 : (Jvm.Cond.fieldLink "java/util/LinkedList" (18 : Nat) "java/util/LinkedList" "first" "Ljava/util/LinkedList$Node;") ∈ lw_all := lw_g (lw_at lw_m1 112 rfl) rfl
theorem q227 : (Jvm.Cond.fieldLink "java/util/LinkedList" (27 : Nat) "java/util/LinkedList" "last" "Ljava/util/LinkedList$Node;") ∈ lw_all := lw_g (lw_at lw_m1 113 rfl) rfl
theorem q230 : (Jvm.Cond.sameField "java/util/LinkedList" "java/util/AbstractList" "modCount" "I") ∈ lw_all := lw_g (lw_at lw_m1 116 rfl) rfl
theorem q232 : (Jvm.Cond.fieldLink "java/util/LinkedList" (33 : Nat) "java/util/LinkedList" "modCount" "I") ∈ lw_all := lw_g (lw_at lw_m1 118 rfl) rfl
theorem q233 : (Jvm.Cond.lays "java/util/LinkedList" "java/util/LinkedList" "size" "I") ∈ lw_all := lw_g (lw_at lw_m1 119 rfl) rfl
theorem q234 : (Jvm.Cond.soleField "java/util/LinkedList" "size") ∈ lw_all := lw_g (lw_at lw_m1 120 rfl) rfl
theorem q235 : (Jvm.Cond.lays "java/util/LinkedList" "java/util/LinkedList" "first" "Ljava/util/LinkedList$Node;") ∈ lw_all := lw_g (lw_at lw_m1 121 rfl) rfl
theorem q236 : (Jvm.Cond.soleField "java/util/LinkedList" "first") ∈ lw_all := lw_g (lw_at lw_m1 122 rfl) rfl
theorem q237 : (Jvm.Cond.lays "java/util/LinkedList" "java/util/LinkedList" "last" "Ljava/util/LinkedList$Node;") ∈ lw_all := lw_g (lw_at lw_m1 123 rfl) rfl
theorem q238 : (Jvm.Cond.soleField "java/util/LinkedList" "last") ∈ lw_all := lw_g (lw_at lw_m1 124 rfl) rfl
theorem q239 : (Jvm.Cond.lays "java/util/LinkedList" "java/util/AbstractList" "modCount" "I") ∈ lw_all := lw_g (lw_at lw_m1 125 rfl) rfl
theorem q241 : (Jvm.Cond.superclass "java/util/LinkedList" "java/util/AbstractSequentialList") ∈ lw_all := lw_g (lw_at lw_m1 127 rfl) rfl
theorem q299 : (Jvm.Cond.instanceMethod ({ cls := "java/util/LinkedList", name := "clear", desc := "()V" } : Jvm.MethodName)) ∈ lw_all := lw_g (lw_at lw_m1 185 rfl) rfl
theorem q300 : (Jvm.Cond.selects "java/util/LinkedList" ({ cls := "java/util/LinkedList", name := "clear", desc := "()V" } : Jvm.MethodName) ({ cls := "java/util/LinkedList", name := "clear", desc := "()V" } : Jvm.MethodName)) ∈ lw_all := lw_g (lw_at lw_m1 186 rfl) rfl
theorem q301 : (Jvm.Cond.code ({ cls := "java/util/LinkedList", name := "clear", desc := "()V" } : Jvm.MethodName) prog_65_method_21_code (3 : Nat) (Option.none : Option Jvm.ClassFile.FieldType)) ∈ lw_all := lw_g (lw_at lw_m1 187 rfl) rfl
theorem q455 : (Jvm.Cond.selects "java/util/LinkedList" ({ cls := "java/lang/Object", name := "getClass", desc := "()Ljava/lang/Class;" } : Jvm.MethodName) ({ cls := "java/lang/Object", name := "getClass", desc := "()Ljava/lang/Class;" } : Jvm.MethodName)) ∈ lw_all := lw_g (lw_at lw_m2 101 rfl) rfl
theorem q689 : (Jvm.Cond.instanceMethod ({ cls := "java/util/LinkedList", name := "addAll", desc := "(Ljava/util/Collection;)Z" } : Jvm.MethodName)) ∈ lw_all := lw_g (lw_at lw_m3 95 rfl) rfl
theorem q690 : (Jvm.Cond.selects "java/util/LinkedList" ({ cls := "java/util/LinkedList", name := "addAll", desc := "(Ljava/util/Collection;)Z" } : Jvm.MethodName) ({ cls := "java/util/LinkedList", name := "addAll", desc := "(Ljava/util/Collection;)Z" } : Jvm.MethodName)) ∈ lw_all := lw_g (lw_at lw_m3 96 rfl) rfl
theorem q691 : (Jvm.Cond.code ({ cls := "java/util/LinkedList", name := "addAll", desc := "(Ljava/util/Collection;)Z" } : Jvm.MethodName) prog_65_method_19_code (2 : Nat) (Option.some Jvm.ClassFile.FieldType.boolean)) ∈ lw_all := lw_g (lw_at lw_m3 97 rfl) rfl
theorem q692 : (Jvm.Cond.methodLink "java/util/LinkedList" (73 : Nat) ({ cls := "java/util/LinkedList", name := "addAll", desc := "(ILjava/util/Collection;)Z" } : Jvm.MethodName)) ∈ lw_all := lw_g (lw_at lw_m3 98 rfl) rfl
theorem q693 : (Jvm.Cond.instanceMethod ({ cls := "java/util/LinkedList", name := "addAll", desc := "(ILjava/util/Collection;)Z" } : Jvm.MethodName)) ∈ lw_all := lw_g (lw_at lw_m3 99 rfl) rfl
theorem q694 : (Jvm.Cond.selects "java/util/LinkedList" ({ cls := "java/util/LinkedList", name := "addAll", desc := "(ILjava/util/Collection;)Z" } : Jvm.MethodName) ({ cls := "java/util/LinkedList", name := "addAll", desc := "(ILjava/util/Collection;)Z" } : Jvm.MethodName)) ∈ lw_all := lw_g (lw_at lw_m3 100 rfl) rfl
theorem q695 : (Jvm.Cond.code ({ cls := "java/util/LinkedList", name := "addAll", desc := "(ILjava/util/Collection;)Z" } : Jvm.MethodName) prog_65_method_20_code (13 : Nat) (Option.some Jvm.ClassFile.FieldType.boolean)) ∈ lw_all := lw_g (lw_at lw_m3 101 rfl) rfl
theorem q696 : (Jvm.Cond.methodLink "java/util/LinkedList" (76 : Nat) ({ cls := "java/util/LinkedList", name := "checkPositionIndex", desc := "(I)V" } : Jvm.MethodName)) ∈ lw_all := lw_g (lw_at lw_m3 102 rfl) rfl
theorem q697 : (Jvm.Cond.privateMethod ({ cls := "java/util/LinkedList", name := "checkPositionIndex", desc := "(I)V" } : Jvm.MethodName)) ∈ lw_tbl := lw_at lw_m3 103 rfl
theorem q698 : (Jvm.Cond.instanceMethod ({ cls := "java/util/LinkedList", name := "checkPositionIndex", desc := "(I)V" } : Jvm.MethodName)) ∈ lw_all := lw_g (lw_at lw_m3 104 rfl) rfl
theorem q699 : (Jvm.Cond.code ({ cls := "java/util/LinkedList", name := "checkPositionIndex", desc := "(I)V" } : Jvm.MethodName) prog_65_method_30_code (2 : Nat) (Option.none : Option Jvm.ClassFile.FieldType)) ∈ lw_all := lw_g (lw_at lw_m3 105 rfl) rfl
theorem q700 : (Jvm.Cond.methodLink "java/util/LinkedList" (128 : Nat) ({ cls := "java/util/LinkedList", name := "isPositionIndex", desc := "(I)Z" } : Jvm.MethodName)) ∈ lw_all := lw_g (lw_at lw_m3 106 rfl) rfl
theorem q701 : (Jvm.Cond.privateMethod ({ cls := "java/util/LinkedList", name := "isPositionIndex", desc := "(I)Z" } : Jvm.MethodName)) ∈ lw_tbl := lw_at lw_m3 107 rfl
theorem q702 : (Jvm.Cond.instanceMethod ({ cls := "java/util/LinkedList", name := "isPositionIndex", desc := "(I)Z" } : Jvm.MethodName)) ∈ lw_all := lw_g (lw_at lw_m3 108 rfl) rfl
theorem q703 : (Jvm.Cond.code ({ cls := "java/util/LinkedList", name := "isPositionIndex", desc := "(I)Z" } : Jvm.MethodName) prog_65_method_27_code (2 : Nat) (Option.some Jvm.ClassFile.FieldType.boolean)) ∈ lw_all := lw_g (lw_at lw_m3 109 rfl) rfl
theorem q704 : (Jvm.Cond.interfaceEntry "java/util/LinkedList" (80 : Nat)) ∈ lw_tbl := lw_at lw_m3 110 rfl
theorem q705 : (Jvm.Cond.methodLink "java/util/LinkedList" (80 : Nat) ({ cls := "java/util/Collection", name := "toArray", desc := "()[Ljava/lang/Object;" } : Jvm.MethodName)) ∈ lw_all := lw_g (lw_at lw_m3 111 rfl) rfl
theorem q745 : (Jvm.Cond.castable "java/util/LinkedList" "java/util/Collection") ∈ lw_tbl := lw_at lw_m3 151 rfl
theorem q746 : (Jvm.Cond.selects "java/util/LinkedList" ({ cls := "java/util/Collection", name := "toArray", desc := "()[Ljava/lang/Object;" } : Jvm.MethodName) ({ cls := "java/util/LinkedList", name := "toArray", desc := "()[Ljava/lang/Object;" } : Jvm.MethodName)) ∈ lw_all := lw_g (lw_at lw_m3 152 rfl) rfl
theorem q747 : (Jvm.Cond.unhidden "java/util/LinkedList" "toArray" "()[Ljava/lang/Object;") ∈ lw_tbl := lw_at lw_m3 153 rfl
theorem q748 : (Jvm.Cond.instanceMethod ({ cls := "java/util/LinkedList", name := "toArray", desc := "()[Ljava/lang/Object;" } : Jvm.MethodName)) ∈ lw_all := lw_g (lw_at lw_m3 154 rfl) rfl
theorem q749 : (Jvm.Cond.publicMethod ({ cls := "java/util/LinkedList", name := "toArray", desc := "()[Ljava/lang/Object;" } : Jvm.MethodName)) ∈ lw_tbl := lw_at lw_m3 155 rfl
theorem q750 : (Jvm.Cond.code ({ cls := "java/util/LinkedList", name := "toArray", desc := "()[Ljava/lang/Object;" } : Jvm.MethodName) prog_65_method_53_code (4 : Nat) (Option.some (Jvm.ClassFile.FieldType.array (Jvm.ClassFile.FieldType.object "java/lang/Object")))) ∈ lw_all := lw_g (lw_at lw_m3 156 rfl) rfl
theorem q751 : (Jvm.Cond.classLink "java/util/LinkedList" (68 : Nat) "java/lang/Object") ∈ lw_all := lw_g (lw_at lw_m3 157 rfl) rfl
theorem q752 : (Jvm.Cond.methodLink "java/util/LinkedList" (86 : Nat) ({ cls := "java/util/LinkedList", name := "node", desc := "(I)Ljava/util/LinkedList$Node;" } : Jvm.MethodName)) ∈ lw_all := lw_g (lw_at lw_m3 158 rfl) rfl
theorem q753 : (Jvm.Cond.instanceMethod ({ cls := "java/util/LinkedList", name := "node", desc := "(I)Ljava/util/LinkedList$Node;" } : Jvm.MethodName)) ∈ lw_all := lw_g (lw_at lw_m3 159 rfl) rfl
theorem q754 : (Jvm.Cond.selects "java/util/LinkedList" ({ cls := "java/util/LinkedList", name := "node", desc := "(I)Ljava/util/LinkedList$Node;" } : Jvm.MethodName) ({ cls := "java/util/LinkedList", name := "node", desc := "(I)Ljava/util/LinkedList$Node;" } : Jvm.MethodName)) ∈ lw_all := lw_g (lw_at lw_m3 160 rfl) rfl
theorem q755 : (Jvm.Cond.code ({ cls := "java/util/LinkedList", name := "node", desc := "(I)Ljava/util/LinkedList$Node;" } : Jvm.MethodName) prog_65_method_31_code (4 : Nat) (Option.some (Jvm.ClassFile.FieldType.object "java/util/LinkedList$Node"))) ∈ lw_all := lw_g (lw_at lw_m3 161 rfl) rfl
theorem q756 : (Jvm.Cond.classLink "java/util/LinkedList" (22 : Nat) "java/util/LinkedList$Node") ∈ lw_all := lw_g (lw_at lw_m3 162 rfl) rfl
theorem q758 : (Jvm.Cond.methodLink "java/util/LinkedList" (24 : Nat) ({ cls := "java/util/LinkedList$Node", name := "<init>", desc := "(Ljava/util/LinkedList$Node;Ljava/lang/Object;Ljava/util/LinkedList$Node;)V" } : Jvm.MethodName)) ∈ lw_all := lw_g (lw_at lw_m3 164 rfl) rfl
theorem q764 : (Jvm.Cond.fieldLink "java/util/LinkedList" (39 : Nat) "java/util/LinkedList$Node" "item" "Ljava/lang/Object;") ∈ lw_all := lw_g (lw_at lw_m3 170 rfl) rfl
theorem q767 : (Jvm.Cond.fieldLink "java/util/LinkedList" (36 : Nat) "java/util/LinkedList$Node" "next" "Ljava/util/LinkedList$Node;") ∈ lw_all := lw_g (lw_at lw_m3 173 rfl) rfl
theorem q769 : (Jvm.Cond.fieldLink "java/util/LinkedList" (30 : Nat) "java/util/LinkedList$Node" "prev" "Ljava/util/LinkedList$Node;") ∈ lw_all := lw_g (lw_at lw_m3 175 rfl) rfl
theorem q1267 : (Jvm.Cond.castable "java/util/LinkedList" "java/util/List") ∈ lw_tbl := lw_at lw_m5 193 rfl
theorem q1268 : (Jvm.Cond.selects "java/util/LinkedList" ({ cls := "java/util/List", name := "iterator", desc := "()Ljava/util/Iterator;" } : Jvm.MethodName) ({ cls := "java/util/AbstractSequentialList", name := "iterator", desc := "()Ljava/util/Iterator;" } : Jvm.MethodName)) ∈ lw_all := lw_g (lw_at lw_m5 194 rfl) rfl
theorem q1269 : (Jvm.Cond.unhidden "java/util/LinkedList" "iterator" "()Ljava/util/Iterator;") ∈ lw_tbl := lw_at lw_m5 195 rfl
theorem q1276 : (Jvm.Cond.selects "java/util/LinkedList" ({ cls := "java/util/AbstractSequentialList", name := "listIterator", desc := "()Ljava/util/ListIterator;" } : Jvm.MethodName) ({ cls := "java/util/AbstractList", name := "listIterator", desc := "()Ljava/util/ListIterator;" } : Jvm.MethodName)) ∈ lw_all := lw_g (lw_at lw_m5 202 rfl) rfl
theorem q1282 : (Jvm.Cond.selects "java/util/LinkedList" ({ cls := "java/util/AbstractList", name := "listIterator", desc := "(I)Ljava/util/ListIterator;" } : Jvm.MethodName) ({ cls := "java/util/LinkedList", name := "listIterator", desc := "(I)Ljava/util/ListIterator;" } : Jvm.MethodName)) ∈ lw_all := lw_g (lw_at lw_m5 208 rfl) rfl
theorem q1283 : (Jvm.Cond.instanceMethod ({ cls := "java/util/LinkedList", name := "listIterator", desc := "(I)Ljava/util/ListIterator;" } : Jvm.MethodName)) ∈ lw_all := lw_g (lw_at lw_m5 209 rfl) rfl
theorem q1284 : (Jvm.Cond.code ({ cls := "java/util/LinkedList", name := "listIterator", desc := "(I)Ljava/util/ListIterator;" } : Jvm.MethodName) prog_65_method_49_code (2 : Nat) (Option.some (Jvm.ClassFile.FieldType.object "java/util/ListIterator"))) ∈ lw_all := lw_g (lw_at lw_m5 210 rfl) rfl
theorem q1285 : (Jvm.Cond.classLink "java/util/LinkedList" (150 : Nat) "java/util/LinkedList$ListItr") ∈ lw_all := lw_g (lw_at lw_m5 211 rfl) rfl
theorem q1287 : (Jvm.Cond.methodLink "java/util/LinkedList" (152 : Nat) ({ cls := "java/util/LinkedList$ListItr", name := "<init>", desc := "(Ljava/util/LinkedList;I)V" } : Jvm.MethodName)) ∈ lw_all := lw_g (lw_at lw_m5 213 rfl) rfl
theorem q1321 : (Jvm.Cond.selects "java/util/LinkedList" ({ cls := "java/util/AbstractList", name := "size", desc := "()I" } : Jvm.MethodName) ({ cls := "java/util/LinkedList", name := "size", desc := "()I" } : Jvm.MethodName)) ∈ lw_all := lw_g (lw_at lw_m6 7 rfl) rfl
theorem q1322 : (Jvm.Cond.instanceMethod ({ cls := "java/util/LinkedList", name := "size", desc := "()I" } : Jvm.MethodName)) ∈ lw_all := lw_g (lw_at lw_m6 8 rfl) rfl
theorem q1323 : (Jvm.Cond.code ({ cls := "java/util/LinkedList", name := "size", desc := "()I" } : Jvm.MethodName) prog_65_method_16_code (1 : Nat) (Option.some Jvm.ClassFile.FieldType.int)) ∈ lw_all := lw_g (lw_at lw_m6 9 rfl) rfl
theorem q1353 : (Jvm.Cond.selects "java/util/LinkedList" ({ cls := "java/util/AbstractList", name := "get", desc := "(I)Ljava/lang/Object;" } : Jvm.MethodName) ({ cls := "java/util/LinkedList", name := "get", desc := "(I)Ljava/lang/Object;" } : Jvm.MethodName)) ∈ lw_all := lw_g (lw_at lw_m6 39 rfl) rfl
theorem q1354 : (Jvm.Cond.instanceMethod ({ cls := "java/util/LinkedList", name := "get", desc := "(I)Ljava/lang/Object;" } : Jvm.MethodName)) ∈ lw_all := lw_g (lw_at lw_m6 40 rfl) rfl
theorem q1355 : (Jvm.Cond.code ({ cls := "java/util/LinkedList", name := "get", desc := "(I)Ljava/lang/Object;" } : Jvm.MethodName) prog_65_method_22_code (2 : Nat) (Option.some (Jvm.ClassFile.FieldType.object "java/lang/Object"))) ∈ lw_all := lw_g (lw_at lw_m6 41 rfl) rfl
theorem q1356 : (Jvm.Cond.methodLink "java/util/LinkedList" (90 : Nat) ({ cls := "java/util/LinkedList", name := "checkElementIndex", desc := "(I)V" } : Jvm.MethodName)) ∈ lw_all := lw_g (lw_at lw_m6 42 rfl) rfl
theorem q1357 : (Jvm.Cond.privateMethod ({ cls := "java/util/LinkedList", name := "checkElementIndex", desc := "(I)V" } : Jvm.MethodName)) ∈ lw_tbl := lw_at lw_m6 43 rfl
theorem q1358 : (Jvm.Cond.instanceMethod ({ cls := "java/util/LinkedList", name := "checkElementIndex", desc := "(I)V" } : Jvm.MethodName)) ∈ lw_all := lw_g (lw_at lw_m6 44 rfl) rfl
theorem q1359 : (Jvm.Cond.code ({ cls := "java/util/LinkedList", name := "checkElementIndex", desc := "(I)V" } : Jvm.MethodName) prog_65_method_29_code (2 : Nat) (Option.none : Option Jvm.ClassFile.FieldType)) ∈ lw_all := lw_g (lw_at lw_m6 45 rfl) rfl
theorem q1360 : (Jvm.Cond.methodLink "java/util/LinkedList" (115 : Nat) ({ cls := "java/util/LinkedList", name := "isElementIndex", desc := "(I)Z" } : Jvm.MethodName)) ∈ lw_all := lw_g (lw_at lw_m6 46 rfl) rfl
theorem q1361 : (Jvm.Cond.privateMethod ({ cls := "java/util/LinkedList", name := "isElementIndex", desc := "(I)Z" } : Jvm.MethodName)) ∈ lw_tbl := lw_at lw_m6 47 rfl
theorem q1362 : (Jvm.Cond.instanceMethod ({ cls := "java/util/LinkedList", name := "isElementIndex", desc := "(I)Z" } : Jvm.MethodName)) ∈ lw_all := lw_g (lw_at lw_m6 48 rfl) rfl
theorem q1363 : (Jvm.Cond.code ({ cls := "java/util/LinkedList", name := "isElementIndex", desc := "(I)Z" } : Jvm.MethodName) prog_65_method_26_code (2 : Nat) (Option.some Jvm.ClassFile.FieldType.boolean)) ∈ lw_all := lw_g (lw_at lw_m6 49 rfl) rfl
theorem q1593 : (Jvm.Cond.selects "java/util/LinkedList" ({ cls := "java/util/List", name := "get", desc := "(I)Ljava/lang/Object;" } : Jvm.MethodName) ({ cls := "java/util/LinkedList", name := "get", desc := "(I)Ljava/lang/Object;" } : Jvm.MethodName)) ∈ lw_all := lw_g (lw_at lw_m7 39 rfl) rfl
theorem q1594 : (Jvm.Cond.unhidden "java/util/LinkedList" "get" "(I)Ljava/lang/Object;") ∈ lw_tbl := lw_at lw_m7 40 rfl
theorem q1595 : (Jvm.Cond.publicMethod ({ cls := "java/util/LinkedList", name := "get", desc := "(I)Ljava/lang/Object;" } : Jvm.MethodName)) ∈ lw_tbl := lw_at lw_m7 41 rfl
theorem q1650 : (Jvm.Cond.instanceMethod ({ cls := "java/util/LinkedList", name := "addFirst", desc := "(Ljava/lang/Object;)V" } : Jvm.MethodName)) ∈ lw_all := lw_g (lw_at lw_m7 96 rfl) rfl
theorem q1651 : (Jvm.Cond.selects "java/util/LinkedList" ({ cls := "java/util/LinkedList", name := "addFirst", desc := "(Ljava/lang/Object;)V" } : Jvm.MethodName) ({ cls := "java/util/LinkedList", name := "addFirst", desc := "(Ljava/lang/Object;)V" } : Jvm.MethodName)) ∈ lw_all := lw_g (lw_at lw_m7 97 rfl) rfl
theorem q1652 : (Jvm.Cond.code ({ cls := "java/util/LinkedList", name := "addFirst", desc := "(Ljava/lang/Object;)V" } : Jvm.MethodName) prog_65_method_13_code (2 : Nat) (Option.none : Option Jvm.ClassFile.FieldType)) ∈ lw_all := lw_g (lw_at lw_m7 98 rfl) rfl
theorem q1653 : (Jvm.Cond.methodLink "java/util/LinkedList" (53 : Nat) ({ cls := "java/util/LinkedList", name := "linkFirst", desc := "(Ljava/lang/Object;)V" } : Jvm.MethodName)) ∈ lw_all := lw_g (lw_at lw_m7 99 rfl) rfl
theorem q1654 : (Jvm.Cond.privateMethod ({ cls := "java/util/LinkedList", name := "linkFirst", desc := "(Ljava/lang/Object;)V" } : Jvm.MethodName)) ∈ lw_tbl := lw_at lw_m7 100 rfl
theorem q1655 : (Jvm.Cond.instanceMethod ({ cls := "java/util/LinkedList", name := "linkFirst", desc := "(Ljava/lang/Object;)V" } : Jvm.MethodName)) ∈ lw_all := lw_g (lw_at lw_m7 101 rfl) rfl
theorem q1656 : (Jvm.Cond.code ({ cls := "java/util/LinkedList", name := "linkFirst", desc := "(Ljava/lang/Object;)V" } : Jvm.MethodName) prog_65_method_3_code (4 : Nat) (Option.none : Option Jvm.ClassFile.FieldType)) ∈ lw_all := lw_g (lw_at lw_m7 102 rfl) rfl
theorem q1659 : (Jvm.Cond.instanceMethod ({ cls := "java/util/LinkedList", name := "removeLast", desc := "()Ljava/lang/Object;" } : Jvm.MethodName)) ∈ lw_all := lw_g (lw_at lw_m7 105 rfl) rfl
theorem q1660 : (Jvm.Cond.selects "java/util/LinkedList" ({ cls := "java/util/LinkedList", name := "removeLast", desc := "()Ljava/lang/Object;" } : Jvm.MethodName) ({ cls := "java/util/LinkedList", name := "removeLast", desc := "()Ljava/lang/Object;" } : Jvm.MethodName)) ∈ lw_all := lw_g (lw_at lw_m7 106 rfl) rfl
theorem q1661 : (Jvm.Cond.code ({ cls := "java/util/LinkedList", name := "removeLast", desc := "()Ljava/lang/Object;" } : Jvm.MethodName) prog_65_method_12_code (2 : Nat) (Option.some (Jvm.ClassFile.FieldType.object "java/lang/Object"))) ∈ lw_all := lw_g (lw_at lw_m7 107 rfl) rfl
theorem q1662 : (Jvm.Cond.methodLink "java/util/LinkedList" (50 : Nat) ({ cls := "java/util/LinkedList", name := "unlinkLast", desc := "(Ljava/util/LinkedList$Node;)Ljava/lang/Object;" } : Jvm.MethodName)) ∈ lw_all := lw_g (lw_at lw_m7 108 rfl) rfl
theorem q1663 : (Jvm.Cond.privateMethod ({ cls := "java/util/LinkedList", name := "unlinkLast", desc := "(Ljava/util/LinkedList$Node;)Ljava/lang/Object;" } : Jvm.MethodName)) ∈ lw_tbl := lw_at lw_m7 109 rfl
theorem q1664 : (Jvm.Cond.instanceMethod ({ cls := "java/util/LinkedList", name := "unlinkLast", desc := "(Ljava/util/LinkedList$Node;)Ljava/lang/Object;" } : Jvm.MethodName)) ∈ lw_all := lw_g (lw_at lw_m7 110 rfl) rfl
theorem q1665 : (Jvm.Cond.code ({ cls := "java/util/LinkedList", name := "unlinkLast", desc := "(Ljava/util/LinkedList$Node;)Ljava/lang/Object;" } : Jvm.MethodName) prog_65_method_7_code (4 : Nat) (Option.some (Jvm.ClassFile.FieldType.object "java/lang/Object"))) ∈ lw_all := lw_g (lw_at lw_m7 111 rfl) rfl
theorem q2435 : (Jvm.Cond.selects "java/util/LinkedList" ({ cls := "java/util/LinkedList", name := "size", desc := "()I" } : Jvm.MethodName) ({ cls := "java/util/LinkedList", name := "size", desc := "()I" } : Jvm.MethodName)) ∈ lw_all := lw_g (lw_at lw_m10 161 rfl) rfl
theorem q2440 : (Jvm.Cond.selects "java/util/LinkedList" ({ cls := "java/util/LinkedList", name := "get", desc := "(I)Ljava/lang/Object;" } : Jvm.MethodName) ({ cls := "java/util/LinkedList", name := "get", desc := "(I)Ljava/lang/Object;" } : Jvm.MethodName)) ∈ lw_all := lw_g (lw_at lw_m10 166 rfl) rfl
theorem q2452 : (Jvm.Cond.castable "java/util/LinkedList" "java/lang/Object") ∈ lw_tbl := lw_at lw_m10 178 rfl
theorem in_J4 : ∀ w ∈ wsJ40, w ∈ lw_all := lw_in wsJ40 [239, 233, 235, 237] (by decide +kernel) (by decide +kernel)
/-! java/util/List -/
set_option maxRecDepth 100000
def RJ5 : String := "java/util/List"
abbrev cJ5_of : ByteArray := prog_68_method_40_code
def yJ5_of : MethodName := ⟨RJ5, "of", "(Ljava/lang/Object;Ljava/lang/Object;Ljava/lang/Object;Ljava/lang/Object;)Ljava/util/List;"⟩
def dkwJ5_of_0 : List UInt8 := [7, 189, 0, 103, 89, 3, 42, 83, 89, 4, 43, 83, 89, 5, 44, 83, 89, 6, 45, 83, 184, 0, 105, 176]
abbrev dktJ5_of_0 : List UInt8 := dkwJ5_of_0 ++ []
theorem dksJ5_of_0 : cJ5_of.data.toList.drop 0 = dktJ5_of_0 := by decide +kernel
theorem dJ5_of_0 : decode cJ5_of 0 = .ok (.iconst 4, 1) := dk_7 (dk_at dksJ5_of_0 0 rfl rfl)
theorem dJ5_of_1 : decode cJ5_of 1 = .ok (.anewarray 103, 3) := dk_189 0 103 (dk_at dksJ5_of_0 1 rfl rfl)
theorem dJ5_of_4 : decode cJ5_of 4 = .ok (.dup, 1) := dk_89 (dk_at dksJ5_of_0 4 rfl rfl)
theorem dJ5_of_5 : decode cJ5_of 5 = .ok (.iconst 0, 1) := dk_3 (dk_at dksJ5_of_0 5 rfl rfl)
theorem dJ5_of_6 : decode cJ5_of 6 = .ok (.aload_n 0, 1) := dk_42 (dk_at dksJ5_of_0 6 rfl rfl)
theorem dJ5_of_7 : decode cJ5_of 7 = .ok (.aastore, 1) := dk_83 (dk_at dksJ5_of_0 7 rfl rfl)
theorem dJ5_of_8 : decode cJ5_of 8 = .ok (.dup, 1) := dk_89 (dk_at dksJ5_of_0 8 rfl rfl)
theorem dJ5_of_9 : decode cJ5_of 9 = .ok (.iconst 1, 1) := dk_4 (dk_at dksJ5_of_0 9 rfl rfl)
theorem dJ5_of_10 : decode cJ5_of 10 = .ok (.aload_n 1, 1) := dk_43 (dk_at dksJ5_of_0 10 rfl rfl)
theorem dJ5_of_11 : decode cJ5_of 11 = .ok (.aastore, 1) := dk_83 (dk_at dksJ5_of_0 11 rfl rfl)
theorem dJ5_of_12 : decode cJ5_of 12 = .ok (.dup, 1) := dk_89 (dk_at dksJ5_of_0 12 rfl rfl)
theorem dJ5_of_13 : decode cJ5_of 13 = .ok (.iconst 2, 1) := dk_5 (dk_at dksJ5_of_0 13 rfl rfl)
theorem dJ5_of_14 : decode cJ5_of 14 = .ok (.aload_n 2, 1) := dk_44 (dk_at dksJ5_of_0 14 rfl rfl)
theorem dJ5_of_15 : decode cJ5_of 15 = .ok (.aastore, 1) := dk_83 (dk_at dksJ5_of_0 15 rfl rfl)
theorem dJ5_of_16 : decode cJ5_of 16 = .ok (.dup, 1) := dk_89 (dk_at dksJ5_of_0 16 rfl rfl)
theorem dJ5_of_17 : decode cJ5_of 17 = .ok (.iconst 3, 1) := dk_6 (dk_at dksJ5_of_0 17 rfl rfl)
theorem dJ5_of_18 : decode cJ5_of 18 = .ok (.aload_n 3, 1) := dk_45 (dk_at dksJ5_of_0 18 rfl rfl)
theorem dJ5_of_19 : decode cJ5_of 19 = .ok (.aastore, 1) := dk_83 (dk_at dksJ5_of_0 19 rfl rfl)
theorem dJ5_of_20 : decode cJ5_of 20 = .ok (.invokestatic 105, 3) := dk_184 0 105 (dk_at dksJ5_of_0 20 rfl rfl)
theorem dJ5_of_23 : decode cJ5_of 23 = .ok (.areturn, 1) := dk_176 (dk_at dksJ5_of_0 23 rfl rfl)
theorem q130 : (Jvm.Cond.initialized "java/util/List") ∈ lw_all := lw_g (lw_at lw_m1 16 rfl) rfl
theorem q417 : (Jvm.Cond.static ({ cls := "java/util/List", name := "of", desc := "(Ljava/lang/Object;Ljava/lang/Object;Ljava/lang/Object;Ljava/lang/Object;)Ljava/util/List;" } : Jvm.MethodName)) ∈ lw_all := lw_g (lw_at lw_m2 63 rfl) rfl
theorem q418 : (Jvm.Cond.code ({ cls := "java/util/List", name := "of", desc := "(Ljava/lang/Object;Ljava/lang/Object;Ljava/lang/Object;Ljava/lang/Object;)Ljava/util/List;" } : Jvm.MethodName) prog_68_method_40_code (4 : Nat) (Option.some (Jvm.ClassFile.FieldType.object "java/util/List"))) ∈ lw_all := lw_g (lw_at lw_m2 64 rfl) rfl
theorem q419 : (Jvm.Cond.classLink "java/util/List" (103 : Nat) "java/lang/Object") ∈ lw_all := lw_g (lw_at lw_m2 65 rfl) rfl
theorem q421 : (Jvm.Cond.methodLink "java/util/List" (105 : Nat) ({ cls := "java/util/ImmutableCollections", name := "listFromTrustedArray", desc := "([Ljava/lang/Object;)Ljava/util/List;" } : Jvm.MethodName)) ∈ lw_all := lw_g (lw_at lw_m2 67 rfl) rfl
theorem q1228 : (Jvm.Cond.interfaceMethod "java/util/List" "java/util/List" "iterator" "()Ljava/util/Iterator;") ∈ lw_tbl := lw_at lw_m5 154 rfl
theorem q1229 : (Jvm.Cond.declares ({ cls := "java/util/List", name := "iterator", desc := "()Ljava/util/Iterator;" } : Jvm.MethodName)) ∈ lw_tbl := lw_at lw_m5 155 rfl
theorem q1581 : (Jvm.Cond.interfaceMethod "java/util/List" "java/util/List" "get" "(I)Ljava/lang/Object;") ∈ lw_tbl := lw_at lw_m7 27 rfl
theorem q1582 : (Jvm.Cond.declares ({ cls := "java/util/List", name := "get", desc := "(I)Ljava/lang/Object;" } : Jvm.MethodName)) ∈ lw_tbl := lw_at lw_m7 28 rfl
/-! java/util/ImmutableCollections -/
set_option maxRecDepth 100000
def RJ6 : String := "java/util/ImmutableCollections"
abbrev cJ6_listFromTrustedArray : ByteArray := prog_58_method_5_code
def yJ6_listFromTrustedArray : MethodName := ⟨RJ6, "listFromTrustedArray", "([Ljava/lang/Object;)Ljava/util/List;"⟩
def dkwJ6_listFromTrustedArray_5 : List UInt8 := [3, 50, 42, 4, 50, 183, 0, 67, 167, 0, 12, 187, 0, 12, 89, 42, 3, 183, 0, 43, 176]
abbrev dktJ6_listFromTrustedArray_5 : List UInt8 := dkwJ6_listFromTrustedArray_5 ++ []
def dkwJ6_listFromTrustedArray_4 : List UInt8 := [178, 0, 60, 167, 0, 41, 187, 0, 10, 89, 42, 3, 50, 183, 0, 64, 167, 0, 28, 187, 0, 10, 89, 42]
abbrev dktJ6_listFromTrustedArray_4 : List UInt8 := dkwJ6_listFromTrustedArray_4 ++ dktJ6_listFromTrustedArray_5
def dkwJ6_listFromTrustedArray_3 : List UInt8 := [170, 0, 0, 0, 0, 61, 0, 0, 0, 0, 0, 0, 0, 2, 0, 0, 0, 26, 0, 0, 0, 32, 0, 0, 0, 45]
abbrev dktJ6_listFromTrustedArray_3 : List UInt8 := dkwJ6_listFromTrustedArray_3 ++ dktJ6_listFromTrustedArray_4
def dkwJ6_listFromTrustedArray_2 : List UInt8 := [132, 3, 1, 167, 255, 237, 42, 190]
abbrev dktJ6_listFromTrustedArray_2 : List UInt8 := dkwJ6_listFromTrustedArray_2 ++ dktJ6_listFromTrustedArray_3
def dkwJ6_listFromTrustedArray_1 : List UInt8 := [76, 43, 190, 61, 3, 62, 29, 28, 162, 0, 20, 43, 29, 50, 58, 4, 25, 4, 184, 0, 37, 87]
abbrev dktJ6_listFromTrustedArray_1 : List UInt8 := dkwJ6_listFromTrustedArray_1 ++ dktJ6_listFromTrustedArray_2
def dkwJ6_listFromTrustedArray_0 : List UInt8 := [178, 0, 46, 154, 0, 20, 42, 182, 0, 51, 18, 55, 165, 0, 11, 187, 0, 57, 89, 183, 0, 59, 191, 42]
abbrev dktJ6_listFromTrustedArray_0 : List UInt8 := dkwJ6_listFromTrustedArray_0 ++ dktJ6_listFromTrustedArray_1
theorem dksJ6_listFromTrustedArray_0 : cJ6_listFromTrustedArray.data.toList.drop 0 = dktJ6_listFromTrustedArray_0 := by decide +kernel
theorem dksJ6_listFromTrustedArray_1 : cJ6_listFromTrustedArray.data.toList.drop 24 = dktJ6_listFromTrustedArray_1 := dk_seg dksJ6_listFromTrustedArray_0 24 rfl rfl
theorem dksJ6_listFromTrustedArray_2 : cJ6_listFromTrustedArray.data.toList.drop 46 = dktJ6_listFromTrustedArray_2 := dk_seg dksJ6_listFromTrustedArray_1 22 rfl rfl
theorem dksJ6_listFromTrustedArray_3 : cJ6_listFromTrustedArray.data.toList.drop 54 = dktJ6_listFromTrustedArray_3 := dk_seg dksJ6_listFromTrustedArray_2 8 rfl rfl
theorem dksJ6_listFromTrustedArray_4 : cJ6_listFromTrustedArray.data.toList.drop 80 = dktJ6_listFromTrustedArray_4 := dk_seg dksJ6_listFromTrustedArray_3 26 rfl rfl
theorem dksJ6_listFromTrustedArray_5 : cJ6_listFromTrustedArray.data.toList.drop 104 = dktJ6_listFromTrustedArray_5 := dk_seg dksJ6_listFromTrustedArray_4 24 rfl rfl
theorem dJ6_listFromTrustedArray_0 : decode cJ6_listFromTrustedArray 0 = .ok (.getstatic 46, 3) := dk_178 0 46 (dk_at dksJ6_listFromTrustedArray_0 0 rfl rfl)
theorem dJ6_listFromTrustedArray_3 : decode cJ6_listFromTrustedArray 3 = .ok (.ifCond .ne 20, 3) := dk_154 0 20 (dk_at dksJ6_listFromTrustedArray_0 3 rfl rfl)
theorem dJ6_listFromTrustedArray_6 : decode cJ6_listFromTrustedArray 6 = .ok (.aload_n 0, 1) := dk_42 (dk_at dksJ6_listFromTrustedArray_0 6 rfl rfl)
theorem dJ6_listFromTrustedArray_7 : decode cJ6_listFromTrustedArray 7 = .ok (.invokevirtual 51, 3) := dk_182 0 51 (dk_at dksJ6_listFromTrustedArray_0 7 rfl rfl)
theorem dJ6_listFromTrustedArray_10 : decode cJ6_listFromTrustedArray 10 = .ok (.ldc 55, 2) := dk_18 55 (dk_at dksJ6_listFromTrustedArray_0 10 rfl rfl)
theorem dJ6_listFromTrustedArray_12 : decode cJ6_listFromTrustedArray 12 = .ok (.if_acmp .eq 11, 3) := dk_165 0 11 (dk_at dksJ6_listFromTrustedArray_0 12 rfl rfl)
theorem dJ6_listFromTrustedArray_15 : decode cJ6_listFromTrustedArray 15 = .ok (.new 57, 3) := dk_187 0 57 (dk_at dksJ6_listFromTrustedArray_0 15 rfl rfl)
theorem dJ6_listFromTrustedArray_18 : decode cJ6_listFromTrustedArray 18 = .ok (.dup, 1) := dk_89 (dk_at dksJ6_listFromTrustedArray_0 18 rfl rfl)
theorem dJ6_listFromTrustedArray_19 : decode cJ6_listFromTrustedArray 19 = .ok (.invokespecial 59, 3) := dk_183 0 59 (dk_at dksJ6_listFromTrustedArray_0 19 rfl rfl)
theorem dJ6_listFromTrustedArray_22 : decode cJ6_listFromTrustedArray 22 = .ok (.athrow, 1) := dk_191 (dk_at dksJ6_listFromTrustedArray_0 22 rfl rfl)
theorem dJ6_listFromTrustedArray_23 : decode cJ6_listFromTrustedArray 23 = .ok (.aload_n 0, 1) := dk_42 (dk_at dksJ6_listFromTrustedArray_0 23 rfl rfl)
theorem dJ6_listFromTrustedArray_24 : decode cJ6_listFromTrustedArray 24 = .ok (.astore_n 1, 1) := dk_76 (dk_at dksJ6_listFromTrustedArray_1 0 rfl rfl)
theorem dJ6_listFromTrustedArray_25 : decode cJ6_listFromTrustedArray 25 = .ok (.aload_n 1, 1) := dk_43 (dk_at dksJ6_listFromTrustedArray_1 1 rfl rfl)
theorem dJ6_listFromTrustedArray_26 : decode cJ6_listFromTrustedArray 26 = .ok (.arraylength, 1) := dk_190 (dk_at dksJ6_listFromTrustedArray_1 2 rfl rfl)
theorem dJ6_listFromTrustedArray_27 : decode cJ6_listFromTrustedArray 27 = .ok (.istore_n 2, 1) := dk_61 (dk_at dksJ6_listFromTrustedArray_1 3 rfl rfl)
theorem dJ6_listFromTrustedArray_28 : decode cJ6_listFromTrustedArray 28 = .ok (.iconst 0, 1) := dk_3 (dk_at dksJ6_listFromTrustedArray_1 4 rfl rfl)
theorem dJ6_listFromTrustedArray_29 : decode cJ6_listFromTrustedArray 29 = .ok (.istore_n 3, 1) := dk_62 (dk_at dksJ6_listFromTrustedArray_1 5 rfl rfl)
theorem dJ6_listFromTrustedArray_30 : decode cJ6_listFromTrustedArray 30 = .ok (.iload_n 3, 1) := dk_29 (dk_at dksJ6_listFromTrustedArray_1 6 rfl rfl)
theorem dJ6_listFromTrustedArray_31 : decode cJ6_listFromTrustedArray 31 = .ok (.iload_n 2, 1) := dk_28 (dk_at dksJ6_listFromTrustedArray_1 7 rfl rfl)
theorem dJ6_listFromTrustedArray_32 : decode cJ6_listFromTrustedArray 32 = .ok (.if_icmp .ge 20, 3) := dk_162 0 20 (dk_at dksJ6_listFromTrustedArray_1 8 rfl rfl)
theorem dJ6_listFromTrustedArray_35 : decode cJ6_listFromTrustedArray 35 = .ok (.aload_n 1, 1) := dk_43 (dk_at dksJ6_listFromTrustedArray_1 11 rfl rfl)
theorem dJ6_listFromTrustedArray_36 : decode cJ6_listFromTrustedArray 36 = .ok (.iload_n 3, 1) := dk_29 (dk_at dksJ6_listFromTrustedArray_1 12 rfl rfl)
theorem dJ6_listFromTrustedArray_37 : decode cJ6_listFromTrustedArray 37 = .ok (.aaload, 1) := dk_50 (dk_at dksJ6_listFromTrustedArray_1 13 rfl rfl)
theorem dJ6_listFromTrustedArray_38 : decode cJ6_listFromTrustedArray 38 = .ok (.astore 4, 2) := dk_58 4 (dk_at dksJ6_listFromTrustedArray_1 14 rfl rfl)
theorem dJ6_listFromTrustedArray_40 : decode cJ6_listFromTrustedArray 40 = .ok (.aload 4, 2) := dk_25 4 (dk_at dksJ6_listFromTrustedArray_1 16 rfl rfl)
theorem dJ6_listFromTrustedArray_42 : decode cJ6_listFromTrustedArray 42 = .ok (.invokestatic 37, 3) := dk_184 0 37 (dk_at dksJ6_listFromTrustedArray_1 18 rfl rfl)
theorem dJ6_listFromTrustedArray_45 : decode cJ6_listFromTrustedArray 45 = .ok (.pop, 1) := dk_87 (dk_at dksJ6_listFromTrustedArray_1 21 rfl rfl)
theorem dJ6_listFromTrustedArray_46 : decode cJ6_listFromTrustedArray 46 = .ok (.iinc 3 1, 3) := dk_132 3 1 (dk_at dksJ6_listFromTrustedArray_2 0 rfl rfl)
theorem dJ6_listFromTrustedArray_49 : decode cJ6_listFromTrustedArray 49 = .ok (.goto (-19), 3) := dk_167 255 237 (dk_at dksJ6_listFromTrustedArray_2 3 rfl rfl)
theorem dJ6_listFromTrustedArray_52 : decode cJ6_listFromTrustedArray 52 = .ok (.aload_n 0, 1) := dk_42 (dk_at dksJ6_listFromTrustedArray_2 6 rfl rfl)
theorem dJ6_listFromTrustedArray_53 : decode cJ6_listFromTrustedArray 53 = .ok (.arraylength, 1) := dk_190 (dk_at dksJ6_listFromTrustedArray_2 7 rfl rfl)
theorem dJ6_listFromTrustedArray_54 : decode cJ6_listFromTrustedArray 54 = .ok (.tableswitch 61 0 2 #[26, 32, 45], 26) := by decide +kernel
theorem dJ6_listFromTrustedArray_80 : decode cJ6_listFromTrustedArray 80 = .ok (.getstatic 60, 3) := dk_178 0 60 (dk_at dksJ6_listFromTrustedArray_4 0 rfl rfl)
theorem dJ6_listFromTrustedArray_83 : decode cJ6_listFromTrustedArray 83 = .ok (.goto 41, 3) := dk_167 0 41 (dk_at dksJ6_listFromTrustedArray_4 3 rfl rfl)
theorem dJ6_listFromTrustedArray_86 : decode cJ6_listFromTrustedArray 86 = .ok (.new 10, 3) := dk_187 0 10 (dk_at dksJ6_listFromTrustedArray_4 6 rfl rfl)
theorem dJ6_listFromTrustedArray_89 : decode cJ6_listFromTrustedArray 89 = .ok (.dup, 1) := dk_89 (dk_at dksJ6_listFromTrustedArray_4 9 rfl rfl)
theorem dJ6_listFromTrustedArray_90 : decode cJ6_listFromTrustedArray 90 = .ok (.aload_n 0, 1) := dk_42 (dk_at dksJ6_listFromTrustedArray_4 10 rfl rfl)
theorem dJ6_listFromTrustedArray_91 : decode cJ6_listFromTrustedArray 91 = .ok (.iconst 0, 1) := dk_3 (dk_at dksJ6_listFromTrustedArray_4 11 rfl rfl)
theorem dJ6_listFromTrustedArray_92 : decode cJ6_listFromTrustedArray 92 = .ok (.aaload, 1) := dk_50 (dk_at dksJ6_listFromTrustedArray_4 12 rfl rfl)
theorem dJ6_listFromTrustedArray_93 : decode cJ6_listFromTrustedArray 93 = .ok (.invokespecial 64, 3) := dk_183 0 64 (dk_at dksJ6_listFromTrustedArray_4 13 rfl rfl)
theorem dJ6_listFromTrustedArray_96 : decode cJ6_listFromTrustedArray 96 = .ok (.goto 28, 3) := dk_167 0 28 (dk_at dksJ6_listFromTrustedArray_4 16 rfl rfl)
theorem dJ6_listFromTrustedArray_99 : decode cJ6_listFromTrustedArray 99 = .ok (.new 10, 3) := dk_187 0 10 (dk_at dksJ6_listFromTrustedArray_4 19 rfl rfl)
theorem dJ6_listFromTrustedArray_102 : decode cJ6_listFromTrustedArray 102 = .ok (.dup, 1) := dk_89 (dk_at dksJ6_listFromTrustedArray_4 22 rfl rfl)
theorem dJ6_listFromTrustedArray_103 : decode cJ6_listFromTrustedArray 103 = .ok (.aload_n 0, 1) := dk_42 (dk_at dksJ6_listFromTrustedArray_4 23 rfl rfl)
theorem dJ6_listFromTrustedArray_104 : decode cJ6_listFromTrustedArray 104 = .ok (.iconst 0, 1) := dk_3 (dk_at dksJ6_listFromTrustedArray_5 0 rfl rfl)
theorem dJ6_listFromTrustedArray_105 : decode cJ6_listFromTrustedArray 105 = .ok (.aaload, 1) := dk_50 (dk_at dksJ6_listFromTrustedArray_5 1 rfl rfl)
theorem dJ6_listFromTrustedArray_106 : decode cJ6_listFromTrustedArray 106 = .ok (.aload_n 0, 1) := dk_42 (dk_at dksJ6_listFromTrustedArray_5 2 rfl rfl)
theorem dJ6_listFromTrustedArray_107 : decode cJ6_listFromTrustedArray 107 = .ok (.iconst 1, 1) := dk_4 (dk_at dksJ6_listFromTrustedArray_5 3 rfl rfl)
theorem dJ6_listFromTrustedArray_108 : decode cJ6_listFromTrustedArray 108 = .ok (.aaload, 1) := dk_50 (dk_at dksJ6_listFromTrustedArray_5 4 rfl rfl)
theorem dJ6_listFromTrustedArray_109 : decode cJ6_listFromTrustedArray 109 = .ok (.invokespecial 67, 3) := dk_183 0 67 (dk_at dksJ6_listFromTrustedArray_5 5 rfl rfl)
theorem dJ6_listFromTrustedArray_112 : decode cJ6_listFromTrustedArray 112 = .ok (.goto 12, 3) := dk_167 0 12 (dk_at dksJ6_listFromTrustedArray_5 8 rfl rfl)
theorem dJ6_listFromTrustedArray_115 : decode cJ6_listFromTrustedArray 115 = .ok (.new 12, 3) := dk_187 0 12 (dk_at dksJ6_listFromTrustedArray_5 11 rfl rfl)
theorem dJ6_listFromTrustedArray_118 : decode cJ6_listFromTrustedArray 118 = .ok (.dup, 1) := dk_89 (dk_at dksJ6_listFromTrustedArray_5 14 rfl rfl)
theorem dJ6_listFromTrustedArray_119 : decode cJ6_listFromTrustedArray 119 = .ok (.aload_n 0, 1) := dk_42 (dk_at dksJ6_listFromTrustedArray_5 15 rfl rfl)
theorem dJ6_listFromTrustedArray_120 : decode cJ6_listFromTrustedArray 120 = .ok (.iconst 0, 1) := dk_3 (dk_at dksJ6_listFromTrustedArray_5 16 rfl rfl)
theorem dJ6_listFromTrustedArray_121 : decode cJ6_listFromTrustedArray 121 = .ok (.invokespecial 43, 3) := dk_183 0 43 (dk_at dksJ6_listFromTrustedArray_5 17 rfl rfl)
theorem dJ6_listFromTrustedArray_124 : decode cJ6_listFromTrustedArray 124 = .ok (.areturn, 1) := dk_176 (dk_at dksJ6_listFromTrustedArray_5 20 rfl rfl)
theorem q131 : (Jvm.Cond.initialized "java/util/ImmutableCollections") ∈ lw_all := lw_g (lw_at lw_m1 17 rfl) rfl
theorem q422 : (Jvm.Cond.static ({ cls := "java/util/ImmutableCollections", name := "listFromTrustedArray", desc := "([Ljava/lang/Object;)Ljava/util/List;" } : Jvm.MethodName)) ∈ lw_all := lw_g (lw_at lw_m2 68 rfl) rfl
theorem q423 : (Jvm.Cond.code ({ cls := "java/util/ImmutableCollections", name := "listFromTrustedArray", desc := "([Ljava/lang/Object;)Ljava/util/List;" } : Jvm.MethodName) prog_58_method_5_code (5 : Nat) (Option.some (Jvm.ClassFile.FieldType.object "java/util/List"))) ∈ lw_all := lw_g (lw_at lw_m2 69 rfl) rfl
theorem q424 : (Jvm.Cond.fieldLink "java/util/ImmutableCollections" (46 : Nat) "java/util/ImmutableCollections" "$assertionsDisabled" "Z") ∈ lw_all := lw_g (lw_at lw_m2 70 rfl) rfl
theorem q425 : (Jvm.Cond.laysStatic "java/util/ImmutableCollections" "$assertionsDisabled" "Z") ∈ lw_tbl := lw_at lw_m2 71 rfl
theorem q426 : (Jvm.Cond.methodLink "java/util/ImmutableCollections" (51 : Nat) ({ cls := "java/lang/Object", name := "getClass", desc := "()Ljava/lang/Class;" } : Jvm.MethodName)) ∈ lw_all := lw_g (lw_at lw_m2 72 rfl) rfl
theorem q460 : (Jvm.Cond.classLink "java/util/ImmutableCollections" (55 : Nat) "[Ljava/lang/Object;") ∈ lw_all := lw_g (lw_at lw_m2 106 rfl) rfl
theorem q461 : (Jvm.Cond.methodLink "java/util/ImmutableCollections" (37 : Nat) ({ cls := "java/util/Objects", name := "requireNonNull", desc := "(Ljava/lang/Object;)Ljava/lang/Object;" } : Jvm.MethodName)) ∈ lw_all := lw_g (lw_at lw_m2 107 rfl) rfl
theorem q464 : (Jvm.Cond.fieldLink "java/util/ImmutableCollections" (60 : Nat) "java/util/ImmutableCollections" "EMPTY_LIST" "Ljava/util/ImmutableCollections$ListN;") ∈ lw_all := lw_g (lw_at lw_m2 110 rfl) rfl
theorem q465 : (Jvm.Cond.laysStatic "java/util/ImmutableCollections" "EMPTY_LIST" "Ljava/util/ImmutableCollections$ListN;") ∈ lw_tbl := lw_at lw_m2 111 rfl
theorem q466 : (Jvm.Cond.classLink "java/util/ImmutableCollections" (10 : Nat) "java/util/ImmutableCollections$List12") ∈ lw_all := lw_g (lw_at lw_m2 112 rfl) rfl
theorem q468 : (Jvm.Cond.methodLink "java/util/ImmutableCollections" (64 : Nat) ({ cls := "java/util/ImmutableCollections$List12", name := "<init>", desc := "(Ljava/lang/Object;)V" } : Jvm.MethodName)) ∈ lw_all := lw_g (lw_at lw_m2 114 rfl) rfl
theorem q480 : (Jvm.Cond.laysStatic "java/util/ImmutableCollections" "EMPTY" "Ljava/lang/Object;") ∈ lw_tbl := lw_at lw_m2 126 rfl
theorem q488 : (Jvm.Cond.methodLink "java/util/ImmutableCollections" (67 : Nat) ({ cls := "java/util/ImmutableCollections$List12", name := "<init>", desc := "(Ljava/lang/Object;Ljava/lang/Object;)V" } : Jvm.MethodName)) ∈ lw_all := lw_g (lw_at lw_m2 134 rfl) rfl
theorem q491 : (Jvm.Cond.classLink "java/util/ImmutableCollections" (12 : Nat) "java/util/ImmutableCollections$ListN") ∈ lw_all := lw_g (lw_at lw_m2 137 rfl) rfl
theorem q493 : (Jvm.Cond.methodLinkNest "java/util/ImmutableCollections" (43 : Nat) ({ cls := "java/util/ImmutableCollections$ListN", name := "<init>", desc := "([Ljava/lang/Object;Z)V" } : Jvm.MethodName) "java/util/ImmutableCollections") ∈ lw_tbl := lw_at lw_m2 139 rfl
/-! java/util/Objects -/
set_option maxRecDepth 100000
def RJ7 : String := "java/util/Objects"
abbrev cJ7_requireNonNull : ByteArray := prog_71_method_10_code
def yJ7_requireNonNull : MethodName := ⟨RJ7, "requireNonNull", "(Ljava/lang/Object;)Ljava/lang/Object;"⟩
def dkwJ7_requireNonNull_0 : List UInt8 := [42, 199, 0, 11, 187, 0, 84, 89, 183, 0, 86, 191, 42, 176]
abbrev dktJ7_requireNonNull_0 : List UInt8 := dkwJ7_requireNonNull_0 ++ []
theorem dksJ7_requireNonNull_0 : cJ7_requireNonNull.data.toList.drop 0 = dktJ7_requireNonNull_0 := by decide +kernel
theorem dJ7_requireNonNull_0 : decode cJ7_requireNonNull 0 = .ok (.aload_n 0, 1) := dk_42 (dk_at dksJ7_requireNonNull_0 0 rfl rfl)
theorem dJ7_requireNonNull_1 : decode cJ7_requireNonNull 1 = .ok (.ifnonnull 11, 3) := dk_199 0 11 (dk_at dksJ7_requireNonNull_0 1 rfl rfl)
theorem dJ7_requireNonNull_4 : decode cJ7_requireNonNull 4 = .ok (.new 84, 3) := dk_187 0 84 (dk_at dksJ7_requireNonNull_0 4 rfl rfl)
theorem dJ7_requireNonNull_7 : decode cJ7_requireNonNull 7 = .ok (.dup, 1) := dk_89 (dk_at dksJ7_requireNonNull_0 7 rfl rfl)
theorem dJ7_requireNonNull_8 : decode cJ7_requireNonNull 8 = .ok (.invokespecial 86, 3) := dk_183 0 86 (dk_at dksJ7_requireNonNull_0 8 rfl rfl)
theorem dJ7_requireNonNull_11 : decode cJ7_requireNonNull 11 = .ok (.athrow, 1) := dk_191 (dk_at dksJ7_requireNonNull_0 11 rfl rfl)
theorem dJ7_requireNonNull_12 : decode cJ7_requireNonNull 12 = .ok (.aload_n 0, 1) := dk_42 (dk_at dksJ7_requireNonNull_0 12 rfl rfl)
theorem dJ7_requireNonNull_13 : decode cJ7_requireNonNull 13 = .ok (.areturn, 1) := dk_176 (dk_at dksJ7_requireNonNull_0 13 rfl rfl)
theorem q132 : (Jvm.Cond.initialized "java/util/Objects") ∈ lw_all := lw_g (lw_at lw_m1 18 rfl) rfl
theorem q462 : (Jvm.Cond.static ({ cls := "java/util/Objects", name := "requireNonNull", desc := "(Ljava/lang/Object;)Ljava/lang/Object;" } : Jvm.MethodName)) ∈ lw_all := lw_g (lw_at lw_m2 108 rfl) rfl
theorem q463 : (Jvm.Cond.code ({ cls := "java/util/Objects", name := "requireNonNull", desc := "(Ljava/lang/Object;)Ljava/lang/Object;" } : Jvm.MethodName) prog_71_method_10_code (1 : Nat) (Option.some (Jvm.ClassFile.FieldType.object "java/lang/Object"))) ∈ lw_all := lw_g (lw_at lw_m2 109 rfl) rfl
/-! java/util/ImmutableCollections$AbstractImmutableCollection -/
set_option maxRecDepth 100000
def RJ8 : String := "java/util/ImmutableCollections$AbstractImmutableCollection"
abbrev cJ8_init : ByteArray := prog_59_method_1_code
def yJ8_init : MethodName := ⟨RJ8, "<init>", "()V"⟩
theorem dJ8_init_0 : decode cJ8_init 0 = .ok (.aload_n 0, 1) := by decide +kernel
theorem dJ8_init_1 : decode cJ8_init 1 = .ok (.invokespecial 1, 3) := by decide +kernel
theorem dJ8_init_4 : decode cJ8_init 4 = .ok (.return_, 1) := by decide +kernel
theorem q133 : (Jvm.Cond.initialized "java/util/ImmutableCollections$AbstractImmutableCollection") ∈ lw_all := lw_g (lw_at lw_m1 19 rfl) rfl
theorem q475 : (Jvm.Cond.instanceMethod ({ cls := "java/util/ImmutableCollections$AbstractImmutableCollection", name := "<init>", desc := "()V" } : Jvm.MethodName)) ∈ lw_all := lw_g (lw_at lw_m2 121 rfl) rfl
theorem q476 : (Jvm.Cond.code ({ cls := "java/util/ImmutableCollections$AbstractImmutableCollection", name := "<init>", desc := "()V" } : Jvm.MethodName) prog_59_method_1_code (1 : Nat) (Option.none : Option Jvm.ClassFile.FieldType)) ∈ lw_all := lw_g (lw_at lw_m2 122 rfl) rfl
theorem q477 : (Jvm.Cond.methodLink "java/util/ImmutableCollections$AbstractImmutableCollection" (1 : Nat) ({ cls := "java/util/AbstractCollection", name := "<init>", desc := "()V" } : Jvm.MethodName)) ∈ lw_all := lw_g (lw_at lw_m2 123 rfl) rfl
/-! java/util/ImmutableCollections$AbstractImmutableList -/
set_option maxRecDepth 100000
def RJ9 : String := "java/util/ImmutableCollections$AbstractImmutableList"
abbrev cJ9_init : ByteArray := prog_60_method_1_code
def yJ9_init : MethodName := ⟨RJ9, "<init>", "()V"⟩
theorem dJ9_init_0 : decode cJ9_init 0 = .ok (.aload_n 0, 1) := by decide +kernel
theorem dJ9_init_1 : decode cJ9_init 1 = .ok (.invokespecial 1, 3) := by decide +kernel
theorem dJ9_init_4 : decode cJ9_init 4 = .ok (.return_, 1) := by decide +kernel
abbrev cJ9_iterator : ByteArray := prog_60_method_10_code
def yJ9_iterator : MethodName := ⟨RJ9, "iterator", "()Ljava/util/Iterator;"⟩
def dkwJ9_iterator_0 : List UInt8 := [187, 0, 61, 89, 42, 42, 182, 0, 13, 183, 0, 63, 176]
abbrev dktJ9_iterator_0 : List UInt8 := dkwJ9_iterator_0 ++ []
theorem dksJ9_iterator_0 : cJ9_iterator.data.toList.drop 0 = dktJ9_iterator_0 := by decide +kernel
theorem dJ9_iterator_0 : decode cJ9_iterator 0 = .ok (.new 61, 3) := dk_187 0 61 (dk_at dksJ9_iterator_0 0 rfl rfl)
theorem dJ9_iterator_3 : decode cJ9_iterator 3 = .ok (.dup, 1) := dk_89 (dk_at dksJ9_iterator_0 3 rfl rfl)
theorem dJ9_iterator_4 : decode cJ9_iterator 4 = .ok (.aload_n 0, 1) := dk_42 (dk_at dksJ9_iterator_0 4 rfl rfl)
theorem dJ9_iterator_5 : decode cJ9_iterator 5 = .ok (.aload_n 0, 1) := dk_42 (dk_at dksJ9_iterator_0 5 rfl rfl)
theorem dJ9_iterator_6 : decode cJ9_iterator 6 = .ok (.invokevirtual 13, 3) := dk_182 0 13 (dk_at dksJ9_iterator_0 6 rfl rfl)
theorem dJ9_iterator_9 : decode cJ9_iterator 9 = .ok (.invokespecial 63, 3) := dk_183 0 63 (dk_at dksJ9_iterator_0 9 rfl rfl)
theorem dJ9_iterator_12 : decode cJ9_iterator 12 = .ok (.areturn, 1) := dk_176 (dk_at dksJ9_iterator_0 12 rfl rfl)
theorem q134 : (Jvm.Cond.initialized "java/util/ImmutableCollections$AbstractImmutableList") ∈ lw_all := lw_g (lw_at lw_m1 20 rfl) rfl
theorem q472 : (Jvm.Cond.instanceMethod ({ cls := "java/util/ImmutableCollections$AbstractImmutableList", name := "<init>", desc := "()V" } : Jvm.MethodName)) ∈ lw_all := lw_g (lw_at lw_m2 118 rfl) rfl
theorem q473 : (Jvm.Cond.code ({ cls := "java/util/ImmutableCollections$AbstractImmutableList", name := "<init>", desc := "()V" } : Jvm.MethodName) prog_60_method_1_code (1 : Nat) (Option.none : Option Jvm.ClassFile.FieldType)) ∈ lw_all := lw_g (lw_at lw_m2 119 rfl) rfl
theorem q474 : (Jvm.Cond.methodLink "java/util/ImmutableCollections$AbstractImmutableList" (1 : Nat) ({ cls := "java/util/ImmutableCollections$AbstractImmutableCollection", name := "<init>", desc := "()V" } : Jvm.MethodName)) ∈ lw_all := lw_g (lw_at lw_m2 120 rfl) rfl
theorem q1233 : (Jvm.Cond.instanceMethod ({ cls := "java/util/ImmutableCollections$AbstractImmutableList", name := "iterator", desc := "()Ljava/util/Iterator;" } : Jvm.MethodName)) ∈ lw_all := lw_g (lw_at lw_m5 159 rfl) rfl
theorem q1234 : (Jvm.Cond.publicMethod ({ cls := "java/util/ImmutableCollections$AbstractImmutableList", name := "iterator", desc := "()Ljava/util/Iterator;" } : Jvm.MethodName)) ∈ lw_tbl := lw_at lw_m5 160 rfl
theorem q1235 : (Jvm.Cond.code ({ cls := "java/util/ImmutableCollections$AbstractImmutableList", name := "iterator", desc := "()Ljava/util/Iterator;" } : Jvm.MethodName) prog_60_method_10_code (1 : Nat) (Option.some (Jvm.ClassFile.FieldType.object "java/util/Iterator"))) ∈ lw_all := lw_g (lw_at lw_m5 161 rfl) rfl
theorem q1236 : (Jvm.Cond.classLink "java/util/ImmutableCollections$AbstractImmutableList" (61 : Nat) "java/util/ImmutableCollections$ListItr") ∈ lw_all := lw_g (lw_at lw_m5 162 rfl) rfl
theorem q1238 : (Jvm.Cond.methodLink "java/util/ImmutableCollections$AbstractImmutableList" (13 : Nat) ({ cls := "java/util/ImmutableCollections$AbstractImmutableList", name := "size", desc := "()I" } : Jvm.MethodName)) ∈ lw_all := lw_g (lw_at lw_m5 164 rfl) rfl
theorem q1239 : (Jvm.Cond.sameMethod "java/util/ImmutableCollections$AbstractImmutableList" "java/util/AbstractCollection" "size" "()I") ∈ lw_all := lw_g (lw_at lw_m5 165 rfl) rfl
theorem q1247 : (Jvm.Cond.methodLink "java/util/ImmutableCollections$AbstractImmutableList" (63 : Nat) ({ cls := "java/util/ImmutableCollections$ListItr", name := "<init>", desc := "(Ljava/util/List;I)V" } : Jvm.MethodName)) ∈ lw_all := lw_g (lw_at lw_m5 173 rfl) rfl
/-! java/util/ImmutableCollections$List12 -/
set_option maxRecDepth 100000
def RJ10 : String := "java/util/ImmutableCollections$List12"
def TJ10 : u_T := fun k => match k with
  | 0 => ("java/util/ImmutableCollections$List12", "e0", "Ljava/lang/Object;", true)
  | _ => ("java/util/ImmutableCollections$List12", "e1", "Ljava/lang/Object;", true)
def tyJ10 : Nat → FieldType := fun k => match k with
  | 0 => .object "java/lang/Object"
  | _ => .object "java/lang/Object"
abbrev wsJ100 : List Cond := u_ws RJ10 TJ10 2
theorem nmJ10 : ∀ a, a < 2 → ∀ b, b < 2 → a ≠ b → (TJ10 a).2.1 ≠ (TJ10 b).2.1 := by decide +kernel
theorem tyJ10_ok : ∀ k, k < 2 → parseFieldDescriptor (TJ10 k).2.2.1 = some (tyJ10 k) := by decide +kernel
abbrev cJ10_init : ByteArray := prog_61_method_1_code
def yJ10_init : MethodName := ⟨RJ10, "<init>", "(Ljava/lang/Object;)V"⟩
def dkwJ10_init_0 : List UInt8 := [42, 183, 0, 1, 42, 43, 184, 0, 7, 181, 0, 13, 42, 178, 0, 19, 181, 0, 24, 177]
abbrev dktJ10_init_0 : List UInt8 := dkwJ10_init_0 ++ []
theorem dksJ10_init_0 : cJ10_init.data.toList.drop 0 = dktJ10_init_0 := by decide +kernel
theorem dJ10_init_0 : decode cJ10_init 0 = .ok (.aload_n 0, 1) := dk_42 (dk_at dksJ10_init_0 0 rfl rfl)
theorem dJ10_init_1 : decode cJ10_init 1 = .ok (.invokespecial 1, 3) := dk_183 0 1 (dk_at dksJ10_init_0 1 rfl rfl)
theorem dJ10_init_4 : decode cJ10_init 4 = .ok (.aload_n 0, 1) := dk_42 (dk_at dksJ10_init_0 4 rfl rfl)
theorem dJ10_init_5 : decode cJ10_init 5 = .ok (.aload_n 1, 1) := dk_43 (dk_at dksJ10_init_0 5 rfl rfl)
theorem dJ10_init_6 : decode cJ10_init 6 = .ok (.invokestatic 7, 3) := dk_184 0 7 (dk_at dksJ10_init_0 6 rfl rfl)
theorem dJ10_init_9 : decode cJ10_init 9 = .ok (.putfield 13, 3) := dk_181 0 13 (dk_at dksJ10_init_0 9 rfl rfl)
theorem dJ10_init_12 : decode cJ10_init 12 = .ok (.aload_n 0, 1) := dk_42 (dk_at dksJ10_init_0 12 rfl rfl)
theorem dJ10_init_13 : decode cJ10_init 13 = .ok (.getstatic 19, 3) := dk_178 0 19 (dk_at dksJ10_init_0 13 rfl rfl)
theorem dJ10_init_16 : decode cJ10_init 16 = .ok (.putfield 24, 3) := dk_181 0 24 (dk_at dksJ10_init_0 16 rfl rfl)
theorem dJ10_init_19 : decode cJ10_init 19 = .ok (.return_, 1) := dk_177 (dk_at dksJ10_init_0 19 rfl rfl)
abbrev cJ10_init_2 : ByteArray := prog_61_method_2_code
def yJ10_init_2 : MethodName := ⟨RJ10, "<init>", "(Ljava/lang/Object;Ljava/lang/Object;)V"⟩
def dkwJ10_init_2_0 : List UInt8 := [42, 183, 0, 1, 42, 43, 184, 0, 7, 181, 0, 13, 42, 44, 184, 0, 7, 181, 0, 24, 177]
abbrev dktJ10_init_2_0 : List UInt8 := dkwJ10_init_2_0 ++ []
theorem dksJ10_init_2_0 : cJ10_init_2.data.toList.drop 0 = dktJ10_init_2_0 := by decide +kernel
theorem dJ10_init_2_0 : decode cJ10_init_2 0 = .ok (.aload_n 0, 1) := dk_42 (dk_at dksJ10_init_2_0 0 rfl rfl)
theorem dJ10_init_2_1 : decode cJ10_init_2 1 = .ok (.invokespecial 1, 3) := dk_183 0 1 (dk_at dksJ10_init_2_0 1 rfl rfl)
theorem dJ10_init_2_4 : decode cJ10_init_2 4 = .ok (.aload_n 0, 1) := dk_42 (dk_at dksJ10_init_2_0 4 rfl rfl)
theorem dJ10_init_2_5 : decode cJ10_init_2 5 = .ok (.aload_n 1, 1) := dk_43 (dk_at dksJ10_init_2_0 5 rfl rfl)
theorem dJ10_init_2_6 : decode cJ10_init_2 6 = .ok (.invokestatic 7, 3) := dk_184 0 7 (dk_at dksJ10_init_2_0 6 rfl rfl)
theorem dJ10_init_2_9 : decode cJ10_init_2 9 = .ok (.putfield 13, 3) := dk_181 0 13 (dk_at dksJ10_init_2_0 9 rfl rfl)
theorem dJ10_init_2_12 : decode cJ10_init_2 12 = .ok (.aload_n 0, 1) := dk_42 (dk_at dksJ10_init_2_0 12 rfl rfl)
theorem dJ10_init_2_13 : decode cJ10_init_2 13 = .ok (.aload_n 2, 1) := dk_44 (dk_at dksJ10_init_2_0 13 rfl rfl)
theorem dJ10_init_2_14 : decode cJ10_init_2 14 = .ok (.invokestatic 7, 3) := dk_184 0 7 (dk_at dksJ10_init_2_0 14 rfl rfl)
theorem dJ10_init_2_17 : decode cJ10_init_2 17 = .ok (.putfield 24, 3) := dk_181 0 24 (dk_at dksJ10_init_2_0 17 rfl rfl)
theorem dJ10_init_2_20 : decode cJ10_init_2 20 = .ok (.return_, 1) := dk_177 (dk_at dksJ10_init_2_0 20 rfl rfl)
abbrev cJ10_toArray : ByteArray := prog_61_method_10_code
def yJ10_toArray : MethodName := ⟨RJ10, "toArray", "()[Ljava/lang/Object;"⟩
def dkwJ10_toArray_1 : List UInt8 := [189, 0, 32, 89, 3, 42, 180, 0, 13, 83, 89, 4, 42, 180, 0, 24, 83, 176]
abbrev dktJ10_toArray_1 : List UInt8 := dkwJ10_toArray_1 ++ []
def dkwJ10_toArray_0 : List UInt8 := [42, 180, 0, 24, 178, 0, 19, 166, 0, 15, 4, 189, 0, 32, 89, 3, 42, 180, 0, 13, 83, 176, 5]
abbrev dktJ10_toArray_0 : List UInt8 := dkwJ10_toArray_0 ++ dktJ10_toArray_1
theorem dksJ10_toArray_0 : cJ10_toArray.data.toList.drop 0 = dktJ10_toArray_0 := by decide +kernel
theorem dksJ10_toArray_1 : cJ10_toArray.data.toList.drop 23 = dktJ10_toArray_1 := dk_seg dksJ10_toArray_0 23 rfl rfl
theorem dJ10_toArray_0 : decode cJ10_toArray 0 = .ok (.aload_n 0, 1) := dk_42 (dk_at dksJ10_toArray_0 0 rfl rfl)
theorem dJ10_toArray_1 : decode cJ10_toArray 1 = .ok (.getfield 24, 3) := dk_180 0 24 (dk_at dksJ10_toArray_0 1 rfl rfl)
theorem dJ10_toArray_4 : decode cJ10_toArray 4 = .ok (.getstatic 19, 3) := dk_178 0 19 (dk_at dksJ10_toArray_0 4 rfl rfl)
theorem dJ10_toArray_7 : decode cJ10_toArray 7 = .ok (.if_acmp .ne 15, 3) := dk_166 0 15 (dk_at dksJ10_toArray_0 7 rfl rfl)
theorem dJ10_toArray_10 : decode cJ10_toArray 10 = .ok (.iconst 1, 1) := dk_4 (dk_at dksJ10_toArray_0 10 rfl rfl)
theorem dJ10_toArray_11 : decode cJ10_toArray 11 = .ok (.anewarray 32, 3) := dk_189 0 32 (dk_at dksJ10_toArray_0 11 rfl rfl)
theorem dJ10_toArray_14 : decode cJ10_toArray 14 = .ok (.dup, 1) := dk_89 (dk_at dksJ10_toArray_0 14 rfl rfl)
theorem dJ10_toArray_15 : decode cJ10_toArray 15 = .ok (.iconst 0, 1) := dk_3 (dk_at dksJ10_toArray_0 15 rfl rfl)
theorem dJ10_toArray_16 : decode cJ10_toArray 16 = .ok (.aload_n 0, 1) := dk_42 (dk_at dksJ10_toArray_0 16 rfl rfl)
theorem dJ10_toArray_17 : decode cJ10_toArray 17 = .ok (.getfield 13, 3) := dk_180 0 13 (dk_at dksJ10_toArray_0 17 rfl rfl)
theorem dJ10_toArray_20 : decode cJ10_toArray 20 = .ok (.aastore, 1) := dk_83 (dk_at dksJ10_toArray_0 20 rfl rfl)
theorem dJ10_toArray_21 : decode cJ10_toArray 21 = .ok (.areturn, 1) := dk_176 (dk_at dksJ10_toArray_0 21 rfl rfl)
theorem dJ10_toArray_22 : decode cJ10_toArray 22 = .ok (.iconst 2, 1) := dk_5 (dk_at dksJ10_toArray_0 22 rfl rfl)
theorem dJ10_toArray_23 : decode cJ10_toArray 23 = .ok (.anewarray 32, 3) := dk_189 0 32 (dk_at dksJ10_toArray_1 0 rfl rfl)
theorem dJ10_toArray_26 : decode cJ10_toArray 26 = .ok (.dup, 1) := dk_89 (dk_at dksJ10_toArray_1 3 rfl rfl)
theorem dJ10_toArray_27 : decode cJ10_toArray 27 = .ok (.iconst 0, 1) := dk_3 (dk_at dksJ10_toArray_1 4 rfl rfl)
theorem dJ10_toArray_28 : decode cJ10_toArray 28 = .ok (.aload_n 0, 1) := dk_42 (dk_at dksJ10_toArray_1 5 rfl rfl)
theorem dJ10_toArray_29 : decode cJ10_toArray 29 = .ok (.getfield 13, 3) := dk_180 0 13 (dk_at dksJ10_toArray_1 6 rfl rfl)
theorem dJ10_toArray_32 : decode cJ10_toArray 32 = .ok (.aastore, 1) := dk_83 (dk_at dksJ10_toArray_1 9 rfl rfl)
theorem dJ10_toArray_33 : decode cJ10_toArray 33 = .ok (.dup, 1) := dk_89 (dk_at dksJ10_toArray_1 10 rfl rfl)
theorem dJ10_toArray_34 : decode cJ10_toArray 34 = .ok (.iconst 1, 1) := dk_4 (dk_at dksJ10_toArray_1 11 rfl rfl)
theorem dJ10_toArray_35 : decode cJ10_toArray 35 = .ok (.aload_n 0, 1) := dk_42 (dk_at dksJ10_toArray_1 12 rfl rfl)
theorem dJ10_toArray_36 : decode cJ10_toArray 36 = .ok (.getfield 24, 3) := dk_180 0 24 (dk_at dksJ10_toArray_1 13 rfl rfl)
theorem dJ10_toArray_39 : decode cJ10_toArray 39 = .ok (.aastore, 1) := dk_83 (dk_at dksJ10_toArray_1 16 rfl rfl)
theorem dJ10_toArray_40 : decode cJ10_toArray 40 = .ok (.areturn, 1) := dk_176 (dk_at dksJ10_toArray_1 17 rfl rfl)
abbrev cJ10_size : ByteArray := prog_61_method_3_code
def yJ10_size : MethodName := ⟨RJ10, "size", "()I"⟩
def dkwJ10_size_0 : List UInt8 := [42, 180, 0, 24, 178, 0, 19, 165, 0, 7, 5, 167, 0, 4, 4, 172]
abbrev dktJ10_size_0 : List UInt8 := dkwJ10_size_0 ++ []
theorem dksJ10_size_0 : cJ10_size.data.toList.drop 0 = dktJ10_size_0 := by decide +kernel
theorem dJ10_size_0 : decode cJ10_size 0 = .ok (.aload_n 0, 1) := dk_42 (dk_at dksJ10_size_0 0 rfl rfl)
theorem dJ10_size_1 : decode cJ10_size 1 = .ok (.getfield 24, 3) := dk_180 0 24 (dk_at dksJ10_size_0 1 rfl rfl)
theorem dJ10_size_4 : decode cJ10_size 4 = .ok (.getstatic 19, 3) := dk_178 0 19 (dk_at dksJ10_size_0 4 rfl rfl)
theorem dJ10_size_7 : decode cJ10_size 7 = .ok (.if_acmp .eq 7, 3) := dk_165 0 7 (dk_at dksJ10_size_0 7 rfl rfl)
theorem dJ10_size_10 : decode cJ10_size 10 = .ok (.iconst 2, 1) := dk_5 (dk_at dksJ10_size_0 10 rfl rfl)
theorem dJ10_size_11 : decode cJ10_size 11 = .ok (.goto 4, 3) := dk_167 0 4 (dk_at dksJ10_size_0 11 rfl rfl)
theorem dJ10_size_14 : decode cJ10_size 14 = .ok (.iconst 1, 1) := dk_4 (dk_at dksJ10_size_0 14 rfl rfl)
theorem dJ10_size_15 : decode cJ10_size 15 = .ok (.ireturn, 1) := dk_172 (dk_at dksJ10_size_0 15 rfl rfl)
abbrev cJ10_get : ByteArray := prog_61_method_5_code
def yJ10_get : MethodName := ⟨RJ10, "get", "(I)Ljava/lang/Object;"⟩
def dkwJ10_get_1 : List UInt8 := [42, 180, 0, 24, 176, 42, 27, 182, 0, 27, 191]
abbrev dktJ10_get_1 : List UInt8 := dkwJ10_get_1 ++ []
def dkwJ10_get_0 : List UInt8 := [27, 154, 0, 8, 42, 180, 0, 13, 176, 27, 4, 160, 0, 18, 42, 180, 0, 24, 178, 0, 19, 165, 0, 8]
abbrev dktJ10_get_0 : List UInt8 := dkwJ10_get_0 ++ dktJ10_get_1
theorem dksJ10_get_0 : cJ10_get.data.toList.drop 0 = dktJ10_get_0 := by decide +kernel
theorem dksJ10_get_1 : cJ10_get.data.toList.drop 24 = dktJ10_get_1 := dk_seg dksJ10_get_0 24 rfl rfl
theorem dJ10_get_0 : decode cJ10_get 0 = .ok (.iload_n 1, 1) := dk_27 (dk_at dksJ10_get_0 0 rfl rfl)
theorem dJ10_get_1 : decode cJ10_get 1 = .ok (.ifCond .ne 8, 3) := dk_154 0 8 (dk_at dksJ10_get_0 1 rfl rfl)
theorem dJ10_get_4 : decode cJ10_get 4 = .ok (.aload_n 0, 1) := dk_42 (dk_at dksJ10_get_0 4 rfl rfl)
theorem dJ10_get_5 : decode cJ10_get 5 = .ok (.getfield 13, 3) := dk_180 0 13 (dk_at dksJ10_get_0 5 rfl rfl)
theorem dJ10_get_8 : decode cJ10_get 8 = .ok (.areturn, 1) := dk_176 (dk_at dksJ10_get_0 8 rfl rfl)
theorem dJ10_get_9 : decode cJ10_get 9 = .ok (.iload_n 1, 1) := dk_27 (dk_at dksJ10_get_0 9 rfl rfl)
theorem dJ10_get_10 : decode cJ10_get 10 = .ok (.iconst 1, 1) := dk_4 (dk_at dksJ10_get_0 10 rfl rfl)
theorem dJ10_get_11 : decode cJ10_get 11 = .ok (.if_icmp .ne 18, 3) := dk_160 0 18 (dk_at dksJ10_get_0 11 rfl rfl)
theorem dJ10_get_14 : decode cJ10_get 14 = .ok (.aload_n 0, 1) := dk_42 (dk_at dksJ10_get_0 14 rfl rfl)
theorem dJ10_get_15 : decode cJ10_get 15 = .ok (.getfield 24, 3) := dk_180 0 24 (dk_at dksJ10_get_0 15 rfl rfl)
theorem dJ10_get_18 : decode cJ10_get 18 = .ok (.getstatic 19, 3) := dk_178 0 19 (dk_at dksJ10_get_0 18 rfl rfl)
theorem dJ10_get_21 : decode cJ10_get 21 = .ok (.if_acmp .eq 8, 3) := dk_165 0 8 (dk_at dksJ10_get_0 21 rfl rfl)
theorem dJ10_get_24 : decode cJ10_get 24 = .ok (.aload_n 0, 1) := dk_42 (dk_at dksJ10_get_1 0 rfl rfl)
theorem dJ10_get_25 : decode cJ10_get 25 = .ok (.getfield 24, 3) := dk_180 0 24 (dk_at dksJ10_get_1 1 rfl rfl)
theorem dJ10_get_28 : decode cJ10_get 28 = .ok (.areturn, 1) := dk_176 (dk_at dksJ10_get_1 4 rfl rfl)
theorem dJ10_get_29 : decode cJ10_get 29 = .ok (.aload_n 0, 1) := dk_42 (dk_at dksJ10_get_1 5 rfl rfl)
theorem dJ10_get_30 : decode cJ10_get 30 = .ok (.iload_n 1, 1) := dk_27 (dk_at dksJ10_get_1 6 rfl rfl)
theorem dJ10_get_31 : decode cJ10_get 31 = .ok (.invokevirtual 27, 3) := dk_182 0 27 (dk_at dksJ10_get_1 7 rfl rfl)
theorem dJ10_get_34 : decode cJ10_get 34 = .ok (.athrow, 1) := dk_191 (dk_at dksJ10_get_1 10 rfl rfl)
theorem q135 : (Jvm.Cond.initialized "java/util/ImmutableCollections$List12") ∈ lw_all := lw_g (lw_at lw_m1 21 rfl) rfl
theorem q452 : (Jvm.Cond.selects "java/util/ImmutableCollections$List12" ({ cls := "java/lang/Object", name := "getClass", desc := "()Ljava/lang/Class;" } : Jvm.MethodName) ({ cls := "java/lang/Object", name := "getClass", desc := "()Ljava/lang/Class;" } : Jvm.MethodName)) ∈ lw_all := lw_g (lw_at lw_m2 98 rfl) rfl
theorem q467 : (Jvm.Cond.instantiable "java/util/ImmutableCollections$List12" (2 : Nat)) ∈ lw_all := lw_g (lw_at lw_m2 113 rfl) rfl
theorem q469 : (Jvm.Cond.instanceMethod ({ cls := "java/util/ImmutableCollections$List12", name := "<init>", desc := "(Ljava/lang/Object;)V" } : Jvm.MethodName)) ∈ lw_all := lw_g (lw_at lw_m2 115 rfl) rfl
theorem q470 : (Jvm.Cond.code ({ cls := "java/util/ImmutableCollections$List12", name := "<init>", desc := "(Ljava/lang/Object;)V" } : Jvm.MethodName) prog_61_method_1_code (2 : Nat) (Option.none : Option Jvm.ClassFile.FieldType)) ∈ lw_all := lw_g (lw_at lw_m2 116 rfl) rfl
theorem q471 : (Jvm.Cond.methodLink "java/util/ImmutableCollections$List12" (1 : Nat) ({ cls := "java/util/ImmutableCollections$AbstractImmutableList", name := "<init>", desc := "()V" } : Jvm.MethodName)) ∈ lw_all := lw_g (lw_at lw_m2 117 rfl) rfl
theorem q478 : (Jvm.Cond.methodLink "java/util/ImmutableCollections$List12" (7 : Nat) ({ cls := "java/util/Objects", name := "requireNonNull", desc := "(Ljava/lang/Object;)Ljava/lang/Object;" } : Jvm.MethodName)) ∈ lw_all := lw_g (lw_at lw_m2 124 rfl) rfl
theorem q479 : (Jvm.Cond.fieldLinkNest "java/util/ImmutableCollections$List12" (19 : Nat) "java/util/ImmutableCollections" "EMPTY" "Ljava/lang/Object;" "java/util/ImmutableCollections") ∈ lw_tbl := lw_at lw_m2 125 rfl
theorem q481 : (Jvm.Cond.fieldLink "java/util/ImmutableCollections$List12" (13 : Nat) "java/util/ImmutableCollections$List12" "e0" "Ljava/lang/Object;") ∈ lw_all := lw_g (lw_at lw_m2 127 rfl) rfl
theorem q482 : (Jvm.Cond.fieldLink "java/util/ImmutableCollections$List12" (24 : Nat) "java/util/ImmutableCollections$List12" "e1" "Ljava/lang/Object;") ∈ lw_all := lw_g (lw_at lw_m2 128 rfl) rfl
theorem q483 : (Jvm.Cond.laysFinal "java/util/ImmutableCollections$List12" "java/util/ImmutableCollections$List12" "e0" "Ljava/lang/Object;") ∈ lw_all := lw_g (lw_at lw_m2 129 rfl) rfl
theorem q484 : (Jvm.Cond.soleField "java/util/ImmutableCollections$List12" "e0") ∈ lw_all := lw_g (lw_at lw_m2 130 rfl) rfl
theorem q485 : (Jvm.Cond.laysFinal "java/util/ImmutableCollections$List12" "java/util/ImmutableCollections$List12" "e1" "Ljava/lang/Object;") ∈ lw_all := lw_g (lw_at lw_m2 131 rfl) rfl
theorem q486 : (Jvm.Cond.soleField "java/util/ImmutableCollections$List12" "e1") ∈ lw_all := lw_g (lw_at lw_m2 132 rfl) rfl
theorem q487 : (Jvm.Cond.superclass "java/util/ImmutableCollections$List12" "java/util/ImmutableCollections$AbstractImmutableList") ∈ lw_all := lw_g (lw_at lw_m2 133 rfl) rfl
theorem q489 : (Jvm.Cond.instanceMethod ({ cls := "java/util/ImmutableCollections$List12", name := "<init>", desc := "(Ljava/lang/Object;Ljava/lang/Object;)V" } : Jvm.MethodName)) ∈ lw_all := lw_g (lw_at lw_m2 135 rfl) rfl
theorem q490 : (Jvm.Cond.code ({ cls := "java/util/ImmutableCollections$List12", name := "<init>", desc := "(Ljava/lang/Object;Ljava/lang/Object;)V" } : Jvm.MethodName) prog_61_method_2_code (3 : Nat) (Option.none : Option Jvm.ClassFile.FieldType)) ∈ lw_all := lw_g (lw_at lw_m2 136 rfl) rfl
theorem q725 : (Jvm.Cond.castable "java/util/ImmutableCollections$List12" "java/util/Collection") ∈ lw_tbl := lw_at lw_m3 131 rfl
theorem q726 : (Jvm.Cond.selects "java/util/ImmutableCollections$List12" ({ cls := "java/util/Collection", name := "toArray", desc := "()[Ljava/lang/Object;" } : Jvm.MethodName) ({ cls := "java/util/ImmutableCollections$List12", name := "toArray", desc := "()[Ljava/lang/Object;" } : Jvm.MethodName)) ∈ lw_all := lw_g (lw_at lw_m3 132 rfl) rfl
theorem q727 : (Jvm.Cond.unhidden "java/util/ImmutableCollections$List12" "toArray" "()[Ljava/lang/Object;") ∈ lw_tbl := lw_at lw_m3 133 rfl
theorem q728 : (Jvm.Cond.instanceMethod ({ cls := "java/util/ImmutableCollections$List12", name := "toArray", desc := "()[Ljava/lang/Object;" } : Jvm.MethodName)) ∈ lw_all := lw_g (lw_at lw_m3 134 rfl) rfl
theorem q729 : (Jvm.Cond.publicMethod ({ cls := "java/util/ImmutableCollections$List12", name := "toArray", desc := "()[Ljava/lang/Object;" } : Jvm.MethodName)) ∈ lw_tbl := lw_at lw_m3 135 rfl
theorem q730 : (Jvm.Cond.code ({ cls := "java/util/ImmutableCollections$List12", name := "toArray", desc := "()[Ljava/lang/Object;" } : Jvm.MethodName) prog_61_method_10_code (1 : Nat) (Option.some (Jvm.ClassFile.FieldType.array (Jvm.ClassFile.FieldType.object "java/lang/Object")))) ∈ lw_all := lw_g (lw_at lw_m3 136 rfl) rfl
theorem q731 : (Jvm.Cond.classLink "java/util/ImmutableCollections$List12" (32 : Nat) "java/lang/Object") ∈ lw_all := lw_g (lw_at lw_m3 137 rfl) rfl
theorem q1230 : (Jvm.Cond.castable "java/util/ImmutableCollections$List12" "java/util/List") ∈ lw_tbl := lw_at lw_m5 156 rfl
theorem q1231 : (Jvm.Cond.selects "java/util/ImmutableCollections$List12" ({ cls := "java/util/List", name := "iterator", desc := "()Ljava/util/Iterator;" } : Jvm.MethodName) ({ cls := "java/util/ImmutableCollections$AbstractImmutableList", name := "iterator", desc := "()Ljava/util/Iterator;" } : Jvm.MethodName)) ∈ lw_all := lw_g (lw_at lw_m5 157 rfl) rfl
theorem q1232 : (Jvm.Cond.unhidden "java/util/ImmutableCollections$List12" "iterator" "()Ljava/util/Iterator;") ∈ lw_tbl := lw_at lw_m5 158 rfl
theorem q1241 : (Jvm.Cond.selects "java/util/ImmutableCollections$List12" ({ cls := "java/util/ImmutableCollections$AbstractImmutableList", name := "size", desc := "()I" } : Jvm.MethodName) ({ cls := "java/util/ImmutableCollections$List12", name := "size", desc := "()I" } : Jvm.MethodName)) ∈ lw_all := lw_g (lw_at lw_m5 167 rfl) rfl
theorem q1242 : (Jvm.Cond.instanceMethod ({ cls := "java/util/ImmutableCollections$List12", name := "size", desc := "()I" } : Jvm.MethodName)) ∈ lw_all := lw_g (lw_at lw_m5 168 rfl) rfl
theorem q1243 : (Jvm.Cond.code ({ cls := "java/util/ImmutableCollections$List12", name := "size", desc := "()I" } : Jvm.MethodName) prog_61_method_3_code (1 : Nat) (Option.some Jvm.ClassFile.FieldType.int)) ∈ lw_all := lw_g (lw_at lw_m5 169 rfl) rfl
theorem q1583 : (Jvm.Cond.selects "java/util/ImmutableCollections$List12" ({ cls := "java/util/List", name := "get", desc := "(I)Ljava/lang/Object;" } : Jvm.MethodName) ({ cls := "java/util/ImmutableCollections$List12", name := "get", desc := "(I)Ljava/lang/Object;" } : Jvm.MethodName)) ∈ lw_all := lw_g (lw_at lw_m7 29 rfl) rfl
theorem q1584 : (Jvm.Cond.unhidden "java/util/ImmutableCollections$List12" "get" "(I)Ljava/lang/Object;") ∈ lw_tbl := lw_at lw_m7 30 rfl
theorem q1585 : (Jvm.Cond.instanceMethod ({ cls := "java/util/ImmutableCollections$List12", name := "get", desc := "(I)Ljava/lang/Object;" } : Jvm.MethodName)) ∈ lw_all := lw_g (lw_at lw_m7 31 rfl) rfl
theorem q1586 : (Jvm.Cond.publicMethod ({ cls := "java/util/ImmutableCollections$List12", name := "get", desc := "(I)Ljava/lang/Object;" } : Jvm.MethodName)) ∈ lw_tbl := lw_at lw_m7 32 rfl
theorem q1587 : (Jvm.Cond.code ({ cls := "java/util/ImmutableCollections$List12", name := "get", desc := "(I)Ljava/lang/Object;" } : Jvm.MethodName) prog_61_method_5_code (2 : Nat) (Option.some (Jvm.ClassFile.FieldType.object "java/lang/Object"))) ∈ lw_all := lw_g (lw_at lw_m7 33 rfl) rfl
theorem q2462 : (Jvm.Cond.castable "java/util/ImmutableCollections$List12" "java/lang/Object") ∈ lw_tbl := lw_at lw_m10 188 rfl
theorem in_J10 : ∀ w ∈ wsJ100, w ∈ lw_all := lw_in wsJ100 [483, 485] (by decide +kernel) (by decide +kernel)
/-! java/util/ImmutableCollections$ListN -/
set_option maxRecDepth 100000
def RJ11 : String := "java/util/ImmutableCollections$ListN"
def TJ11 : u_T := fun k => match k with
  | 0 => ("java/util/ImmutableCollections$ListN", "elements", "[Ljava/lang/Object;", true)
  | _ => ("java/util/ImmutableCollections$ListN", "allowNulls", "Z", true)
def tyJ11 : Nat → FieldType := fun k => match k with
  | 0 => .array (.object "java/lang/Object")
  | _ => .boolean
abbrev wsJ110 : List Cond := u_ws RJ11 TJ11 2
theorem nmJ11 : ∀ a, a < 2 → ∀ b, b < 2 → a ≠ b → (TJ11 a).2.1 ≠ (TJ11 b).2.1 := by decide +kernel
theorem tyJ11_ok : ∀ k, k < 2 → parseFieldDescriptor (TJ11 k).2.2.1 = some (tyJ11 k) := by decide +kernel
abbrev cJ11_init : ByteArray := prog_63_method_1_code
def yJ11_init : MethodName := ⟨RJ11, "<init>", "([Ljava/lang/Object;Z)V"⟩
def dkwJ11_init_0 : List UInt8 := [42, 183, 0, 1, 42, 43, 181, 0, 7, 42, 28, 181, 0, 13, 177]
abbrev dktJ11_init_0 : List UInt8 := dkwJ11_init_0 ++ []
theorem dksJ11_init_0 : cJ11_init.data.toList.drop 0 = dktJ11_init_0 := by decide +kernel
theorem dJ11_init_0 : decode cJ11_init 0 = .ok (.aload_n 0, 1) := dk_42 (dk_at dksJ11_init_0 0 rfl rfl)
theorem dJ11_init_1 : decode cJ11_init 1 = .ok (.invokespecial 1, 3) := dk_183 0 1 (dk_at dksJ11_init_0 1 rfl rfl)
theorem dJ11_init_4 : decode cJ11_init 4 = .ok (.aload_n 0, 1) := dk_42 (dk_at dksJ11_init_0 4 rfl rfl)
theorem dJ11_init_5 : decode cJ11_init 5 = .ok (.aload_n 1, 1) := dk_43 (dk_at dksJ11_init_0 5 rfl rfl)
theorem dJ11_init_6 : decode cJ11_init 6 = .ok (.putfield 7, 3) := dk_181 0 7 (dk_at dksJ11_init_0 6 rfl rfl)
theorem dJ11_init_9 : decode cJ11_init 9 = .ok (.aload_n 0, 1) := dk_42 (dk_at dksJ11_init_0 9 rfl rfl)
theorem dJ11_init_10 : decode cJ11_init 10 = .ok (.iload_n 2, 1) := dk_28 (dk_at dksJ11_init_0 10 rfl rfl)
theorem dJ11_init_11 : decode cJ11_init 11 = .ok (.putfield 13, 3) := dk_181 0 13 (dk_at dksJ11_init_0 11 rfl rfl)
theorem dJ11_init_14 : decode cJ11_init 14 = .ok (.return_, 1) := dk_177 (dk_at dksJ11_init_0 14 rfl rfl)
abbrev cJ11_toArray : ByteArray := prog_63_method_7_code
def yJ11_toArray : MethodName := ⟨RJ11, "toArray", "()[Ljava/lang/Object;"⟩
def dkwJ11_toArray_0 : List UInt8 := [42, 180, 0, 7, 42, 180, 0, 7, 190, 184, 0, 29, 176]
abbrev dktJ11_toArray_0 : List UInt8 := dkwJ11_toArray_0 ++ []
theorem dksJ11_toArray_0 : cJ11_toArray.data.toList.drop 0 = dktJ11_toArray_0 := by decide +kernel
theorem dJ11_toArray_0 : decode cJ11_toArray 0 = .ok (.aload_n 0, 1) := dk_42 (dk_at dksJ11_toArray_0 0 rfl rfl)
theorem dJ11_toArray_1 : decode cJ11_toArray 1 = .ok (.getfield 7, 3) := dk_180 0 7 (dk_at dksJ11_toArray_0 1 rfl rfl)
theorem dJ11_toArray_4 : decode cJ11_toArray 4 = .ok (.aload_n 0, 1) := dk_42 (dk_at dksJ11_toArray_0 4 rfl rfl)
theorem dJ11_toArray_5 : decode cJ11_toArray 5 = .ok (.getfield 7, 3) := dk_180 0 7 (dk_at dksJ11_toArray_0 5 rfl rfl)
theorem dJ11_toArray_8 : decode cJ11_toArray 8 = .ok (.arraylength, 1) := dk_190 (dk_at dksJ11_toArray_0 8 rfl rfl)
theorem dJ11_toArray_9 : decode cJ11_toArray 9 = .ok (.invokestatic 29, 3) := dk_184 0 29 (dk_at dksJ11_toArray_0 9 rfl rfl)
theorem dJ11_toArray_12 : decode cJ11_toArray 12 = .ok (.areturn, 1) := dk_176 (dk_at dksJ11_toArray_0 12 rfl rfl)
abbrev cJ11_size : ByteArray := prog_63_method_3_code
def yJ11_size : MethodName := ⟨RJ11, "size", "()I"⟩
def dkwJ11_size_0 : List UInt8 := [42, 180, 0, 7, 190, 172]
abbrev dktJ11_size_0 : List UInt8 := dkwJ11_size_0 ++ []
theorem dksJ11_size_0 : cJ11_size.data.toList.drop 0 = dktJ11_size_0 := by decide +kernel
theorem dJ11_size_0 : decode cJ11_size 0 = .ok (.aload_n 0, 1) := dk_42 (dk_at dksJ11_size_0 0 rfl rfl)
theorem dJ11_size_1 : decode cJ11_size 1 = .ok (.getfield 7, 3) := dk_180 0 7 (dk_at dksJ11_size_0 1 rfl rfl)
theorem dJ11_size_4 : decode cJ11_size 4 = .ok (.arraylength, 1) := dk_190 (dk_at dksJ11_size_0 4 rfl rfl)
theorem dJ11_size_5 : decode cJ11_size 5 = .ok (.ireturn, 1) := dk_172 (dk_at dksJ11_size_0 5 rfl rfl)
abbrev cJ11_get : ByteArray := prog_63_method_4_code
def yJ11_get : MethodName := ⟨RJ11, "get", "(I)Ljava/lang/Object;"⟩
def dkwJ11_get_0 : List UInt8 := [42, 180, 0, 7, 27, 50, 176]
abbrev dktJ11_get_0 : List UInt8 := dkwJ11_get_0 ++ []
theorem dksJ11_get_0 : cJ11_get.data.toList.drop 0 = dktJ11_get_0 := by decide +kernel
theorem dJ11_get_0 : decode cJ11_get 0 = .ok (.aload_n 0, 1) := dk_42 (dk_at dksJ11_get_0 0 rfl rfl)
theorem dJ11_get_1 : decode cJ11_get 1 = .ok (.getfield 7, 3) := dk_180 0 7 (dk_at dksJ11_get_0 1 rfl rfl)
theorem dJ11_get_4 : decode cJ11_get 4 = .ok (.iload_n 1, 1) := dk_27 (dk_at dksJ11_get_0 4 rfl rfl)
theorem dJ11_get_5 : decode cJ11_get 5 = .ok (.aaload, 1) := dk_50 (dk_at dksJ11_get_0 5 rfl rfl)
theorem dJ11_get_6 : decode cJ11_get 6 = .ok (.areturn, 1) := dk_176 (dk_at dksJ11_get_0 6 rfl rfl)
theorem q136 : (Jvm.Cond.initialized "java/util/ImmutableCollections$ListN") ∈ lw_all := lw_g (lw_at lw_m1 22 rfl) rfl
theorem q454 : (Jvm.Cond.selects "java/util/ImmutableCollections$ListN" ({ cls := "java/lang/Object", name := "getClass", desc := "()Ljava/lang/Class;" } : Jvm.MethodName) ({ cls := "java/lang/Object", name := "getClass", desc := "()Ljava/lang/Class;" } : Jvm.MethodName)) ∈ lw_all := lw_g (lw_at lw_m2 100 rfl) rfl
theorem q492 : (Jvm.Cond.instantiable "java/util/ImmutableCollections$ListN" (2 : Nat)) ∈ lw_all := lw_g (lw_at lw_m2 138 rfl) rfl
theorem q494 : (Jvm.Cond.instanceMethod ({ cls := "java/util/ImmutableCollections$ListN", name := "<init>", desc := "([Ljava/lang/Object;Z)V" } : Jvm.MethodName)) ∈ lw_all := lw_g (lw_at lw_m2 140 rfl) rfl
theorem q495 : (Jvm.Cond.code ({ cls := "java/util/ImmutableCollections$ListN", name := "<init>", desc := "([Ljava/lang/Object;Z)V" } : Jvm.MethodName) prog_63_method_1_code (3 : Nat) (Option.none : Option Jvm.ClassFile.FieldType)) ∈ lw_all := lw_g (lw_at lw_m2 141 rfl) rfl
theorem q496 : (Jvm.Cond.methodLink "java/util/ImmutableCollections$ListN" (1 : Nat) ({ cls := "java/util/ImmutableCollections$AbstractImmutableList", name := "<init>", desc := "()V" } : Jvm.MethodName)) ∈ lw_all := lw_g (lw_at lw_m2 142 rfl) rfl
theorem q497 : (Jvm.Cond.fieldLink "java/util/ImmutableCollections$ListN" (7 : Nat) "java/util/ImmutableCollections$ListN" "elements" "[Ljava/lang/Object;") ∈ lw_all := lw_g (lw_at lw_m2 143 rfl) rfl
theorem q498 : (Jvm.Cond.fieldLink "java/util/ImmutableCollections$ListN" (13 : Nat) "java/util/ImmutableCollections$ListN" "allowNulls" "Z") ∈ lw_all := lw_g (lw_at lw_m2 144 rfl) rfl
theorem q499 : (Jvm.Cond.laysFinal "java/util/ImmutableCollections$ListN" "java/util/ImmutableCollections$ListN" "elements" "[Ljava/lang/Object;") ∈ lw_all := lw_g (lw_at lw_m2 145 rfl) rfl
theorem q500 : (Jvm.Cond.soleField "java/util/ImmutableCollections$ListN" "elements") ∈ lw_all := lw_g (lw_at lw_m2 146 rfl) rfl
theorem q501 : (Jvm.Cond.laysFinal "java/util/ImmutableCollections$ListN" "java/util/ImmutableCollections$ListN" "allowNulls" "Z") ∈ lw_all := lw_g (lw_at lw_m2 147 rfl) rfl
theorem q502 : (Jvm.Cond.soleField "java/util/ImmutableCollections$ListN" "allowNulls") ∈ lw_all := lw_g (lw_at lw_m2 148 rfl) rfl
theorem q503 : (Jvm.Cond.superclass "java/util/ImmutableCollections$ListN" "java/util/ImmutableCollections$AbstractImmutableList") ∈ lw_all := lw_g (lw_at lw_m2 149 rfl) rfl
theorem q732 : (Jvm.Cond.castable "java/util/ImmutableCollections$ListN" "java/util/Collection") ∈ lw_tbl := lw_at lw_m3 138 rfl
theorem q733 : (Jvm.Cond.selects "java/util/ImmutableCollections$ListN" ({ cls := "java/util/Collection", name := "toArray", desc := "()[Ljava/lang/Object;" } : Jvm.MethodName) ({ cls := "java/util/ImmutableCollections$ListN", name := "toArray", desc := "()[Ljava/lang/Object;" } : Jvm.MethodName)) ∈ lw_all := lw_g (lw_at lw_m3 139 rfl) rfl
theorem q734 : (Jvm.Cond.unhidden "java/util/ImmutableCollections$ListN" "toArray" "()[Ljava/lang/Object;") ∈ lw_tbl := lw_at lw_m3 140 rfl
theorem q735 : (Jvm.Cond.instanceMethod ({ cls := "java/util/ImmutableCollections$ListN", name := "toArray", desc := "()[Ljava/lang/Object;" } : Jvm.MethodName)) ∈ lw_all := lw_g (lw_at lw_m3 141 rfl) rfl
theorem q736 : (Jvm.Cond.publicMethod ({ cls := "java/util/ImmutableCollections$ListN", name := "toArray", desc := "()[Ljava/lang/Object;" } : Jvm.MethodName)) ∈ lw_tbl := lw_at lw_m3 142 rfl
theorem q737 : (Jvm.Cond.code ({ cls := "java/util/ImmutableCollections$ListN", name := "toArray", desc := "()[Ljava/lang/Object;" } : Jvm.MethodName) prog_63_method_7_code (1 : Nat) (Option.some (Jvm.ClassFile.FieldType.array (Jvm.ClassFile.FieldType.object "java/lang/Object")))) ∈ lw_all := lw_g (lw_at lw_m3 143 rfl) rfl
theorem q738 : (Jvm.Cond.methodLink "java/util/ImmutableCollections$ListN" (29 : Nat) ({ cls := "java/util/Arrays", name := "copyOf", desc := "([Ljava/lang/Object;I)[Ljava/lang/Object;" } : Jvm.MethodName)) ∈ lw_all := lw_g (lw_at lw_m3 144 rfl) rfl
theorem q1244 : (Jvm.Cond.selects "java/util/ImmutableCollections$ListN" ({ cls := "java/util/ImmutableCollections$AbstractImmutableList", name := "size", desc := "()I" } : Jvm.MethodName) ({ cls := "java/util/ImmutableCollections$ListN", name := "size", desc := "()I" } : Jvm.MethodName)) ∈ lw_all := lw_g (lw_at lw_m5 170 rfl) rfl
theorem q1245 : (Jvm.Cond.instanceMethod ({ cls := "java/util/ImmutableCollections$ListN", name := "size", desc := "()I" } : Jvm.MethodName)) ∈ lw_all := lw_g (lw_at lw_m5 171 rfl) rfl
theorem q1246 : (Jvm.Cond.code ({ cls := "java/util/ImmutableCollections$ListN", name := "size", desc := "()I" } : Jvm.MethodName) prog_63_method_3_code (1 : Nat) (Option.some Jvm.ClassFile.FieldType.int)) ∈ lw_all := lw_g (lw_at lw_m5 172 rfl) rfl
theorem q1264 : (Jvm.Cond.castable "java/util/ImmutableCollections$ListN" "java/util/List") ∈ lw_tbl := lw_at lw_m5 190 rfl
theorem q1265 : (Jvm.Cond.selects "java/util/ImmutableCollections$ListN" ({ cls := "java/util/List", name := "iterator", desc := "()Ljava/util/Iterator;" } : Jvm.MethodName) ({ cls := "java/util/ImmutableCollections$AbstractImmutableList", name := "iterator", desc := "()Ljava/util/Iterator;" } : Jvm.MethodName)) ∈ lw_all := lw_g (lw_at lw_m5 191 rfl) rfl
theorem q1266 : (Jvm.Cond.unhidden "java/util/ImmutableCollections$ListN" "iterator" "()Ljava/util/Iterator;") ∈ lw_tbl := lw_at lw_m5 192 rfl
theorem q1588 : (Jvm.Cond.selects "java/util/ImmutableCollections$ListN" ({ cls := "java/util/List", name := "get", desc := "(I)Ljava/lang/Object;" } : Jvm.MethodName) ({ cls := "java/util/ImmutableCollections$ListN", name := "get", desc := "(I)Ljava/lang/Object;" } : Jvm.MethodName)) ∈ lw_all := lw_g (lw_at lw_m7 34 rfl) rfl
theorem q1589 : (Jvm.Cond.unhidden "java/util/ImmutableCollections$ListN" "get" "(I)Ljava/lang/Object;") ∈ lw_tbl := lw_at lw_m7 35 rfl
theorem q1590 : (Jvm.Cond.instanceMethod ({ cls := "java/util/ImmutableCollections$ListN", name := "get", desc := "(I)Ljava/lang/Object;" } : Jvm.MethodName)) ∈ lw_all := lw_g (lw_at lw_m7 36 rfl) rfl
theorem q1591 : (Jvm.Cond.publicMethod ({ cls := "java/util/ImmutableCollections$ListN", name := "get", desc := "(I)Ljava/lang/Object;" } : Jvm.MethodName)) ∈ lw_tbl := lw_at lw_m7 37 rfl
theorem q1592 : (Jvm.Cond.code ({ cls := "java/util/ImmutableCollections$ListN", name := "get", desc := "(I)Ljava/lang/Object;" } : Jvm.MethodName) prog_63_method_4_code (2 : Nat) (Option.some (Jvm.ClassFile.FieldType.object "java/lang/Object"))) ∈ lw_all := lw_g (lw_at lw_m7 38 rfl) rfl
theorem q2461 : (Jvm.Cond.castable "java/util/ImmutableCollections$ListN" "java/lang/Object") ∈ lw_tbl := lw_at lw_m10 187 rfl
theorem in_J11 : ∀ w ∈ wsJ110, w ∈ lw_all := lw_in wsJ110 [499, 501] (by decide +kernel) (by decide +kernel)
/-! java/lang/AbstractStringBuilder -/
set_option maxRecDepth 100000
def RJ12 : String := "java/lang/AbstractStringBuilder"
abbrev cJ12_init : ByteArray := prog_25_method_2_code
def yJ12_init : MethodName := ⟨RJ12, "<init>", "(I)V"⟩
def dkwJ12_init_1 : List UInt8 := [167, 0, 16, 42, 27, 184, 0, 26, 181, 0, 15, 42, 4, 181, 0, 22, 177]
abbrev dktJ12_init_1 : List UInt8 := dkwJ12_init_1 ++ []
def dkwJ12_init_0 : List UInt8 := [42, 183, 0, 3, 178, 0, 18, 153, 0, 18, 42, 27, 188, 8, 181, 0, 15, 42, 3, 181, 0, 22]
abbrev dktJ12_init_0 : List UInt8 := dkwJ12_init_0 ++ dktJ12_init_1
theorem dksJ12_init_0 : cJ12_init.data.toList.drop 0 = dktJ12_init_0 := by decide +kernel
theorem dksJ12_init_1 : cJ12_init.data.toList.drop 22 = dktJ12_init_1 := dk_seg dksJ12_init_0 22 rfl rfl
theorem dJ12_init_0 : decode cJ12_init 0 = .ok (.aload_n 0, 1) := dk_42 (dk_at dksJ12_init_0 0 rfl rfl)
theorem dJ12_init_1 : decode cJ12_init 1 = .ok (.invokespecial 3, 3) := dk_183 0 3 (dk_at dksJ12_init_0 1 rfl rfl)
theorem dJ12_init_4 : decode cJ12_init 4 = .ok (.getstatic 18, 3) := dk_178 0 18 (dk_at dksJ12_init_0 4 rfl rfl)
theorem dJ12_init_7 : decode cJ12_init 7 = .ok (.ifCond .eq 18, 3) := dk_153 0 18 (dk_at dksJ12_init_0 7 rfl rfl)
theorem dJ12_init_10 : decode cJ12_init 10 = .ok (.aload_n 0, 1) := dk_42 (dk_at dksJ12_init_0 10 rfl rfl)
theorem dJ12_init_11 : decode cJ12_init 11 = .ok (.iload_n 1, 1) := dk_27 (dk_at dksJ12_init_0 11 rfl rfl)
theorem dJ12_init_12 : decode cJ12_init 12 = .ok (.newarray .byte, 2) := dk_188_8 (dk_at dksJ12_init_0 12 rfl rfl)
theorem dJ12_init_14 : decode cJ12_init 14 = .ok (.putfield 15, 3) := dk_181 0 15 (dk_at dksJ12_init_0 14 rfl rfl)
theorem dJ12_init_17 : decode cJ12_init 17 = .ok (.aload_n 0, 1) := dk_42 (dk_at dksJ12_init_0 17 rfl rfl)
theorem dJ12_init_18 : decode cJ12_init 18 = .ok (.iconst 0, 1) := dk_3 (dk_at dksJ12_init_0 18 rfl rfl)
theorem dJ12_init_19 : decode cJ12_init 19 = .ok (.putfield 22, 3) := dk_181 0 22 (dk_at dksJ12_init_0 19 rfl rfl)
theorem dJ12_init_22 : decode cJ12_init 22 = .ok (.goto 16, 3) := dk_167 0 16 (dk_at dksJ12_init_1 0 rfl rfl)
theorem dJ12_init_25 : decode cJ12_init 25 = .ok (.aload_n 0, 1) := dk_42 (dk_at dksJ12_init_1 3 rfl rfl)
theorem dJ12_init_26 : decode cJ12_init 26 = .ok (.iload_n 1, 1) := dk_27 (dk_at dksJ12_init_1 4 rfl rfl)
theorem dJ12_init_27 : decode cJ12_init 27 = .ok (.invokestatic 26, 3) := dk_184 0 26 (dk_at dksJ12_init_1 5 rfl rfl)
theorem dJ12_init_30 : decode cJ12_init 30 = .ok (.putfield 15, 3) := dk_181 0 15 (dk_at dksJ12_init_1 8 rfl rfl)
theorem dJ12_init_33 : decode cJ12_init 33 = .ok (.aload_n 0, 1) := dk_42 (dk_at dksJ12_init_1 11 rfl rfl)
theorem dJ12_init_34 : decode cJ12_init 34 = .ok (.iconst 1, 1) := dk_4 (dk_at dksJ12_init_1 12 rfl rfl)
theorem dJ12_init_35 : decode cJ12_init 35 = .ok (.putfield 22, 3) := dk_181 0 22 (dk_at dksJ12_init_1 13 rfl rfl)
theorem dJ12_init_38 : decode cJ12_init 38 = .ok (.return_, 1) := dk_177 (dk_at dksJ12_init_1 16 rfl rfl)
abbrev cJ12_append : ByteArray := prog_25_method_22_code
def yJ12_append : MethodName := ⟨RJ12, "append", "(Ljava/lang/String;)Ljava/lang/AbstractStringBuilder;"⟩
def dkwJ12_append_1 : List UInt8 := [42, 42, 180, 0, 79, 43, 182, 0, 208, 42, 89, 180, 0, 79, 28, 96, 181, 0, 79, 42, 176]
abbrev dktJ12_append_1 : List UInt8 := dkwJ12_append_1 ++ []
def dkwJ12_append_0 : List UInt8 := [43, 199, 0, 8, 42, 182, 0, 204, 176, 43, 182, 0, 32, 61, 42, 42, 180, 0, 79, 28, 96, 182, 0, 100]
abbrev dktJ12_append_0 : List UInt8 := dkwJ12_append_0 ++ dktJ12_append_1
theorem dksJ12_append_0 : cJ12_append.data.toList.drop 0 = dktJ12_append_0 := by decide +kernel
theorem dksJ12_append_1 : cJ12_append.data.toList.drop 24 = dktJ12_append_1 := dk_seg dksJ12_append_0 24 rfl rfl
theorem dJ12_append_0 : decode cJ12_append 0 = .ok (.aload_n 1, 1) := dk_43 (dk_at dksJ12_append_0 0 rfl rfl)
theorem dJ12_append_1 : decode cJ12_append 1 = .ok (.ifnonnull 8, 3) := dk_199 0 8 (dk_at dksJ12_append_0 1 rfl rfl)
theorem dJ12_append_4 : decode cJ12_append 4 = .ok (.aload_n 0, 1) := dk_42 (dk_at dksJ12_append_0 4 rfl rfl)
theorem dJ12_append_5 : decode cJ12_append 5 = .ok (.invokevirtual 204, 3) := dk_182 0 204 (dk_at dksJ12_append_0 5 rfl rfl)
theorem dJ12_append_8 : decode cJ12_append 8 = .ok (.areturn, 1) := dk_176 (dk_at dksJ12_append_0 8 rfl rfl)
theorem dJ12_append_9 : decode cJ12_append 9 = .ok (.aload_n 1, 1) := dk_43 (dk_at dksJ12_append_0 9 rfl rfl)
theorem dJ12_append_10 : decode cJ12_append 10 = .ok (.invokevirtual 32, 3) := dk_182 0 32 (dk_at dksJ12_append_0 10 rfl rfl)
theorem dJ12_append_13 : decode cJ12_append 13 = .ok (.istore_n 2, 1) := dk_61 (dk_at dksJ12_append_0 13 rfl rfl)
theorem dJ12_append_14 : decode cJ12_append 14 = .ok (.aload_n 0, 1) := dk_42 (dk_at dksJ12_append_0 14 rfl rfl)
theorem dJ12_append_15 : decode cJ12_append 15 = .ok (.aload_n 0, 1) := dk_42 (dk_at dksJ12_append_0 15 rfl rfl)
theorem dJ12_append_16 : decode cJ12_append 16 = .ok (.getfield 79, 3) := dk_180 0 79 (dk_at dksJ12_append_0 16 rfl rfl)
theorem dJ12_append_19 : decode cJ12_append 19 = .ok (.iload_n 2, 1) := dk_28 (dk_at dksJ12_append_0 19 rfl rfl)
theorem dJ12_append_20 : decode cJ12_append 20 = .ok (.iadd, 1) := dk_96 (dk_at dksJ12_append_0 20 rfl rfl)
theorem dJ12_append_21 : decode cJ12_append 21 = .ok (.invokevirtual 100, 3) := dk_182 0 100 (dk_at dksJ12_append_0 21 rfl rfl)
theorem dJ12_append_24 : decode cJ12_append 24 = .ok (.aload_n 0, 1) := dk_42 (dk_at dksJ12_append_1 0 rfl rfl)
theorem dJ12_append_25 : decode cJ12_append 25 = .ok (.aload_n 0, 1) := dk_42 (dk_at dksJ12_append_1 1 rfl rfl)
theorem dJ12_append_26 : decode cJ12_append 26 = .ok (.getfield 79, 3) := dk_180 0 79 (dk_at dksJ12_append_1 2 rfl rfl)
theorem dJ12_append_29 : decode cJ12_append 29 = .ok (.aload_n 1, 1) := dk_43 (dk_at dksJ12_append_1 5 rfl rfl)
theorem dJ12_append_30 : decode cJ12_append 30 = .ok (.invokevirtual 208, 3) := dk_182 0 208 (dk_at dksJ12_append_1 6 rfl rfl)
theorem dJ12_append_33 : decode cJ12_append 33 = .ok (.aload_n 0, 1) := dk_42 (dk_at dksJ12_append_1 9 rfl rfl)
theorem dJ12_append_34 : decode cJ12_append 34 = .ok (.dup, 1) := dk_89 (dk_at dksJ12_append_1 10 rfl rfl)
theorem dJ12_append_35 : decode cJ12_append 35 = .ok (.getfield 79, 3) := dk_180 0 79 (dk_at dksJ12_append_1 11 rfl rfl)
theorem dJ12_append_38 : decode cJ12_append 38 = .ok (.iload_n 2, 1) := dk_28 (dk_at dksJ12_append_1 14 rfl rfl)
theorem dJ12_append_39 : decode cJ12_append 39 = .ok (.iadd, 1) := dk_96 (dk_at dksJ12_append_1 15 rfl rfl)
theorem dJ12_append_40 : decode cJ12_append 40 = .ok (.putfield 79, 3) := dk_181 0 79 (dk_at dksJ12_append_1 16 rfl rfl)
theorem dJ12_append_43 : decode cJ12_append 43 = .ok (.aload_n 0, 1) := dk_42 (dk_at dksJ12_append_1 19 rfl rfl)
theorem dJ12_append_44 : decode cJ12_append 44 = .ok (.areturn, 1) := dk_176 (dk_at dksJ12_append_1 20 rfl rfl)
abbrev cJ12_appendNull : ByteArray := prog_25_method_26_code
def yJ12_appendNull : MethodName := ⟨RJ12, "appendNull", "()Ljava/lang/AbstractStringBuilder;"⟩
def dkwJ12_appendNull_3 : List UInt8 := [184, 0, 226, 60, 42, 27, 181, 0, 79, 42, 176]
abbrev dktJ12_appendNull_3 : List UInt8 := dkwJ12_appendNull_3 ++ []
def dkwJ12_appendNull_2 : List UInt8 := [16, 108, 84, 44, 27, 132, 1, 1, 16, 108, 84, 167, 0, 17, 44, 27, 16, 110, 16, 117, 16, 108, 16, 108]
abbrev dktJ12_appendNull_2 : List UInt8 := dkwJ12_appendNull_2 ++ dktJ12_appendNull_3
def dkwJ12_appendNull_1 : List UInt8 := [153, 0, 38, 44, 27, 132, 1, 1, 16, 110, 84, 44, 27, 132, 1, 1, 16, 117, 84, 44, 27, 132, 1, 1]
abbrev dktJ12_appendNull_1 : List UInt8 := dkwJ12_appendNull_1 ++ dktJ12_appendNull_2
def dkwJ12_appendNull_0 : List UInt8 := [42, 42, 180, 0, 79, 7, 96, 182, 0, 100, 42, 180, 0, 79, 60, 42, 180, 0, 15, 77, 42, 182, 0, 83]
abbrev dktJ12_appendNull_0 : List UInt8 := dkwJ12_appendNull_0 ++ dktJ12_appendNull_1
theorem dksJ12_appendNull_0 : cJ12_appendNull.data.toList.drop 0 = dktJ12_appendNull_0 := by decide +kernel
theorem dksJ12_appendNull_1 : cJ12_appendNull.data.toList.drop 24 = dktJ12_appendNull_1 := dk_seg dksJ12_appendNull_0 24 rfl rfl
theorem dksJ12_appendNull_2 : cJ12_appendNull.data.toList.drop 48 = dktJ12_appendNull_2 := dk_seg dksJ12_appendNull_1 24 rfl rfl
theorem dksJ12_appendNull_3 : cJ12_appendNull.data.toList.drop 72 = dktJ12_appendNull_3 := dk_seg dksJ12_appendNull_2 24 rfl rfl
theorem dJ12_appendNull_0 : decode cJ12_appendNull 0 = .ok (.aload_n 0, 1) := dk_42 (dk_at dksJ12_appendNull_0 0 rfl rfl)
theorem dJ12_appendNull_1 : decode cJ12_appendNull 1 = .ok (.aload_n 0, 1) := dk_42 (dk_at dksJ12_appendNull_0 1 rfl rfl)
theorem dJ12_appendNull_2 : decode cJ12_appendNull 2 = .ok (.getfield 79, 3) := dk_180 0 79 (dk_at dksJ12_appendNull_0 2 rfl rfl)
theorem dJ12_appendNull_5 : decode cJ12_appendNull 5 = .ok (.iconst 4, 1) := dk_7 (dk_at dksJ12_appendNull_0 5 rfl rfl)
theorem dJ12_appendNull_6 : decode cJ12_appendNull 6 = .ok (.iadd, 1) := dk_96 (dk_at dksJ12_appendNull_0 6 rfl rfl)
theorem dJ12_appendNull_7 : decode cJ12_appendNull 7 = .ok (.invokevirtual 100, 3) := dk_182 0 100 (dk_at dksJ12_appendNull_0 7 rfl rfl)
theorem dJ12_appendNull_10 : decode cJ12_appendNull 10 = .ok (.aload_n 0, 1) := dk_42 (dk_at dksJ12_appendNull_0 10 rfl rfl)
theorem dJ12_appendNull_11 : decode cJ12_appendNull 11 = .ok (.getfield 79, 3) := dk_180 0 79 (dk_at dksJ12_appendNull_0 11 rfl rfl)
theorem dJ12_appendNull_14 : decode cJ12_appendNull 14 = .ok (.istore_n 1, 1) := dk_60 (dk_at dksJ12_appendNull_0 14 rfl rfl)
theorem dJ12_appendNull_15 : decode cJ12_appendNull 15 = .ok (.aload_n 0, 1) := dk_42 (dk_at dksJ12_appendNull_0 15 rfl rfl)
theorem dJ12_appendNull_16 : decode cJ12_appendNull 16 = .ok (.getfield 15, 3) := dk_180 0 15 (dk_at dksJ12_appendNull_0 16 rfl rfl)
theorem dJ12_appendNull_19 : decode cJ12_appendNull 19 = .ok (.astore_n 2, 1) := dk_77 (dk_at dksJ12_appendNull_0 19 rfl rfl)
theorem dJ12_appendNull_20 : decode cJ12_appendNull 20 = .ok (.aload_n 0, 1) := dk_42 (dk_at dksJ12_appendNull_0 20 rfl rfl)
theorem dJ12_appendNull_21 : decode cJ12_appendNull 21 = .ok (.invokevirtual 83, 3) := dk_182 0 83 (dk_at dksJ12_appendNull_0 21 rfl rfl)
theorem dJ12_appendNull_24 : decode cJ12_appendNull 24 = .ok (.ifCond .eq 38, 3) := dk_153 0 38 (dk_at dksJ12_appendNull_1 0 rfl rfl)
theorem dJ12_appendNull_27 : decode cJ12_appendNull 27 = .ok (.aload_n 2, 1) := dk_44 (dk_at dksJ12_appendNull_1 3 rfl rfl)
theorem dJ12_appendNull_28 : decode cJ12_appendNull 28 = .ok (.iload_n 1, 1) := dk_27 (dk_at dksJ12_appendNull_1 4 rfl rfl)
theorem dJ12_appendNull_29 : decode cJ12_appendNull 29 = .ok (.iinc 1 1, 3) := dk_132 1 1 (dk_at dksJ12_appendNull_1 5 rfl rfl)
theorem dJ12_appendNull_32 : decode cJ12_appendNull 32 = .ok (.bipush 110, 2) := dk_16 110 (dk_at dksJ12_appendNull_1 8 rfl rfl)
theorem dJ12_appendNull_34 : decode cJ12_appendNull 34 = .ok (.bastore, 1) := dk_84 (dk_at dksJ12_appendNull_1 10 rfl rfl)
theorem dJ12_appendNull_35 : decode cJ12_appendNull 35 = .ok (.aload_n 2, 1) := dk_44 (dk_at dksJ12_appendNull_1 11 rfl rfl)
theorem dJ12_appendNull_36 : decode cJ12_appendNull 36 = .ok (.iload_n 1, 1) := dk_27 (dk_at dksJ12_appendNull_1 12 rfl rfl)
theorem dJ12_appendNull_37 : decode cJ12_appendNull 37 = .ok (.iinc 1 1, 3) := dk_132 1 1 (dk_at dksJ12_appendNull_1 13 rfl rfl)
theorem dJ12_appendNull_40 : decode cJ12_appendNull 40 = .ok (.bipush 117, 2) := dk_16 117 (dk_at dksJ12_appendNull_1 16 rfl rfl)
theorem dJ12_appendNull_42 : decode cJ12_appendNull 42 = .ok (.bastore, 1) := dk_84 (dk_at dksJ12_appendNull_1 18 rfl rfl)
theorem dJ12_appendNull_43 : decode cJ12_appendNull 43 = .ok (.aload_n 2, 1) := dk_44 (dk_at dksJ12_appendNull_1 19 rfl rfl)
theorem dJ12_appendNull_44 : decode cJ12_appendNull 44 = .ok (.iload_n 1, 1) := dk_27 (dk_at dksJ12_appendNull_1 20 rfl rfl)
theorem dJ12_appendNull_45 : decode cJ12_appendNull 45 = .ok (.iinc 1 1, 3) := dk_132 1 1 (dk_at dksJ12_appendNull_1 21 rfl rfl)
theorem dJ12_appendNull_48 : decode cJ12_appendNull 48 = .ok (.bipush 108, 2) := dk_16 108 (dk_at dksJ12_appendNull_2 0 rfl rfl)
theorem dJ12_appendNull_50 : decode cJ12_appendNull 50 = .ok (.bastore, 1) := dk_84 (dk_at dksJ12_appendNull_2 2 rfl rfl)
theorem dJ12_appendNull_51 : decode cJ12_appendNull 51 = .ok (.aload_n 2, 1) := dk_44 (dk_at dksJ12_appendNull_2 3 rfl rfl)
theorem dJ12_appendNull_52 : decode cJ12_appendNull 52 = .ok (.iload_n 1, 1) := dk_27 (dk_at dksJ12_appendNull_2 4 rfl rfl)
theorem dJ12_appendNull_53 : decode cJ12_appendNull 53 = .ok (.iinc 1 1, 3) := dk_132 1 1 (dk_at dksJ12_appendNull_2 5 rfl rfl)
theorem dJ12_appendNull_56 : decode cJ12_appendNull 56 = .ok (.bipush 108, 2) := dk_16 108 (dk_at dksJ12_appendNull_2 8 rfl rfl)
theorem dJ12_appendNull_58 : decode cJ12_appendNull 58 = .ok (.bastore, 1) := dk_84 (dk_at dksJ12_appendNull_2 10 rfl rfl)
theorem dJ12_appendNull_59 : decode cJ12_appendNull 59 = .ok (.goto 17, 3) := dk_167 0 17 (dk_at dksJ12_appendNull_2 11 rfl rfl)
theorem dJ12_appendNull_62 : decode cJ12_appendNull 62 = .ok (.aload_n 2, 1) := dk_44 (dk_at dksJ12_appendNull_2 14 rfl rfl)
theorem dJ12_appendNull_63 : decode cJ12_appendNull 63 = .ok (.iload_n 1, 1) := dk_27 (dk_at dksJ12_appendNull_2 15 rfl rfl)
theorem dJ12_appendNull_64 : decode cJ12_appendNull 64 = .ok (.bipush 110, 2) := dk_16 110 (dk_at dksJ12_appendNull_2 16 rfl rfl)
theorem dJ12_appendNull_66 : decode cJ12_appendNull 66 = .ok (.bipush 117, 2) := dk_16 117 (dk_at dksJ12_appendNull_2 18 rfl rfl)
theorem dJ12_appendNull_68 : decode cJ12_appendNull 68 = .ok (.bipush 108, 2) := dk_16 108 (dk_at dksJ12_appendNull_2 20 rfl rfl)
theorem dJ12_appendNull_70 : decode cJ12_appendNull 70 = .ok (.bipush 108, 2) := dk_16 108 (dk_at dksJ12_appendNull_2 22 rfl rfl)
theorem dJ12_appendNull_72 : decode cJ12_appendNull 72 = .ok (.invokestatic 226, 3) := dk_184 0 226 (dk_at dksJ12_appendNull_3 0 rfl rfl)
theorem dJ12_appendNull_75 : decode cJ12_appendNull 75 = .ok (.istore_n 1, 1) := dk_60 (dk_at dksJ12_appendNull_3 3 rfl rfl)
theorem dJ12_appendNull_76 : decode cJ12_appendNull 76 = .ok (.aload_n 0, 1) := dk_42 (dk_at dksJ12_appendNull_3 4 rfl rfl)
theorem dJ12_appendNull_77 : decode cJ12_appendNull 77 = .ok (.iload_n 1, 1) := dk_27 (dk_at dksJ12_appendNull_3 5 rfl rfl)
theorem dJ12_appendNull_78 : decode cJ12_appendNull 78 = .ok (.putfield 79, 3) := dk_181 0 79 (dk_at dksJ12_appendNull_3 6 rfl rfl)
theorem dJ12_appendNull_81 : decode cJ12_appendNull 81 = .ok (.aload_n 0, 1) := dk_42 (dk_at dksJ12_appendNull_3 9 rfl rfl)
theorem dJ12_appendNull_82 : decode cJ12_appendNull 82 = .ok (.areturn, 1) := dk_176 (dk_at dksJ12_appendNull_3 10 rfl rfl)
abbrev cJ12_ensureCapacityInternal : ByteArray := prog_25_method_9_code
def yJ12_ensureCapacityInternal : MethodName := ⟨RJ12, "ensureCapacityInternal", "(I)V"⟩
def dkwJ12_ensureCapacityInternal_1 : List UInt8 := [182, 0, 104, 42, 180, 0, 22, 120, 184, 0, 108, 181, 0, 15, 177]
abbrev dktJ12_ensureCapacityInternal_1 : List UInt8 := dkwJ12_ensureCapacityInternal_1 ++ []
def dkwJ12_ensureCapacityInternal_0 : List UInt8 := [42, 180, 0, 15, 190, 42, 180, 0, 22, 122, 61, 27, 28, 100, 158, 0, 24, 42, 42, 180, 0, 15, 42, 27]
abbrev dktJ12_ensureCapacityInternal_0 : List UInt8 := dkwJ12_ensureCapacityInternal_0 ++ dktJ12_ensureCapacityInternal_1
theorem dksJ12_ensureCapacityInternal_0 : cJ12_ensureCapacityInternal.data.toList.drop 0 = dktJ12_ensureCapacityInternal_0 := by decide +kernel
theorem dksJ12_ensureCapacityInternal_1 : cJ12_ensureCapacityInternal.data.toList.drop 24 = dktJ12_ensureCapacityInternal_1 := dk_seg dksJ12_ensureCapacityInternal_0 24 rfl rfl
theorem dJ12_ensureCapacityInternal_0 : decode cJ12_ensureCapacityInternal 0 = .ok (.aload_n 0, 1) := dk_42 (dk_at dksJ12_ensureCapacityInternal_0 0 rfl rfl)
theorem dJ12_ensureCapacityInternal_1 : decode cJ12_ensureCapacityInternal 1 = .ok (.getfield 15, 3) := dk_180 0 15 (dk_at dksJ12_ensureCapacityInternal_0 1 rfl rfl)
theorem dJ12_ensureCapacityInternal_4 : decode cJ12_ensureCapacityInternal 4 = .ok (.arraylength, 1) := dk_190 (dk_at dksJ12_ensureCapacityInternal_0 4 rfl rfl)
theorem dJ12_ensureCapacityInternal_5 : decode cJ12_ensureCapacityInternal 5 = .ok (.aload_n 0, 1) := dk_42 (dk_at dksJ12_ensureCapacityInternal_0 5 rfl rfl)
theorem dJ12_ensureCapacityInternal_6 : decode cJ12_ensureCapacityInternal 6 = .ok (.getfield 22, 3) := dk_180 0 22 (dk_at dksJ12_ensureCapacityInternal_0 6 rfl rfl)
theorem dJ12_ensureCapacityInternal_9 : decode cJ12_ensureCapacityInternal 9 = .ok (.ishr, 1) := dk_122 (dk_at dksJ12_ensureCapacityInternal_0 9 rfl rfl)
theorem dJ12_ensureCapacityInternal_10 : decode cJ12_ensureCapacityInternal 10 = .ok (.istore_n 2, 1) := dk_61 (dk_at dksJ12_ensureCapacityInternal_0 10 rfl rfl)
theorem dJ12_ensureCapacityInternal_11 : decode cJ12_ensureCapacityInternal 11 = .ok (.iload_n 1, 1) := dk_27 (dk_at dksJ12_ensureCapacityInternal_0 11 rfl rfl)
theorem dJ12_ensureCapacityInternal_12 : decode cJ12_ensureCapacityInternal 12 = .ok (.iload_n 2, 1) := dk_28 (dk_at dksJ12_ensureCapacityInternal_0 12 rfl rfl)
theorem dJ12_ensureCapacityInternal_13 : decode cJ12_ensureCapacityInternal 13 = .ok (.isub, 1) := dk_100 (dk_at dksJ12_ensureCapacityInternal_0 13 rfl rfl)
theorem dJ12_ensureCapacityInternal_14 : decode cJ12_ensureCapacityInternal 14 = .ok (.ifCond .le 24, 3) := dk_158 0 24 (dk_at dksJ12_ensureCapacityInternal_0 14 rfl rfl)
theorem dJ12_ensureCapacityInternal_17 : decode cJ12_ensureCapacityInternal 17 = .ok (.aload_n 0, 1) := dk_42 (dk_at dksJ12_ensureCapacityInternal_0 17 rfl rfl)
theorem dJ12_ensureCapacityInternal_18 : decode cJ12_ensureCapacityInternal 18 = .ok (.aload_n 0, 1) := dk_42 (dk_at dksJ12_ensureCapacityInternal_0 18 rfl rfl)
theorem dJ12_ensureCapacityInternal_19 : decode cJ12_ensureCapacityInternal 19 = .ok (.getfield 15, 3) := dk_180 0 15 (dk_at dksJ12_ensureCapacityInternal_0 19 rfl rfl)
theorem dJ12_ensureCapacityInternal_22 : decode cJ12_ensureCapacityInternal 22 = .ok (.aload_n 0, 1) := dk_42 (dk_at dksJ12_ensureCapacityInternal_0 22 rfl rfl)
theorem dJ12_ensureCapacityInternal_23 : decode cJ12_ensureCapacityInternal 23 = .ok (.iload_n 1, 1) := dk_27 (dk_at dksJ12_ensureCapacityInternal_0 23 rfl rfl)
theorem dJ12_ensureCapacityInternal_24 : decode cJ12_ensureCapacityInternal 24 = .ok (.invokevirtual 104, 3) := dk_182 0 104 (dk_at dksJ12_ensureCapacityInternal_1 0 rfl rfl)
theorem dJ12_ensureCapacityInternal_27 : decode cJ12_ensureCapacityInternal 27 = .ok (.aload_n 0, 1) := dk_42 (dk_at dksJ12_ensureCapacityInternal_1 3 rfl rfl)
theorem dJ12_ensureCapacityInternal_28 : decode cJ12_ensureCapacityInternal 28 = .ok (.getfield 22, 3) := dk_180 0 22 (dk_at dksJ12_ensureCapacityInternal_1 4 rfl rfl)
theorem dJ12_ensureCapacityInternal_31 : decode cJ12_ensureCapacityInternal 31 = .ok (.ishl, 1) := dk_120 (dk_at dksJ12_ensureCapacityInternal_1 7 rfl rfl)
theorem dJ12_ensureCapacityInternal_32 : decode cJ12_ensureCapacityInternal 32 = .ok (.invokestatic 108, 3) := dk_184 0 108 (dk_at dksJ12_ensureCapacityInternal_1 8 rfl rfl)
theorem dJ12_ensureCapacityInternal_35 : decode cJ12_ensureCapacityInternal 35 = .ok (.putfield 15, 3) := dk_181 0 15 (dk_at dksJ12_ensureCapacityInternal_1 11 rfl rfl)
theorem dJ12_ensureCapacityInternal_38 : decode cJ12_ensureCapacityInternal 38 = .ok (.return_, 1) := dk_177 (dk_at dksJ12_ensureCapacityInternal_1 14 rfl rfl)
abbrev cJ12_newCapacity : ByteArray := prog_25_method_10_code
def yJ12_newCapacity : MethodName := ⟨RJ12, "newCapacity", "(I)I"⟩
def dkwJ12_newCapacity_2 : List UInt8 := [183, 0, 124, 191, 21, 5, 42, 180, 0, 22, 122, 172]
abbrev dktJ12_newCapacity_2 : List UInt8 := dkwJ12_newCapacity_2 ++ []
def dkwJ12_newCapacity_1 : List UInt8 := [180, 0, 22, 120, 96, 184, 0, 114, 54, 5, 21, 5, 18, 39, 160, 0, 13, 187, 0, 120, 89, 18, 122]
abbrev dktJ12_newCapacity_1 : List UInt8 := dkwJ12_newCapacity_1 ++ dktJ12_newCapacity_2
def dkwJ12_newCapacity_0 : List UInt8 := [42, 180, 0, 15, 190, 61, 27, 42, 180, 0, 22, 120, 62, 29, 28, 100, 54, 4, 28, 21, 4, 28, 5, 42]
abbrev dktJ12_newCapacity_0 : List UInt8 := dkwJ12_newCapacity_0 ++ dktJ12_newCapacity_1
theorem dksJ12_newCapacity_0 : cJ12_newCapacity.data.toList.drop 0 = dktJ12_newCapacity_0 := by decide +kernel
theorem dksJ12_newCapacity_1 : cJ12_newCapacity.data.toList.drop 24 = dktJ12_newCapacity_1 := dk_seg dksJ12_newCapacity_0 24 rfl rfl
theorem dksJ12_newCapacity_2 : cJ12_newCapacity.data.toList.drop 47 = dktJ12_newCapacity_2 := dk_seg dksJ12_newCapacity_1 23 rfl rfl
theorem dJ12_newCapacity_0 : decode cJ12_newCapacity 0 = .ok (.aload_n 0, 1) := dk_42 (dk_at dksJ12_newCapacity_0 0 rfl rfl)
theorem dJ12_newCapacity_1 : decode cJ12_newCapacity 1 = .ok (.getfield 15, 3) := dk_180 0 15 (dk_at dksJ12_newCapacity_0 1 rfl rfl)
theorem dJ12_newCapacity_4 : decode cJ12_newCapacity 4 = .ok (.arraylength, 1) := dk_190 (dk_at dksJ12_newCapacity_0 4 rfl rfl)
theorem dJ12_newCapacity_5 : decode cJ12_newCapacity 5 = .ok (.istore_n 2, 1) := dk_61 (dk_at dksJ12_newCapacity_0 5 rfl rfl)
theorem dJ12_newCapacity_6 : decode cJ12_newCapacity 6 = .ok (.iload_n 1, 1) := dk_27 (dk_at dksJ12_newCapacity_0 6 rfl rfl)
theorem dJ12_newCapacity_7 : decode cJ12_newCapacity 7 = .ok (.aload_n 0, 1) := dk_42 (dk_at dksJ12_newCapacity_0 7 rfl rfl)
theorem dJ12_newCapacity_8 : decode cJ12_newCapacity 8 = .ok (.getfield 22, 3) := dk_180 0 22 (dk_at dksJ12_newCapacity_0 8 rfl rfl)
theorem dJ12_newCapacity_11 : decode cJ12_newCapacity 11 = .ok (.ishl, 1) := dk_120 (dk_at dksJ12_newCapacity_0 11 rfl rfl)
theorem dJ12_newCapacity_12 : decode cJ12_newCapacity 12 = .ok (.istore_n 3, 1) := dk_62 (dk_at dksJ12_newCapacity_0 12 rfl rfl)
theorem dJ12_newCapacity_13 : decode cJ12_newCapacity 13 = .ok (.iload_n 3, 1) := dk_29 (dk_at dksJ12_newCapacity_0 13 rfl rfl)
theorem dJ12_newCapacity_14 : decode cJ12_newCapacity 14 = .ok (.iload_n 2, 1) := dk_28 (dk_at dksJ12_newCapacity_0 14 rfl rfl)
theorem dJ12_newCapacity_15 : decode cJ12_newCapacity 15 = .ok (.isub, 1) := dk_100 (dk_at dksJ12_newCapacity_0 15 rfl rfl)
theorem dJ12_newCapacity_16 : decode cJ12_newCapacity 16 = .ok (.istore 4, 2) := dk_54 4 (dk_at dksJ12_newCapacity_0 16 rfl rfl)
theorem dJ12_newCapacity_18 : decode cJ12_newCapacity 18 = .ok (.iload_n 2, 1) := dk_28 (dk_at dksJ12_newCapacity_0 18 rfl rfl)
theorem dJ12_newCapacity_19 : decode cJ12_newCapacity 19 = .ok (.iload 4, 2) := dk_21 4 (dk_at dksJ12_newCapacity_0 19 rfl rfl)
theorem dJ12_newCapacity_21 : decode cJ12_newCapacity 21 = .ok (.iload_n 2, 1) := dk_28 (dk_at dksJ12_newCapacity_0 21 rfl rfl)
theorem dJ12_newCapacity_22 : decode cJ12_newCapacity 22 = .ok (.iconst 2, 1) := dk_5 (dk_at dksJ12_newCapacity_0 22 rfl rfl)
theorem dJ12_newCapacity_23 : decode cJ12_newCapacity 23 = .ok (.aload_n 0, 1) := dk_42 (dk_at dksJ12_newCapacity_0 23 rfl rfl)
theorem dJ12_newCapacity_24 : decode cJ12_newCapacity 24 = .ok (.getfield 22, 3) := dk_180 0 22 (dk_at dksJ12_newCapacity_1 0 rfl rfl)
theorem dJ12_newCapacity_27 : decode cJ12_newCapacity 27 = .ok (.ishl, 1) := dk_120 (dk_at dksJ12_newCapacity_1 3 rfl rfl)
theorem dJ12_newCapacity_28 : decode cJ12_newCapacity 28 = .ok (.iadd, 1) := dk_96 (dk_at dksJ12_newCapacity_1 4 rfl rfl)
theorem dJ12_newCapacity_29 : decode cJ12_newCapacity 29 = .ok (.invokestatic 114, 3) := dk_184 0 114 (dk_at dksJ12_newCapacity_1 5 rfl rfl)
theorem dJ12_newCapacity_32 : decode cJ12_newCapacity 32 = .ok (.istore 5, 2) := dk_54 5 (dk_at dksJ12_newCapacity_1 8 rfl rfl)
theorem dJ12_newCapacity_34 : decode cJ12_newCapacity 34 = .ok (.iload 5, 2) := dk_21 5 (dk_at dksJ12_newCapacity_1 10 rfl rfl)
theorem dJ12_newCapacity_36 : decode cJ12_newCapacity 36 = .ok (.ldc 39, 2) := dk_18 39 (dk_at dksJ12_newCapacity_1 12 rfl rfl)
theorem dJ12_newCapacity_38 : decode cJ12_newCapacity 38 = .ok (.if_icmp .ne 13, 3) := dk_160 0 13 (dk_at dksJ12_newCapacity_1 14 rfl rfl)
theorem dJ12_newCapacity_41 : decode cJ12_newCapacity 41 = .ok (.new 120, 3) := dk_187 0 120 (dk_at dksJ12_newCapacity_1 17 rfl rfl)
theorem dJ12_newCapacity_44 : decode cJ12_newCapacity 44 = .ok (.dup, 1) := dk_89 (dk_at dksJ12_newCapacity_1 20 rfl rfl)
theorem dJ12_newCapacity_45 : decode cJ12_newCapacity 45 = .ok (.ldc 122, 2) := dk_18 122 (dk_at dksJ12_newCapacity_1 21 rfl rfl)
theorem dJ12_newCapacity_47 : decode cJ12_newCapacity 47 = .ok (.invokespecial 124, 3) := dk_183 0 124 (dk_at dksJ12_newCapacity_2 0 rfl rfl)
theorem dJ12_newCapacity_50 : decode cJ12_newCapacity 50 = .ok (.athrow, 1) := dk_191 (dk_at dksJ12_newCapacity_2 3 rfl rfl)
theorem dJ12_newCapacity_51 : decode cJ12_newCapacity 51 = .ok (.iload 5, 2) := dk_21 5 (dk_at dksJ12_newCapacity_2 4 rfl rfl)
theorem dJ12_newCapacity_53 : decode cJ12_newCapacity 53 = .ok (.aload_n 0, 1) := dk_42 (dk_at dksJ12_newCapacity_2 6 rfl rfl)
theorem dJ12_newCapacity_54 : decode cJ12_newCapacity 54 = .ok (.getfield 22, 3) := dk_180 0 22 (dk_at dksJ12_newCapacity_2 7 rfl rfl)
theorem dJ12_newCapacity_57 : decode cJ12_newCapacity 57 = .ok (.ishr, 1) := dk_122 (dk_at dksJ12_newCapacity_2 10 rfl rfl)
theorem dJ12_newCapacity_58 : decode cJ12_newCapacity 58 = .ok (.ireturn, 1) := dk_172 (dk_at dksJ12_newCapacity_2 11 rfl rfl)
abbrev cJ12_isLatin1 : ByteArray := prog_25_method_68_code
def yJ12_isLatin1 : MethodName := ⟨RJ12, "isLatin1", "()Z"⟩
def dkwJ12_isLatin1_0 : List UInt8 := [178, 0, 18, 153, 0, 14, 42, 180, 0, 22, 154, 0, 7, 4, 167, 0, 4, 3, 172]
abbrev dktJ12_isLatin1_0 : List UInt8 := dkwJ12_isLatin1_0 ++ []
theorem dksJ12_isLatin1_0 : cJ12_isLatin1.data.toList.drop 0 = dktJ12_isLatin1_0 := by decide +kernel
theorem dJ12_isLatin1_0 : decode cJ12_isLatin1 0 = .ok (.getstatic 18, 3) := dk_178 0 18 (dk_at dksJ12_isLatin1_0 0 rfl rfl)
theorem dJ12_isLatin1_3 : decode cJ12_isLatin1 3 = .ok (.ifCond .eq 14, 3) := dk_153 0 14 (dk_at dksJ12_isLatin1_0 3 rfl rfl)
theorem dJ12_isLatin1_6 : decode cJ12_isLatin1 6 = .ok (.aload_n 0, 1) := dk_42 (dk_at dksJ12_isLatin1_0 6 rfl rfl)
theorem dJ12_isLatin1_7 : decode cJ12_isLatin1 7 = .ok (.getfield 22, 3) := dk_180 0 22 (dk_at dksJ12_isLatin1_0 7 rfl rfl)
theorem dJ12_isLatin1_10 : decode cJ12_isLatin1 10 = .ok (.ifCond .ne 7, 3) := dk_154 0 7 (dk_at dksJ12_isLatin1_0 10 rfl rfl)
theorem dJ12_isLatin1_13 : decode cJ12_isLatin1 13 = .ok (.iconst 1, 1) := dk_4 (dk_at dksJ12_isLatin1_0 13 rfl rfl)
theorem dJ12_isLatin1_14 : decode cJ12_isLatin1 14 = .ok (.goto 4, 3) := dk_167 0 4 (dk_at dksJ12_isLatin1_0 14 rfl rfl)
theorem dJ12_isLatin1_17 : decode cJ12_isLatin1 17 = .ok (.iconst 0, 1) := dk_3 (dk_at dksJ12_isLatin1_0 17 rfl rfl)
theorem dJ12_isLatin1_18 : decode cJ12_isLatin1 18 = .ok (.ireturn, 1) := dk_172 (dk_at dksJ12_isLatin1_0 18 rfl rfl)
abbrev cJ12_putStringAt : ByteArray := prog_25_method_73_code
def yJ12_putStringAt : MethodName := ⟨RJ12, "putStringAt", "(ILjava/lang/String;)V"⟩
def dkwJ12_putStringAt_0 : List UInt8 := [42, 44, 182, 1, 141, 44, 42, 180, 0, 15, 27, 42, 180, 0, 22, 182, 1, 143, 177]
abbrev dktJ12_putStringAt_0 : List UInt8 := dkwJ12_putStringAt_0 ++ []
theorem dksJ12_putStringAt_0 : cJ12_putStringAt.data.toList.drop 0 = dktJ12_putStringAt_0 := by decide +kernel
theorem dJ12_putStringAt_0 : decode cJ12_putStringAt 0 = .ok (.aload_n 0, 1) := dk_42 (dk_at dksJ12_putStringAt_0 0 rfl rfl)
theorem dJ12_putStringAt_1 : decode cJ12_putStringAt 1 = .ok (.aload_n 2, 1) := dk_44 (dk_at dksJ12_putStringAt_0 1 rfl rfl)
theorem dJ12_putStringAt_2 : decode cJ12_putStringAt 2 = .ok (.invokevirtual 397, 3) := dk_182 1 141 (dk_at dksJ12_putStringAt_0 2 rfl rfl)
theorem dJ12_putStringAt_5 : decode cJ12_putStringAt 5 = .ok (.aload_n 2, 1) := dk_44 (dk_at dksJ12_putStringAt_0 5 rfl rfl)
theorem dJ12_putStringAt_6 : decode cJ12_putStringAt 6 = .ok (.aload_n 0, 1) := dk_42 (dk_at dksJ12_putStringAt_0 6 rfl rfl)
theorem dJ12_putStringAt_7 : decode cJ12_putStringAt 7 = .ok (.getfield 15, 3) := dk_180 0 15 (dk_at dksJ12_putStringAt_0 7 rfl rfl)
theorem dJ12_putStringAt_10 : decode cJ12_putStringAt 10 = .ok (.iload_n 1, 1) := dk_27 (dk_at dksJ12_putStringAt_0 10 rfl rfl)
theorem dJ12_putStringAt_11 : decode cJ12_putStringAt 11 = .ok (.aload_n 0, 1) := dk_42 (dk_at dksJ12_putStringAt_0 11 rfl rfl)
theorem dJ12_putStringAt_12 : decode cJ12_putStringAt 12 = .ok (.getfield 22, 3) := dk_180 0 22 (dk_at dksJ12_putStringAt_0 12 rfl rfl)
theorem dJ12_putStringAt_15 : decode cJ12_putStringAt 15 = .ok (.invokevirtual 399, 3) := dk_182 1 143 (dk_at dksJ12_putStringAt_0 15 rfl rfl)
theorem dJ12_putStringAt_18 : decode cJ12_putStringAt 18 = .ok (.return_, 1) := dk_177 (dk_at dksJ12_putStringAt_0 18 rfl rfl)
abbrev cJ12_inflateIfNeededFor : ByteArray := prog_25_method_71_code
def yJ12_inflateIfNeededFor : MethodName := ⟨RJ12, "inflateIfNeededFor", "(Ljava/lang/String;)V"⟩
def dkwJ12_inflateIfNeededFor_0 : List UInt8 := [178, 0, 18, 153, 0, 18, 42, 180, 0, 22, 43, 182, 0, 40, 159, 0, 7, 42, 182, 0, 195, 177]
abbrev dktJ12_inflateIfNeededFor_0 : List UInt8 := dkwJ12_inflateIfNeededFor_0 ++ []
theorem dksJ12_inflateIfNeededFor_0 : cJ12_inflateIfNeededFor.data.toList.drop 0 = dktJ12_inflateIfNeededFor_0 := by decide +kernel
theorem dJ12_inflateIfNeededFor_0 : decode cJ12_inflateIfNeededFor 0 = .ok (.getstatic 18, 3) := dk_178 0 18 (dk_at dksJ12_inflateIfNeededFor_0 0 rfl rfl)
theorem dJ12_inflateIfNeededFor_3 : decode cJ12_inflateIfNeededFor 3 = .ok (.ifCond .eq 18, 3) := dk_153 0 18 (dk_at dksJ12_inflateIfNeededFor_0 3 rfl rfl)
theorem dJ12_inflateIfNeededFor_6 : decode cJ12_inflateIfNeededFor 6 = .ok (.aload_n 0, 1) := dk_42 (dk_at dksJ12_inflateIfNeededFor_0 6 rfl rfl)
theorem dJ12_inflateIfNeededFor_7 : decode cJ12_inflateIfNeededFor 7 = .ok (.getfield 22, 3) := dk_180 0 22 (dk_at dksJ12_inflateIfNeededFor_0 7 rfl rfl)
theorem dJ12_inflateIfNeededFor_10 : decode cJ12_inflateIfNeededFor 10 = .ok (.aload_n 1, 1) := dk_43 (dk_at dksJ12_inflateIfNeededFor_0 10 rfl rfl)
theorem dJ12_inflateIfNeededFor_11 : decode cJ12_inflateIfNeededFor 11 = .ok (.invokevirtual 40, 3) := dk_182 0 40 (dk_at dksJ12_inflateIfNeededFor_0 11 rfl rfl)
theorem dJ12_inflateIfNeededFor_14 : decode cJ12_inflateIfNeededFor 14 = .ok (.if_icmp .eq 7, 3) := dk_159 0 7 (dk_at dksJ12_inflateIfNeededFor_0 14 rfl rfl)
theorem dJ12_inflateIfNeededFor_17 : decode cJ12_inflateIfNeededFor 17 = .ok (.aload_n 0, 1) := dk_42 (dk_at dksJ12_inflateIfNeededFor_0 17 rfl rfl)
theorem dJ12_inflateIfNeededFor_18 : decode cJ12_inflateIfNeededFor 18 = .ok (.invokevirtual 195, 3) := dk_182 0 195 (dk_at dksJ12_inflateIfNeededFor_0 18 rfl rfl)
theorem dJ12_inflateIfNeededFor_21 : decode cJ12_inflateIfNeededFor 21 = .ok (.return_, 1) := dk_177 (dk_at dksJ12_inflateIfNeededFor_0 21 rfl rfl)
abbrev cJ12_inflate : ByteArray := prog_25_method_11_code
def yJ12_inflate : MethodName := ⟨RJ12, "inflate", "()V"⟩
def dkwJ12_inflate_1 : List UInt8 := [42, 180, 0, 79, 184, 0, 125, 42, 43, 181, 0, 15, 42, 4, 181, 0, 22, 177]
abbrev dktJ12_inflate_1 : List UInt8 := dkwJ12_inflate_1 ++ []
def dkwJ12_inflate_0 : List UInt8 := [42, 182, 0, 83, 154, 0, 4, 177, 42, 180, 0, 15, 190, 184, 0, 26, 76, 42, 180, 0, 15, 3, 43, 3]
abbrev dktJ12_inflate_0 : List UInt8 := dkwJ12_inflate_0 ++ dktJ12_inflate_1
theorem dksJ12_inflate_0 : cJ12_inflate.data.toList.drop 0 = dktJ12_inflate_0 := by decide +kernel
theorem dksJ12_inflate_1 : cJ12_inflate.data.toList.drop 24 = dktJ12_inflate_1 := dk_seg dksJ12_inflate_0 24 rfl rfl
theorem dJ12_inflate_0 : decode cJ12_inflate 0 = .ok (.aload_n 0, 1) := dk_42 (dk_at dksJ12_inflate_0 0 rfl rfl)
theorem dJ12_inflate_1 : decode cJ12_inflate 1 = .ok (.invokevirtual 83, 3) := dk_182 0 83 (dk_at dksJ12_inflate_0 1 rfl rfl)
theorem dJ12_inflate_4 : decode cJ12_inflate 4 = .ok (.ifCond .ne 4, 3) := dk_154 0 4 (dk_at dksJ12_inflate_0 4 rfl rfl)
theorem dJ12_inflate_7 : decode cJ12_inflate 7 = .ok (.return_, 1) := dk_177 (dk_at dksJ12_inflate_0 7 rfl rfl)
theorem dJ12_inflate_8 : decode cJ12_inflate 8 = .ok (.aload_n 0, 1) := dk_42 (dk_at dksJ12_inflate_0 8 rfl rfl)
theorem dJ12_inflate_9 : decode cJ12_inflate 9 = .ok (.getfield 15, 3) := dk_180 0 15 (dk_at dksJ12_inflate_0 9 rfl rfl)
theorem dJ12_inflate_12 : decode cJ12_inflate 12 = .ok (.arraylength, 1) := dk_190 (dk_at dksJ12_inflate_0 12 rfl rfl)
theorem dJ12_inflate_13 : decode cJ12_inflate 13 = .ok (.invokestatic 26, 3) := dk_184 0 26 (dk_at dksJ12_inflate_0 13 rfl rfl)
theorem dJ12_inflate_16 : decode cJ12_inflate 16 = .ok (.astore_n 1, 1) := dk_76 (dk_at dksJ12_inflate_0 16 rfl rfl)
theorem dJ12_inflate_17 : decode cJ12_inflate 17 = .ok (.aload_n 0, 1) := dk_42 (dk_at dksJ12_inflate_0 17 rfl rfl)
theorem dJ12_inflate_18 : decode cJ12_inflate 18 = .ok (.getfield 15, 3) := dk_180 0 15 (dk_at dksJ12_inflate_0 18 rfl rfl)
theorem dJ12_inflate_21 : decode cJ12_inflate 21 = .ok (.iconst 0, 1) := dk_3 (dk_at dksJ12_inflate_0 21 rfl rfl)
theorem dJ12_inflate_22 : decode cJ12_inflate 22 = .ok (.aload_n 1, 1) := dk_43 (dk_at dksJ12_inflate_0 22 rfl rfl)
theorem dJ12_inflate_23 : decode cJ12_inflate 23 = .ok (.iconst 0, 1) := dk_3 (dk_at dksJ12_inflate_0 23 rfl rfl)
theorem dJ12_inflate_24 : decode cJ12_inflate 24 = .ok (.aload_n 0, 1) := dk_42 (dk_at dksJ12_inflate_1 0 rfl rfl)
theorem dJ12_inflate_25 : decode cJ12_inflate 25 = .ok (.getfield 79, 3) := dk_180 0 79 (dk_at dksJ12_inflate_1 1 rfl rfl)
theorem dJ12_inflate_28 : decode cJ12_inflate 28 = .ok (.invokestatic 125, 3) := dk_184 0 125 (dk_at dksJ12_inflate_1 4 rfl rfl)
theorem dJ12_inflate_31 : decode cJ12_inflate 31 = .ok (.aload_n 0, 1) := dk_42 (dk_at dksJ12_inflate_1 7 rfl rfl)
theorem dJ12_inflate_32 : decode cJ12_inflate 32 = .ok (.aload_n 1, 1) := dk_43 (dk_at dksJ12_inflate_1 8 rfl rfl)
theorem dJ12_inflate_33 : decode cJ12_inflate 33 = .ok (.putfield 15, 3) := dk_181 0 15 (dk_at dksJ12_inflate_1 9 rfl rfl)
theorem dJ12_inflate_36 : decode cJ12_inflate 36 = .ok (.aload_n 0, 1) := dk_42 (dk_at dksJ12_inflate_1 12 rfl rfl)
theorem dJ12_inflate_37 : decode cJ12_inflate 37 = .ok (.iconst 1, 1) := dk_4 (dk_at dksJ12_inflate_1 13 rfl rfl)
theorem dJ12_inflate_38 : decode cJ12_inflate 38 = .ok (.putfield 22, 3) := dk_181 0 22 (dk_at dksJ12_inflate_1 14 rfl rfl)
theorem dJ12_inflate_41 : decode cJ12_inflate 41 = .ok (.return_, 1) := dk_177 (dk_at dksJ12_inflate_1 17 rfl rfl)
abbrev cJ12_getValue : ByteArray := prog_25_method_64_code
def yJ12_getValue : MethodName := ⟨RJ12, "getValue", "()[B"⟩
theorem dJ12_getValue_0 : decode cJ12_getValue 0 = .ok (.aload_n 0, 1) := by decide +kernel
theorem dJ12_getValue_1 : decode cJ12_getValue 1 = .ok (.getfield 15, 3) := by decide +kernel
theorem dJ12_getValue_4 : decode cJ12_getValue 4 = .ok (.areturn, 1) := by decide +kernel
abbrev cJ12_length : ByteArray := prog_25_method_6_code
def yJ12_length : MethodName := ⟨RJ12, "length", "()I"⟩
theorem dJ12_length_0 : decode cJ12_length 0 = .ok (.aload_n 0, 1) := by decide +kernel
theorem dJ12_length_1 : decode cJ12_length 1 = .ok (.getfield 79, 3) := by decide +kernel
theorem dJ12_length_4 : decode cJ12_length 4 = .ok (.ireturn, 1) := by decide +kernel
abbrev cJ12_append_2 : ByteArray := prog_25_method_31_code
def yJ12_append_2 : MethodName := ⟨RJ12, "append", "(C)Ljava/lang/AbstractStringBuilder;"⟩
def dkwJ12_append_2_3 : List UInt8 := [181, 0, 79, 27, 184, 0, 197, 42, 176]
abbrev dktJ12_append_2_3 : List UInt8 := dkwJ12_append_2_3 ++ []
def dkwJ12_append_2_2 : List UInt8 := [182, 0, 83, 153, 0, 7, 42, 182, 0, 195, 42, 180, 0, 15, 42, 89, 180, 0, 79, 90, 4, 96]
abbrev dktJ12_append_2_2 : List UInt8 := dkwJ12_append_2_2 ++ dktJ12_append_2_3
def dkwJ12_append_2_1 : List UInt8 := [42, 180, 0, 15, 42, 89, 180, 0, 79, 90, 4, 96, 181, 0, 79, 27, 145, 84, 167, 0, 33, 42]
abbrev dktJ12_append_2_1 : List UInt8 := dkwJ12_append_2_1 ++ dktJ12_append_2_2
def dkwJ12_append_2_0 : List UInt8 := [42, 42, 180, 0, 79, 4, 96, 182, 0, 100, 42, 182, 0, 83, 153, 0, 31, 27, 184, 0, 191, 153, 0, 24]
abbrev dktJ12_append_2_0 : List UInt8 := dkwJ12_append_2_0 ++ dktJ12_append_2_1
theorem dksJ12_append_2_0 : cJ12_append_2.data.toList.drop 0 = dktJ12_append_2_0 := by decide +kernel
theorem dksJ12_append_2_1 : cJ12_append_2.data.toList.drop 24 = dktJ12_append_2_1 := dk_seg dksJ12_append_2_0 24 rfl rfl
theorem dksJ12_append_2_2 : cJ12_append_2.data.toList.drop 46 = dktJ12_append_2_2 := dk_seg dksJ12_append_2_1 22 rfl rfl
theorem dksJ12_append_2_3 : cJ12_append_2.data.toList.drop 68 = dktJ12_append_2_3 := dk_seg dksJ12_append_2_2 22 rfl rfl
theorem dJ12_append_2_0 : decode cJ12_append_2 0 = .ok (.aload_n 0, 1) := dk_42 (dk_at dksJ12_append_2_0 0 rfl rfl)
theorem dJ12_append_2_1 : decode cJ12_append_2 1 = .ok (.aload_n 0, 1) := dk_42 (dk_at dksJ12_append_2_0 1 rfl rfl)
theorem dJ12_append_2_2 : decode cJ12_append_2 2 = .ok (.getfield 79, 3) := dk_180 0 79 (dk_at dksJ12_append_2_0 2 rfl rfl)
theorem dJ12_append_2_5 : decode cJ12_append_2 5 = .ok (.iconst 1, 1) := dk_4 (dk_at dksJ12_append_2_0 5 rfl rfl)
theorem dJ12_append_2_6 : decode cJ12_append_2 6 = .ok (.iadd, 1) := dk_96 (dk_at dksJ12_append_2_0 6 rfl rfl)
theorem dJ12_append_2_7 : decode cJ12_append_2 7 = .ok (.invokevirtual 100, 3) := dk_182 0 100 (dk_at dksJ12_append_2_0 7 rfl rfl)
theorem dJ12_append_2_10 : decode cJ12_append_2 10 = .ok (.aload_n 0, 1) := dk_42 (dk_at dksJ12_append_2_0 10 rfl rfl)
theorem dJ12_append_2_11 : decode cJ12_append_2 11 = .ok (.invokevirtual 83, 3) := dk_182 0 83 (dk_at dksJ12_append_2_0 11 rfl rfl)
theorem dJ12_append_2_14 : decode cJ12_append_2 14 = .ok (.ifCond .eq 31, 3) := dk_153 0 31 (dk_at dksJ12_append_2_0 14 rfl rfl)
theorem dJ12_append_2_17 : decode cJ12_append_2 17 = .ok (.iload_n 1, 1) := dk_27 (dk_at dksJ12_append_2_0 17 rfl rfl)
theorem dJ12_append_2_18 : decode cJ12_append_2 18 = .ok (.invokestatic 191, 3) := dk_184 0 191 (dk_at dksJ12_append_2_0 18 rfl rfl)
theorem dJ12_append_2_21 : decode cJ12_append_2 21 = .ok (.ifCond .eq 24, 3) := dk_153 0 24 (dk_at dksJ12_append_2_0 21 rfl rfl)
theorem dJ12_append_2_24 : decode cJ12_append_2 24 = .ok (.aload_n 0, 1) := dk_42 (dk_at dksJ12_append_2_1 0 rfl rfl)
theorem dJ12_append_2_25 : decode cJ12_append_2 25 = .ok (.getfield 15, 3) := dk_180 0 15 (dk_at dksJ12_append_2_1 1 rfl rfl)
theorem dJ12_append_2_28 : decode cJ12_append_2 28 = .ok (.aload_n 0, 1) := dk_42 (dk_at dksJ12_append_2_1 4 rfl rfl)
theorem dJ12_append_2_29 : decode cJ12_append_2 29 = .ok (.dup, 1) := dk_89 (dk_at dksJ12_append_2_1 5 rfl rfl)
theorem dJ12_append_2_30 : decode cJ12_append_2 30 = .ok (.getfield 79, 3) := dk_180 0 79 (dk_at dksJ12_append_2_1 6 rfl rfl)
theorem dJ12_append_2_33 : decode cJ12_append_2 33 = .ok (.dup_x1, 1) := dk_90 (dk_at dksJ12_append_2_1 9 rfl rfl)
theorem dJ12_append_2_34 : decode cJ12_append_2 34 = .ok (.iconst 1, 1) := dk_4 (dk_at dksJ12_append_2_1 10 rfl rfl)
theorem dJ12_append_2_35 : decode cJ12_append_2 35 = .ok (.iadd, 1) := dk_96 (dk_at dksJ12_append_2_1 11 rfl rfl)
theorem dJ12_append_2_36 : decode cJ12_append_2 36 = .ok (.putfield 79, 3) := dk_181 0 79 (dk_at dksJ12_append_2_1 12 rfl rfl)
theorem dJ12_append_2_39 : decode cJ12_append_2 39 = .ok (.iload_n 1, 1) := dk_27 (dk_at dksJ12_append_2_1 15 rfl rfl)
theorem dJ12_append_2_40 : decode cJ12_append_2 40 = .ok (.i2b, 1) := dk_145 (dk_at dksJ12_append_2_1 16 rfl rfl)
theorem dJ12_append_2_41 : decode cJ12_append_2 41 = .ok (.bastore, 1) := dk_84 (dk_at dksJ12_append_2_1 17 rfl rfl)
theorem dJ12_append_2_42 : decode cJ12_append_2 42 = .ok (.goto 33, 3) := dk_167 0 33 (dk_at dksJ12_append_2_1 18 rfl rfl)
theorem dJ12_append_2_45 : decode cJ12_append_2 45 = .ok (.aload_n 0, 1) := dk_42 (dk_at dksJ12_append_2_1 21 rfl rfl)
theorem dJ12_append_2_46 : decode cJ12_append_2 46 = .ok (.invokevirtual 83, 3) := dk_182 0 83 (dk_at dksJ12_append_2_2 0 rfl rfl)
theorem dJ12_append_2_49 : decode cJ12_append_2 49 = .ok (.ifCond .eq 7, 3) := dk_153 0 7 (dk_at dksJ12_append_2_2 3 rfl rfl)
theorem dJ12_append_2_52 : decode cJ12_append_2 52 = .ok (.aload_n 0, 1) := dk_42 (dk_at dksJ12_append_2_2 6 rfl rfl)
theorem dJ12_append_2_53 : decode cJ12_append_2 53 = .ok (.invokevirtual 195, 3) := dk_182 0 195 (dk_at dksJ12_append_2_2 7 rfl rfl)
theorem dJ12_append_2_56 : decode cJ12_append_2 56 = .ok (.aload_n 0, 1) := dk_42 (dk_at dksJ12_append_2_2 10 rfl rfl)
theorem dJ12_append_2_57 : decode cJ12_append_2 57 = .ok (.getfield 15, 3) := dk_180 0 15 (dk_at dksJ12_append_2_2 11 rfl rfl)
theorem dJ12_append_2_60 : decode cJ12_append_2 60 = .ok (.aload_n 0, 1) := dk_42 (dk_at dksJ12_append_2_2 14 rfl rfl)
theorem dJ12_append_2_61 : decode cJ12_append_2 61 = .ok (.dup, 1) := dk_89 (dk_at dksJ12_append_2_2 15 rfl rfl)
theorem dJ12_append_2_62 : decode cJ12_append_2 62 = .ok (.getfield 79, 3) := dk_180 0 79 (dk_at dksJ12_append_2_2 16 rfl rfl)
theorem dJ12_append_2_65 : decode cJ12_append_2 65 = .ok (.dup_x1, 1) := dk_90 (dk_at dksJ12_append_2_2 19 rfl rfl)
theorem dJ12_append_2_66 : decode cJ12_append_2 66 = .ok (.iconst 1, 1) := dk_4 (dk_at dksJ12_append_2_2 20 rfl rfl)
theorem dJ12_append_2_67 : decode cJ12_append_2 67 = .ok (.iadd, 1) := dk_96 (dk_at dksJ12_append_2_2 21 rfl rfl)
theorem dJ12_append_2_68 : decode cJ12_append_2 68 = .ok (.putfield 79, 3) := dk_181 0 79 (dk_at dksJ12_append_2_3 0 rfl rfl)
theorem dJ12_append_2_71 : decode cJ12_append_2 71 = .ok (.iload_n 1, 1) := dk_27 (dk_at dksJ12_append_2_3 3 rfl rfl)
theorem dJ12_append_2_72 : decode cJ12_append_2 72 = .ok (.invokestatic 197, 3) := dk_184 0 197 (dk_at dksJ12_append_2_3 4 rfl rfl)
theorem dJ12_append_2_75 : decode cJ12_append_2 75 = .ok (.aload_n 0, 1) := dk_42 (dk_at dksJ12_append_2_3 7 rfl rfl)
theorem dJ12_append_2_76 : decode cJ12_append_2 76 = .ok (.areturn, 1) := dk_176 (dk_at dksJ12_append_2_3 8 rfl rfl)
abbrev cJ12_charAt : ByteArray := prog_25_method_14_code
def yJ12_charAt : MethodName := ⟨RJ12, "charAt", "(I)C"⟩
def dkwJ12_charAt_1 : List UInt8 := [21, 4, 184, 0, 144, 28, 154, 0, 12, 45, 27, 51, 17, 0, 255, 126, 146, 172, 45, 27, 184, 0, 148, 172]
abbrev dktJ12_charAt_1 : List UInt8 := dkwJ12_charAt_1 ++ []
def dkwJ12_charAt_0 : List UInt8 := [42, 180, 0, 22, 61, 42, 180, 0, 15, 78, 42, 180, 0, 79, 45, 190, 28, 122, 184, 0, 138, 54, 4, 27]
abbrev dktJ12_charAt_0 : List UInt8 := dkwJ12_charAt_0 ++ dktJ12_charAt_1
theorem dksJ12_charAt_0 : cJ12_charAt.data.toList.drop 0 = dktJ12_charAt_0 := by decide +kernel
theorem dksJ12_charAt_1 : cJ12_charAt.data.toList.drop 24 = dktJ12_charAt_1 := dk_seg dksJ12_charAt_0 24 rfl rfl
theorem dJ12_charAt_0 : decode cJ12_charAt 0 = .ok (.aload_n 0, 1) := dk_42 (dk_at dksJ12_charAt_0 0 rfl rfl)
theorem dJ12_charAt_1 : decode cJ12_charAt 1 = .ok (.getfield 22, 3) := dk_180 0 22 (dk_at dksJ12_charAt_0 1 rfl rfl)
theorem dJ12_charAt_4 : decode cJ12_charAt 4 = .ok (.istore_n 2, 1) := dk_61 (dk_at dksJ12_charAt_0 4 rfl rfl)
theorem dJ12_charAt_5 : decode cJ12_charAt 5 = .ok (.aload_n 0, 1) := dk_42 (dk_at dksJ12_charAt_0 5 rfl rfl)
theorem dJ12_charAt_6 : decode cJ12_charAt 6 = .ok (.getfield 15, 3) := dk_180 0 15 (dk_at dksJ12_charAt_0 6 rfl rfl)
theorem dJ12_charAt_9 : decode cJ12_charAt 9 = .ok (.astore_n 3, 1) := dk_78 (dk_at dksJ12_charAt_0 9 rfl rfl)
theorem dJ12_charAt_10 : decode cJ12_charAt 10 = .ok (.aload_n 0, 1) := dk_42 (dk_at dksJ12_charAt_0 10 rfl rfl)
theorem dJ12_charAt_11 : decode cJ12_charAt 11 = .ok (.getfield 79, 3) := dk_180 0 79 (dk_at dksJ12_charAt_0 11 rfl rfl)
theorem dJ12_charAt_14 : decode cJ12_charAt 14 = .ok (.aload_n 3, 1) := dk_45 (dk_at dksJ12_charAt_0 14 rfl rfl)
theorem dJ12_charAt_15 : decode cJ12_charAt 15 = .ok (.arraylength, 1) := dk_190 (dk_at dksJ12_charAt_0 15 rfl rfl)
theorem dJ12_charAt_16 : decode cJ12_charAt 16 = .ok (.iload_n 2, 1) := dk_28 (dk_at dksJ12_charAt_0 16 rfl rfl)
theorem dJ12_charAt_17 : decode cJ12_charAt 17 = .ok (.ishr, 1) := dk_122 (dk_at dksJ12_charAt_0 17 rfl rfl)
theorem dJ12_charAt_18 : decode cJ12_charAt 18 = .ok (.invokestatic 138, 3) := dk_184 0 138 (dk_at dksJ12_charAt_0 18 rfl rfl)
theorem dJ12_charAt_21 : decode cJ12_charAt 21 = .ok (.istore 4, 2) := dk_54 4 (dk_at dksJ12_charAt_0 21 rfl rfl)
theorem dJ12_charAt_23 : decode cJ12_charAt 23 = .ok (.iload_n 1, 1) := dk_27 (dk_at dksJ12_charAt_0 23 rfl rfl)
theorem dJ12_charAt_24 : decode cJ12_charAt 24 = .ok (.iload 4, 2) := dk_21 4 (dk_at dksJ12_charAt_1 0 rfl rfl)
theorem dJ12_charAt_26 : decode cJ12_charAt 26 = .ok (.invokestatic 144, 3) := dk_184 0 144 (dk_at dksJ12_charAt_1 2 rfl rfl)
theorem dJ12_charAt_29 : decode cJ12_charAt 29 = .ok (.iload_n 2, 1) := dk_28 (dk_at dksJ12_charAt_1 5 rfl rfl)
theorem dJ12_charAt_30 : decode cJ12_charAt 30 = .ok (.ifCond .ne 12, 3) := dk_154 0 12 (dk_at dksJ12_charAt_1 6 rfl rfl)
theorem dJ12_charAt_33 : decode cJ12_charAt 33 = .ok (.aload_n 3, 1) := dk_45 (dk_at dksJ12_charAt_1 9 rfl rfl)
theorem dJ12_charAt_34 : decode cJ12_charAt 34 = .ok (.iload_n 1, 1) := dk_27 (dk_at dksJ12_charAt_1 10 rfl rfl)
theorem dJ12_charAt_35 : decode cJ12_charAt 35 = .ok (.baload, 1) := dk_51 (dk_at dksJ12_charAt_1 11 rfl rfl)
theorem dJ12_charAt_36 : decode cJ12_charAt 36 = .ok (.sipush 255, 3) := dk_17 0 255 (dk_at dksJ12_charAt_1 12 rfl rfl)
theorem dJ12_charAt_39 : decode cJ12_charAt 39 = .ok (.iand, 1) := dk_126 (dk_at dksJ12_charAt_1 15 rfl rfl)
theorem dJ12_charAt_40 : decode cJ12_charAt 40 = .ok (.i2c, 1) := dk_146 (dk_at dksJ12_charAt_1 16 rfl rfl)
theorem dJ12_charAt_41 : decode cJ12_charAt 41 = .ok (.ireturn, 1) := dk_172 (dk_at dksJ12_charAt_1 17 rfl rfl)
theorem dJ12_charAt_42 : decode cJ12_charAt 42 = .ok (.aload_n 3, 1) := dk_45 (dk_at dksJ12_charAt_1 18 rfl rfl)
theorem dJ12_charAt_43 : decode cJ12_charAt 43 = .ok (.iload_n 1, 1) := dk_27 (dk_at dksJ12_charAt_1 19 rfl rfl)
theorem dJ12_charAt_44 : decode cJ12_charAt 44 = .ok (.invokestatic 148, 3) := dk_184 0 148 (dk_at dksJ12_charAt_1 20 rfl rfl)
theorem dJ12_charAt_47 : decode cJ12_charAt 47 = .ok (.ireturn, 1) := dk_172 (dk_at dksJ12_charAt_1 23 rfl rfl)
abbrev cJ12_setLength : ByteArray := prog_25_method_13_code
def yJ12_setLength : MethodName := ⟨RJ12, "setLength", "(I)V"⟩
def dkwJ12_setLength_3 : List UInt8 := [164, 0, 8, 42, 4, 181, 0, 73, 42, 27, 181, 0, 79, 177]
abbrev dktJ12_setLength_3 : List UInt8 := dkwJ12_setLength_3 ++ []
def dkwJ12_setLength_2 : List UInt8 := [167, 0, 31, 42, 180, 0, 15, 42, 180, 0, 79, 27, 184, 0, 137, 167, 0, 16, 42, 180, 0, 79, 27]
abbrev dktJ12_setLength_2 : List UInt8 := dkwJ12_setLength_2 ++ dktJ12_setLength_3
def dkwJ12_setLength_1 : List UInt8 := [162, 0, 40, 42, 182, 0, 83, 153, 0, 18, 42, 180, 0, 15, 42, 180, 0, 79, 27, 184, 0, 133]
abbrev dktJ12_setLength_1 : List UInt8 := dkwJ12_setLength_1 ++ dktJ12_setLength_2
def dkwJ12_setLength_0 : List UInt8 := [27, 156, 0, 12, 187, 0, 129, 89, 27, 183, 0, 131, 191, 42, 27, 182, 0, 100, 42, 180, 0, 79, 27]
abbrev dktJ12_setLength_0 : List UInt8 := dkwJ12_setLength_0 ++ dktJ12_setLength_1
theorem dksJ12_setLength_0 : cJ12_setLength.data.toList.drop 0 = dktJ12_setLength_0 := by decide +kernel
theorem dksJ12_setLength_1 : cJ12_setLength.data.toList.drop 23 = dktJ12_setLength_1 := dk_seg dksJ12_setLength_0 23 rfl rfl
theorem dksJ12_setLength_2 : cJ12_setLength.data.toList.drop 45 = dktJ12_setLength_2 := dk_seg dksJ12_setLength_1 22 rfl rfl
theorem dksJ12_setLength_3 : cJ12_setLength.data.toList.drop 68 = dktJ12_setLength_3 := dk_seg dksJ12_setLength_2 23 rfl rfl
theorem dJ12_setLength_0 : decode cJ12_setLength 0 = .ok (.iload_n 1, 1) := dk_27 (dk_at dksJ12_setLength_0 0 rfl rfl)
theorem dJ12_setLength_1 : decode cJ12_setLength 1 = .ok (.ifCond .ge 12, 3) := dk_156 0 12 (dk_at dksJ12_setLength_0 1 rfl rfl)
theorem dJ12_setLength_4 : decode cJ12_setLength 4 = .ok (.new 129, 3) := dk_187 0 129 (dk_at dksJ12_setLength_0 4 rfl rfl)
theorem dJ12_setLength_7 : decode cJ12_setLength 7 = .ok (.dup, 1) := dk_89 (dk_at dksJ12_setLength_0 7 rfl rfl)
theorem dJ12_setLength_8 : decode cJ12_setLength 8 = .ok (.iload_n 1, 1) := dk_27 (dk_at dksJ12_setLength_0 8 rfl rfl)
theorem dJ12_setLength_9 : decode cJ12_setLength 9 = .ok (.invokespecial 131, 3) := dk_183 0 131 (dk_at dksJ12_setLength_0 9 rfl rfl)
theorem dJ12_setLength_12 : decode cJ12_setLength 12 = .ok (.athrow, 1) := dk_191 (dk_at dksJ12_setLength_0 12 rfl rfl)
theorem dJ12_setLength_13 : decode cJ12_setLength 13 = .ok (.aload_n 0, 1) := dk_42 (dk_at dksJ12_setLength_0 13 rfl rfl)
theorem dJ12_setLength_14 : decode cJ12_setLength 14 = .ok (.iload_n 1, 1) := dk_27 (dk_at dksJ12_setLength_0 14 rfl rfl)
theorem dJ12_setLength_15 : decode cJ12_setLength 15 = .ok (.invokevirtual 100, 3) := dk_182 0 100 (dk_at dksJ12_setLength_0 15 rfl rfl)
theorem dJ12_setLength_18 : decode cJ12_setLength 18 = .ok (.aload_n 0, 1) := dk_42 (dk_at dksJ12_setLength_0 18 rfl rfl)
theorem dJ12_setLength_19 : decode cJ12_setLength 19 = .ok (.getfield 79, 3) := dk_180 0 79 (dk_at dksJ12_setLength_0 19 rfl rfl)
theorem dJ12_setLength_22 : decode cJ12_setLength 22 = .ok (.iload_n 1, 1) := dk_27 (dk_at dksJ12_setLength_0 22 rfl rfl)
theorem dJ12_setLength_23 : decode cJ12_setLength 23 = .ok (.if_icmp .ge 40, 3) := dk_162 0 40 (dk_at dksJ12_setLength_1 0 rfl rfl)
theorem dJ12_setLength_26 : decode cJ12_setLength 26 = .ok (.aload_n 0, 1) := dk_42 (dk_at dksJ12_setLength_1 3 rfl rfl)
theorem dJ12_setLength_27 : decode cJ12_setLength 27 = .ok (.invokevirtual 83, 3) := dk_182 0 83 (dk_at dksJ12_setLength_1 4 rfl rfl)
theorem dJ12_setLength_30 : decode cJ12_setLength 30 = .ok (.ifCond .eq 18, 3) := dk_153 0 18 (dk_at dksJ12_setLength_1 7 rfl rfl)
theorem dJ12_setLength_33 : decode cJ12_setLength 33 = .ok (.aload_n 0, 1) := dk_42 (dk_at dksJ12_setLength_1 10 rfl rfl)
theorem dJ12_setLength_34 : decode cJ12_setLength 34 = .ok (.getfield 15, 3) := dk_180 0 15 (dk_at dksJ12_setLength_1 11 rfl rfl)
theorem dJ12_setLength_37 : decode cJ12_setLength 37 = .ok (.aload_n 0, 1) := dk_42 (dk_at dksJ12_setLength_1 14 rfl rfl)
theorem dJ12_setLength_38 : decode cJ12_setLength 38 = .ok (.getfield 79, 3) := dk_180 0 79 (dk_at dksJ12_setLength_1 15 rfl rfl)
theorem dJ12_setLength_41 : decode cJ12_setLength 41 = .ok (.iload_n 1, 1) := dk_27 (dk_at dksJ12_setLength_1 18 rfl rfl)
theorem dJ12_setLength_42 : decode cJ12_setLength 42 = .ok (.invokestatic 133, 3) := dk_184 0 133 (dk_at dksJ12_setLength_1 19 rfl rfl)
theorem dJ12_setLength_45 : decode cJ12_setLength 45 = .ok (.goto 31, 3) := dk_167 0 31 (dk_at dksJ12_setLength_2 0 rfl rfl)
theorem dJ12_setLength_48 : decode cJ12_setLength 48 = .ok (.aload_n 0, 1) := dk_42 (dk_at dksJ12_setLength_2 3 rfl rfl)
theorem dJ12_setLength_49 : decode cJ12_setLength 49 = .ok (.getfield 15, 3) := dk_180 0 15 (dk_at dksJ12_setLength_2 4 rfl rfl)
theorem dJ12_setLength_52 : decode cJ12_setLength 52 = .ok (.aload_n 0, 1) := dk_42 (dk_at dksJ12_setLength_2 7 rfl rfl)
theorem dJ12_setLength_53 : decode cJ12_setLength 53 = .ok (.getfield 79, 3) := dk_180 0 79 (dk_at dksJ12_setLength_2 8 rfl rfl)
theorem dJ12_setLength_56 : decode cJ12_setLength 56 = .ok (.iload_n 1, 1) := dk_27 (dk_at dksJ12_setLength_2 11 rfl rfl)
theorem dJ12_setLength_57 : decode cJ12_setLength 57 = .ok (.invokestatic 137, 3) := dk_184 0 137 (dk_at dksJ12_setLength_2 12 rfl rfl)
theorem dJ12_setLength_60 : decode cJ12_setLength 60 = .ok (.goto 16, 3) := dk_167 0 16 (dk_at dksJ12_setLength_2 15 rfl rfl)
theorem dJ12_setLength_63 : decode cJ12_setLength 63 = .ok (.aload_n 0, 1) := dk_42 (dk_at dksJ12_setLength_2 18 rfl rfl)
theorem dJ12_setLength_64 : decode cJ12_setLength 64 = .ok (.getfield 79, 3) := dk_180 0 79 (dk_at dksJ12_setLength_2 19 rfl rfl)
theorem dJ12_setLength_67 : decode cJ12_setLength 67 = .ok (.iload_n 1, 1) := dk_27 (dk_at dksJ12_setLength_2 22 rfl rfl)
theorem dJ12_setLength_68 : decode cJ12_setLength 68 = .ok (.if_icmp .le 8, 3) := dk_164 0 8 (dk_at dksJ12_setLength_3 0 rfl rfl)
theorem dJ12_setLength_71 : decode cJ12_setLength 71 = .ok (.aload_n 0, 1) := dk_42 (dk_at dksJ12_setLength_3 3 rfl rfl)
theorem dJ12_setLength_72 : decode cJ12_setLength 72 = .ok (.iconst 1, 1) := dk_4 (dk_at dksJ12_setLength_3 4 rfl rfl)
theorem dJ12_setLength_73 : decode cJ12_setLength 73 = .ok (.putfield 73, 3) := dk_181 0 73 (dk_at dksJ12_setLength_3 5 rfl rfl)
theorem dJ12_setLength_76 : decode cJ12_setLength 76 = .ok (.aload_n 0, 1) := dk_42 (dk_at dksJ12_setLength_3 8 rfl rfl)
theorem dJ12_setLength_77 : decode cJ12_setLength 77 = .ok (.iload_n 1, 1) := dk_27 (dk_at dksJ12_setLength_3 9 rfl rfl)
theorem dJ12_setLength_78 : decode cJ12_setLength 78 = .ok (.putfield 79, 3) := dk_181 0 79 (dk_at dksJ12_setLength_3 10 rfl rfl)
theorem dJ12_setLength_81 : decode cJ12_setLength 81 = .ok (.return_, 1) := dk_177 (dk_at dksJ12_setLength_3 13 rfl rfl)
theorem q137 : (Jvm.Cond.initialized "java/lang/AbstractStringBuilder") ∈ lw_all := lw_g (lw_at lw_m1 23 rfl) rfl
theorem q510 : (Jvm.Cond.instanceMethod ({ cls := "java/lang/AbstractStringBuilder", name := "<init>", desc := "(I)V" } : Jvm.MethodName)) ∈ lw_all := lw_g (lw_at lw_m2 156 rfl) rfl
theorem q511 : (Jvm.Cond.code ({ cls := "java/lang/AbstractStringBuilder", name := "<init>", desc := "(I)V" } : Jvm.MethodName) prog_25_method_2_code (2 : Nat) (Option.none : Option Jvm.ClassFile.FieldType)) ∈ lw_all := lw_g (lw_at lw_m2 157 rfl) rfl
theorem q512 : (Jvm.Cond.methodLink "java/lang/AbstractStringBuilder" (3 : Nat) ({ cls := "java/lang/Object", name := "<init>", desc := "()V" } : Jvm.MethodName)) ∈ lw_all := lw_g (lw_at lw_m2 158 rfl) rfl
theorem q513 : (Jvm.Cond.fieldLink "java/lang/AbstractStringBuilder" (18 : Nat) "java/lang/String" "COMPACT_STRINGS" "Z") ∈ lw_all := lw_g (lw_at lw_m2 159 rfl) rfl
theorem q515 : (Jvm.Cond.methodLink "java/lang/AbstractStringBuilder" (26 : Nat) ({ cls := "java/lang/StringUTF16", name := "newBytesFor", desc := "(I)[B" } : Jvm.MethodName)) ∈ lw_all := lw_g (lw_at lw_m2 161 rfl) rfl
theorem q522 : (Jvm.Cond.fieldLink "java/lang/AbstractStringBuilder" (15 : Nat) "java/lang/AbstractStringBuilder" "value" "[B") ∈ lw_all := lw_g (lw_at lw_m2 168 rfl) rfl
theorem q523 : (Jvm.Cond.fieldLink "java/lang/AbstractStringBuilder" (22 : Nat) "java/lang/AbstractStringBuilder" "coder" "B") ∈ lw_all := lw_g (lw_at lw_m2 169 rfl) rfl
theorem q524 : (Jvm.Cond.fieldLink "java/lang/AbstractStringBuilder" (73 : Nat) "java/lang/AbstractStringBuilder" "maybeLatin1" "Z") ∈ lw_all := lw_g (lw_at lw_m2 170 rfl) rfl
theorem q526 : (Jvm.Cond.fieldLink "java/lang/AbstractStringBuilder" (79 : Nat) "java/lang/AbstractStringBuilder" "count" "I") ∈ lw_all := lw_g (lw_at lw_m2 172 rfl) rfl
theorem q528 : (Jvm.Cond.soleField "java/lang/AbstractStringBuilder" "value") ∈ lw_all := lw_g (lw_at lw_m2 174 rfl) rfl
theorem q530 : (Jvm.Cond.soleField "java/lang/AbstractStringBuilder" "coder") ∈ lw_all := lw_g (lw_at lw_m2 176 rfl) rfl
theorem q532 : (Jvm.Cond.soleField "java/lang/AbstractStringBuilder" "maybeLatin1") ∈ lw_all := lw_g (lw_at lw_m2 178 rfl) rfl
theorem q534 : (Jvm.Cond.soleField "java/lang/AbstractStringBuilder" "count") ∈ lw_all := lw_g (lw_at lw_m2 180 rfl) rfl
theorem q1421 : (Jvm.Cond.instanceMethod ({ cls := "java/lang/AbstractStringBuilder", name := "append", desc := "(Ljava/lang/String;)Ljava/lang/AbstractStringBuilder;" } : Jvm.MethodName)) ∈ lw_all := lw_g (lw_at lw_m6 107 rfl) rfl
theorem q1422 : (Jvm.Cond.code ({ cls := "java/lang/AbstractStringBuilder", name := "append", desc := "(Ljava/lang/String;)Ljava/lang/AbstractStringBuilder;" } : Jvm.MethodName) prog_25_method_22_code (3 : Nat) (Option.some (Jvm.ClassFile.FieldType.object "java/lang/AbstractStringBuilder"))) ∈ lw_all := lw_g (lw_at lw_m6 108 rfl) rfl
theorem q1423 : (Jvm.Cond.methodLink "java/lang/AbstractStringBuilder" (204 : Nat) ({ cls := "java/lang/AbstractStringBuilder", name := "appendNull", desc := "()Ljava/lang/AbstractStringBuilder;" } : Jvm.MethodName)) ∈ lw_all := lw_g (lw_at lw_m6 109 rfl) rfl
theorem q1424 : (Jvm.Cond.privateMethod ({ cls := "java/lang/AbstractStringBuilder", name := "appendNull", desc := "()Ljava/lang/AbstractStringBuilder;" } : Jvm.MethodName)) ∈ lw_tbl := lw_at lw_m6 110 rfl
theorem q1425 : (Jvm.Cond.instanceMethod ({ cls := "java/lang/AbstractStringBuilder", name := "appendNull", desc := "()Ljava/lang/AbstractStringBuilder;" } : Jvm.MethodName)) ∈ lw_all := lw_g (lw_at lw_m6 111 rfl) rfl
theorem q1426 : (Jvm.Cond.code ({ cls := "java/lang/AbstractStringBuilder", name := "appendNull", desc := "()Ljava/lang/AbstractStringBuilder;" } : Jvm.MethodName) prog_25_method_26_code (3 : Nat) (Option.some (Jvm.ClassFile.FieldType.object "java/lang/AbstractStringBuilder"))) ∈ lw_all := lw_g (lw_at lw_m6 112 rfl) rfl
theorem q1427 : (Jvm.Cond.methodLink "java/lang/AbstractStringBuilder" (100 : Nat) ({ cls := "java/lang/AbstractStringBuilder", name := "ensureCapacityInternal", desc := "(I)V" } : Jvm.MethodName)) ∈ lw_all := lw_g (lw_at lw_m6 113 rfl) rfl
theorem q1428 : (Jvm.Cond.privateMethod ({ cls := "java/lang/AbstractStringBuilder", name := "ensureCapacityInternal", desc := "(I)V" } : Jvm.MethodName)) ∈ lw_tbl := lw_at lw_m6 114 rfl
theorem q1429 : (Jvm.Cond.instanceMethod ({ cls := "java/lang/AbstractStringBuilder", name := "ensureCapacityInternal", desc := "(I)V" } : Jvm.MethodName)) ∈ lw_all := lw_g (lw_at lw_m6 115 rfl) rfl
theorem q1430 : (Jvm.Cond.code ({ cls := "java/lang/AbstractStringBuilder", name := "ensureCapacityInternal", desc := "(I)V" } : Jvm.MethodName) prog_25_method_9_code (3 : Nat) (Option.none : Option Jvm.ClassFile.FieldType)) ∈ lw_all := lw_g (lw_at lw_m6 116 rfl) rfl
theorem q1431 : (Jvm.Cond.methodLink "java/lang/AbstractStringBuilder" (104 : Nat) ({ cls := "java/lang/AbstractStringBuilder", name := "newCapacity", desc := "(I)I" } : Jvm.MethodName)) ∈ lw_all := lw_g (lw_at lw_m6 117 rfl) rfl
theorem q1432 : (Jvm.Cond.privateMethod ({ cls := "java/lang/AbstractStringBuilder", name := "newCapacity", desc := "(I)I" } : Jvm.MethodName)) ∈ lw_tbl := lw_at lw_m6 118 rfl
theorem q1433 : (Jvm.Cond.instanceMethod ({ cls := "java/lang/AbstractStringBuilder", name := "newCapacity", desc := "(I)I" } : Jvm.MethodName)) ∈ lw_all := lw_g (lw_at lw_m6 119 rfl) rfl
theorem q1434 : (Jvm.Cond.code ({ cls := "java/lang/AbstractStringBuilder", name := "newCapacity", desc := "(I)I" } : Jvm.MethodName) prog_25_method_10_code (6 : Nat) (Option.some Jvm.ClassFile.FieldType.int)) ∈ lw_all := lw_g (lw_at lw_m6 120 rfl) rfl
theorem q1435 : (Jvm.Cond.methodLink "java/lang/AbstractStringBuilder" (114 : Nat) ({ cls := "jdk/internal/util/ArraysSupport", name := "newLength", desc := "(III)I" } : Jvm.MethodName)) ∈ lw_all := lw_g (lw_at lw_m6 121 rfl) rfl
theorem q1443 : (Jvm.Cond.constant "java/lang/AbstractStringBuilder" (39 : Nat) (2147483647 : Int32)) ∈ lw_all := lw_g (lw_at lw_m6 129 rfl) rfl
theorem q1444 : (Jvm.Cond.methodLink "java/lang/AbstractStringBuilder" (108 : Nat) ({ cls := "java/util/Arrays", name := "copyOf", desc := "([BI)[B" } : Jvm.MethodName)) ∈ lw_all := lw_g (lw_at lw_m6 130 rfl) rfl
theorem q1452 : (Jvm.Cond.methodLink "java/lang/AbstractStringBuilder" (83 : Nat) ({ cls := "java/lang/AbstractStringBuilder", name := "isLatin1", desc := "()Z" } : Jvm.MethodName)) ∈ lw_all := lw_g (lw_at lw_m6 138 rfl) rfl
theorem q1453 : (Jvm.Cond.instanceMethod ({ cls := "java/lang/AbstractStringBuilder", name := "isLatin1", desc := "()Z" } : Jvm.MethodName)) ∈ lw_all := lw_g (lw_at lw_m6 139 rfl) rfl
theorem q1454 : (Jvm.Cond.sameMethod "java/lang/AbstractStringBuilder" "java/lang/AbstractStringBuilder" "isLatin1" "()Z") ∈ lw_all := lw_g (lw_at lw_m6 140 rfl) rfl
theorem q1456 : (Jvm.Cond.code ({ cls := "java/lang/AbstractStringBuilder", name := "isLatin1", desc := "()Z" } : Jvm.MethodName) prog_25_method_68_code (1 : Nat) (Option.some Jvm.ClassFile.FieldType.boolean)) ∈ lw_all := lw_g (lw_at lw_m6 142 rfl) rfl
theorem q1457 : (Jvm.Cond.methodLink "java/lang/AbstractStringBuilder" (226 : Nat) ({ cls := "java/lang/StringUTF16", name := "putCharsAt", desc := "([BICCCC)I" } : Jvm.MethodName)) ∈ lw_all := lw_g (lw_at lw_m6 143 rfl) rfl
theorem q1472 : (Jvm.Cond.methodLink "java/lang/AbstractStringBuilder" (32 : Nat) ({ cls := "java/lang/String", name := "length", desc := "()I" } : Jvm.MethodName)) ∈ lw_all := lw_g (lw_at lw_m6 158 rfl) rfl
theorem q1480 : (Jvm.Cond.methodLink "java/lang/AbstractStringBuilder" (208 : Nat) ({ cls := "java/lang/AbstractStringBuilder", name := "putStringAt", desc := "(ILjava/lang/String;)V" } : Jvm.MethodName)) ∈ lw_all := lw_g (lw_at lw_m6 166 rfl) rfl
theorem q1481 : (Jvm.Cond.privateMethod ({ cls := "java/lang/AbstractStringBuilder", name := "putStringAt", desc := "(ILjava/lang/String;)V" } : Jvm.MethodName)) ∈ lw_tbl := lw_at lw_m6 167 rfl
theorem q1482 : (Jvm.Cond.instanceMethod ({ cls := "java/lang/AbstractStringBuilder", name := "putStringAt", desc := "(ILjava/lang/String;)V" } : Jvm.MethodName)) ∈ lw_all := lw_g (lw_at lw_m6 168 rfl) rfl
theorem q1483 : (Jvm.Cond.code ({ cls := "java/lang/AbstractStringBuilder", name := "putStringAt", desc := "(ILjava/lang/String;)V" } : Jvm.MethodName) prog_25_method_73_code (3 : Nat) (Option.none : Option Jvm.ClassFile.FieldType)) ∈ lw_all := lw_g (lw_at lw_m6 169 rfl) rfl
theorem q1484 : (Jvm.Cond.methodLink "java/lang/AbstractStringBuilder" (397 : Nat) ({ cls := "java/lang/AbstractStringBuilder", name := "inflateIfNeededFor", desc := "(Ljava/lang/String;)V" } : Jvm.MethodName)) ∈ lw_all := lw_g (lw_at lw_m6 170 rfl) rfl
theorem q1485 : (Jvm.Cond.privateMethod ({ cls := "java/lang/AbstractStringBuilder", name := "inflateIfNeededFor", desc := "(Ljava/lang/String;)V" } : Jvm.MethodName)) ∈ lw_tbl := lw_at lw_m6 171 rfl
theorem q1486 : (Jvm.Cond.instanceMethod ({ cls := "java/lang/AbstractStringBuilder", name := "inflateIfNeededFor", desc := "(Ljava/lang/String;)V" } : Jvm.MethodName)) ∈ lw_all := lw_g (lw_at lw_m6 172 rfl) rfl
theorem q1487 : (Jvm.Cond.code ({ cls := "java/lang/AbstractStringBuilder", name := "inflateIfNeededFor", desc := "(Ljava/lang/String;)V" } : Jvm.MethodName) prog_25_method_71_code (2 : Nat) (Option.none : Option Jvm.ClassFile.FieldType)) ∈ lw_all := lw_g (lw_at lw_m6 173 rfl) rfl
theorem q1488 : (Jvm.Cond.methodLink "java/lang/AbstractStringBuilder" (40 : Nat) ({ cls := "java/lang/String", name := "coder", desc := "()B" } : Jvm.MethodName)) ∈ lw_all := lw_g (lw_at lw_m6 174 rfl) rfl
theorem q1489 : (Jvm.Cond.methodLink "java/lang/AbstractStringBuilder" (195 : Nat) ({ cls := "java/lang/AbstractStringBuilder", name := "inflate", desc := "()V" } : Jvm.MethodName)) ∈ lw_all := lw_g (lw_at lw_m6 175 rfl) rfl
theorem q1490 : (Jvm.Cond.privateMethod ({ cls := "java/lang/AbstractStringBuilder", name := "inflate", desc := "()V" } : Jvm.MethodName)) ∈ lw_tbl := lw_at lw_m6 176 rfl
theorem q1491 : (Jvm.Cond.instanceMethod ({ cls := "java/lang/AbstractStringBuilder", name := "inflate", desc := "()V" } : Jvm.MethodName)) ∈ lw_all := lw_g (lw_at lw_m6 177 rfl) rfl
theorem q1492 : (Jvm.Cond.code ({ cls := "java/lang/AbstractStringBuilder", name := "inflate", desc := "()V" } : Jvm.MethodName) prog_25_method_11_code (2 : Nat) (Option.none : Option Jvm.ClassFile.FieldType)) ∈ lw_all := lw_g (lw_at lw_m6 178 rfl) rfl
theorem q1493 : (Jvm.Cond.methodLink "java/lang/AbstractStringBuilder" (125 : Nat) ({ cls := "java/lang/StringLatin1", name := "inflate", desc := "([BI[BII)V" } : Jvm.MethodName)) ∈ lw_all := lw_g (lw_at lw_m6 179 rfl) rfl
theorem q1508 : (Jvm.Cond.methodLink "java/lang/AbstractStringBuilder" (399 : Nat) ({ cls := "java/lang/String", name := "getBytes", desc := "([BIB)V" } : Jvm.MethodName)) ∈ lw_all := lw_g (lw_at lw_m6 194 rfl) rfl
theorem q1529 : (Jvm.Cond.instanceMethod ({ cls := "java/lang/AbstractStringBuilder", name := "getValue", desc := "()[B" } : Jvm.MethodName)) ∈ lw_all := lw_g (lw_at lw_m6 215 rfl) rfl
theorem q1530 : (Jvm.Cond.sameMethod "java/lang/AbstractStringBuilder" "java/lang/AbstractStringBuilder" "getValue" "()[B") ∈ lw_all := lw_g (lw_at lw_m6 216 rfl) rfl
theorem q1532 : (Jvm.Cond.code ({ cls := "java/lang/AbstractStringBuilder", name := "getValue", desc := "()[B" } : Jvm.MethodName) prog_25_method_64_code (1 : Nat) (Option.some (Jvm.ClassFile.FieldType.array Jvm.ClassFile.FieldType.byte))) ∈ lw_all := lw_g (lw_at lw_m6 218 rfl) rfl
theorem q1534 : (Jvm.Cond.instanceMethod ({ cls := "java/lang/AbstractStringBuilder", name := "length", desc := "()I" } : Jvm.MethodName)) ∈ lw_all := lw_g (lw_at lw_m6 220 rfl) rfl
theorem q1535 : (Jvm.Cond.sameMethod "java/lang/AbstractStringBuilder" "java/lang/AbstractStringBuilder" "length" "()I") ∈ lw_all := lw_g (lw_at lw_m6 221 rfl) rfl
theorem q1540 : (Jvm.Cond.code ({ cls := "java/lang/AbstractStringBuilder", name := "length", desc := "()I" } : Jvm.MethodName) prog_25_method_6_code (1 : Nat) (Option.some Jvm.ClassFile.FieldType.int)) ∈ lw_all := lw_g (lw_at lw_m6 226 rfl) rfl
theorem q1676 : (Jvm.Cond.instanceMethod ({ cls := "java/lang/AbstractStringBuilder", name := "append", desc := "(C)Ljava/lang/AbstractStringBuilder;" } : Jvm.MethodName)) ∈ lw_all := lw_g (lw_at lw_m7 122 rfl) rfl
theorem q1677 : (Jvm.Cond.code ({ cls := "java/lang/AbstractStringBuilder", name := "append", desc := "(C)Ljava/lang/AbstractStringBuilder;" } : Jvm.MethodName) prog_25_method_31_code (2 : Nat) (Option.some (Jvm.ClassFile.FieldType.object "java/lang/AbstractStringBuilder"))) ∈ lw_all := lw_g (lw_at lw_m7 123 rfl) rfl
theorem q1678 : (Jvm.Cond.methodLink "java/lang/AbstractStringBuilder" (191 : Nat) ({ cls := "java/lang/StringLatin1", name := "canEncode", desc := "(C)Z" } : Jvm.MethodName)) ∈ lw_all := lw_g (lw_at lw_m7 124 rfl) rfl
theorem q1681 : (Jvm.Cond.methodLink "java/lang/AbstractStringBuilder" (197 : Nat) ({ cls := "java/lang/StringUTF16", name := "putCharSB", desc := "([BII)V" } : Jvm.MethodName)) ∈ lw_all := lw_g (lw_at lw_m7 127 rfl) rfl
theorem q1720 : (Jvm.Cond.instanceMethod ({ cls := "java/lang/AbstractStringBuilder", name := "charAt", desc := "(I)C" } : Jvm.MethodName)) ∈ lw_all := lw_g (lw_at lw_m7 166 rfl) rfl
theorem q1721 : (Jvm.Cond.code ({ cls := "java/lang/AbstractStringBuilder", name := "charAt", desc := "(I)C" } : Jvm.MethodName) prog_25_method_14_code (5 : Nat) (Option.some Jvm.ClassFile.FieldType.char)) ∈ lw_all := lw_g (lw_at lw_m7 167 rfl) rfl
theorem q1722 : (Jvm.Cond.methodLink "java/lang/AbstractStringBuilder" (138 : Nat) ({ cls := "java/lang/Math", name := "min", desc := "(II)I" } : Jvm.MethodName)) ∈ lw_all := lw_g (lw_at lw_m7 168 rfl) rfl
theorem q1723 : (Jvm.Cond.methodLink "java/lang/AbstractStringBuilder" (144 : Nat) ({ cls := "java/lang/String", name := "checkIndex", desc := "(II)V" } : Jvm.MethodName)) ∈ lw_all := lw_g (lw_at lw_m7 169 rfl) rfl
theorem q1724 : (Jvm.Cond.methodLink "java/lang/AbstractStringBuilder" (148 : Nat) ({ cls := "java/lang/StringUTF16", name := "getChar", desc := "([BI)C" } : Jvm.MethodName)) ∈ lw_all := lw_g (lw_at lw_m7 170 rfl) rfl
theorem q1794 : (Jvm.Cond.instanceMethod ({ cls := "java/lang/AbstractStringBuilder", name := "setLength", desc := "(I)V" } : Jvm.MethodName)) ∈ lw_all := lw_g (lw_at lw_m8 0 rfl) rfl
theorem q1795 : (Jvm.Cond.code ({ cls := "java/lang/AbstractStringBuilder", name := "setLength", desc := "(I)V" } : Jvm.MethodName) prog_25_method_13_code (2 : Nat) (Option.none : Option Jvm.ClassFile.FieldType)) ∈ lw_all := lw_g (lw_at lw_m8 1 rfl) rfl
theorem q1796 : (Jvm.Cond.methodLink "java/lang/AbstractStringBuilder" (133 : Nat) ({ cls := "java/lang/StringLatin1", name := "fillNull", desc := "([BII)V" } : Jvm.MethodName)) ∈ lw_all := lw_g (lw_at lw_m8 2 rfl) rfl
theorem q1805 : (Jvm.Cond.methodLink "java/lang/AbstractStringBuilder" (137 : Nat) ({ cls := "java/lang/StringUTF16", name := "fillNull", desc := "([BII)V" } : Jvm.MethodName)) ∈ lw_all := lw_g (lw_at lw_m8 11 rfl) rfl
theorem q2427 : (Jvm.Cond.sameMethod "java/lang/AbstractStringBuilder" "java/lang/AbstractStringBuilder" "append" "(Ljava/lang/String;)Ljava/lang/AbstractStringBuilder;") ∈ lw_all := lw_g (lw_at lw_m10 153 rfl) rfl
theorem q2428 : (Jvm.Cond.sameMethod "java/lang/AbstractStringBuilder" "java/lang/AbstractStringBuilder" "appendNull" "()Ljava/lang/AbstractStringBuilder;") ∈ lw_all := lw_g (lw_at lw_m10 154 rfl) rfl
theorem q2429 : (Jvm.Cond.sameMethod "java/lang/AbstractStringBuilder" "java/lang/AbstractStringBuilder" "ensureCapacityInternal" "(I)V") ∈ lw_all := lw_g (lw_at lw_m10 155 rfl) rfl
theorem q2430 : (Jvm.Cond.sameMethod "java/lang/AbstractStringBuilder" "java/lang/AbstractStringBuilder" "newCapacity" "(I)I") ∈ lw_all := lw_g (lw_at lw_m10 156 rfl) rfl
theorem q2431 : (Jvm.Cond.sameMethod "java/lang/AbstractStringBuilder" "java/lang/AbstractStringBuilder" "putStringAt" "(ILjava/lang/String;)V") ∈ lw_all := lw_g (lw_at lw_m10 157 rfl) rfl
theorem q2432 : (Jvm.Cond.sameMethod "java/lang/AbstractStringBuilder" "java/lang/AbstractStringBuilder" "inflateIfNeededFor" "(Ljava/lang/String;)V") ∈ lw_all := lw_g (lw_at lw_m10 158 rfl) rfl
theorem q2433 : (Jvm.Cond.sameMethod "java/lang/AbstractStringBuilder" "java/lang/AbstractStringBuilder" "inflate" "()V") ∈ lw_all := lw_g (lw_at lw_m10 159 rfl) rfl
theorem q2437 : (Jvm.Cond.sameMethod "java/lang/AbstractStringBuilder" "java/lang/AbstractStringBuilder" "append" "(C)Ljava/lang/AbstractStringBuilder;") ∈ lw_all := lw_g (lw_at lw_m10 163 rfl) rfl
theorem q2438 : (Jvm.Cond.sameMethod "java/lang/AbstractStringBuilder" "java/lang/AbstractStringBuilder" "charAt" "(I)C") ∈ lw_all := lw_g (lw_at lw_m10 164 rfl) rfl
theorem q2439 : (Jvm.Cond.sameMethod "java/lang/AbstractStringBuilder" "java/lang/AbstractStringBuilder" "setLength" "(I)V") ∈ lw_all := lw_g (lw_at lw_m10 165 rfl) rfl
/-! java/lang/StringBuilder -/
set_option maxRecDepth 100000
def RJ13 : String := "java/lang/StringBuilder"
def TJ13 : u_T := fun k => match k with
  | 0 => ("java/lang/AbstractStringBuilder", "value", "[B", false)
  | 1 => ("java/lang/AbstractStringBuilder", "coder", "B", false)
  | 2 => ("java/lang/AbstractStringBuilder", "maybeLatin1", "Z", false)
  | _ => ("java/lang/AbstractStringBuilder", "count", "I", false)
def tyJ13 : Nat → FieldType := fun k => match k with
  | 0 => .array .byte
  | 1 => .byte
  | 2 => .boolean
  | _ => .int
abbrev wsJ130 : List Cond := u_ws RJ13 TJ13 4
theorem nmJ13 : ∀ a, a < 4 → ∀ b, b < 4 → a ≠ b → (TJ13 a).2.1 ≠ (TJ13 b).2.1 := by decide +kernel
theorem tyJ13_ok : ∀ k, k < 4 → parseFieldDescriptor (TJ13 k).2.2.1 = some (tyJ13 k) := by decide +kernel
abbrev cJ13_init : ByteArray := prog_40_method_2_code
def yJ13_init : MethodName := ⟨RJ13, "<init>", "(I)V"⟩
def dkwJ13_init_0 : List UInt8 := [42, 27, 183, 0, 1, 177]
abbrev dktJ13_init_0 : List UInt8 := dkwJ13_init_0 ++ []
theorem dksJ13_init_0 : cJ13_init.data.toList.drop 0 = dktJ13_init_0 := by decide +kernel
theorem dJ13_init_0 : decode cJ13_init 0 = .ok (.aload_n 0, 1) := dk_42 (dk_at dksJ13_init_0 0 rfl rfl)
theorem dJ13_init_1 : decode cJ13_init 1 = .ok (.iload_n 1, 1) := dk_27 (dk_at dksJ13_init_0 1 rfl rfl)
theorem dJ13_init_2 : decode cJ13_init 2 = .ok (.invokespecial 1, 3) := dk_183 0 1 (dk_at dksJ13_init_0 2 rfl rfl)
theorem dJ13_init_5 : decode cJ13_init 5 = .ok (.return_, 1) := dk_177 (dk_at dksJ13_init_0 5 rfl rfl)
abbrev cJ13_init_2 : ByteArray := prog_40_method_1_code
def yJ13_init_2 : MethodName := ⟨RJ13, "<init>", "()V"⟩
def dkwJ13_init_2_0 : List UInt8 := [42, 16, 16, 183, 0, 1, 177]
abbrev dktJ13_init_2_0 : List UInt8 := dkwJ13_init_2_0 ++ []
theorem dksJ13_init_2_0 : cJ13_init_2.data.toList.drop 0 = dktJ13_init_2_0 := by decide +kernel
theorem dJ13_init_2_0 : decode cJ13_init_2 0 = .ok (.aload_n 0, 1) := dk_42 (dk_at dksJ13_init_2_0 0 rfl rfl)
theorem dJ13_init_2_1 : decode cJ13_init_2 1 = .ok (.bipush 16, 2) := dk_16 16 (dk_at dksJ13_init_2_0 1 rfl rfl)
theorem dJ13_init_2_3 : decode cJ13_init_2 3 = .ok (.invokespecial 1, 3) := dk_183 0 1 (dk_at dksJ13_init_2_0 3 rfl rfl)
theorem dJ13_init_2_6 : decode cJ13_init_2 6 = .ok (.return_, 1) := dk_177 (dk_at dksJ13_init_2_0 6 rfl rfl)
abbrev cJ13_append : ByteArray := prog_40_method_7_code
def yJ13_append : MethodName := ⟨RJ13, "append", "(Ljava/lang/String;)Ljava/lang/StringBuilder;"⟩
def dkwJ13_append_0 : List UInt8 := [42, 43, 183, 0, 29, 87, 42, 176]
abbrev dktJ13_append_0 : List UInt8 := dkwJ13_append_0 ++ []
theorem dksJ13_append_0 : cJ13_append.data.toList.drop 0 = dktJ13_append_0 := by decide +kernel
theorem dJ13_append_0 : decode cJ13_append 0 = .ok (.aload_n 0, 1) := dk_42 (dk_at dksJ13_append_0 0 rfl rfl)
theorem dJ13_append_1 : decode cJ13_append 1 = .ok (.aload_n 1, 1) := dk_43 (dk_at dksJ13_append_0 1 rfl rfl)
theorem dJ13_append_2 : decode cJ13_append 2 = .ok (.invokespecial 29, 3) := dk_183 0 29 (dk_at dksJ13_append_0 2 rfl rfl)
theorem dJ13_append_5 : decode cJ13_append 5 = .ok (.pop, 1) := dk_87 (dk_at dksJ13_append_0 5 rfl rfl)
theorem dJ13_append_6 : decode cJ13_append 6 = .ok (.aload_n 0, 1) := dk_42 (dk_at dksJ13_append_0 6 rfl rfl)
theorem dJ13_append_7 : decode cJ13_append 7 = .ok (.areturn, 1) := dk_176 (dk_at dksJ13_append_0 7 rfl rfl)
abbrev cJ13_toString : ByteArray := prog_40_method_42_code
def yJ13_toString : MethodName := ⟨RJ13, "toString", "()Ljava/lang/String;"⟩
def dkwJ13_toString_0 : List UInt8 := [187, 0, 18, 89, 42, 183, 0, 137, 176]
abbrev dktJ13_toString_0 : List UInt8 := dkwJ13_toString_0 ++ []
theorem dksJ13_toString_0 : cJ13_toString.data.toList.drop 0 = dktJ13_toString_0 := by decide +kernel
theorem dJ13_toString_0 : decode cJ13_toString 0 = .ok (.new 18, 3) := dk_187 0 18 (dk_at dksJ13_toString_0 0 rfl rfl)
theorem dJ13_toString_3 : decode cJ13_toString 3 = .ok (.dup, 1) := dk_89 (dk_at dksJ13_toString_0 3 rfl rfl)
theorem dJ13_toString_4 : decode cJ13_toString 4 = .ok (.aload_n 0, 1) := dk_42 (dk_at dksJ13_toString_0 4 rfl rfl)
theorem dJ13_toString_5 : decode cJ13_toString 5 = .ok (.invokespecial 137, 3) := dk_183 0 137 (dk_at dksJ13_toString_0 5 rfl rfl)
theorem dJ13_toString_8 : decode cJ13_toString 8 = .ok (.areturn, 1) := dk_176 (dk_at dksJ13_toString_0 8 rfl rfl)
abbrev cJ13_length : ByteArray := prog_40_method_93_code
def yJ13_length : MethodName := ⟨RJ13, "length", "()I"⟩
theorem dJ13_length_0 : decode cJ13_length 0 = .ok (.aload_n 0, 1) := by decide +kernel
theorem dJ13_length_1 : decode cJ13_length 1 = .ok (.invokespecial 343, 3) := by decide +kernel
theorem dJ13_length_4 : decode cJ13_length 4 = .ok (.ireturn, 1) := by decide +kernel
abbrev cJ13_append_2 : ByteArray := prog_40_method_14_code
def yJ13_append_2 : MethodName := ⟨RJ13, "append", "(C)Ljava/lang/StringBuilder;"⟩
def dkwJ13_append_2_0 : List UInt8 := [42, 27, 183, 0, 50, 87, 42, 176]
abbrev dktJ13_append_2_0 : List UInt8 := dkwJ13_append_2_0 ++ []
theorem dksJ13_append_2_0 : cJ13_append_2.data.toList.drop 0 = dktJ13_append_2_0 := by decide +kernel
theorem dJ13_append_2_0 : decode cJ13_append_2 0 = .ok (.aload_n 0, 1) := dk_42 (dk_at dksJ13_append_2_0 0 rfl rfl)
theorem dJ13_append_2_1 : decode cJ13_append_2 1 = .ok (.iload_n 1, 1) := dk_27 (dk_at dksJ13_append_2_0 1 rfl rfl)
theorem dJ13_append_2_2 : decode cJ13_append_2 2 = .ok (.invokespecial 50, 3) := dk_183 0 50 (dk_at dksJ13_append_2_0 2 rfl rfl)
theorem dJ13_append_2_5 : decode cJ13_append_2 5 = .ok (.pop, 1) := dk_87 (dk_at dksJ13_append_2_0 5 rfl rfl)
theorem dJ13_append_2_6 : decode cJ13_append_2 6 = .ok (.aload_n 0, 1) := dk_42 (dk_at dksJ13_append_2_0 6 rfl rfl)
theorem dJ13_append_2_7 : decode cJ13_append_2 7 = .ok (.areturn, 1) := dk_176 (dk_at dksJ13_append_2_0 7 rfl rfl)
abbrev cJ13_charAt : ByteArray := prog_40_method_88_code
def yJ13_charAt : MethodName := ⟨RJ13, "charAt", "(I)C"⟩
def dkwJ13_charAt_0 : List UInt8 := [42, 27, 183, 1, 73, 172]
abbrev dktJ13_charAt_0 : List UInt8 := dkwJ13_charAt_0 ++ []
theorem dksJ13_charAt_0 : cJ13_charAt.data.toList.drop 0 = dktJ13_charAt_0 := by decide +kernel
theorem dJ13_charAt_0 : decode cJ13_charAt 0 = .ok (.aload_n 0, 1) := dk_42 (dk_at dksJ13_charAt_0 0 rfl rfl)
theorem dJ13_charAt_1 : decode cJ13_charAt 1 = .ok (.iload_n 1, 1) := dk_27 (dk_at dksJ13_charAt_0 1 rfl rfl)
theorem dJ13_charAt_2 : decode cJ13_charAt 2 = .ok (.invokespecial 329, 3) := dk_183 1 73 (dk_at dksJ13_charAt_0 2 rfl rfl)
theorem dJ13_charAt_5 : decode cJ13_charAt 5 = .ok (.ireturn, 1) := dk_172 (dk_at dksJ13_charAt_0 5 rfl rfl)
abbrev cJ13_setLength : ByteArray := prog_40_method_89_code
def yJ13_setLength : MethodName := ⟨RJ13, "setLength", "(I)V"⟩
def dkwJ13_setLength_0 : List UInt8 := [42, 27, 183, 1, 77, 177]
abbrev dktJ13_setLength_0 : List UInt8 := dkwJ13_setLength_0 ++ []
theorem dksJ13_setLength_0 : cJ13_setLength.data.toList.drop 0 = dktJ13_setLength_0 := by decide +kernel
theorem dJ13_setLength_0 : decode cJ13_setLength 0 = .ok (.aload_n 0, 1) := dk_42 (dk_at dksJ13_setLength_0 0 rfl rfl)
theorem dJ13_setLength_1 : decode cJ13_setLength 1 = .ok (.iload_n 1, 1) := dk_27 (dk_at dksJ13_setLength_0 1 rfl rfl)
theorem dJ13_setLength_2 : decode cJ13_setLength 2 = .ok (.invokespecial 333, 3) := dk_183 1 77 (dk_at dksJ13_setLength_0 2 rfl rfl)
theorem dJ13_setLength_5 : decode cJ13_setLength 5 = .ok (.return_, 1) := dk_177 (dk_at dksJ13_setLength_0 5 rfl rfl)
theorem q138 : (Jvm.Cond.initialized "java/lang/StringBuilder") ∈ lw_all := lw_g (lw_at lw_m1 24 rfl) rfl
theorem q448 : (Jvm.Cond.selects "java/lang/StringBuilder" ({ cls := "java/lang/Object", name := "getClass", desc := "()Ljava/lang/Class;" } : Jvm.MethodName) ({ cls := "java/lang/Object", name := "getClass", desc := "()Ljava/lang/Class;" } : Jvm.MethodName)) ∈ lw_all := lw_g (lw_at lw_m2 94 rfl) rfl
theorem q505 : (Jvm.Cond.instantiable "java/lang/StringBuilder" (4 : Nat)) ∈ lw_all := lw_g (lw_at lw_m2 151 rfl) rfl
theorem q507 : (Jvm.Cond.instanceMethod ({ cls := "java/lang/StringBuilder", name := "<init>", desc := "(I)V" } : Jvm.MethodName)) ∈ lw_all := lw_g (lw_at lw_m2 153 rfl) rfl
theorem q508 : (Jvm.Cond.code ({ cls := "java/lang/StringBuilder", name := "<init>", desc := "(I)V" } : Jvm.MethodName) prog_40_method_2_code (2 : Nat) (Option.none : Option Jvm.ClassFile.FieldType)) ∈ lw_all := lw_g (lw_at lw_m2 154 rfl) rfl
theorem q509 : (Jvm.Cond.methodLink "java/lang/StringBuilder" (1 : Nat) ({ cls := "java/lang/AbstractStringBuilder", name := "<init>", desc := "(I)V" } : Jvm.MethodName)) ∈ lw_all := lw_g (lw_at lw_m2 155 rfl) rfl
theorem q527 : (Jvm.Cond.lays "java/lang/StringBuilder" "java/lang/AbstractStringBuilder" "value" "[B") ∈ lw_all := lw_g (lw_at lw_m2 173 rfl) rfl
theorem q529 : (Jvm.Cond.lays "java/lang/StringBuilder" "java/lang/AbstractStringBuilder" "coder" "B") ∈ lw_all := lw_g (lw_at lw_m2 175 rfl) rfl
theorem q531 : (Jvm.Cond.lays "java/lang/StringBuilder" "java/lang/AbstractStringBuilder" "maybeLatin1" "Z") ∈ lw_all := lw_g (lw_at lw_m2 177 rfl) rfl
theorem q533 : (Jvm.Cond.lays "java/lang/StringBuilder" "java/lang/AbstractStringBuilder" "count" "I") ∈ lw_all := lw_g (lw_at lw_m2 179 rfl) rfl
theorem q535 : (Jvm.Cond.superclass "java/lang/StringBuilder" "java/lang/AbstractStringBuilder") ∈ lw_all := lw_g (lw_at lw_m2 181 rfl) rfl
theorem q1414 : (Jvm.Cond.instanceMethod ({ cls := "java/lang/StringBuilder", name := "<init>", desc := "()V" } : Jvm.MethodName)) ∈ lw_all := lw_g (lw_at lw_m6 100 rfl) rfl
theorem q1415 : (Jvm.Cond.code ({ cls := "java/lang/StringBuilder", name := "<init>", desc := "()V" } : Jvm.MethodName) prog_40_method_1_code (1 : Nat) (Option.none : Option Jvm.ClassFile.FieldType)) ∈ lw_all := lw_g (lw_at lw_m6 101 rfl) rfl
theorem q1417 : (Jvm.Cond.instanceMethod ({ cls := "java/lang/StringBuilder", name := "append", desc := "(Ljava/lang/String;)Ljava/lang/StringBuilder;" } : Jvm.MethodName)) ∈ lw_all := lw_g (lw_at lw_m6 103 rfl) rfl
theorem q1418 : (Jvm.Cond.selects "java/lang/StringBuilder" ({ cls := "java/lang/StringBuilder", name := "append", desc := "(Ljava/lang/String;)Ljava/lang/StringBuilder;" } : Jvm.MethodName) ({ cls := "java/lang/StringBuilder", name := "append", desc := "(Ljava/lang/String;)Ljava/lang/StringBuilder;" } : Jvm.MethodName)) ∈ lw_all := lw_g (lw_at lw_m6 104 rfl) rfl
theorem q1419 : (Jvm.Cond.code ({ cls := "java/lang/StringBuilder", name := "append", desc := "(Ljava/lang/String;)Ljava/lang/StringBuilder;" } : Jvm.MethodName) prog_40_method_7_code (2 : Nat) (Option.some (Jvm.ClassFile.FieldType.object "java/lang/StringBuilder"))) ∈ lw_all := lw_g (lw_at lw_m6 105 rfl) rfl
theorem q1420 : (Jvm.Cond.methodLink "java/lang/StringBuilder" (29 : Nat) ({ cls := "java/lang/AbstractStringBuilder", name := "append", desc := "(Ljava/lang/String;)Ljava/lang/AbstractStringBuilder;" } : Jvm.MethodName)) ∈ lw_all := lw_g (lw_at lw_m6 106 rfl) rfl
theorem q1455 : (Jvm.Cond.selects "java/lang/StringBuilder" ({ cls := "java/lang/AbstractStringBuilder", name := "isLatin1", desc := "()Z" } : Jvm.MethodName) ({ cls := "java/lang/AbstractStringBuilder", name := "isLatin1", desc := "()Z" } : Jvm.MethodName)) ∈ lw_all := lw_g (lw_at lw_m6 141 rfl) rfl
theorem q1516 : (Jvm.Cond.instanceMethod ({ cls := "java/lang/StringBuilder", name := "toString", desc := "()Ljava/lang/String;" } : Jvm.MethodName)) ∈ lw_all := lw_g (lw_at lw_m6 202 rfl) rfl
theorem q1517 : (Jvm.Cond.selects "java/lang/StringBuilder" ({ cls := "java/lang/StringBuilder", name := "toString", desc := "()Ljava/lang/String;" } : Jvm.MethodName) ({ cls := "java/lang/StringBuilder", name := "toString", desc := "()Ljava/lang/String;" } : Jvm.MethodName)) ∈ lw_all := lw_g (lw_at lw_m6 203 rfl) rfl
theorem q1518 : (Jvm.Cond.code ({ cls := "java/lang/StringBuilder", name := "toString", desc := "()Ljava/lang/String;" } : Jvm.MethodName) prog_40_method_42_code (1 : Nat) (Option.some (Jvm.ClassFile.FieldType.object "java/lang/String"))) ∈ lw_all := lw_g (lw_at lw_m6 204 rfl) rfl
theorem q1519 : (Jvm.Cond.classLink "java/lang/StringBuilder" (18 : Nat) "java/lang/String") ∈ lw_all := lw_g (lw_at lw_m6 205 rfl) rfl
theorem q1521 : (Jvm.Cond.methodLink "java/lang/StringBuilder" (137 : Nat) ({ cls := "java/lang/String", name := "<init>", desc := "(Ljava/lang/StringBuilder;)V" } : Jvm.MethodName)) ∈ lw_all := lw_g (lw_at lw_m6 207 rfl) rfl
theorem q1531 : (Jvm.Cond.selects "java/lang/StringBuilder" ({ cls := "java/lang/AbstractStringBuilder", name := "getValue", desc := "()[B" } : Jvm.MethodName) ({ cls := "java/lang/AbstractStringBuilder", name := "getValue", desc := "()[B" } : Jvm.MethodName)) ∈ lw_all := lw_g (lw_at lw_m6 217 rfl) rfl
theorem q1536 : (Jvm.Cond.selects "java/lang/StringBuilder" ({ cls := "java/lang/AbstractStringBuilder", name := "length", desc := "()I" } : Jvm.MethodName) ({ cls := "java/lang/StringBuilder", name := "length", desc := "()I" } : Jvm.MethodName)) ∈ lw_all := lw_g (lw_at lw_m6 222 rfl) rfl
theorem q1537 : (Jvm.Cond.instanceMethod ({ cls := "java/lang/StringBuilder", name := "length", desc := "()I" } : Jvm.MethodName)) ∈ lw_all := lw_g (lw_at lw_m6 223 rfl) rfl
theorem q1538 : (Jvm.Cond.code ({ cls := "java/lang/StringBuilder", name := "length", desc := "()I" } : Jvm.MethodName) prog_40_method_93_code (1 : Nat) (Option.some Jvm.ClassFile.FieldType.int)) ∈ lw_all := lw_g (lw_at lw_m6 224 rfl) rfl
theorem q1539 : (Jvm.Cond.methodLink "java/lang/StringBuilder" (343 : Nat) ({ cls := "java/lang/AbstractStringBuilder", name := "length", desc := "()I" } : Jvm.MethodName)) ∈ lw_all := lw_g (lw_at lw_m6 225 rfl) rfl
theorem q1672 : (Jvm.Cond.instanceMethod ({ cls := "java/lang/StringBuilder", name := "append", desc := "(C)Ljava/lang/StringBuilder;" } : Jvm.MethodName)) ∈ lw_all := lw_g (lw_at lw_m7 118 rfl) rfl
theorem q1673 : (Jvm.Cond.selects "java/lang/StringBuilder" ({ cls := "java/lang/StringBuilder", name := "append", desc := "(C)Ljava/lang/StringBuilder;" } : Jvm.MethodName) ({ cls := "java/lang/StringBuilder", name := "append", desc := "(C)Ljava/lang/StringBuilder;" } : Jvm.MethodName)) ∈ lw_all := lw_g (lw_at lw_m7 119 rfl) rfl
theorem q1674 : (Jvm.Cond.code ({ cls := "java/lang/StringBuilder", name := "append", desc := "(C)Ljava/lang/StringBuilder;" } : Jvm.MethodName) prog_40_method_14_code (2 : Nat) (Option.some (Jvm.ClassFile.FieldType.object "java/lang/StringBuilder"))) ∈ lw_all := lw_g (lw_at lw_m7 120 rfl) rfl
theorem q1675 : (Jvm.Cond.methodLink "java/lang/StringBuilder" (50 : Nat) ({ cls := "java/lang/AbstractStringBuilder", name := "append", desc := "(C)Ljava/lang/AbstractStringBuilder;" } : Jvm.MethodName)) ∈ lw_all := lw_g (lw_at lw_m7 121 rfl) rfl
theorem q1716 : (Jvm.Cond.instanceMethod ({ cls := "java/lang/StringBuilder", name := "charAt", desc := "(I)C" } : Jvm.MethodName)) ∈ lw_all := lw_g (lw_at lw_m7 162 rfl) rfl
theorem q1717 : (Jvm.Cond.selects "java/lang/StringBuilder" ({ cls := "java/lang/StringBuilder", name := "charAt", desc := "(I)C" } : Jvm.MethodName) ({ cls := "java/lang/StringBuilder", name := "charAt", desc := "(I)C" } : Jvm.MethodName)) ∈ lw_all := lw_g (lw_at lw_m7 163 rfl) rfl
theorem q1718 : (Jvm.Cond.code ({ cls := "java/lang/StringBuilder", name := "charAt", desc := "(I)C" } : Jvm.MethodName) prog_40_method_88_code (2 : Nat) (Option.some Jvm.ClassFile.FieldType.char)) ∈ lw_all := lw_g (lw_at lw_m7 164 rfl) rfl
theorem q1719 : (Jvm.Cond.methodLink "java/lang/StringBuilder" (329 : Nat) ({ cls := "java/lang/AbstractStringBuilder", name := "charAt", desc := "(I)C" } : Jvm.MethodName)) ∈ lw_all := lw_g (lw_at lw_m7 165 rfl) rfl
theorem q1790 : (Jvm.Cond.instanceMethod ({ cls := "java/lang/StringBuilder", name := "setLength", desc := "(I)V" } : Jvm.MethodName)) ∈ lw_all := lw_g (lw_at lw_m7 236 rfl) rfl
theorem q1791 : (Jvm.Cond.selects "java/lang/StringBuilder" ({ cls := "java/lang/StringBuilder", name := "setLength", desc := "(I)V" } : Jvm.MethodName) ({ cls := "java/lang/StringBuilder", name := "setLength", desc := "(I)V" } : Jvm.MethodName)) ∈ lw_all := lw_g (lw_at lw_m7 237 rfl) rfl
theorem q1792 : (Jvm.Cond.code ({ cls := "java/lang/StringBuilder", name := "setLength", desc := "(I)V" } : Jvm.MethodName) prog_40_method_89_code (2 : Nat) (Option.none : Option Jvm.ClassFile.FieldType)) ∈ lw_all := lw_g (lw_at lw_m7 238 rfl) rfl
theorem q1793 : (Jvm.Cond.methodLink "java/lang/StringBuilder" (333 : Nat) ({ cls := "java/lang/AbstractStringBuilder", name := "setLength", desc := "(I)V" } : Jvm.MethodName)) ∈ lw_all := lw_g (lw_at lw_m7 239 rfl) rfl
theorem q2436 : (Jvm.Cond.selects "java/lang/StringBuilder" ({ cls := "java/lang/StringBuilder", name := "length", desc := "()I" } : Jvm.MethodName) ({ cls := "java/lang/StringBuilder", name := "length", desc := "()I" } : Jvm.MethodName)) ∈ lw_all := lw_g (lw_at lw_m10 162 rfl) rfl
theorem q2463 : (Jvm.Cond.castable "java/lang/StringBuilder" "java/lang/Object") ∈ lw_tbl := lw_at lw_m10 189 rfl
theorem in_J13 : ∀ w ∈ wsJ130, w ∈ lw_all := lw_in wsJ130 [527, 529, 531, 533] (by decide +kernel) (by decide +kernel)
/-! java/lang/String -/
set_option maxRecDepth 100000
def RJ14 : String := "java/lang/String"
def TJ14 : u_T := fun k => match k with
  | 0 => ("java/lang/String", "value", "[B", true)
  | 1 => ("java/lang/String", "coder", "B", true)
  | 2 => ("java/lang/String", "hash", "I", false)
  | _ => ("java/lang/String", "hashIsZero", "Z", false)
def tyJ14 : Nat → FieldType := fun k => match k with
  | 0 => .array .byte
  | 1 => .byte
  | 2 => .int
  | _ => .boolean
abbrev wsJ140 : List Cond := u_ws RJ14 TJ14 4
theorem nmJ14 : ∀ a, a < 4 → ∀ b, b < 4 → a ≠ b → (TJ14 a).2.1 ≠ (TJ14 b).2.1 := by decide +kernel
theorem tyJ14_ok : ∀ k, k < 4 → parseFieldDescriptor (TJ14 k).2.2.1 = some (tyJ14 k) := by decide +kernel
abbrev cJ14_charAt : ByteArray := prog_39_method_56_code
def yJ14_charAt : MethodName := ⟨RJ14, "charAt", "(I)C"⟩
def dkwJ14_charAt_1 : List UInt8 := [172]
abbrev dktJ14_charAt_1 : List UInt8 := dkwJ14_charAt_1 ++ []
def dkwJ14_charAt_0 : List UInt8 := [42, 182, 1, 236, 153, 0, 12, 42, 180, 0, 9, 27, 184, 1, 239, 172, 42, 180, 0, 9, 27, 184, 1, 242]
abbrev dktJ14_charAt_0 : List UInt8 := dkwJ14_charAt_0 ++ dktJ14_charAt_1
theorem dksJ14_charAt_0 : cJ14_charAt.data.toList.drop 0 = dktJ14_charAt_0 := by decide +kernel
theorem dksJ14_charAt_1 : cJ14_charAt.data.toList.drop 24 = dktJ14_charAt_1 := dk_seg dksJ14_charAt_0 24 rfl rfl
theorem dJ14_charAt_0 : decode cJ14_charAt 0 = .ok (.aload_n 0, 1) := dk_42 (dk_at dksJ14_charAt_0 0 rfl rfl)
theorem dJ14_charAt_1 : decode cJ14_charAt 1 = .ok (.invokevirtual 492, 3) := dk_182 1 236 (dk_at dksJ14_charAt_0 1 rfl rfl)
theorem dJ14_charAt_4 : decode cJ14_charAt 4 = .ok (.ifCond .eq 12, 3) := dk_153 0 12 (dk_at dksJ14_charAt_0 4 rfl rfl)
theorem dJ14_charAt_7 : decode cJ14_charAt 7 = .ok (.aload_n 0, 1) := dk_42 (dk_at dksJ14_charAt_0 7 rfl rfl)
theorem dJ14_charAt_8 : decode cJ14_charAt 8 = .ok (.getfield 9, 3) := dk_180 0 9 (dk_at dksJ14_charAt_0 8 rfl rfl)
theorem dJ14_charAt_11 : decode cJ14_charAt 11 = .ok (.iload_n 1, 1) := dk_27 (dk_at dksJ14_charAt_0 11 rfl rfl)
theorem dJ14_charAt_12 : decode cJ14_charAt 12 = .ok (.invokestatic 495, 3) := dk_184 1 239 (dk_at dksJ14_charAt_0 12 rfl rfl)
theorem dJ14_charAt_15 : decode cJ14_charAt 15 = .ok (.ireturn, 1) := dk_172 (dk_at dksJ14_charAt_0 15 rfl rfl)
theorem dJ14_charAt_16 : decode cJ14_charAt 16 = .ok (.aload_n 0, 1) := dk_42 (dk_at dksJ14_charAt_0 16 rfl rfl)
theorem dJ14_charAt_17 : decode cJ14_charAt 17 = .ok (.getfield 9, 3) := dk_180 0 9 (dk_at dksJ14_charAt_0 17 rfl rfl)
theorem dJ14_charAt_20 : decode cJ14_charAt 20 = .ok (.iload_n 1, 1) := dk_27 (dk_at dksJ14_charAt_0 20 rfl rfl)
theorem dJ14_charAt_21 : decode cJ14_charAt 21 = .ok (.invokestatic 498, 3) := dk_184 1 242 (dk_at dksJ14_charAt_0 21 rfl rfl)
theorem dJ14_charAt_24 : decode cJ14_charAt 24 = .ok (.ireturn, 1) := dk_172 (dk_at dksJ14_charAt_1 0 rfl rfl)
abbrev cJ14_isLatin1 : ByteArray := prog_39_method_154_code
def yJ14_isLatin1 : MethodName := ⟨RJ14, "isLatin1", "()Z"⟩
def dkwJ14_isLatin1_0 : List UInt8 := [178, 0, 38, 153, 0, 14, 42, 180, 0, 15, 154, 0, 7, 4, 167, 0, 4, 3, 172]
abbrev dktJ14_isLatin1_0 : List UInt8 := dkwJ14_isLatin1_0 ++ []
theorem dksJ14_isLatin1_0 : cJ14_isLatin1.data.toList.drop 0 = dktJ14_isLatin1_0 := by decide +kernel
theorem dJ14_isLatin1_0 : decode cJ14_isLatin1 0 = .ok (.getstatic 38, 3) := dk_178 0 38 (dk_at dksJ14_isLatin1_0 0 rfl rfl)
theorem dJ14_isLatin1_3 : decode cJ14_isLatin1 3 = .ok (.ifCond .eq 14, 3) := dk_153 0 14 (dk_at dksJ14_isLatin1_0 3 rfl rfl)
theorem dJ14_isLatin1_6 : decode cJ14_isLatin1 6 = .ok (.aload_n 0, 1) := dk_42 (dk_at dksJ14_isLatin1_0 6 rfl rfl)
theorem dJ14_isLatin1_7 : decode cJ14_isLatin1 7 = .ok (.getfield 15, 3) := dk_180 0 15 (dk_at dksJ14_isLatin1_0 7 rfl rfl)
theorem dJ14_isLatin1_10 : decode cJ14_isLatin1 10 = .ok (.ifCond .ne 7, 3) := dk_154 0 7 (dk_at dksJ14_isLatin1_0 10 rfl rfl)
theorem dJ14_isLatin1_13 : decode cJ14_isLatin1 13 = .ok (.iconst 1, 1) := dk_4 (dk_at dksJ14_isLatin1_0 13 rfl rfl)
theorem dJ14_isLatin1_14 : decode cJ14_isLatin1 14 = .ok (.goto 4, 3) := dk_167 0 4 (dk_at dksJ14_isLatin1_0 14 rfl rfl)
theorem dJ14_isLatin1_17 : decode cJ14_isLatin1 17 = .ok (.iconst 0, 1) := dk_3 (dk_at dksJ14_isLatin1_0 17 rfl rfl)
theorem dJ14_isLatin1_18 : decode cJ14_isLatin1 18 = .ok (.ireturn, 1) := dk_172 (dk_at dksJ14_isLatin1_0 18 rfl rfl)
abbrev cJ14_checkIndex : ByteArray := prog_39_method_155_code
def yJ14_checkIndex : MethodName := ⟨RJ14, "checkIndex", "(II)V"⟩
def dkwJ14_checkIndex_0 : List UInt8 := [26, 27, 178, 4, 29, 184, 4, 35, 87, 177]
abbrev dktJ14_checkIndex_0 : List UInt8 := dkwJ14_checkIndex_0 ++ []
theorem dksJ14_checkIndex_0 : cJ14_checkIndex.data.toList.drop 0 = dktJ14_checkIndex_0 := by decide +kernel
theorem dJ14_checkIndex_0 : decode cJ14_checkIndex 0 = .ok (.iload_n 0, 1) := dk_26 (dk_at dksJ14_checkIndex_0 0 rfl rfl)
theorem dJ14_checkIndex_1 : decode cJ14_checkIndex 1 = .ok (.iload_n 1, 1) := dk_27 (dk_at dksJ14_checkIndex_0 1 rfl rfl)
theorem dJ14_checkIndex_2 : decode cJ14_checkIndex 2 = .ok (.getstatic 1053, 3) := dk_178 4 29 (dk_at dksJ14_checkIndex_0 2 rfl rfl)
theorem dJ14_checkIndex_5 : decode cJ14_checkIndex 5 = .ok (.invokestatic 1059, 3) := dk_184 4 35 (dk_at dksJ14_checkIndex_0 5 rfl rfl)
theorem dJ14_checkIndex_8 : decode cJ14_checkIndex 8 = .ok (.pop, 1) := dk_87 (dk_at dksJ14_checkIndex_0 8 rfl rfl)
theorem dJ14_checkIndex_9 : decode cJ14_checkIndex 9 = .ok (.return_, 1) := dk_177 (dk_at dksJ14_checkIndex_0 9 rfl rfl)
abbrev cJ14_checkBoundsBeginEnd : ByteArray := prog_39_method_158_code
def yJ14_checkBoundsBeginEnd : MethodName := ⟨RJ14, "checkBoundsBeginEnd", "(III)V"⟩
def dkwJ14_checkBoundsBeginEnd_0 : List UInt8 := [26, 27, 28, 178, 4, 29, 184, 4, 38, 87, 177]
abbrev dktJ14_checkBoundsBeginEnd_0 : List UInt8 := dkwJ14_checkBoundsBeginEnd_0 ++ []
theorem dksJ14_checkBoundsBeginEnd_0 : cJ14_checkBoundsBeginEnd.data.toList.drop 0 = dktJ14_checkBoundsBeginEnd_0 := by decide +kernel
theorem dJ14_checkBoundsBeginEnd_0 : decode cJ14_checkBoundsBeginEnd 0 = .ok (.iload_n 0, 1) := dk_26 (dk_at dksJ14_checkBoundsBeginEnd_0 0 rfl rfl)
theorem dJ14_checkBoundsBeginEnd_1 : decode cJ14_checkBoundsBeginEnd 1 = .ok (.iload_n 1, 1) := dk_27 (dk_at dksJ14_checkBoundsBeginEnd_0 1 rfl rfl)
theorem dJ14_checkBoundsBeginEnd_2 : decode cJ14_checkBoundsBeginEnd 2 = .ok (.iload_n 2, 1) := dk_28 (dk_at dksJ14_checkBoundsBeginEnd_0 2 rfl rfl)
theorem dJ14_checkBoundsBeginEnd_3 : decode cJ14_checkBoundsBeginEnd 3 = .ok (.getstatic 1053, 3) := dk_178 4 29 (dk_at dksJ14_checkBoundsBeginEnd_0 3 rfl rfl)
theorem dJ14_checkBoundsBeginEnd_6 : decode cJ14_checkBoundsBeginEnd 6 = .ok (.invokestatic 1062, 3) := dk_184 4 38 (dk_at dksJ14_checkBoundsBeginEnd_0 6 rfl rfl)
theorem dJ14_checkBoundsBeginEnd_9 : decode cJ14_checkBoundsBeginEnd 9 = .ok (.pop, 1) := dk_87 (dk_at dksJ14_checkBoundsBeginEnd_0 9 rfl rfl)
theorem dJ14_checkBoundsBeginEnd_10 : decode cJ14_checkBoundsBeginEnd 10 = .ok (.return_, 1) := dk_177 (dk_at dksJ14_checkBoundsBeginEnd_0 10 rfl rfl)
abbrev cJ14_length : ByteArray := prog_39_method_54_code
def yJ14_length : MethodName := ⟨RJ14, "length", "()I"⟩
def dkwJ14_length_0 : List UInt8 := [42, 180, 0, 9, 190, 42, 182, 1, 79, 122, 172]
abbrev dktJ14_length_0 : List UInt8 := dkwJ14_length_0 ++ []
theorem dksJ14_length_0 : cJ14_length.data.toList.drop 0 = dktJ14_length_0 := by decide +kernel
theorem dJ14_length_0 : decode cJ14_length 0 = .ok (.aload_n 0, 1) := dk_42 (dk_at dksJ14_length_0 0 rfl rfl)
theorem dJ14_length_1 : decode cJ14_length 1 = .ok (.getfield 9, 3) := dk_180 0 9 (dk_at dksJ14_length_0 1 rfl rfl)
theorem dJ14_length_4 : decode cJ14_length 4 = .ok (.arraylength, 1) := dk_190 (dk_at dksJ14_length_0 4 rfl rfl)
theorem dJ14_length_5 : decode cJ14_length 5 = .ok (.aload_n 0, 1) := dk_42 (dk_at dksJ14_length_0 5 rfl rfl)
theorem dJ14_length_6 : decode cJ14_length 6 = .ok (.invokevirtual 335, 3) := dk_182 1 79 (dk_at dksJ14_length_0 6 rfl rfl)
theorem dJ14_length_9 : decode cJ14_length 9 = .ok (.ishr, 1) := dk_122 (dk_at dksJ14_length_0 9 rfl rfl)
theorem dJ14_length_10 : decode cJ14_length 10 = .ok (.ireturn, 1) := dk_172 (dk_at dksJ14_length_0 10 rfl rfl)
abbrev cJ14_coder : ByteArray := prog_39_method_152_code
def yJ14_coder : MethodName := ⟨RJ14, "coder", "()B"⟩
def dkwJ14_coder_0 : List UInt8 := [178, 0, 38, 153, 0, 10, 42, 180, 0, 15, 167, 0, 4, 4, 172]
abbrev dktJ14_coder_0 : List UInt8 := dkwJ14_coder_0 ++ []
theorem dksJ14_coder_0 : cJ14_coder.data.toList.drop 0 = dktJ14_coder_0 := by decide +kernel
theorem dJ14_coder_0 : decode cJ14_coder 0 = .ok (.getstatic 38, 3) := dk_178 0 38 (dk_at dksJ14_coder_0 0 rfl rfl)
theorem dJ14_coder_3 : decode cJ14_coder 3 = .ok (.ifCond .eq 10, 3) := dk_153 0 10 (dk_at dksJ14_coder_0 3 rfl rfl)
theorem dJ14_coder_6 : decode cJ14_coder 6 = .ok (.aload_n 0, 1) := dk_42 (dk_at dksJ14_coder_0 6 rfl rfl)
theorem dJ14_coder_7 : decode cJ14_coder 7 = .ok (.getfield 15, 3) := dk_180 0 15 (dk_at dksJ14_coder_0 7 rfl rfl)
theorem dJ14_coder_10 : decode cJ14_coder 10 = .ok (.goto 4, 3) := dk_167 0 4 (dk_at dksJ14_coder_0 10 rfl rfl)
theorem dJ14_coder_13 : decode cJ14_coder 13 = .ok (.iconst 1, 1) := dk_4 (dk_at dksJ14_coder_0 13 rfl rfl)
theorem dJ14_coder_14 : decode cJ14_coder 14 = .ok (.ireturn, 1) := dk_172 (dk_at dksJ14_coder_0 14 rfl rfl)
abbrev cJ14_checkBoundsOffCount : ByteArray := prog_39_method_157_code
def yJ14_checkBoundsOffCount : MethodName := ⟨RJ14, "checkBoundsOffCount", "(III)I"⟩
def dkwJ14_checkBoundsOffCount_0 : List UInt8 := [26, 27, 28, 178, 4, 29, 184, 4, 41, 172]
abbrev dktJ14_checkBoundsOffCount_0 : List UInt8 := dkwJ14_checkBoundsOffCount_0 ++ []
theorem dksJ14_checkBoundsOffCount_0 : cJ14_checkBoundsOffCount.data.toList.drop 0 = dktJ14_checkBoundsOffCount_0 := by decide +kernel
theorem dJ14_checkBoundsOffCount_0 : decode cJ14_checkBoundsOffCount 0 = .ok (.iload_n 0, 1) := dk_26 (dk_at dksJ14_checkBoundsOffCount_0 0 rfl rfl)
theorem dJ14_checkBoundsOffCount_1 : decode cJ14_checkBoundsOffCount 1 = .ok (.iload_n 1, 1) := dk_27 (dk_at dksJ14_checkBoundsOffCount_0 1 rfl rfl)
theorem dJ14_checkBoundsOffCount_2 : decode cJ14_checkBoundsOffCount 2 = .ok (.iload_n 2, 1) := dk_28 (dk_at dksJ14_checkBoundsOffCount_0 2 rfl rfl)
theorem dJ14_checkBoundsOffCount_3 : decode cJ14_checkBoundsOffCount 3 = .ok (.getstatic 1053, 3) := dk_178 4 29 (dk_at dksJ14_checkBoundsOffCount_0 3 rfl rfl)
theorem dJ14_checkBoundsOffCount_6 : decode cJ14_checkBoundsOffCount 6 = .ok (.invokestatic 1065, 3) := dk_184 4 41 (dk_at dksJ14_checkBoundsOffCount_0 6 rfl rfl)
theorem dJ14_checkBoundsOffCount_9 : decode cJ14_checkBoundsOffCount 9 = .ok (.ireturn, 1) := dk_172 (dk_at dksJ14_checkBoundsOffCount_0 9 rfl rfl)
abbrev cJ14_getBytes : ByteArray := prog_39_method_147_code
def yJ14_getBytes : MethodName := ⟨RJ14, "getBytes", "([BIB)V"⟩
def dkwJ14_getBytes_1 : List UInt8 := [184, 0, 212, 167, 0, 18, 42, 180, 0, 9, 3, 43, 28, 42, 180, 0, 9, 190, 184, 0, 106, 177]
abbrev dktJ14_getBytes_1 : List UInt8 := dkwJ14_getBytes_1 ++ []
def dkwJ14_getBytes_0 : List UInt8 := [42, 182, 1, 79, 29, 160, 0, 23, 42, 180, 0, 9, 3, 43, 28, 29, 120, 42, 180, 0, 9, 190]
abbrev dktJ14_getBytes_0 : List UInt8 := dkwJ14_getBytes_0 ++ dktJ14_getBytes_1
theorem dksJ14_getBytes_0 : cJ14_getBytes.data.toList.drop 0 = dktJ14_getBytes_0 := by decide +kernel
theorem dksJ14_getBytes_1 : cJ14_getBytes.data.toList.drop 22 = dktJ14_getBytes_1 := dk_seg dksJ14_getBytes_0 22 rfl rfl
theorem dJ14_getBytes_0 : decode cJ14_getBytes 0 = .ok (.aload_n 0, 1) := dk_42 (dk_at dksJ14_getBytes_0 0 rfl rfl)
theorem dJ14_getBytes_1 : decode cJ14_getBytes 1 = .ok (.invokevirtual 335, 3) := dk_182 1 79 (dk_at dksJ14_getBytes_0 1 rfl rfl)
theorem dJ14_getBytes_4 : decode cJ14_getBytes 4 = .ok (.iload_n 3, 1) := dk_29 (dk_at dksJ14_getBytes_0 4 rfl rfl)
theorem dJ14_getBytes_5 : decode cJ14_getBytes 5 = .ok (.if_icmp .ne 23, 3) := dk_160 0 23 (dk_at dksJ14_getBytes_0 5 rfl rfl)
theorem dJ14_getBytes_8 : decode cJ14_getBytes 8 = .ok (.aload_n 0, 1) := dk_42 (dk_at dksJ14_getBytes_0 8 rfl rfl)
theorem dJ14_getBytes_9 : decode cJ14_getBytes 9 = .ok (.getfield 9, 3) := dk_180 0 9 (dk_at dksJ14_getBytes_0 9 rfl rfl)
theorem dJ14_getBytes_12 : decode cJ14_getBytes 12 = .ok (.iconst 0, 1) := dk_3 (dk_at dksJ14_getBytes_0 12 rfl rfl)
theorem dJ14_getBytes_13 : decode cJ14_getBytes 13 = .ok (.aload_n 1, 1) := dk_43 (dk_at dksJ14_getBytes_0 13 rfl rfl)
theorem dJ14_getBytes_14 : decode cJ14_getBytes 14 = .ok (.iload_n 2, 1) := dk_28 (dk_at dksJ14_getBytes_0 14 rfl rfl)
theorem dJ14_getBytes_15 : decode cJ14_getBytes 15 = .ok (.iload_n 3, 1) := dk_29 (dk_at dksJ14_getBytes_0 15 rfl rfl)
theorem dJ14_getBytes_16 : decode cJ14_getBytes 16 = .ok (.ishl, 1) := dk_120 (dk_at dksJ14_getBytes_0 16 rfl rfl)
theorem dJ14_getBytes_17 : decode cJ14_getBytes 17 = .ok (.aload_n 0, 1) := dk_42 (dk_at dksJ14_getBytes_0 17 rfl rfl)
theorem dJ14_getBytes_18 : decode cJ14_getBytes 18 = .ok (.getfield 9, 3) := dk_180 0 9 (dk_at dksJ14_getBytes_0 18 rfl rfl)
theorem dJ14_getBytes_21 : decode cJ14_getBytes 21 = .ok (.arraylength, 1) := dk_190 (dk_at dksJ14_getBytes_0 21 rfl rfl)
theorem dJ14_getBytes_22 : decode cJ14_getBytes 22 = .ok (.invokestatic 212, 3) := dk_184 0 212 (dk_at dksJ14_getBytes_1 0 rfl rfl)
theorem dJ14_getBytes_25 : decode cJ14_getBytes 25 = .ok (.goto 18, 3) := dk_167 0 18 (dk_at dksJ14_getBytes_1 3 rfl rfl)
theorem dJ14_getBytes_28 : decode cJ14_getBytes 28 = .ok (.aload_n 0, 1) := dk_42 (dk_at dksJ14_getBytes_1 6 rfl rfl)
theorem dJ14_getBytes_29 : decode cJ14_getBytes 29 = .ok (.getfield 9, 3) := dk_180 0 9 (dk_at dksJ14_getBytes_1 7 rfl rfl)
theorem dJ14_getBytes_32 : decode cJ14_getBytes 32 = .ok (.iconst 0, 1) := dk_3 (dk_at dksJ14_getBytes_1 10 rfl rfl)
theorem dJ14_getBytes_33 : decode cJ14_getBytes 33 = .ok (.aload_n 1, 1) := dk_43 (dk_at dksJ14_getBytes_1 11 rfl rfl)
theorem dJ14_getBytes_34 : decode cJ14_getBytes 34 = .ok (.iload_n 2, 1) := dk_28 (dk_at dksJ14_getBytes_1 12 rfl rfl)
theorem dJ14_getBytes_35 : decode cJ14_getBytes 35 = .ok (.aload_n 0, 1) := dk_42 (dk_at dksJ14_getBytes_1 13 rfl rfl)
theorem dJ14_getBytes_36 : decode cJ14_getBytes 36 = .ok (.getfield 9, 3) := dk_180 0 9 (dk_at dksJ14_getBytes_1 14 rfl rfl)
theorem dJ14_getBytes_39 : decode cJ14_getBytes 39 = .ok (.arraylength, 1) := dk_190 (dk_at dksJ14_getBytes_1 17 rfl rfl)
theorem dJ14_getBytes_40 : decode cJ14_getBytes 40 = .ok (.invokestatic 106, 3) := dk_184 0 106 (dk_at dksJ14_getBytes_1 18 rfl rfl)
theorem dJ14_getBytes_43 : decode cJ14_getBytes 43 = .ok (.return_, 1) := dk_177 (dk_at dksJ14_getBytes_1 21 rfl rfl)
abbrev cJ14_init : ByteArray := prog_39_method_53_code
def yJ14_init : MethodName := ⟨RJ14, "<init>", "(Ljava/lang/StringBuilder;)V"⟩
def dkwJ14_init_0 : List UInt8 := [42, 43, 1, 183, 1, 233, 177]
abbrev dktJ14_init_0 : List UInt8 := dkwJ14_init_0 ++ []
theorem dksJ14_init_0 : cJ14_init.data.toList.drop 0 = dktJ14_init_0 := by decide +kernel
theorem dJ14_init_0 : decode cJ14_init 0 = .ok (.aload_n 0, 1) := dk_42 (dk_at dksJ14_init_0 0 rfl rfl)
theorem dJ14_init_1 : decode cJ14_init 1 = .ok (.aload_n 1, 1) := dk_43 (dk_at dksJ14_init_0 1 rfl rfl)
theorem dJ14_init_2 : decode cJ14_init 2 = .ok (.aconst_null, 1) := dk_1 (dk_at dksJ14_init_0 2 rfl rfl)
theorem dJ14_init_3 : decode cJ14_init 3 = .ok (.invokespecial 489, 3) := dk_183 1 233 (dk_at dksJ14_init_0 3 rfl rfl)
theorem dJ14_init_6 : decode cJ14_init 6 = .ok (.return_, 1) := dk_177 (dk_at dksJ14_init_0 6 rfl rfl)
abbrev cJ14_init_2 : ByteArray := prog_39_method_150_code
def yJ14_init_2 : MethodName := ⟨RJ14, "<init>", "(Ljava/lang/AbstractStringBuilder;Ljava/lang/Void;)V"⟩
def dkwJ14_init_2_4 : List UInt8 := [181, 0, 9, 177]
abbrev dktJ14_init_2_4 : List UInt8 := dkwJ14_init_2_4 ++ []
def dkwJ14_init_2_3 : List UInt8 := [184, 0, 47, 181, 0, 15, 177, 42, 4, 181, 0, 15, 42, 45, 3, 21, 4, 4, 120, 184, 0, 54]
abbrev dktJ14_init_2_3 : List UInt8 := dkwJ14_init_2_3 ++ dktJ14_init_2_4
def dkwJ14_init_2_2 : List UInt8 := [180, 4, 24, 153, 0, 28, 42, 45, 3, 21, 4, 184, 4, 27, 181, 0, 9, 42, 42, 180, 0, 9, 21, 4]
abbrev dktJ14_init_2_2 : List UInt8 := dkwJ14_init_2_2 ++ dktJ14_init_2_3
def dkwJ14_init_2_1 : List UInt8 := [181, 0, 15, 42, 45, 3, 21, 4, 184, 0, 54, 181, 0, 9, 167, 0, 59, 178, 0, 38, 153, 0, 35, 43]
abbrev dktJ14_init_2_1 : List UInt8 := dkwJ14_init_2_1 ++ dktJ14_init_2_2
def dkwJ14_init_2_0 : List UInt8 := [42, 183, 0, 1, 43, 182, 2, 40, 78, 43, 182, 2, 37, 54, 4, 43, 182, 4, 23, 153, 0, 22, 42, 3]
abbrev dktJ14_init_2_0 : List UInt8 := dkwJ14_init_2_0 ++ dktJ14_init_2_1
theorem dksJ14_init_2_0 : cJ14_init_2.data.toList.drop 0 = dktJ14_init_2_0 := by decide +kernel
theorem dksJ14_init_2_1 : cJ14_init_2.data.toList.drop 24 = dktJ14_init_2_1 := dk_seg dksJ14_init_2_0 24 rfl rfl
theorem dksJ14_init_2_2 : cJ14_init_2.data.toList.drop 48 = dktJ14_init_2_2 := dk_seg dksJ14_init_2_1 24 rfl rfl
theorem dksJ14_init_2_3 : cJ14_init_2.data.toList.drop 72 = dktJ14_init_2_3 := dk_seg dksJ14_init_2_2 24 rfl rfl
theorem dksJ14_init_2_4 : cJ14_init_2.data.toList.drop 94 = dktJ14_init_2_4 := dk_seg dksJ14_init_2_3 22 rfl rfl
theorem dJ14_init_2_0 : decode cJ14_init_2 0 = .ok (.aload_n 0, 1) := dk_42 (dk_at dksJ14_init_2_0 0 rfl rfl)
theorem dJ14_init_2_1 : decode cJ14_init_2 1 = .ok (.invokespecial 1, 3) := dk_183 0 1 (dk_at dksJ14_init_2_0 1 rfl rfl)
theorem dJ14_init_2_4 : decode cJ14_init_2 4 = .ok (.aload_n 1, 1) := dk_43 (dk_at dksJ14_init_2_0 4 rfl rfl)
theorem dJ14_init_2_5 : decode cJ14_init_2 5 = .ok (.invokevirtual 552, 3) := dk_182 2 40 (dk_at dksJ14_init_2_0 5 rfl rfl)
theorem dJ14_init_2_8 : decode cJ14_init_2 8 = .ok (.astore_n 3, 1) := dk_78 (dk_at dksJ14_init_2_0 8 rfl rfl)
theorem dJ14_init_2_9 : decode cJ14_init_2 9 = .ok (.aload_n 1, 1) := dk_43 (dk_at dksJ14_init_2_0 9 rfl rfl)
theorem dJ14_init_2_10 : decode cJ14_init_2 10 = .ok (.invokevirtual 549, 3) := dk_182 2 37 (dk_at dksJ14_init_2_0 10 rfl rfl)
theorem dJ14_init_2_13 : decode cJ14_init_2 13 = .ok (.istore 4, 2) := dk_54 4 (dk_at dksJ14_init_2_0 13 rfl rfl)
theorem dJ14_init_2_15 : decode cJ14_init_2 15 = .ok (.aload_n 1, 1) := dk_43 (dk_at dksJ14_init_2_0 15 rfl rfl)
theorem dJ14_init_2_16 : decode cJ14_init_2 16 = .ok (.invokevirtual 1047, 3) := dk_182 4 23 (dk_at dksJ14_init_2_0 16 rfl rfl)
theorem dJ14_init_2_19 : decode cJ14_init_2 19 = .ok (.ifCond .eq 22, 3) := dk_153 0 22 (dk_at dksJ14_init_2_0 19 rfl rfl)
theorem dJ14_init_2_22 : decode cJ14_init_2 22 = .ok (.aload_n 0, 1) := dk_42 (dk_at dksJ14_init_2_0 22 rfl rfl)
theorem dJ14_init_2_23 : decode cJ14_init_2 23 = .ok (.iconst 0, 1) := dk_3 (dk_at dksJ14_init_2_0 23 rfl rfl)
theorem dJ14_init_2_24 : decode cJ14_init_2 24 = .ok (.putfield 15, 3) := dk_181 0 15 (dk_at dksJ14_init_2_1 0 rfl rfl)
theorem dJ14_init_2_27 : decode cJ14_init_2 27 = .ok (.aload_n 0, 1) := dk_42 (dk_at dksJ14_init_2_1 3 rfl rfl)
theorem dJ14_init_2_28 : decode cJ14_init_2 28 = .ok (.aload_n 3, 1) := dk_45 (dk_at dksJ14_init_2_1 4 rfl rfl)
theorem dJ14_init_2_29 : decode cJ14_init_2 29 = .ok (.iconst 0, 1) := dk_3 (dk_at dksJ14_init_2_1 5 rfl rfl)
theorem dJ14_init_2_30 : decode cJ14_init_2 30 = .ok (.iload 4, 2) := dk_21 4 (dk_at dksJ14_init_2_1 6 rfl rfl)
theorem dJ14_init_2_32 : decode cJ14_init_2 32 = .ok (.invokestatic 54, 3) := dk_184 0 54 (dk_at dksJ14_init_2_1 8 rfl rfl)
theorem dJ14_init_2_35 : decode cJ14_init_2 35 = .ok (.putfield 9, 3) := dk_181 0 9 (dk_at dksJ14_init_2_1 11 rfl rfl)
theorem dJ14_init_2_38 : decode cJ14_init_2 38 = .ok (.goto 59, 3) := dk_167 0 59 (dk_at dksJ14_init_2_1 14 rfl rfl)
theorem dJ14_init_2_41 : decode cJ14_init_2 41 = .ok (.getstatic 38, 3) := dk_178 0 38 (dk_at dksJ14_init_2_1 17 rfl rfl)
theorem dJ14_init_2_44 : decode cJ14_init_2 44 = .ok (.ifCond .eq 35, 3) := dk_153 0 35 (dk_at dksJ14_init_2_1 20 rfl rfl)
theorem dJ14_init_2_47 : decode cJ14_init_2 47 = .ok (.aload_n 1, 1) := dk_43 (dk_at dksJ14_init_2_1 23 rfl rfl)
theorem dJ14_init_2_48 : decode cJ14_init_2 48 = .ok (.getfield 1048, 3) := dk_180 4 24 (dk_at dksJ14_init_2_2 0 rfl rfl)
theorem dJ14_init_2_51 : decode cJ14_init_2 51 = .ok (.ifCond .eq 28, 3) := dk_153 0 28 (dk_at dksJ14_init_2_2 3 rfl rfl)
theorem dJ14_init_2_54 : decode cJ14_init_2 54 = .ok (.aload_n 0, 1) := dk_42 (dk_at dksJ14_init_2_2 6 rfl rfl)
theorem dJ14_init_2_55 : decode cJ14_init_2 55 = .ok (.aload_n 3, 1) := dk_45 (dk_at dksJ14_init_2_2 7 rfl rfl)
theorem dJ14_init_2_56 : decode cJ14_init_2 56 = .ok (.iconst 0, 1) := dk_3 (dk_at dksJ14_init_2_2 8 rfl rfl)
theorem dJ14_init_2_57 : decode cJ14_init_2 57 = .ok (.iload 4, 2) := dk_21 4 (dk_at dksJ14_init_2_2 9 rfl rfl)
theorem dJ14_init_2_59 : decode cJ14_init_2 59 = .ok (.invokestatic 1051, 3) := dk_184 4 27 (dk_at dksJ14_init_2_2 11 rfl rfl)
theorem dJ14_init_2_62 : decode cJ14_init_2 62 = .ok (.putfield 9, 3) := dk_181 0 9 (dk_at dksJ14_init_2_2 14 rfl rfl)
theorem dJ14_init_2_65 : decode cJ14_init_2 65 = .ok (.aload_n 0, 1) := dk_42 (dk_at dksJ14_init_2_2 17 rfl rfl)
theorem dJ14_init_2_66 : decode cJ14_init_2 66 = .ok (.aload_n 0, 1) := dk_42 (dk_at dksJ14_init_2_2 18 rfl rfl)
theorem dJ14_init_2_67 : decode cJ14_init_2 67 = .ok (.getfield 9, 3) := dk_180 0 9 (dk_at dksJ14_init_2_2 19 rfl rfl)
theorem dJ14_init_2_70 : decode cJ14_init_2 70 = .ok (.iload 4, 2) := dk_21 4 (dk_at dksJ14_init_2_2 22 rfl rfl)
theorem dJ14_init_2_72 : decode cJ14_init_2 72 = .ok (.invokestatic 47, 3) := dk_184 0 47 (dk_at dksJ14_init_2_3 0 rfl rfl)
theorem dJ14_init_2_75 : decode cJ14_init_2 75 = .ok (.putfield 15, 3) := dk_181 0 15 (dk_at dksJ14_init_2_3 3 rfl rfl)
theorem dJ14_init_2_78 : decode cJ14_init_2 78 = .ok (.return_, 1) := dk_177 (dk_at dksJ14_init_2_3 6 rfl rfl)
theorem dJ14_init_2_79 : decode cJ14_init_2 79 = .ok (.aload_n 0, 1) := dk_42 (dk_at dksJ14_init_2_3 7 rfl rfl)
theorem dJ14_init_2_80 : decode cJ14_init_2 80 = .ok (.iconst 1, 1) := dk_4 (dk_at dksJ14_init_2_3 8 rfl rfl)
theorem dJ14_init_2_81 : decode cJ14_init_2 81 = .ok (.putfield 15, 3) := dk_181 0 15 (dk_at dksJ14_init_2_3 9 rfl rfl)
theorem dJ14_init_2_84 : decode cJ14_init_2 84 = .ok (.aload_n 0, 1) := dk_42 (dk_at dksJ14_init_2_3 12 rfl rfl)
theorem dJ14_init_2_85 : decode cJ14_init_2 85 = .ok (.aload_n 3, 1) := dk_45 (dk_at dksJ14_init_2_3 13 rfl rfl)
theorem dJ14_init_2_86 : decode cJ14_init_2 86 = .ok (.iconst 0, 1) := dk_3 (dk_at dksJ14_init_2_3 14 rfl rfl)
theorem dJ14_init_2_87 : decode cJ14_init_2 87 = .ok (.iload 4, 2) := dk_21 4 (dk_at dksJ14_init_2_3 15 rfl rfl)
theorem dJ14_init_2_89 : decode cJ14_init_2 89 = .ok (.iconst 1, 1) := dk_4 (dk_at dksJ14_init_2_3 17 rfl rfl)
theorem dJ14_init_2_90 : decode cJ14_init_2 90 = .ok (.ishl, 1) := dk_120 (dk_at dksJ14_init_2_3 18 rfl rfl)
theorem dJ14_init_2_91 : decode cJ14_init_2 91 = .ok (.invokestatic 54, 3) := dk_184 0 54 (dk_at dksJ14_init_2_3 19 rfl rfl)
theorem dJ14_init_2_94 : decode cJ14_init_2 94 = .ok (.putfield 9, 3) := dk_181 0 9 (dk_at dksJ14_init_2_4 0 rfl rfl)
theorem dJ14_init_2_97 : decode cJ14_init_2 97 = .ok (.return_, 1) := dk_177 (dk_at dksJ14_init_2_4 3 rfl rfl)
theorem q139 : (Jvm.Cond.initialized "java/lang/String") ∈ lw_all := lw_g (lw_at lw_m1 25 rfl) rfl
theorem q447 : (Jvm.Cond.selects "java/lang/String" ({ cls := "java/lang/Object", name := "getClass", desc := "()Ljava/lang/Class;" } : Jvm.MethodName) ({ cls := "java/lang/Object", name := "getClass", desc := "()Ljava/lang/Class;" } : Jvm.MethodName)) ∈ lw_all := lw_g (lw_at lw_m2 93 rfl) rfl
theorem q514 : (Jvm.Cond.laysStatic "java/lang/String" "COMPACT_STRINGS" "Z") ∈ lw_tbl := lw_at lw_m2 160 rfl
theorem q525 : (Jvm.Cond.fieldLink "java/lang/String" (1048 : Nat) "java/lang/AbstractStringBuilder" "maybeLatin1" "Z") ∈ lw_all := lw_g (lw_at lw_m2 171 rfl) rfl
theorem q1083 : (Jvm.Cond.instanceMethod ({ cls := "java/lang/String", name := "charAt", desc := "(I)C" } : Jvm.MethodName)) ∈ lw_all := lw_g (lw_at lw_m5 9 rfl) rfl
theorem q1084 : (Jvm.Cond.selects "java/lang/String" ({ cls := "java/lang/String", name := "charAt", desc := "(I)C" } : Jvm.MethodName) ({ cls := "java/lang/String", name := "charAt", desc := "(I)C" } : Jvm.MethodName)) ∈ lw_all := lw_g (lw_at lw_m5 10 rfl) rfl
theorem q1085 : (Jvm.Cond.code ({ cls := "java/lang/String", name := "charAt", desc := "(I)C" } : Jvm.MethodName) prog_39_method_56_code (2 : Nat) (Option.some Jvm.ClassFile.FieldType.char)) ∈ lw_all := lw_g (lw_at lw_m5 11 rfl) rfl
theorem q1086 : (Jvm.Cond.methodLink "java/lang/String" (492 : Nat) ({ cls := "java/lang/String", name := "isLatin1", desc := "()Z" } : Jvm.MethodName)) ∈ lw_all := lw_g (lw_at lw_m5 12 rfl) rfl
theorem q1087 : (Jvm.Cond.instanceMethod ({ cls := "java/lang/String", name := "isLatin1", desc := "()Z" } : Jvm.MethodName)) ∈ lw_all := lw_g (lw_at lw_m5 13 rfl) rfl
theorem q1088 : (Jvm.Cond.selects "java/lang/String" ({ cls := "java/lang/String", name := "isLatin1", desc := "()Z" } : Jvm.MethodName) ({ cls := "java/lang/String", name := "isLatin1", desc := "()Z" } : Jvm.MethodName)) ∈ lw_all := lw_g (lw_at lw_m5 14 rfl) rfl
theorem q1089 : (Jvm.Cond.code ({ cls := "java/lang/String", name := "isLatin1", desc := "()Z" } : Jvm.MethodName) prog_39_method_154_code (1 : Nat) (Option.some Jvm.ClassFile.FieldType.boolean)) ∈ lw_all := lw_g (lw_at lw_m5 15 rfl) rfl
theorem q1090 : (Jvm.Cond.fieldLink "java/lang/String" (38 : Nat) "java/lang/String" "COMPACT_STRINGS" "Z") ∈ lw_all := lw_g (lw_at lw_m5 16 rfl) rfl
theorem q1091 : (Jvm.Cond.methodLink "java/lang/String" (495 : Nat) ({ cls := "java/lang/StringLatin1", name := "charAt", desc := "([BI)C" } : Jvm.MethodName)) ∈ lw_all := lw_g (lw_at lw_m5 17 rfl) rfl
theorem q1095 : (Jvm.Cond.static ({ cls := "java/lang/String", name := "checkIndex", desc := "(II)V" } : Jvm.MethodName)) ∈ lw_all := lw_g (lw_at lw_m5 21 rfl) rfl
theorem q1096 : (Jvm.Cond.code ({ cls := "java/lang/String", name := "checkIndex", desc := "(II)V" } : Jvm.MethodName) prog_39_method_155_code (2 : Nat) (Option.none : Option Jvm.ClassFile.FieldType)) ∈ lw_all := lw_g (lw_at lw_m5 22 rfl) rfl
theorem q1097 : (Jvm.Cond.fieldLink "java/lang/String" (1053 : Nat) "jdk/internal/util/Preconditions" "SIOOBE_FORMATTER" "Ljava/util/function/BiFunction;") ∈ lw_all := lw_g (lw_at lw_m5 23 rfl) rfl
theorem q1099 : (Jvm.Cond.methodLink "java/lang/String" (1059 : Nat) ({ cls := "jdk/internal/util/Preconditions", name := "checkIndex", desc := "(IILjava/util/function/BiFunction;)I" } : Jvm.MethodName)) ∈ lw_all := lw_g (lw_at lw_m5 25 rfl) rfl
theorem q1102 : (Jvm.Cond.methodLink "java/lang/String" (498 : Nat) ({ cls := "java/lang/StringUTF16", name := "charAt", desc := "([BI)C" } : Jvm.MethodName)) ∈ lw_all := lw_g (lw_at lw_m5 28 rfl) rfl
theorem q1464 : (Jvm.Cond.static ({ cls := "java/lang/String", name := "checkBoundsBeginEnd", desc := "(III)V" } : Jvm.MethodName)) ∈ lw_all := lw_g (lw_at lw_m6 150 rfl) rfl
theorem q1465 : (Jvm.Cond.code ({ cls := "java/lang/String", name := "checkBoundsBeginEnd", desc := "(III)V" } : Jvm.MethodName) prog_39_method_158_code (3 : Nat) (Option.none : Option Jvm.ClassFile.FieldType)) ∈ lw_all := lw_g (lw_at lw_m6 151 rfl) rfl
theorem q1466 : (Jvm.Cond.methodLink "java/lang/String" (1062 : Nat) ({ cls := "jdk/internal/util/Preconditions", name := "checkFromToIndex", desc := "(IIILjava/util/function/BiFunction;)I" } : Jvm.MethodName)) ∈ lw_all := lw_g (lw_at lw_m6 152 rfl) rfl
theorem q1473 : (Jvm.Cond.instanceMethod ({ cls := "java/lang/String", name := "length", desc := "()I" } : Jvm.MethodName)) ∈ lw_all := lw_g (lw_at lw_m6 159 rfl) rfl
theorem q1474 : (Jvm.Cond.selects "java/lang/String" ({ cls := "java/lang/String", name := "length", desc := "()I" } : Jvm.MethodName) ({ cls := "java/lang/String", name := "length", desc := "()I" } : Jvm.MethodName)) ∈ lw_all := lw_g (lw_at lw_m6 160 rfl) rfl
theorem q1475 : (Jvm.Cond.code ({ cls := "java/lang/String", name := "length", desc := "()I" } : Jvm.MethodName) prog_39_method_54_code (1 : Nat) (Option.some Jvm.ClassFile.FieldType.int)) ∈ lw_all := lw_g (lw_at lw_m6 161 rfl) rfl
theorem q1476 : (Jvm.Cond.methodLink "java/lang/String" (335 : Nat) ({ cls := "java/lang/String", name := "coder", desc := "()B" } : Jvm.MethodName)) ∈ lw_all := lw_g (lw_at lw_m6 162 rfl) rfl
theorem q1477 : (Jvm.Cond.instanceMethod ({ cls := "java/lang/String", name := "coder", desc := "()B" } : Jvm.MethodName)) ∈ lw_all := lw_g (lw_at lw_m6 163 rfl) rfl
theorem q1478 : (Jvm.Cond.selects "java/lang/String" ({ cls := "java/lang/String", name := "coder", desc := "()B" } : Jvm.MethodName) ({ cls := "java/lang/String", name := "coder", desc := "()B" } : Jvm.MethodName)) ∈ lw_all := lw_g (lw_at lw_m6 164 rfl) rfl
theorem q1479 : (Jvm.Cond.code ({ cls := "java/lang/String", name := "coder", desc := "()B" } : Jvm.MethodName) prog_39_method_152_code (1 : Nat) (Option.some Jvm.ClassFile.FieldType.byte)) ∈ lw_all := lw_g (lw_at lw_m6 165 rfl) rfl
theorem q1503 : (Jvm.Cond.static ({ cls := "java/lang/String", name := "checkBoundsOffCount", desc := "(III)I" } : Jvm.MethodName)) ∈ lw_all := lw_g (lw_at lw_m6 189 rfl) rfl
theorem q1504 : (Jvm.Cond.code ({ cls := "java/lang/String", name := "checkBoundsOffCount", desc := "(III)I" } : Jvm.MethodName) prog_39_method_157_code (3 : Nat) (Option.some Jvm.ClassFile.FieldType.int)) ∈ lw_all := lw_g (lw_at lw_m6 190 rfl) rfl
theorem q1505 : (Jvm.Cond.methodLink "java/lang/String" (1065 : Nat) ({ cls := "jdk/internal/util/Preconditions", name := "checkFromIndexSize", desc := "(IIILjava/util/function/BiFunction;)I" } : Jvm.MethodName)) ∈ lw_all := lw_g (lw_at lw_m6 191 rfl) rfl
theorem q1509 : (Jvm.Cond.instanceMethod ({ cls := "java/lang/String", name := "getBytes", desc := "([BIB)V" } : Jvm.MethodName)) ∈ lw_all := lw_g (lw_at lw_m6 195 rfl) rfl
theorem q1510 : (Jvm.Cond.selects "java/lang/String" ({ cls := "java/lang/String", name := "getBytes", desc := "([BIB)V" } : Jvm.MethodName) ({ cls := "java/lang/String", name := "getBytes", desc := "([BIB)V" } : Jvm.MethodName)) ∈ lw_all := lw_g (lw_at lw_m6 196 rfl) rfl
theorem q1511 : (Jvm.Cond.code ({ cls := "java/lang/String", name := "getBytes", desc := "([BIB)V" } : Jvm.MethodName) prog_39_method_147_code (4 : Nat) (Option.none : Option Jvm.ClassFile.FieldType)) ∈ lw_all := lw_g (lw_at lw_m6 197 rfl) rfl
theorem q1512 : (Jvm.Cond.methodLink "java/lang/String" (212 : Nat) ({ cls := "java/lang/System", name := "arraycopy", desc := "(Ljava/lang/Object;ILjava/lang/Object;II)V" } : Jvm.MethodName)) ∈ lw_all := lw_g (lw_at lw_m6 198 rfl) rfl
theorem q1513 : (Jvm.Cond.methodLink "java/lang/String" (106 : Nat) ({ cls := "java/lang/StringLatin1", name := "inflate", desc := "([BI[BII)V" } : Jvm.MethodName)) ∈ lw_all := lw_g (lw_at lw_m6 199 rfl) rfl
theorem q1520 : (Jvm.Cond.instantiable "java/lang/String" (4 : Nat)) ∈ lw_all := lw_g (lw_at lw_m6 206 rfl) rfl
theorem q1522 : (Jvm.Cond.instanceMethod ({ cls := "java/lang/String", name := "<init>", desc := "(Ljava/lang/StringBuilder;)V" } : Jvm.MethodName)) ∈ lw_all := lw_g (lw_at lw_m6 208 rfl) rfl
theorem q1523 : (Jvm.Cond.code ({ cls := "java/lang/String", name := "<init>", desc := "(Ljava/lang/StringBuilder;)V" } : Jvm.MethodName) prog_39_method_53_code (2 : Nat) (Option.none : Option Jvm.ClassFile.FieldType)) ∈ lw_all := lw_g (lw_at lw_m6 209 rfl) rfl
theorem q1524 : (Jvm.Cond.methodLink "java/lang/String" (489 : Nat) ({ cls := "java/lang/String", name := "<init>", desc := "(Ljava/lang/AbstractStringBuilder;Ljava/lang/Void;)V" } : Jvm.MethodName)) ∈ lw_all := lw_g (lw_at lw_m6 210 rfl) rfl
theorem q1525 : (Jvm.Cond.instanceMethod ({ cls := "java/lang/String", name := "<init>", desc := "(Ljava/lang/AbstractStringBuilder;Ljava/lang/Void;)V" } : Jvm.MethodName)) ∈ lw_all := lw_g (lw_at lw_m6 211 rfl) rfl
theorem q1526 : (Jvm.Cond.code ({ cls := "java/lang/String", name := "<init>", desc := "(Ljava/lang/AbstractStringBuilder;Ljava/lang/Void;)V" } : Jvm.MethodName) prog_39_method_150_code (5 : Nat) (Option.none : Option Jvm.ClassFile.FieldType)) ∈ lw_all := lw_g (lw_at lw_m6 212 rfl) rfl
theorem q1527 : (Jvm.Cond.methodLink "java/lang/String" (1 : Nat) ({ cls := "java/lang/Object", name := "<init>", desc := "()V" } : Jvm.MethodName)) ∈ lw_all := lw_g (lw_at lw_m6 213 rfl) rfl
theorem q1528 : (Jvm.Cond.methodLink "java/lang/String" (552 : Nat) ({ cls := "java/lang/AbstractStringBuilder", name := "getValue", desc := "()[B" } : Jvm.MethodName)) ∈ lw_all := lw_g (lw_at lw_m6 214 rfl) rfl
theorem q1533 : (Jvm.Cond.methodLink "java/lang/String" (549 : Nat) ({ cls := "java/lang/AbstractStringBuilder", name := "length", desc := "()I" } : Jvm.MethodName)) ∈ lw_all := lw_g (lw_at lw_m6 219 rfl) rfl
theorem q1541 : (Jvm.Cond.methodLink "java/lang/String" (1047 : Nat) ({ cls := "java/lang/AbstractStringBuilder", name := "isLatin1", desc := "()Z" } : Jvm.MethodName)) ∈ lw_all := lw_g (lw_at lw_m6 227 rfl) rfl
theorem q1542 : (Jvm.Cond.methodLink "java/lang/String" (54 : Nat) ({ cls := "java/util/Arrays", name := "copyOfRange", desc := "([BII)[B" } : Jvm.MethodName)) ∈ lw_all := lw_g (lw_at lw_m6 228 rfl) rfl
theorem q1551 : (Jvm.Cond.methodLink "java/lang/String" (1051 : Nat) ({ cls := "java/lang/StringUTF16", name := "compress", desc := "([BII)[B" } : Jvm.MethodName)) ∈ lw_all := lw_g (lw_at lw_m6 237 rfl) rfl
theorem q1558 : (Jvm.Cond.methodLink "java/lang/String" (47 : Nat) ({ cls := "java/lang/StringUTF16", name := "coderFromArrayLen", desc := "([BI)B" } : Jvm.MethodName)) ∈ lw_all := lw_g (lw_at lw_m7 4 rfl) rfl
theorem q1561 : (Jvm.Cond.fieldLink "java/lang/String" (9 : Nat) "java/lang/String" "value" "[B") ∈ lw_all := lw_g (lw_at lw_m7 7 rfl) rfl
theorem q1562 : (Jvm.Cond.fieldLink "java/lang/String" (15 : Nat) "java/lang/String" "coder" "B") ∈ lw_all := lw_g (lw_at lw_m7 8 rfl) rfl
theorem q1563 : (Jvm.Cond.laysFinal "java/lang/String" "java/lang/String" "value" "[B") ∈ lw_all := lw_g (lw_at lw_m7 9 rfl) rfl
theorem q1564 : (Jvm.Cond.soleField "java/lang/String" "value") ∈ lw_all := lw_g (lw_at lw_m7 10 rfl) rfl
theorem q1565 : (Jvm.Cond.laysFinal "java/lang/String" "java/lang/String" "coder" "B") ∈ lw_all := lw_g (lw_at lw_m7 11 rfl) rfl
theorem q1566 : (Jvm.Cond.soleField "java/lang/String" "coder") ∈ lw_all := lw_g (lw_at lw_m7 12 rfl) rfl
theorem q1567 : (Jvm.Cond.lays "java/lang/String" "java/lang/String" "hash" "I") ∈ lw_all := lw_g (lw_at lw_m7 13 rfl) rfl
theorem q1568 : (Jvm.Cond.soleField "java/lang/String" "hash") ∈ lw_all := lw_g (lw_at lw_m7 14 rfl) rfl
theorem q1569 : (Jvm.Cond.lays "java/lang/String" "java/lang/String" "hashIsZero" "Z") ∈ lw_all := lw_g (lw_at lw_m7 15 rfl) rfl
theorem q1570 : (Jvm.Cond.soleField "java/lang/String" "hashIsZero") ∈ lw_all := lw_g (lw_at lw_m7 16 rfl) rfl
theorem q1571 : (Jvm.Cond.superclass "java/lang/String" "java/lang/Object") ∈ lw_all := lw_g (lw_at lw_m7 17 rfl) rfl
theorem q2474 : (Jvm.Cond.castable "java/lang/String" "java/lang/Object") ∈ lw_tbl := lw_at lw_m10 200 rfl
theorem in_J14 : ∀ w ∈ wsJ140, w ∈ lw_all := lw_in wsJ140 [1563, 1565, 1567, 1569] (by decide +kernel) (by decide +kernel)
/-! java/lang/StringUTF16 -/
set_option maxRecDepth 100000
def RJ15 : String := "java/lang/StringUTF16"
abbrev cJ15_newBytesFor : ByteArray := prog_42_method_2_code
def yJ15_newBytesFor : MethodName := ⟨RJ15, "newBytesFor", "(I)[B"⟩
def dkwJ15_newBytesFor_0 : List UInt8 := [26, 184, 0, 11, 188, 8, 176]
abbrev dktJ15_newBytesFor_0 : List UInt8 := dkwJ15_newBytesFor_0 ++ []
theorem dksJ15_newBytesFor_0 : cJ15_newBytesFor.data.toList.drop 0 = dktJ15_newBytesFor_0 := by decide +kernel
theorem dJ15_newBytesFor_0 : decode cJ15_newBytesFor 0 = .ok (.iload_n 0, 1) := dk_26 (dk_at dksJ15_newBytesFor_0 0 rfl rfl)
theorem dJ15_newBytesFor_1 : decode cJ15_newBytesFor 1 = .ok (.invokestatic 11, 3) := dk_184 0 11 (dk_at dksJ15_newBytesFor_0 1 rfl rfl)
theorem dJ15_newBytesFor_4 : decode cJ15_newBytesFor 4 = .ok (.newarray .byte, 2) := dk_188_8 (dk_at dksJ15_newBytesFor_0 4 rfl rfl)
theorem dJ15_newBytesFor_6 : decode cJ15_newBytesFor 6 = .ok (.areturn, 1) := dk_176 (dk_at dksJ15_newBytesFor_0 6 rfl rfl)
abbrev cJ15_newBytesLength : ByteArray := prog_42_method_3_code
def yJ15_newBytesLength : MethodName := ⟨RJ15, "newBytesLength", "(I)I"⟩
def dkwJ15_newBytesLength_2 : List UInt8 := [182, 0, 32, 182, 0, 37, 183, 0, 41, 191, 26, 4, 120, 172]
abbrev dktJ15_newBytesLength_2 : List UInt8 := dkwJ15_newBytesLength_2 ++ []
def dkwJ15_newBytesLength_1 : List UInt8 := [187, 0, 23, 89, 183, 0, 25, 18, 26, 182, 0, 28, 26, 182, 0, 32, 18, 35, 182, 0, 28, 18, 20]
abbrev dktJ15_newBytesLength_1 : List UInt8 := dkwJ15_newBytesLength_1 ++ dktJ15_newBytesLength_2
def dkwJ15_newBytesLength_0 : List UInt8 := [26, 156, 0, 11, 187, 0, 17, 89, 183, 0, 19, 191, 26, 18, 20, 161, 0, 40, 187, 0, 21, 89]
abbrev dktJ15_newBytesLength_0 : List UInt8 := dkwJ15_newBytesLength_0 ++ dktJ15_newBytesLength_1
theorem dksJ15_newBytesLength_0 : cJ15_newBytesLength.data.toList.drop 0 = dktJ15_newBytesLength_0 := by decide +kernel
theorem dksJ15_newBytesLength_1 : cJ15_newBytesLength.data.toList.drop 22 = dktJ15_newBytesLength_1 := dk_seg dksJ15_newBytesLength_0 22 rfl rfl
theorem dksJ15_newBytesLength_2 : cJ15_newBytesLength.data.toList.drop 45 = dktJ15_newBytesLength_2 := dk_seg dksJ15_newBytesLength_1 23 rfl rfl
theorem dJ15_newBytesLength_0 : decode cJ15_newBytesLength 0 = .ok (.iload_n 0, 1) := dk_26 (dk_at dksJ15_newBytesLength_0 0 rfl rfl)
theorem dJ15_newBytesLength_1 : decode cJ15_newBytesLength 1 = .ok (.ifCond .ge 11, 3) := dk_156 0 11 (dk_at dksJ15_newBytesLength_0 1 rfl rfl)
theorem dJ15_newBytesLength_4 : decode cJ15_newBytesLength 4 = .ok (.new 17, 3) := dk_187 0 17 (dk_at dksJ15_newBytesLength_0 4 rfl rfl)
theorem dJ15_newBytesLength_7 : decode cJ15_newBytesLength 7 = .ok (.dup, 1) := dk_89 (dk_at dksJ15_newBytesLength_0 7 rfl rfl)
theorem dJ15_newBytesLength_8 : decode cJ15_newBytesLength 8 = .ok (.invokespecial 19, 3) := dk_183 0 19 (dk_at dksJ15_newBytesLength_0 8 rfl rfl)
theorem dJ15_newBytesLength_11 : decode cJ15_newBytesLength 11 = .ok (.athrow, 1) := dk_191 (dk_at dksJ15_newBytesLength_0 11 rfl rfl)
theorem dJ15_newBytesLength_12 : decode cJ15_newBytesLength 12 = .ok (.iload_n 0, 1) := dk_26 (dk_at dksJ15_newBytesLength_0 12 rfl rfl)
theorem dJ15_newBytesLength_13 : decode cJ15_newBytesLength 13 = .ok (.ldc 20, 2) := dk_18 20 (dk_at dksJ15_newBytesLength_0 13 rfl rfl)
theorem dJ15_newBytesLength_15 : decode cJ15_newBytesLength 15 = .ok (.if_icmp .lt 40, 3) := dk_161 0 40 (dk_at dksJ15_newBytesLength_0 15 rfl rfl)
theorem dJ15_newBytesLength_18 : decode cJ15_newBytesLength 18 = .ok (.new 21, 3) := dk_187 0 21 (dk_at dksJ15_newBytesLength_0 18 rfl rfl)
theorem dJ15_newBytesLength_21 : decode cJ15_newBytesLength 21 = .ok (.dup, 1) := dk_89 (dk_at dksJ15_newBytesLength_0 21 rfl rfl)
theorem dJ15_newBytesLength_22 : decode cJ15_newBytesLength 22 = .ok (.new 23, 3) := dk_187 0 23 (dk_at dksJ15_newBytesLength_1 0 rfl rfl)
theorem dJ15_newBytesLength_25 : decode cJ15_newBytesLength 25 = .ok (.dup, 1) := dk_89 (dk_at dksJ15_newBytesLength_1 3 rfl rfl)
theorem dJ15_newBytesLength_26 : decode cJ15_newBytesLength 26 = .ok (.invokespecial 25, 3) := dk_183 0 25 (dk_at dksJ15_newBytesLength_1 4 rfl rfl)
theorem dJ15_newBytesLength_29 : decode cJ15_newBytesLength 29 = .ok (.ldc 26, 2) := dk_18 26 (dk_at dksJ15_newBytesLength_1 7 rfl rfl)
theorem dJ15_newBytesLength_31 : decode cJ15_newBytesLength 31 = .ok (.invokevirtual 28, 3) := dk_182 0 28 (dk_at dksJ15_newBytesLength_1 9 rfl rfl)
theorem dJ15_newBytesLength_34 : decode cJ15_newBytesLength 34 = .ok (.iload_n 0, 1) := dk_26 (dk_at dksJ15_newBytesLength_1 12 rfl rfl)
theorem dJ15_newBytesLength_35 : decode cJ15_newBytesLength 35 = .ok (.invokevirtual 32, 3) := dk_182 0 32 (dk_at dksJ15_newBytesLength_1 13 rfl rfl)
theorem dJ15_newBytesLength_38 : decode cJ15_newBytesLength 38 = .ok (.ldc 35, 2) := dk_18 35 (dk_at dksJ15_newBytesLength_1 16 rfl rfl)
theorem dJ15_newBytesLength_40 : decode cJ15_newBytesLength 40 = .ok (.invokevirtual 28, 3) := dk_182 0 28 (dk_at dksJ15_newBytesLength_1 18 rfl rfl)
theorem dJ15_newBytesLength_43 : decode cJ15_newBytesLength 43 = .ok (.ldc 20, 2) := dk_18 20 (dk_at dksJ15_newBytesLength_1 21 rfl rfl)
theorem dJ15_newBytesLength_45 : decode cJ15_newBytesLength 45 = .ok (.invokevirtual 32, 3) := dk_182 0 32 (dk_at dksJ15_newBytesLength_2 0 rfl rfl)
theorem dJ15_newBytesLength_48 : decode cJ15_newBytesLength 48 = .ok (.invokevirtual 37, 3) := dk_182 0 37 (dk_at dksJ15_newBytesLength_2 3 rfl rfl)
theorem dJ15_newBytesLength_51 : decode cJ15_newBytesLength 51 = .ok (.invokespecial 41, 3) := dk_183 0 41 (dk_at dksJ15_newBytesLength_2 6 rfl rfl)
theorem dJ15_newBytesLength_54 : decode cJ15_newBytesLength 54 = .ok (.athrow, 1) := dk_191 (dk_at dksJ15_newBytesLength_2 9 rfl rfl)
theorem dJ15_newBytesLength_55 : decode cJ15_newBytesLength 55 = .ok (.iload_n 0, 1) := dk_26 (dk_at dksJ15_newBytesLength_2 10 rfl rfl)
theorem dJ15_newBytesLength_56 : decode cJ15_newBytesLength 56 = .ok (.iconst 1, 1) := dk_4 (dk_at dksJ15_newBytesLength_2 11 rfl rfl)
theorem dJ15_newBytesLength_57 : decode cJ15_newBytesLength 57 = .ok (.ishl, 1) := dk_120 (dk_at dksJ15_newBytesLength_2 12 rfl rfl)
theorem dJ15_newBytesLength_58 : decode cJ15_newBytesLength 58 = .ok (.ireturn, 1) := dk_172 (dk_at dksJ15_newBytesLength_2 13 rfl rfl)
abbrev cJ15_charAt : ByteArray := prog_42_method_83_code
def yJ15_charAt : MethodName := ⟨RJ15, "charAt", "([BI)C"⟩
def dkwJ15_charAt_0 : List UInt8 := [27, 42, 184, 0, 67, 42, 27, 184, 0, 71, 172]
abbrev dktJ15_charAt_0 : List UInt8 := dkwJ15_charAt_0 ++ []
theorem dksJ15_charAt_0 : cJ15_charAt.data.toList.drop 0 = dktJ15_charAt_0 := by decide +kernel
theorem dJ15_charAt_0 : decode cJ15_charAt 0 = .ok (.iload_n 1, 1) := dk_27 (dk_at dksJ15_charAt_0 0 rfl rfl)
theorem dJ15_charAt_1 : decode cJ15_charAt 1 = .ok (.aload_n 0, 1) := dk_42 (dk_at dksJ15_charAt_0 1 rfl rfl)
theorem dJ15_charAt_2 : decode cJ15_charAt 2 = .ok (.invokestatic 67, 3) := dk_184 0 67 (dk_at dksJ15_charAt_0 2 rfl rfl)
theorem dJ15_charAt_5 : decode cJ15_charAt 5 = .ok (.aload_n 0, 1) := dk_42 (dk_at dksJ15_charAt_0 5 rfl rfl)
theorem dJ15_charAt_6 : decode cJ15_charAt 6 = .ok (.iload_n 1, 1) := dk_27 (dk_at dksJ15_charAt_0 6 rfl rfl)
theorem dJ15_charAt_7 : decode cJ15_charAt 7 = .ok (.invokestatic 71, 3) := dk_184 0 71 (dk_at dksJ15_charAt_0 7 rfl rfl)
theorem dJ15_charAt_10 : decode cJ15_charAt 10 = .ok (.ireturn, 1) := dk_172 (dk_at dksJ15_charAt_0 10 rfl rfl)
abbrev cJ15_checkIndex : ByteArray := prog_42_method_91_code
def yJ15_checkIndex : MethodName := ⟨RJ15, "checkIndex", "(I[B)V"⟩
def dkwJ15_checkIndex_0 : List UInt8 := [26, 43, 184, 0, 48, 184, 1, 158, 177]
abbrev dktJ15_checkIndex_0 : List UInt8 := dkwJ15_checkIndex_0 ++ []
theorem dksJ15_checkIndex_0 : cJ15_checkIndex.data.toList.drop 0 = dktJ15_checkIndex_0 := by decide +kernel
theorem dJ15_checkIndex_0 : decode cJ15_checkIndex 0 = .ok (.iload_n 0, 1) := dk_26 (dk_at dksJ15_checkIndex_0 0 rfl rfl)
theorem dJ15_checkIndex_1 : decode cJ15_checkIndex 1 = .ok (.aload_n 1, 1) := dk_43 (dk_at dksJ15_checkIndex_0 1 rfl rfl)
theorem dJ15_checkIndex_2 : decode cJ15_checkIndex 2 = .ok (.invokestatic 48, 3) := dk_184 0 48 (dk_at dksJ15_checkIndex_0 2 rfl rfl)
theorem dJ15_checkIndex_5 : decode cJ15_checkIndex 5 = .ok (.invokestatic 414, 3) := dk_184 1 158 (dk_at dksJ15_checkIndex_0 5 rfl rfl)
theorem dJ15_checkIndex_8 : decode cJ15_checkIndex 8 = .ok (.return_, 1) := dk_177 (dk_at dksJ15_checkIndex_0 8 rfl rfl)
abbrev cJ15_length : ByteArray := prog_42_method_6_code
def yJ15_length : MethodName := ⟨RJ15, "length", "([B)I"⟩
def dkwJ15_length_0 : List UInt8 := [42, 190, 4, 122, 172]
abbrev dktJ15_length_0 : List UInt8 := dkwJ15_length_0 ++ []
theorem dksJ15_length_0 : cJ15_length.data.toList.drop 0 = dktJ15_length_0 := by decide +kernel
theorem dJ15_length_0 : decode cJ15_length 0 = .ok (.aload_n 0, 1) := dk_42 (dk_at dksJ15_length_0 0 rfl rfl)
theorem dJ15_length_1 : decode cJ15_length 1 = .ok (.arraylength, 1) := dk_190 (dk_at dksJ15_length_0 1 rfl rfl)
theorem dJ15_length_2 : decode cJ15_length 2 = .ok (.iconst 1, 1) := dk_4 (dk_at dksJ15_length_0 2 rfl rfl)
theorem dJ15_length_3 : decode cJ15_length 3 = .ok (.ishr, 1) := dk_122 (dk_at dksJ15_length_0 3 rfl rfl)
theorem dJ15_length_4 : decode cJ15_length 4 = .ok (.ireturn, 1) := dk_172 (dk_at dksJ15_length_0 4 rfl rfl)
abbrev cJ15_getChar : ByteArray := prog_42_method_5_code
def yJ15_getChar : MethodName := ⟨RJ15, "getChar", "([BI)C"⟩
def dkwJ15_getChar_2 : List UInt8 := [51, 17, 0, 255, 126, 178, 0, 63, 120, 128, 146, 172]
abbrev dktJ15_getChar_2 : List UInt8 := dkwJ15_getChar_2 ++ []
def dkwJ15_getChar_1 : List UInt8 := [183, 0, 56, 191, 27, 4, 120, 60, 42, 27, 132, 1, 1, 51, 17, 0, 255, 126, 178, 0, 59, 120, 42, 27]
abbrev dktJ15_getChar_1 : List UInt8 := dkwJ15_getChar_1 ++ dktJ15_getChar_2
def dkwJ15_getChar_0 : List UInt8 := [178, 0, 44, 154, 0, 25, 27, 155, 0, 11, 27, 42, 184, 0, 48, 161, 0, 13, 187, 0, 52, 89, 18, 54]
abbrev dktJ15_getChar_0 : List UInt8 := dkwJ15_getChar_0 ++ dktJ15_getChar_1
theorem dksJ15_getChar_0 : cJ15_getChar.data.toList.drop 0 = dktJ15_getChar_0 := by decide +kernel
theorem dksJ15_getChar_1 : cJ15_getChar.data.toList.drop 24 = dktJ15_getChar_1 := dk_seg dksJ15_getChar_0 24 rfl rfl
theorem dksJ15_getChar_2 : cJ15_getChar.data.toList.drop 48 = dktJ15_getChar_2 := dk_seg dksJ15_getChar_1 24 rfl rfl
theorem dJ15_getChar_0 : decode cJ15_getChar 0 = .ok (.getstatic 44, 3) := dk_178 0 44 (dk_at dksJ15_getChar_0 0 rfl rfl)
theorem dJ15_getChar_3 : decode cJ15_getChar 3 = .ok (.ifCond .ne 25, 3) := dk_154 0 25 (dk_at dksJ15_getChar_0 3 rfl rfl)
theorem dJ15_getChar_6 : decode cJ15_getChar 6 = .ok (.iload_n 1, 1) := dk_27 (dk_at dksJ15_getChar_0 6 rfl rfl)
theorem dJ15_getChar_7 : decode cJ15_getChar 7 = .ok (.ifCond .lt 11, 3) := dk_155 0 11 (dk_at dksJ15_getChar_0 7 rfl rfl)
theorem dJ15_getChar_10 : decode cJ15_getChar 10 = .ok (.iload_n 1, 1) := dk_27 (dk_at dksJ15_getChar_0 10 rfl rfl)
theorem dJ15_getChar_11 : decode cJ15_getChar 11 = .ok (.aload_n 0, 1) := dk_42 (dk_at dksJ15_getChar_0 11 rfl rfl)
theorem dJ15_getChar_12 : decode cJ15_getChar 12 = .ok (.invokestatic 48, 3) := dk_184 0 48 (dk_at dksJ15_getChar_0 12 rfl rfl)
theorem dJ15_getChar_15 : decode cJ15_getChar 15 = .ok (.if_icmp .lt 13, 3) := dk_161 0 13 (dk_at dksJ15_getChar_0 15 rfl rfl)
theorem dJ15_getChar_18 : decode cJ15_getChar 18 = .ok (.new 52, 3) := dk_187 0 52 (dk_at dksJ15_getChar_0 18 rfl rfl)
theorem dJ15_getChar_21 : decode cJ15_getChar 21 = .ok (.dup, 1) := dk_89 (dk_at dksJ15_getChar_0 21 rfl rfl)
theorem dJ15_getChar_22 : decode cJ15_getChar 22 = .ok (.ldc 54, 2) := dk_18 54 (dk_at dksJ15_getChar_0 22 rfl rfl)
theorem dJ15_getChar_24 : decode cJ15_getChar 24 = .ok (.invokespecial 56, 3) := dk_183 0 56 (dk_at dksJ15_getChar_1 0 rfl rfl)
theorem dJ15_getChar_27 : decode cJ15_getChar 27 = .ok (.athrow, 1) := dk_191 (dk_at dksJ15_getChar_1 3 rfl rfl)
theorem dJ15_getChar_28 : decode cJ15_getChar 28 = .ok (.iload_n 1, 1) := dk_27 (dk_at dksJ15_getChar_1 4 rfl rfl)
theorem dJ15_getChar_29 : decode cJ15_getChar 29 = .ok (.iconst 1, 1) := dk_4 (dk_at dksJ15_getChar_1 5 rfl rfl)
theorem dJ15_getChar_30 : decode cJ15_getChar 30 = .ok (.ishl, 1) := dk_120 (dk_at dksJ15_getChar_1 6 rfl rfl)
theorem dJ15_getChar_31 : decode cJ15_getChar 31 = .ok (.istore_n 1, 1) := dk_60 (dk_at dksJ15_getChar_1 7 rfl rfl)
theorem dJ15_getChar_32 : decode cJ15_getChar 32 = .ok (.aload_n 0, 1) := dk_42 (dk_at dksJ15_getChar_1 8 rfl rfl)
theorem dJ15_getChar_33 : decode cJ15_getChar 33 = .ok (.iload_n 1, 1) := dk_27 (dk_at dksJ15_getChar_1 9 rfl rfl)
theorem dJ15_getChar_34 : decode cJ15_getChar 34 = .ok (.iinc 1 1, 3) := dk_132 1 1 (dk_at dksJ15_getChar_1 10 rfl rfl)
theorem dJ15_getChar_37 : decode cJ15_getChar 37 = .ok (.baload, 1) := dk_51 (dk_at dksJ15_getChar_1 13 rfl rfl)
theorem dJ15_getChar_38 : decode cJ15_getChar 38 = .ok (.sipush 255, 3) := dk_17 0 255 (dk_at dksJ15_getChar_1 14 rfl rfl)
theorem dJ15_getChar_41 : decode cJ15_getChar 41 = .ok (.iand, 1) := dk_126 (dk_at dksJ15_getChar_1 17 rfl rfl)
theorem dJ15_getChar_42 : decode cJ15_getChar 42 = .ok (.getstatic 59, 3) := dk_178 0 59 (dk_at dksJ15_getChar_1 18 rfl rfl)
theorem dJ15_getChar_45 : decode cJ15_getChar 45 = .ok (.ishl, 1) := dk_120 (dk_at dksJ15_getChar_1 21 rfl rfl)
theorem dJ15_getChar_46 : decode cJ15_getChar 46 = .ok (.aload_n 0, 1) := dk_42 (dk_at dksJ15_getChar_1 22 rfl rfl)
theorem dJ15_getChar_47 : decode cJ15_getChar 47 = .ok (.iload_n 1, 1) := dk_27 (dk_at dksJ15_getChar_1 23 rfl rfl)
theorem dJ15_getChar_48 : decode cJ15_getChar 48 = .ok (.baload, 1) := dk_51 (dk_at dksJ15_getChar_2 0 rfl rfl)
theorem dJ15_getChar_49 : decode cJ15_getChar 49 = .ok (.sipush 255, 3) := dk_17 0 255 (dk_at dksJ15_getChar_2 1 rfl rfl)
theorem dJ15_getChar_52 : decode cJ15_getChar 52 = .ok (.iand, 1) := dk_126 (dk_at dksJ15_getChar_2 4 rfl rfl)
theorem dJ15_getChar_53 : decode cJ15_getChar 53 = .ok (.getstatic 63, 3) := dk_178 0 63 (dk_at dksJ15_getChar_2 5 rfl rfl)
theorem dJ15_getChar_56 : decode cJ15_getChar 56 = .ok (.ishl, 1) := dk_120 (dk_at dksJ15_getChar_2 8 rfl rfl)
theorem dJ15_getChar_57 : decode cJ15_getChar 57 = .ok (.ior, 1) := dk_128 (dk_at dksJ15_getChar_2 9 rfl rfl)
theorem dJ15_getChar_58 : decode cJ15_getChar 58 = .ok (.i2c, 1) := dk_146 (dk_at dksJ15_getChar_2 10 rfl rfl)
theorem dJ15_getChar_59 : decode cJ15_getChar 59 = .ok (.ireturn, 1) := dk_172 (dk_at dksJ15_getChar_2 11 rfl rfl)
abbrev cJ15_putCharsAt : ByteArray := prog_42_method_81_code
def yJ15_putCharsAt : MethodName := ⟨RJ15, "putCharsAt", "([BICCCC)I"⟩
def dkwJ15_putCharsAt_3 : List UInt8 := [21, 6, 172]
abbrev dktJ15_putCharsAt_3 : List UInt8 := dkwJ15_putCharsAt_3 ++ []
def dkwJ15_putCharsAt_2 : List UInt8 := [184, 0, 111, 178, 0, 44, 154, 0, 17, 27, 21, 6, 159, 0, 11, 187, 0, 52, 89, 183, 0, 66, 191]
abbrev dktJ15_putCharsAt_2 : List UInt8 := dkwJ15_putCharsAt_2 ++ dktJ15_putCharsAt_3
def dkwJ15_putCharsAt_1 : List UInt8 := [132, 1, 1, 29, 184, 0, 111, 42, 27, 132, 1, 1, 21, 4, 184, 0, 111, 42, 27, 132, 1, 1, 21, 5]
abbrev dktJ15_putCharsAt_1 : List UInt8 := dkwJ15_putCharsAt_1 ++ dktJ15_putCharsAt_2
def dkwJ15_putCharsAt_0 : List UInt8 := [27, 7, 96, 54, 6, 27, 21, 6, 42, 184, 0, 96, 42, 27, 132, 1, 1, 28, 184, 0, 111, 42, 27]
abbrev dktJ15_putCharsAt_0 : List UInt8 := dkwJ15_putCharsAt_0 ++ dktJ15_putCharsAt_1
theorem dksJ15_putCharsAt_0 : cJ15_putCharsAt.data.toList.drop 0 = dktJ15_putCharsAt_0 := by decide +kernel
theorem dksJ15_putCharsAt_1 : cJ15_putCharsAt.data.toList.drop 23 = dktJ15_putCharsAt_1 := dk_seg dksJ15_putCharsAt_0 23 rfl rfl
theorem dksJ15_putCharsAt_2 : cJ15_putCharsAt.data.toList.drop 47 = dktJ15_putCharsAt_2 := dk_seg dksJ15_putCharsAt_1 24 rfl rfl
theorem dksJ15_putCharsAt_3 : cJ15_putCharsAt.data.toList.drop 70 = dktJ15_putCharsAt_3 := dk_seg dksJ15_putCharsAt_2 23 rfl rfl
theorem dJ15_putCharsAt_0 : decode cJ15_putCharsAt 0 = .ok (.iload_n 1, 1) := dk_27 (dk_at dksJ15_putCharsAt_0 0 rfl rfl)
theorem dJ15_putCharsAt_1 : decode cJ15_putCharsAt 1 = .ok (.iconst 4, 1) := dk_7 (dk_at dksJ15_putCharsAt_0 1 rfl rfl)
theorem dJ15_putCharsAt_2 : decode cJ15_putCharsAt 2 = .ok (.iadd, 1) := dk_96 (dk_at dksJ15_putCharsAt_0 2 rfl rfl)
theorem dJ15_putCharsAt_3 : decode cJ15_putCharsAt 3 = .ok (.istore 6, 2) := dk_54 6 (dk_at dksJ15_putCharsAt_0 3 rfl rfl)
theorem dJ15_putCharsAt_5 : decode cJ15_putCharsAt 5 = .ok (.iload_n 1, 1) := dk_27 (dk_at dksJ15_putCharsAt_0 5 rfl rfl)
theorem dJ15_putCharsAt_6 : decode cJ15_putCharsAt 6 = .ok (.iload 6, 2) := dk_21 6 (dk_at dksJ15_putCharsAt_0 6 rfl rfl)
theorem dJ15_putCharsAt_8 : decode cJ15_putCharsAt 8 = .ok (.aload_n 0, 1) := dk_42 (dk_at dksJ15_putCharsAt_0 8 rfl rfl)
theorem dJ15_putCharsAt_9 : decode cJ15_putCharsAt 9 = .ok (.invokestatic 96, 3) := dk_184 0 96 (dk_at dksJ15_putCharsAt_0 9 rfl rfl)
theorem dJ15_putCharsAt_12 : decode cJ15_putCharsAt 12 = .ok (.aload_n 0, 1) := dk_42 (dk_at dksJ15_putCharsAt_0 12 rfl rfl)
theorem dJ15_putCharsAt_13 : decode cJ15_putCharsAt 13 = .ok (.iload_n 1, 1) := dk_27 (dk_at dksJ15_putCharsAt_0 13 rfl rfl)
theorem dJ15_putCharsAt_14 : decode cJ15_putCharsAt 14 = .ok (.iinc 1 1, 3) := dk_132 1 1 (dk_at dksJ15_putCharsAt_0 14 rfl rfl)
theorem dJ15_putCharsAt_17 : decode cJ15_putCharsAt 17 = .ok (.iload_n 2, 1) := dk_28 (dk_at dksJ15_putCharsAt_0 17 rfl rfl)
theorem dJ15_putCharsAt_18 : decode cJ15_putCharsAt 18 = .ok (.invokestatic 111, 3) := dk_184 0 111 (dk_at dksJ15_putCharsAt_0 18 rfl rfl)
theorem dJ15_putCharsAt_21 : decode cJ15_putCharsAt 21 = .ok (.aload_n 0, 1) := dk_42 (dk_at dksJ15_putCharsAt_0 21 rfl rfl)
theorem dJ15_putCharsAt_22 : decode cJ15_putCharsAt 22 = .ok (.iload_n 1, 1) := dk_27 (dk_at dksJ15_putCharsAt_0 22 rfl rfl)
theorem dJ15_putCharsAt_23 : decode cJ15_putCharsAt 23 = .ok (.iinc 1 1, 3) := dk_132 1 1 (dk_at dksJ15_putCharsAt_1 0 rfl rfl)
theorem dJ15_putCharsAt_26 : decode cJ15_putCharsAt 26 = .ok (.iload_n 3, 1) := dk_29 (dk_at dksJ15_putCharsAt_1 3 rfl rfl)
theorem dJ15_putCharsAt_27 : decode cJ15_putCharsAt 27 = .ok (.invokestatic 111, 3) := dk_184 0 111 (dk_at dksJ15_putCharsAt_1 4 rfl rfl)
theorem dJ15_putCharsAt_30 : decode cJ15_putCharsAt 30 = .ok (.aload_n 0, 1) := dk_42 (dk_at dksJ15_putCharsAt_1 7 rfl rfl)
theorem dJ15_putCharsAt_31 : decode cJ15_putCharsAt 31 = .ok (.iload_n 1, 1) := dk_27 (dk_at dksJ15_putCharsAt_1 8 rfl rfl)
theorem dJ15_putCharsAt_32 : decode cJ15_putCharsAt 32 = .ok (.iinc 1 1, 3) := dk_132 1 1 (dk_at dksJ15_putCharsAt_1 9 rfl rfl)
theorem dJ15_putCharsAt_35 : decode cJ15_putCharsAt 35 = .ok (.iload 4, 2) := dk_21 4 (dk_at dksJ15_putCharsAt_1 12 rfl rfl)
theorem dJ15_putCharsAt_37 : decode cJ15_putCharsAt 37 = .ok (.invokestatic 111, 3) := dk_184 0 111 (dk_at dksJ15_putCharsAt_1 14 rfl rfl)
theorem dJ15_putCharsAt_40 : decode cJ15_putCharsAt 40 = .ok (.aload_n 0, 1) := dk_42 (dk_at dksJ15_putCharsAt_1 17 rfl rfl)
theorem dJ15_putCharsAt_41 : decode cJ15_putCharsAt 41 = .ok (.iload_n 1, 1) := dk_27 (dk_at dksJ15_putCharsAt_1 18 rfl rfl)
theorem dJ15_putCharsAt_42 : decode cJ15_putCharsAt 42 = .ok (.iinc 1 1, 3) := dk_132 1 1 (dk_at dksJ15_putCharsAt_1 19 rfl rfl)
theorem dJ15_putCharsAt_45 : decode cJ15_putCharsAt 45 = .ok (.iload 5, 2) := dk_21 5 (dk_at dksJ15_putCharsAt_1 22 rfl rfl)
theorem dJ15_putCharsAt_47 : decode cJ15_putCharsAt 47 = .ok (.invokestatic 111, 3) := dk_184 0 111 (dk_at dksJ15_putCharsAt_2 0 rfl rfl)
theorem dJ15_putCharsAt_50 : decode cJ15_putCharsAt 50 = .ok (.getstatic 44, 3) := dk_178 0 44 (dk_at dksJ15_putCharsAt_2 3 rfl rfl)
theorem dJ15_putCharsAt_53 : decode cJ15_putCharsAt 53 = .ok (.ifCond .ne 17, 3) := dk_154 0 17 (dk_at dksJ15_putCharsAt_2 6 rfl rfl)
theorem dJ15_putCharsAt_56 : decode cJ15_putCharsAt 56 = .ok (.iload_n 1, 1) := dk_27 (dk_at dksJ15_putCharsAt_2 9 rfl rfl)
theorem dJ15_putCharsAt_57 : decode cJ15_putCharsAt 57 = .ok (.iload 6, 2) := dk_21 6 (dk_at dksJ15_putCharsAt_2 10 rfl rfl)
theorem dJ15_putCharsAt_59 : decode cJ15_putCharsAt 59 = .ok (.if_icmp .eq 11, 3) := dk_159 0 11 (dk_at dksJ15_putCharsAt_2 12 rfl rfl)
theorem dJ15_putCharsAt_62 : decode cJ15_putCharsAt 62 = .ok (.new 52, 3) := dk_187 0 52 (dk_at dksJ15_putCharsAt_2 15 rfl rfl)
theorem dJ15_putCharsAt_65 : decode cJ15_putCharsAt 65 = .ok (.dup, 1) := dk_89 (dk_at dksJ15_putCharsAt_2 18 rfl rfl)
theorem dJ15_putCharsAt_66 : decode cJ15_putCharsAt 66 = .ok (.invokespecial 66, 3) := dk_183 0 66 (dk_at dksJ15_putCharsAt_2 19 rfl rfl)
theorem dJ15_putCharsAt_69 : decode cJ15_putCharsAt 69 = .ok (.athrow, 1) := dk_191 (dk_at dksJ15_putCharsAt_2 22 rfl rfl)
theorem dJ15_putCharsAt_70 : decode cJ15_putCharsAt 70 = .ok (.iload 6, 2) := dk_21 6 (dk_at dksJ15_putCharsAt_3 0 rfl rfl)
theorem dJ15_putCharsAt_72 : decode cJ15_putCharsAt 72 = .ok (.ireturn, 1) := dk_172 (dk_at dksJ15_putCharsAt_3 2 rfl rfl)
abbrev cJ15_checkBoundsBeginEnd : ByteArray := prog_42_method_93_code
def yJ15_checkBoundsBeginEnd : MethodName := ⟨RJ15, "checkBoundsBeginEnd", "(II[B)V"⟩
def dkwJ15_checkBoundsBeginEnd_0 : List UInt8 := [26, 27, 44, 184, 0, 48, 184, 0, 241, 177]
abbrev dktJ15_checkBoundsBeginEnd_0 : List UInt8 := dkwJ15_checkBoundsBeginEnd_0 ++ []
theorem dksJ15_checkBoundsBeginEnd_0 : cJ15_checkBoundsBeginEnd.data.toList.drop 0 = dktJ15_checkBoundsBeginEnd_0 := by decide +kernel
theorem dJ15_checkBoundsBeginEnd_0 : decode cJ15_checkBoundsBeginEnd 0 = .ok (.iload_n 0, 1) := dk_26 (dk_at dksJ15_checkBoundsBeginEnd_0 0 rfl rfl)
theorem dJ15_checkBoundsBeginEnd_1 : decode cJ15_checkBoundsBeginEnd 1 = .ok (.iload_n 1, 1) := dk_27 (dk_at dksJ15_checkBoundsBeginEnd_0 1 rfl rfl)
theorem dJ15_checkBoundsBeginEnd_2 : decode cJ15_checkBoundsBeginEnd 2 = .ok (.aload_n 2, 1) := dk_44 (dk_at dksJ15_checkBoundsBeginEnd_0 2 rfl rfl)
theorem dJ15_checkBoundsBeginEnd_3 : decode cJ15_checkBoundsBeginEnd 3 = .ok (.invokestatic 48, 3) := dk_184 0 48 (dk_at dksJ15_checkBoundsBeginEnd_0 3 rfl rfl)
theorem dJ15_checkBoundsBeginEnd_6 : decode cJ15_checkBoundsBeginEnd 6 = .ok (.invokestatic 241, 3) := dk_184 0 241 (dk_at dksJ15_checkBoundsBeginEnd_0 6 rfl rfl)
theorem dJ15_checkBoundsBeginEnd_9 : decode cJ15_checkBoundsBeginEnd 9 = .ok (.return_, 1) := dk_177 (dk_at dksJ15_checkBoundsBeginEnd_0 9 rfl rfl)
abbrev cJ15_putChar : ByteArray := prog_42_method_4_code
def yJ15_putChar : MethodName := ⟨RJ15, "putChar", "([BII)V"⟩
def dkwJ15_putChar_2 : List UInt8 := [178, 0, 63, 122, 145, 84, 177]
abbrev dktJ15_putChar_2 : List UInt8 := dkwJ15_putChar_2 ++ []
def dkwJ15_putChar_1 : List UInt8 := [183, 0, 56, 191, 27, 4, 120, 60, 42, 27, 132, 1, 1, 28, 178, 0, 59, 122, 145, 84, 42, 27, 28]
abbrev dktJ15_putChar_1 : List UInt8 := dkwJ15_putChar_1 ++ dktJ15_putChar_2
def dkwJ15_putChar_0 : List UInt8 := [178, 0, 44, 154, 0, 25, 27, 155, 0, 11, 27, 42, 184, 0, 48, 161, 0, 13, 187, 0, 52, 89, 18, 54]
abbrev dktJ15_putChar_0 : List UInt8 := dkwJ15_putChar_0 ++ dktJ15_putChar_1
theorem dksJ15_putChar_0 : cJ15_putChar.data.toList.drop 0 = dktJ15_putChar_0 := by decide +kernel
theorem dksJ15_putChar_1 : cJ15_putChar.data.toList.drop 24 = dktJ15_putChar_1 := dk_seg dksJ15_putChar_0 24 rfl rfl
theorem dksJ15_putChar_2 : cJ15_putChar.data.toList.drop 47 = dktJ15_putChar_2 := dk_seg dksJ15_putChar_1 23 rfl rfl
theorem dJ15_putChar_0 : decode cJ15_putChar 0 = .ok (.getstatic 44, 3) := dk_178 0 44 (dk_at dksJ15_putChar_0 0 rfl rfl)
theorem dJ15_putChar_3 : decode cJ15_putChar 3 = .ok (.ifCond .ne 25, 3) := dk_154 0 25 (dk_at dksJ15_putChar_0 3 rfl rfl)
theorem dJ15_putChar_6 : decode cJ15_putChar 6 = .ok (.iload_n 1, 1) := dk_27 (dk_at dksJ15_putChar_0 6 rfl rfl)
theorem dJ15_putChar_7 : decode cJ15_putChar 7 = .ok (.ifCond .lt 11, 3) := dk_155 0 11 (dk_at dksJ15_putChar_0 7 rfl rfl)
theorem dJ15_putChar_10 : decode cJ15_putChar 10 = .ok (.iload_n 1, 1) := dk_27 (dk_at dksJ15_putChar_0 10 rfl rfl)
theorem dJ15_putChar_11 : decode cJ15_putChar 11 = .ok (.aload_n 0, 1) := dk_42 (dk_at dksJ15_putChar_0 11 rfl rfl)
theorem dJ15_putChar_12 : decode cJ15_putChar 12 = .ok (.invokestatic 48, 3) := dk_184 0 48 (dk_at dksJ15_putChar_0 12 rfl rfl)
theorem dJ15_putChar_15 : decode cJ15_putChar 15 = .ok (.if_icmp .lt 13, 3) := dk_161 0 13 (dk_at dksJ15_putChar_0 15 rfl rfl)
theorem dJ15_putChar_18 : decode cJ15_putChar 18 = .ok (.new 52, 3) := dk_187 0 52 (dk_at dksJ15_putChar_0 18 rfl rfl)
theorem dJ15_putChar_21 : decode cJ15_putChar 21 = .ok (.dup, 1) := dk_89 (dk_at dksJ15_putChar_0 21 rfl rfl)
theorem dJ15_putChar_22 : decode cJ15_putChar 22 = .ok (.ldc 54, 2) := dk_18 54 (dk_at dksJ15_putChar_0 22 rfl rfl)
theorem dJ15_putChar_24 : decode cJ15_putChar 24 = .ok (.invokespecial 56, 3) := dk_183 0 56 (dk_at dksJ15_putChar_1 0 rfl rfl)
theorem dJ15_putChar_27 : decode cJ15_putChar 27 = .ok (.athrow, 1) := dk_191 (dk_at dksJ15_putChar_1 3 rfl rfl)
theorem dJ15_putChar_28 : decode cJ15_putChar 28 = .ok (.iload_n 1, 1) := dk_27 (dk_at dksJ15_putChar_1 4 rfl rfl)
theorem dJ15_putChar_29 : decode cJ15_putChar 29 = .ok (.iconst 1, 1) := dk_4 (dk_at dksJ15_putChar_1 5 rfl rfl)
theorem dJ15_putChar_30 : decode cJ15_putChar 30 = .ok (.ishl, 1) := dk_120 (dk_at dksJ15_putChar_1 6 rfl rfl)
theorem dJ15_putChar_31 : decode cJ15_putChar 31 = .ok (.istore_n 1, 1) := dk_60 (dk_at dksJ15_putChar_1 7 rfl rfl)
theorem dJ15_putChar_32 : decode cJ15_putChar 32 = .ok (.aload_n 0, 1) := dk_42 (dk_at dksJ15_putChar_1 8 rfl rfl)
theorem dJ15_putChar_33 : decode cJ15_putChar 33 = .ok (.iload_n 1, 1) := dk_27 (dk_at dksJ15_putChar_1 9 rfl rfl)
theorem dJ15_putChar_34 : decode cJ15_putChar 34 = .ok (.iinc 1 1, 3) := dk_132 1 1 (dk_at dksJ15_putChar_1 10 rfl rfl)
theorem dJ15_putChar_37 : decode cJ15_putChar 37 = .ok (.iload_n 2, 1) := dk_28 (dk_at dksJ15_putChar_1 13 rfl rfl)
theorem dJ15_putChar_38 : decode cJ15_putChar 38 = .ok (.getstatic 59, 3) := dk_178 0 59 (dk_at dksJ15_putChar_1 14 rfl rfl)
theorem dJ15_putChar_41 : decode cJ15_putChar 41 = .ok (.ishr, 1) := dk_122 (dk_at dksJ15_putChar_1 17 rfl rfl)
theorem dJ15_putChar_42 : decode cJ15_putChar 42 = .ok (.i2b, 1) := dk_145 (dk_at dksJ15_putChar_1 18 rfl rfl)
theorem dJ15_putChar_43 : decode cJ15_putChar 43 = .ok (.bastore, 1) := dk_84 (dk_at dksJ15_putChar_1 19 rfl rfl)
theorem dJ15_putChar_44 : decode cJ15_putChar 44 = .ok (.aload_n 0, 1) := dk_42 (dk_at dksJ15_putChar_1 20 rfl rfl)
theorem dJ15_putChar_45 : decode cJ15_putChar 45 = .ok (.iload_n 1, 1) := dk_27 (dk_at dksJ15_putChar_1 21 rfl rfl)
theorem dJ15_putChar_46 : decode cJ15_putChar 46 = .ok (.iload_n 2, 1) := dk_28 (dk_at dksJ15_putChar_1 22 rfl rfl)
theorem dJ15_putChar_47 : decode cJ15_putChar 47 = .ok (.getstatic 63, 3) := dk_178 0 63 (dk_at dksJ15_putChar_2 0 rfl rfl)
theorem dJ15_putChar_50 : decode cJ15_putChar 50 = .ok (.ishr, 1) := dk_122 (dk_at dksJ15_putChar_2 3 rfl rfl)
theorem dJ15_putChar_51 : decode cJ15_putChar 51 = .ok (.i2b, 1) := dk_145 (dk_at dksJ15_putChar_2 4 rfl rfl)
theorem dJ15_putChar_52 : decode cJ15_putChar 52 = .ok (.bastore, 1) := dk_84 (dk_at dksJ15_putChar_2 5 rfl rfl)
theorem dJ15_putChar_53 : decode cJ15_putChar 53 = .ok (.return_, 1) := dk_177 (dk_at dksJ15_putChar_2 6 rfl rfl)
abbrev cJ15_inflate : ByteArray := prog_42_method_86_code
def yJ15_inflate : MethodName := ⟨RJ15, "inflate", "([BI[BII)V"⟩
def dkwJ15_inflate_1 : List UInt8 := [132, 1, 1, 51, 17, 0, 255, 126, 184, 0, 111, 132, 5, 1, 167, 255, 228, 177]
abbrev dktJ15_inflate_1 : List UInt8 := dkwJ15_inflate_1 ++ []
def dkwJ15_inflate_0 : List UInt8 := [29, 21, 4, 44, 184, 0, 173, 3, 54, 5, 21, 5, 21, 4, 162, 0, 27, 44, 29, 132, 3, 1, 42, 27]
abbrev dktJ15_inflate_0 : List UInt8 := dkwJ15_inflate_0 ++ dktJ15_inflate_1
theorem dksJ15_inflate_0 : cJ15_inflate.data.toList.drop 0 = dktJ15_inflate_0 := by decide +kernel
theorem dksJ15_inflate_1 : cJ15_inflate.data.toList.drop 24 = dktJ15_inflate_1 := dk_seg dksJ15_inflate_0 24 rfl rfl
theorem dJ15_inflate_0 : decode cJ15_inflate 0 = .ok (.iload_n 3, 1) := dk_29 (dk_at dksJ15_inflate_0 0 rfl rfl)
theorem dJ15_inflate_1 : decode cJ15_inflate 1 = .ok (.iload 4, 2) := dk_21 4 (dk_at dksJ15_inflate_0 1 rfl rfl)
theorem dJ15_inflate_3 : decode cJ15_inflate 3 = .ok (.aload_n 2, 1) := dk_44 (dk_at dksJ15_inflate_0 3 rfl rfl)
theorem dJ15_inflate_4 : decode cJ15_inflate 4 = .ok (.invokestatic 173, 3) := dk_184 0 173 (dk_at dksJ15_inflate_0 4 rfl rfl)
theorem dJ15_inflate_7 : decode cJ15_inflate 7 = .ok (.iconst 0, 1) := dk_3 (dk_at dksJ15_inflate_0 7 rfl rfl)
theorem dJ15_inflate_8 : decode cJ15_inflate 8 = .ok (.istore 5, 2) := dk_54 5 (dk_at dksJ15_inflate_0 8 rfl rfl)
theorem dJ15_inflate_10 : decode cJ15_inflate 10 = .ok (.iload 5, 2) := dk_21 5 (dk_at dksJ15_inflate_0 10 rfl rfl)
theorem dJ15_inflate_12 : decode cJ15_inflate 12 = .ok (.iload 4, 2) := dk_21 4 (dk_at dksJ15_inflate_0 12 rfl rfl)
theorem dJ15_inflate_14 : decode cJ15_inflate 14 = .ok (.if_icmp .ge 27, 3) := dk_162 0 27 (dk_at dksJ15_inflate_0 14 rfl rfl)
theorem dJ15_inflate_17 : decode cJ15_inflate 17 = .ok (.aload_n 2, 1) := dk_44 (dk_at dksJ15_inflate_0 17 rfl rfl)
theorem dJ15_inflate_18 : decode cJ15_inflate 18 = .ok (.iload_n 3, 1) := dk_29 (dk_at dksJ15_inflate_0 18 rfl rfl)
theorem dJ15_inflate_19 : decode cJ15_inflate 19 = .ok (.iinc 3 1, 3) := dk_132 3 1 (dk_at dksJ15_inflate_0 19 rfl rfl)
theorem dJ15_inflate_22 : decode cJ15_inflate 22 = .ok (.aload_n 0, 1) := dk_42 (dk_at dksJ15_inflate_0 22 rfl rfl)
theorem dJ15_inflate_23 : decode cJ15_inflate 23 = .ok (.iload_n 1, 1) := dk_27 (dk_at dksJ15_inflate_0 23 rfl rfl)
theorem dJ15_inflate_24 : decode cJ15_inflate 24 = .ok (.iinc 1 1, 3) := dk_132 1 1 (dk_at dksJ15_inflate_1 0 rfl rfl)
theorem dJ15_inflate_27 : decode cJ15_inflate 27 = .ok (.baload, 1) := dk_51 (dk_at dksJ15_inflate_1 3 rfl rfl)
theorem dJ15_inflate_28 : decode cJ15_inflate 28 = .ok (.sipush 255, 3) := dk_17 0 255 (dk_at dksJ15_inflate_1 4 rfl rfl)
theorem dJ15_inflate_31 : decode cJ15_inflate 31 = .ok (.iand, 1) := dk_126 (dk_at dksJ15_inflate_1 7 rfl rfl)
theorem dJ15_inflate_32 : decode cJ15_inflate 32 = .ok (.invokestatic 111, 3) := dk_184 0 111 (dk_at dksJ15_inflate_1 8 rfl rfl)
theorem dJ15_inflate_35 : decode cJ15_inflate 35 = .ok (.iinc 5 1, 3) := dk_132 5 1 (dk_at dksJ15_inflate_1 11 rfl rfl)
theorem dJ15_inflate_38 : decode cJ15_inflate 38 = .ok (.goto (-28), 3) := dk_167 255 228 (dk_at dksJ15_inflate_1 14 rfl rfl)
theorem dJ15_inflate_41 : decode cJ15_inflate 41 = .ok (.return_, 1) := dk_177 (dk_at dksJ15_inflate_1 17 rfl rfl)
abbrev cJ15_checkBoundsOffCount : ByteArray := prog_42_method_94_code
def yJ15_checkBoundsOffCount : MethodName := ⟨RJ15, "checkBoundsOffCount", "(II[B)V"⟩
def dkwJ15_checkBoundsOffCount_0 : List UInt8 := [26, 27, 44, 184, 0, 48, 184, 1, 163, 87, 177]
abbrev dktJ15_checkBoundsOffCount_0 : List UInt8 := dkwJ15_checkBoundsOffCount_0 ++ []
theorem dksJ15_checkBoundsOffCount_0 : cJ15_checkBoundsOffCount.data.toList.drop 0 = dktJ15_checkBoundsOffCount_0 := by decide +kernel
theorem dJ15_checkBoundsOffCount_0 : decode cJ15_checkBoundsOffCount 0 = .ok (.iload_n 0, 1) := dk_26 (dk_at dksJ15_checkBoundsOffCount_0 0 rfl rfl)
theorem dJ15_checkBoundsOffCount_1 : decode cJ15_checkBoundsOffCount 1 = .ok (.iload_n 1, 1) := dk_27 (dk_at dksJ15_checkBoundsOffCount_0 1 rfl rfl)
theorem dJ15_checkBoundsOffCount_2 : decode cJ15_checkBoundsOffCount 2 = .ok (.aload_n 2, 1) := dk_44 (dk_at dksJ15_checkBoundsOffCount_0 2 rfl rfl)
theorem dJ15_checkBoundsOffCount_3 : decode cJ15_checkBoundsOffCount 3 = .ok (.invokestatic 48, 3) := dk_184 0 48 (dk_at dksJ15_checkBoundsOffCount_0 3 rfl rfl)
theorem dJ15_checkBoundsOffCount_6 : decode cJ15_checkBoundsOffCount 6 = .ok (.invokestatic 419, 3) := dk_184 1 163 (dk_at dksJ15_checkBoundsOffCount_0 6 rfl rfl)
theorem dJ15_checkBoundsOffCount_9 : decode cJ15_checkBoundsOffCount 9 = .ok (.pop, 1) := dk_87 (dk_at dksJ15_checkBoundsOffCount_0 9 rfl rfl)
theorem dJ15_checkBoundsOffCount_10 : decode cJ15_checkBoundsOffCount 10 = .ok (.return_, 1) := dk_177 (dk_at dksJ15_checkBoundsOffCount_0 10 rfl rfl)
abbrev cJ15_compress : ByteArray := prog_42_method_17_code
def yJ15_compress : MethodName := ⟨RJ15, "compress", "([BII)[B"⟩
def dkwJ15_compress_2 : List UInt8 := [25, 5, 3, 45, 3, 28, 184, 0, 123, 28, 159, 0, 6, 25, 5, 176, 45, 176]
abbrev dktJ15_compress_2 : List UInt8 := dkwJ15_compress_2 ++ []
def dkwJ15_compress_1 : List UInt8 := [27, 28, 96, 184, 0, 11, 184, 0, 126, 58, 5, 25, 5, 21, 4, 184, 0, 71, 17, 0, 255, 163, 0, 16]
abbrev dktJ15_compress_1 : List UInt8 := dkwJ15_compress_1 ++ dktJ15_compress_2
def dkwJ15_compress_0 : List UInt8 := [28, 188, 8, 78, 42, 27, 45, 3, 28, 184, 0, 123, 54, 4, 21, 4, 28, 159, 0, 47, 42, 27, 4, 120]
abbrev dktJ15_compress_0 : List UInt8 := dkwJ15_compress_0 ++ dktJ15_compress_1
theorem dksJ15_compress_0 : cJ15_compress.data.toList.drop 0 = dktJ15_compress_0 := by decide +kernel
theorem dksJ15_compress_1 : cJ15_compress.data.toList.drop 24 = dktJ15_compress_1 := dk_seg dksJ15_compress_0 24 rfl rfl
theorem dksJ15_compress_2 : cJ15_compress.data.toList.drop 48 = dktJ15_compress_2 := dk_seg dksJ15_compress_1 24 rfl rfl
theorem dJ15_compress_0 : decode cJ15_compress 0 = .ok (.iload_n 2, 1) := dk_28 (dk_at dksJ15_compress_0 0 rfl rfl)
theorem dJ15_compress_1 : decode cJ15_compress 1 = .ok (.newarray .byte, 2) := dk_188_8 (dk_at dksJ15_compress_0 1 rfl rfl)
theorem dJ15_compress_3 : decode cJ15_compress 3 = .ok (.astore_n 3, 1) := dk_78 (dk_at dksJ15_compress_0 3 rfl rfl)
theorem dJ15_compress_4 : decode cJ15_compress 4 = .ok (.aload_n 0, 1) := dk_42 (dk_at dksJ15_compress_0 4 rfl rfl)
theorem dJ15_compress_5 : decode cJ15_compress 5 = .ok (.iload_n 1, 1) := dk_27 (dk_at dksJ15_compress_0 5 rfl rfl)
theorem dJ15_compress_6 : decode cJ15_compress 6 = .ok (.aload_n 3, 1) := dk_45 (dk_at dksJ15_compress_0 6 rfl rfl)
theorem dJ15_compress_7 : decode cJ15_compress 7 = .ok (.iconst 0, 1) := dk_3 (dk_at dksJ15_compress_0 7 rfl rfl)
theorem dJ15_compress_8 : decode cJ15_compress 8 = .ok (.iload_n 2, 1) := dk_28 (dk_at dksJ15_compress_0 8 rfl rfl)
theorem dJ15_compress_9 : decode cJ15_compress 9 = .ok (.invokestatic 123, 3) := dk_184 0 123 (dk_at dksJ15_compress_0 9 rfl rfl)
theorem dJ15_compress_12 : decode cJ15_compress 12 = .ok (.istore 4, 2) := dk_54 4 (dk_at dksJ15_compress_0 12 rfl rfl)
theorem dJ15_compress_14 : decode cJ15_compress 14 = .ok (.iload 4, 2) := dk_21 4 (dk_at dksJ15_compress_0 14 rfl rfl)
theorem dJ15_compress_16 : decode cJ15_compress 16 = .ok (.iload_n 2, 1) := dk_28 (dk_at dksJ15_compress_0 16 rfl rfl)
theorem dJ15_compress_17 : decode cJ15_compress 17 = .ok (.if_icmp .eq 47, 3) := dk_159 0 47 (dk_at dksJ15_compress_0 17 rfl rfl)
theorem dJ15_compress_20 : decode cJ15_compress 20 = .ok (.aload_n 0, 1) := dk_42 (dk_at dksJ15_compress_0 20 rfl rfl)
theorem dJ15_compress_21 : decode cJ15_compress 21 = .ok (.iload_n 1, 1) := dk_27 (dk_at dksJ15_compress_0 21 rfl rfl)
theorem dJ15_compress_22 : decode cJ15_compress 22 = .ok (.iconst 1, 1) := dk_4 (dk_at dksJ15_compress_0 22 rfl rfl)
theorem dJ15_compress_23 : decode cJ15_compress 23 = .ok (.ishl, 1) := dk_120 (dk_at dksJ15_compress_0 23 rfl rfl)
theorem dJ15_compress_24 : decode cJ15_compress 24 = .ok (.iload_n 1, 1) := dk_27 (dk_at dksJ15_compress_1 0 rfl rfl)
theorem dJ15_compress_25 : decode cJ15_compress 25 = .ok (.iload_n 2, 1) := dk_28 (dk_at dksJ15_compress_1 1 rfl rfl)
theorem dJ15_compress_26 : decode cJ15_compress 26 = .ok (.iadd, 1) := dk_96 (dk_at dksJ15_compress_1 2 rfl rfl)
theorem dJ15_compress_27 : decode cJ15_compress 27 = .ok (.invokestatic 11, 3) := dk_184 0 11 (dk_at dksJ15_compress_1 3 rfl rfl)
theorem dJ15_compress_30 : decode cJ15_compress 30 = .ok (.invokestatic 126, 3) := dk_184 0 126 (dk_at dksJ15_compress_1 6 rfl rfl)
theorem dJ15_compress_33 : decode cJ15_compress 33 = .ok (.astore 5, 2) := dk_58 5 (dk_at dksJ15_compress_1 9 rfl rfl)
theorem dJ15_compress_35 : decode cJ15_compress 35 = .ok (.aload 5, 2) := dk_25 5 (dk_at dksJ15_compress_1 11 rfl rfl)
theorem dJ15_compress_37 : decode cJ15_compress 37 = .ok (.iload 4, 2) := dk_21 4 (dk_at dksJ15_compress_1 13 rfl rfl)
theorem dJ15_compress_39 : decode cJ15_compress 39 = .ok (.invokestatic 71, 3) := dk_184 0 71 (dk_at dksJ15_compress_1 15 rfl rfl)
theorem dJ15_compress_42 : decode cJ15_compress 42 = .ok (.sipush 255, 3) := dk_17 0 255 (dk_at dksJ15_compress_1 18 rfl rfl)
theorem dJ15_compress_45 : decode cJ15_compress 45 = .ok (.if_icmp .gt 16, 3) := dk_163 0 16 (dk_at dksJ15_compress_1 21 rfl rfl)
theorem dJ15_compress_48 : decode cJ15_compress 48 = .ok (.aload 5, 2) := dk_25 5 (dk_at dksJ15_compress_2 0 rfl rfl)
theorem dJ15_compress_50 : decode cJ15_compress 50 = .ok (.iconst 0, 1) := dk_3 (dk_at dksJ15_compress_2 2 rfl rfl)
theorem dJ15_compress_51 : decode cJ15_compress 51 = .ok (.aload_n 3, 1) := dk_45 (dk_at dksJ15_compress_2 3 rfl rfl)
theorem dJ15_compress_52 : decode cJ15_compress 52 = .ok (.iconst 0, 1) := dk_3 (dk_at dksJ15_compress_2 4 rfl rfl)
theorem dJ15_compress_53 : decode cJ15_compress 53 = .ok (.iload_n 2, 1) := dk_28 (dk_at dksJ15_compress_2 5 rfl rfl)
theorem dJ15_compress_54 : decode cJ15_compress 54 = .ok (.invokestatic 123, 3) := dk_184 0 123 (dk_at dksJ15_compress_2 6 rfl rfl)
theorem dJ15_compress_57 : decode cJ15_compress 57 = .ok (.iload_n 2, 1) := dk_28 (dk_at dksJ15_compress_2 9 rfl rfl)
theorem dJ15_compress_58 : decode cJ15_compress 58 = .ok (.if_icmp .eq 6, 3) := dk_159 0 6 (dk_at dksJ15_compress_2 10 rfl rfl)
theorem dJ15_compress_61 : decode cJ15_compress 61 = .ok (.aload 5, 2) := dk_25 5 (dk_at dksJ15_compress_2 13 rfl rfl)
theorem dJ15_compress_63 : decode cJ15_compress 63 = .ok (.areturn, 1) := dk_176 (dk_at dksJ15_compress_2 15 rfl rfl)
theorem dJ15_compress_64 : decode cJ15_compress 64 = .ok (.aload_n 3, 1) := dk_45 (dk_at dksJ15_compress_2 16 rfl rfl)
theorem dJ15_compress_65 : decode cJ15_compress 65 = .ok (.areturn, 1) := dk_176 (dk_at dksJ15_compress_2 17 rfl rfl)
abbrev cJ15_compress_2 : ByteArray := prog_42_method_22_code
def yJ15_compress_2 : MethodName := ⟨RJ15, "compress", "([BI[BII)I"⟩
def dkwJ15_compress_2_2 : List UInt8 := [132, 5, 1, 167, 255, 216, 21, 4, 172]
abbrev dktJ15_compress_2_2 : List UInt8 := dkwJ15_compress_2_2 ++ []
def dkwJ15_compress_2_1 : List UInt8 := [21, 6, 17, 0, 255, 164, 0, 6, 21, 5, 172, 44, 29, 21, 6, 145, 84, 132, 1, 1, 132, 3, 1]
abbrev dktJ15_compress_2_1 : List UInt8 := dkwJ15_compress_2_1 ++ dktJ15_compress_2_2
def dkwJ15_compress_2_0 : List UInt8 := [27, 21, 4, 42, 184, 0, 173, 3, 54, 5, 21, 5, 21, 4, 162, 0, 39, 42, 27, 184, 0, 71, 54, 6]
abbrev dktJ15_compress_2_0 : List UInt8 := dkwJ15_compress_2_0 ++ dktJ15_compress_2_1
theorem dksJ15_compress_2_0 : cJ15_compress_2.data.toList.drop 0 = dktJ15_compress_2_0 := by decide +kernel
theorem dksJ15_compress_2_1 : cJ15_compress_2.data.toList.drop 24 = dktJ15_compress_2_1 := dk_seg dksJ15_compress_2_0 24 rfl rfl
theorem dksJ15_compress_2_2 : cJ15_compress_2.data.toList.drop 47 = dktJ15_compress_2_2 := dk_seg dksJ15_compress_2_1 23 rfl rfl
theorem dJ15_compress_2_0 : decode cJ15_compress_2 0 = .ok (.iload_n 1, 1) := dk_27 (dk_at dksJ15_compress_2_0 0 rfl rfl)
theorem dJ15_compress_2_1 : decode cJ15_compress_2 1 = .ok (.iload 4, 2) := dk_21 4 (dk_at dksJ15_compress_2_0 1 rfl rfl)
theorem dJ15_compress_2_3 : decode cJ15_compress_2 3 = .ok (.aload_n 0, 1) := dk_42 (dk_at dksJ15_compress_2_0 3 rfl rfl)
theorem dJ15_compress_2_4 : decode cJ15_compress_2 4 = .ok (.invokestatic 173, 3) := dk_184 0 173 (dk_at dksJ15_compress_2_0 4 rfl rfl)
theorem dJ15_compress_2_7 : decode cJ15_compress_2 7 = .ok (.iconst 0, 1) := dk_3 (dk_at dksJ15_compress_2_0 7 rfl rfl)
theorem dJ15_compress_2_8 : decode cJ15_compress_2 8 = .ok (.istore 5, 2) := dk_54 5 (dk_at dksJ15_compress_2_0 8 rfl rfl)
theorem dJ15_compress_2_10 : decode cJ15_compress_2 10 = .ok (.iload 5, 2) := dk_21 5 (dk_at dksJ15_compress_2_0 10 rfl rfl)
theorem dJ15_compress_2_12 : decode cJ15_compress_2 12 = .ok (.iload 4, 2) := dk_21 4 (dk_at dksJ15_compress_2_0 12 rfl rfl)
theorem dJ15_compress_2_14 : decode cJ15_compress_2 14 = .ok (.if_icmp .ge 39, 3) := dk_162 0 39 (dk_at dksJ15_compress_2_0 14 rfl rfl)
theorem dJ15_compress_2_17 : decode cJ15_compress_2 17 = .ok (.aload_n 0, 1) := dk_42 (dk_at dksJ15_compress_2_0 17 rfl rfl)
theorem dJ15_compress_2_18 : decode cJ15_compress_2 18 = .ok (.iload_n 1, 1) := dk_27 (dk_at dksJ15_compress_2_0 18 rfl rfl)
theorem dJ15_compress_2_19 : decode cJ15_compress_2 19 = .ok (.invokestatic 71, 3) := dk_184 0 71 (dk_at dksJ15_compress_2_0 19 rfl rfl)
theorem dJ15_compress_2_22 : decode cJ15_compress_2 22 = .ok (.istore 6, 2) := dk_54 6 (dk_at dksJ15_compress_2_0 22 rfl rfl)
theorem dJ15_compress_2_24 : decode cJ15_compress_2 24 = .ok (.iload 6, 2) := dk_21 6 (dk_at dksJ15_compress_2_1 0 rfl rfl)
theorem dJ15_compress_2_26 : decode cJ15_compress_2 26 = .ok (.sipush 255, 3) := dk_17 0 255 (dk_at dksJ15_compress_2_1 2 rfl rfl)
theorem dJ15_compress_2_29 : decode cJ15_compress_2 29 = .ok (.if_icmp .le 6, 3) := dk_164 0 6 (dk_at dksJ15_compress_2_1 5 rfl rfl)
theorem dJ15_compress_2_32 : decode cJ15_compress_2 32 = .ok (.iload 5, 2) := dk_21 5 (dk_at dksJ15_compress_2_1 8 rfl rfl)
theorem dJ15_compress_2_34 : decode cJ15_compress_2 34 = .ok (.ireturn, 1) := dk_172 (dk_at dksJ15_compress_2_1 10 rfl rfl)
theorem dJ15_compress_2_35 : decode cJ15_compress_2 35 = .ok (.aload_n 2, 1) := dk_44 (dk_at dksJ15_compress_2_1 11 rfl rfl)
theorem dJ15_compress_2_36 : decode cJ15_compress_2 36 = .ok (.iload_n 3, 1) := dk_29 (dk_at dksJ15_compress_2_1 12 rfl rfl)
theorem dJ15_compress_2_37 : decode cJ15_compress_2 37 = .ok (.iload 6, 2) := dk_21 6 (dk_at dksJ15_compress_2_1 13 rfl rfl)
theorem dJ15_compress_2_39 : decode cJ15_compress_2 39 = .ok (.i2b, 1) := dk_145 (dk_at dksJ15_compress_2_1 15 rfl rfl)
theorem dJ15_compress_2_40 : decode cJ15_compress_2 40 = .ok (.bastore, 1) := dk_84 (dk_at dksJ15_compress_2_1 16 rfl rfl)
theorem dJ15_compress_2_41 : decode cJ15_compress_2 41 = .ok (.iinc 1 1, 3) := dk_132 1 1 (dk_at dksJ15_compress_2_1 17 rfl rfl)
theorem dJ15_compress_2_44 : decode cJ15_compress_2 44 = .ok (.iinc 3 1, 3) := dk_132 3 1 (dk_at dksJ15_compress_2_1 20 rfl rfl)
theorem dJ15_compress_2_47 : decode cJ15_compress_2 47 = .ok (.iinc 5 1, 3) := dk_132 5 1 (dk_at dksJ15_compress_2_2 0 rfl rfl)
theorem dJ15_compress_2_50 : decode cJ15_compress_2 50 = .ok (.goto (-40), 3) := dk_167 255 216 (dk_at dksJ15_compress_2_2 3 rfl rfl)
theorem dJ15_compress_2_53 : decode cJ15_compress_2 53 = .ok (.iload 4, 2) := dk_21 4 (dk_at dksJ15_compress_2_2 6 rfl rfl)
theorem dJ15_compress_2_55 : decode cJ15_compress_2 55 = .ok (.ireturn, 1) := dk_172 (dk_at dksJ15_compress_2_2 8 rfl rfl)
abbrev cJ15_coderFromArrayLen : ByteArray := prog_42_method_15_code
def yJ15_coderFromArrayLen : MethodName := ⟨RJ15, "coderFromArrayLen", "([BI)B"⟩
def dkwJ15_coderFromArrayLen_0 : List UInt8 := [27, 42, 190, 100, 16, 31, 124, 145, 172]
abbrev dktJ15_coderFromArrayLen_0 : List UInt8 := dkwJ15_coderFromArrayLen_0 ++ []
theorem dksJ15_coderFromArrayLen_0 : cJ15_coderFromArrayLen.data.toList.drop 0 = dktJ15_coderFromArrayLen_0 := by decide +kernel
theorem dJ15_coderFromArrayLen_0 : decode cJ15_coderFromArrayLen 0 = .ok (.iload_n 1, 1) := dk_27 (dk_at dksJ15_coderFromArrayLen_0 0 rfl rfl)
theorem dJ15_coderFromArrayLen_1 : decode cJ15_coderFromArrayLen 1 = .ok (.aload_n 0, 1) := dk_42 (dk_at dksJ15_coderFromArrayLen_0 1 rfl rfl)
theorem dJ15_coderFromArrayLen_2 : decode cJ15_coderFromArrayLen 2 = .ok (.arraylength, 1) := dk_190 (dk_at dksJ15_coderFromArrayLen_0 2 rfl rfl)
theorem dJ15_coderFromArrayLen_3 : decode cJ15_coderFromArrayLen 3 = .ok (.isub, 1) := dk_100 (dk_at dksJ15_coderFromArrayLen_0 3 rfl rfl)
theorem dJ15_coderFromArrayLen_4 : decode cJ15_coderFromArrayLen 4 = .ok (.bipush 31, 2) := dk_16 31 (dk_at dksJ15_coderFromArrayLen_0 4 rfl rfl)
theorem dJ15_coderFromArrayLen_6 : decode cJ15_coderFromArrayLen 6 = .ok (.iushr, 1) := dk_124 (dk_at dksJ15_coderFromArrayLen_0 6 rfl rfl)
theorem dJ15_coderFromArrayLen_7 : decode cJ15_coderFromArrayLen 7 = .ok (.i2b, 1) := dk_145 (dk_at dksJ15_coderFromArrayLen_0 7 rfl rfl)
theorem dJ15_coderFromArrayLen_8 : decode cJ15_coderFromArrayLen 8 = .ok (.ireturn, 1) := dk_172 (dk_at dksJ15_coderFromArrayLen_0 8 rfl rfl)
abbrev cJ15_putCharSB : ByteArray := prog_42_method_71_code
def yJ15_putCharSB : MethodName := ⟨RJ15, "putCharSB", "([BII)V"⟩
def dkwJ15_putCharSB_0 : List UInt8 := [27, 42, 184, 0, 67, 42, 27, 28, 184, 0, 111, 177]
abbrev dktJ15_putCharSB_0 : List UInt8 := dkwJ15_putCharSB_0 ++ []
theorem dksJ15_putCharSB_0 : cJ15_putCharSB.data.toList.drop 0 = dktJ15_putCharSB_0 := by decide +kernel
theorem dJ15_putCharSB_0 : decode cJ15_putCharSB 0 = .ok (.iload_n 1, 1) := dk_27 (dk_at dksJ15_putCharSB_0 0 rfl rfl)
theorem dJ15_putCharSB_1 : decode cJ15_putCharSB 1 = .ok (.aload_n 0, 1) := dk_42 (dk_at dksJ15_putCharSB_0 1 rfl rfl)
theorem dJ15_putCharSB_2 : decode cJ15_putCharSB 2 = .ok (.invokestatic 67, 3) := dk_184 0 67 (dk_at dksJ15_putCharSB_0 2 rfl rfl)
theorem dJ15_putCharSB_5 : decode cJ15_putCharSB 5 = .ok (.aload_n 0, 1) := dk_42 (dk_at dksJ15_putCharSB_0 5 rfl rfl)
theorem dJ15_putCharSB_6 : decode cJ15_putCharSB 6 = .ok (.iload_n 1, 1) := dk_27 (dk_at dksJ15_putCharSB_0 6 rfl rfl)
theorem dJ15_putCharSB_7 : decode cJ15_putCharSB 7 = .ok (.iload_n 2, 1) := dk_28 (dk_at dksJ15_putCharSB_0 7 rfl rfl)
theorem dJ15_putCharSB_8 : decode cJ15_putCharSB 8 = .ok (.invokestatic 111, 3) := dk_184 0 111 (dk_at dksJ15_putCharSB_0 8 rfl rfl)
theorem dJ15_putCharSB_11 : decode cJ15_putCharSB 11 = .ok (.return_, 1) := dk_177 (dk_at dksJ15_putCharSB_0 11 rfl rfl)
abbrev cJ15_fillNull : ByteArray := prog_42_method_70_code
def yJ15_fillNull : MethodName := ⟨RJ15, "fillNull", "([BII)V"⟩
def dkwJ15_fillNull_0 : List UInt8 := [42, 27, 4, 120, 28, 4, 120, 3, 184, 1, 124, 177]
abbrev dktJ15_fillNull_0 : List UInt8 := dkwJ15_fillNull_0 ++ []
theorem dksJ15_fillNull_0 : cJ15_fillNull.data.toList.drop 0 = dktJ15_fillNull_0 := by decide +kernel
theorem dJ15_fillNull_0 : decode cJ15_fillNull 0 = .ok (.aload_n 0, 1) := dk_42 (dk_at dksJ15_fillNull_0 0 rfl rfl)
theorem dJ15_fillNull_1 : decode cJ15_fillNull 1 = .ok (.iload_n 1, 1) := dk_27 (dk_at dksJ15_fillNull_0 1 rfl rfl)
theorem dJ15_fillNull_2 : decode cJ15_fillNull 2 = .ok (.iconst 1, 1) := dk_4 (dk_at dksJ15_fillNull_0 2 rfl rfl)
theorem dJ15_fillNull_3 : decode cJ15_fillNull 3 = .ok (.ishl, 1) := dk_120 (dk_at dksJ15_fillNull_0 3 rfl rfl)
theorem dJ15_fillNull_4 : decode cJ15_fillNull 4 = .ok (.iload_n 2, 1) := dk_28 (dk_at dksJ15_fillNull_0 4 rfl rfl)
theorem dJ15_fillNull_5 : decode cJ15_fillNull 5 = .ok (.iconst 1, 1) := dk_4 (dk_at dksJ15_fillNull_0 5 rfl rfl)
theorem dJ15_fillNull_6 : decode cJ15_fillNull 6 = .ok (.ishl, 1) := dk_120 (dk_at dksJ15_fillNull_0 6 rfl rfl)
theorem dJ15_fillNull_7 : decode cJ15_fillNull 7 = .ok (.iconst 0, 1) := dk_3 (dk_at dksJ15_fillNull_0 7 rfl rfl)
theorem dJ15_fillNull_8 : decode cJ15_fillNull 8 = .ok (.invokestatic 380, 3) := dk_184 1 124 (dk_at dksJ15_fillNull_0 8 rfl rfl)
theorem dJ15_fillNull_11 : decode cJ15_fillNull 11 = .ok (.return_, 1) := dk_177 (dk_at dksJ15_fillNull_0 11 rfl rfl)
theorem q140 : (Jvm.Cond.initialized "java/lang/StringUTF16") ∈ lw_all := lw_g (lw_at lw_m1 26 rfl) rfl
theorem q516 : (Jvm.Cond.static ({ cls := "java/lang/StringUTF16", name := "newBytesFor", desc := "(I)[B" } : Jvm.MethodName)) ∈ lw_all := lw_g (lw_at lw_m2 162 rfl) rfl
theorem q517 : (Jvm.Cond.code ({ cls := "java/lang/StringUTF16", name := "newBytesFor", desc := "(I)[B" } : Jvm.MethodName) prog_42_method_2_code (1 : Nat) (Option.some (Jvm.ClassFile.FieldType.array Jvm.ClassFile.FieldType.byte))) ∈ lw_all := lw_g (lw_at lw_m2 163 rfl) rfl
theorem q518 : (Jvm.Cond.methodLink "java/lang/StringUTF16" (11 : Nat) ({ cls := "java/lang/StringUTF16", name := "newBytesLength", desc := "(I)I" } : Jvm.MethodName)) ∈ lw_all := lw_g (lw_at lw_m2 164 rfl) rfl
theorem q519 : (Jvm.Cond.static ({ cls := "java/lang/StringUTF16", name := "newBytesLength", desc := "(I)I" } : Jvm.MethodName)) ∈ lw_all := lw_g (lw_at lw_m2 165 rfl) rfl
theorem q520 : (Jvm.Cond.code ({ cls := "java/lang/StringUTF16", name := "newBytesLength", desc := "(I)I" } : Jvm.MethodName) prog_42_method_3_code (1 : Nat) (Option.some Jvm.ClassFile.FieldType.int)) ∈ lw_all := lw_g (lw_at lw_m2 166 rfl) rfl
theorem q521 : (Jvm.Cond.constant "java/lang/StringUTF16" (20 : Nat) (1073741823 : Int32)) ∈ lw_all := lw_g (lw_at lw_m2 167 rfl) rfl
theorem q1103 : (Jvm.Cond.static ({ cls := "java/lang/StringUTF16", name := "charAt", desc := "([BI)C" } : Jvm.MethodName)) ∈ lw_all := lw_g (lw_at lw_m5 29 rfl) rfl
theorem q1104 : (Jvm.Cond.code ({ cls := "java/lang/StringUTF16", name := "charAt", desc := "([BI)C" } : Jvm.MethodName) prog_42_method_83_code (2 : Nat) (Option.some Jvm.ClassFile.FieldType.char)) ∈ lw_all := lw_g (lw_at lw_m5 30 rfl) rfl
theorem q1105 : (Jvm.Cond.methodLink "java/lang/StringUTF16" (67 : Nat) ({ cls := "java/lang/StringUTF16", name := "checkIndex", desc := "(I[B)V" } : Jvm.MethodName)) ∈ lw_all := lw_g (lw_at lw_m5 31 rfl) rfl
theorem q1106 : (Jvm.Cond.static ({ cls := "java/lang/StringUTF16", name := "checkIndex", desc := "(I[B)V" } : Jvm.MethodName)) ∈ lw_all := lw_g (lw_at lw_m5 32 rfl) rfl
theorem q1107 : (Jvm.Cond.code ({ cls := "java/lang/StringUTF16", name := "checkIndex", desc := "(I[B)V" } : Jvm.MethodName) prog_42_method_91_code (2 : Nat) (Option.none : Option Jvm.ClassFile.FieldType)) ∈ lw_all := lw_g (lw_at lw_m5 33 rfl) rfl
theorem q1108 : (Jvm.Cond.methodLink "java/lang/StringUTF16" (48 : Nat) ({ cls := "java/lang/StringUTF16", name := "length", desc := "([B)I" } : Jvm.MethodName)) ∈ lw_all := lw_g (lw_at lw_m5 34 rfl) rfl
theorem q1109 : (Jvm.Cond.static ({ cls := "java/lang/StringUTF16", name := "length", desc := "([B)I" } : Jvm.MethodName)) ∈ lw_all := lw_g (lw_at lw_m5 35 rfl) rfl
theorem q1110 : (Jvm.Cond.code ({ cls := "java/lang/StringUTF16", name := "length", desc := "([B)I" } : Jvm.MethodName) prog_42_method_6_code (1 : Nat) (Option.some Jvm.ClassFile.FieldType.int)) ∈ lw_all := lw_g (lw_at lw_m5 36 rfl) rfl
theorem q1111 : (Jvm.Cond.methodLink "java/lang/StringUTF16" (414 : Nat) ({ cls := "java/lang/String", name := "checkIndex", desc := "(II)V" } : Jvm.MethodName)) ∈ lw_all := lw_g (lw_at lw_m5 37 rfl) rfl
theorem q1112 : (Jvm.Cond.methodLink "java/lang/StringUTF16" (71 : Nat) ({ cls := "java/lang/StringUTF16", name := "getChar", desc := "([BI)C" } : Jvm.MethodName)) ∈ lw_all := lw_g (lw_at lw_m5 38 rfl) rfl
theorem q1113 : (Jvm.Cond.static ({ cls := "java/lang/StringUTF16", name := "getChar", desc := "([BI)C" } : Jvm.MethodName)) ∈ lw_all := lw_g (lw_at lw_m5 39 rfl) rfl
theorem q1114 : (Jvm.Cond.code ({ cls := "java/lang/StringUTF16", name := "getChar", desc := "([BI)C" } : Jvm.MethodName) prog_42_method_5_code (2 : Nat) (Option.some Jvm.ClassFile.FieldType.char)) ∈ lw_all := lw_g (lw_at lw_m5 40 rfl) rfl
theorem q1115 : (Jvm.Cond.fieldLink "java/lang/StringUTF16" (44 : Nat) "java/lang/StringUTF16" "$assertionsDisabled" "Z") ∈ lw_all := lw_g (lw_at lw_m5 41 rfl) rfl
theorem q1116 : (Jvm.Cond.laysStatic "java/lang/StringUTF16" "$assertionsDisabled" "Z") ∈ lw_tbl := lw_at lw_m5 42 rfl
theorem q1117 : (Jvm.Cond.fieldLink "java/lang/StringUTF16" (59 : Nat) "java/lang/StringUTF16" "HI_BYTE_SHIFT" "I") ∈ lw_all := lw_g (lw_at lw_m5 43 rfl) rfl
theorem q1118 : (Jvm.Cond.laysStatic "java/lang/StringUTF16" "HI_BYTE_SHIFT" "I") ∈ lw_tbl := lw_at lw_m5 44 rfl
theorem q1119 : (Jvm.Cond.fieldLink "java/lang/StringUTF16" (63 : Nat) "java/lang/StringUTF16" "LO_BYTE_SHIFT" "I") ∈ lw_all := lw_g (lw_at lw_m5 45 rfl) rfl
theorem q1120 : (Jvm.Cond.laysStatic "java/lang/StringUTF16" "LO_BYTE_SHIFT" "I") ∈ lw_tbl := lw_at lw_m5 46 rfl
theorem q1458 : (Jvm.Cond.static ({ cls := "java/lang/StringUTF16", name := "putCharsAt", desc := "([BICCCC)I" } : Jvm.MethodName)) ∈ lw_all := lw_g (lw_at lw_m6 144 rfl) rfl
theorem q1459 : (Jvm.Cond.code ({ cls := "java/lang/StringUTF16", name := "putCharsAt", desc := "([BICCCC)I" } : Jvm.MethodName) prog_42_method_81_code (7 : Nat) (Option.some Jvm.ClassFile.FieldType.int)) ∈ lw_all := lw_g (lw_at lw_m6 145 rfl) rfl
theorem q1460 : (Jvm.Cond.methodLink "java/lang/StringUTF16" (96 : Nat) ({ cls := "java/lang/StringUTF16", name := "checkBoundsBeginEnd", desc := "(II[B)V" } : Jvm.MethodName)) ∈ lw_all := lw_g (lw_at lw_m6 146 rfl) rfl
theorem q1461 : (Jvm.Cond.static ({ cls := "java/lang/StringUTF16", name := "checkBoundsBeginEnd", desc := "(II[B)V" } : Jvm.MethodName)) ∈ lw_all := lw_g (lw_at lw_m6 147 rfl) rfl
theorem q1462 : (Jvm.Cond.code ({ cls := "java/lang/StringUTF16", name := "checkBoundsBeginEnd", desc := "(II[B)V" } : Jvm.MethodName) prog_42_method_93_code (3 : Nat) (Option.none : Option Jvm.ClassFile.FieldType)) ∈ lw_all := lw_g (lw_at lw_m6 148 rfl) rfl
theorem q1463 : (Jvm.Cond.methodLink "java/lang/StringUTF16" (241 : Nat) ({ cls := "java/lang/String", name := "checkBoundsBeginEnd", desc := "(III)V" } : Jvm.MethodName)) ∈ lw_all := lw_g (lw_at lw_m6 149 rfl) rfl
theorem q1469 : (Jvm.Cond.methodLink "java/lang/StringUTF16" (111 : Nat) ({ cls := "java/lang/StringUTF16", name := "putChar", desc := "([BII)V" } : Jvm.MethodName)) ∈ lw_all := lw_g (lw_at lw_m6 155 rfl) rfl
theorem q1470 : (Jvm.Cond.static ({ cls := "java/lang/StringUTF16", name := "putChar", desc := "([BII)V" } : Jvm.MethodName)) ∈ lw_all := lw_g (lw_at lw_m6 156 rfl) rfl
theorem q1471 : (Jvm.Cond.code ({ cls := "java/lang/StringUTF16", name := "putChar", desc := "([BII)V" } : Jvm.MethodName) prog_42_method_4_code (3 : Nat) (Option.none : Option Jvm.ClassFile.FieldType)) ∈ lw_all := lw_g (lw_at lw_m6 157 rfl) rfl
theorem q1497 : (Jvm.Cond.static ({ cls := "java/lang/StringUTF16", name := "inflate", desc := "([BI[BII)V" } : Jvm.MethodName)) ∈ lw_all := lw_g (lw_at lw_m6 183 rfl) rfl
theorem q1498 : (Jvm.Cond.code ({ cls := "java/lang/StringUTF16", name := "inflate", desc := "([BI[BII)V" } : Jvm.MethodName) prog_42_method_86_code (6 : Nat) (Option.none : Option Jvm.ClassFile.FieldType)) ∈ lw_all := lw_g (lw_at lw_m6 184 rfl) rfl
theorem q1499 : (Jvm.Cond.methodLink "java/lang/StringUTF16" (173 : Nat) ({ cls := "java/lang/StringUTF16", name := "checkBoundsOffCount", desc := "(II[B)V" } : Jvm.MethodName)) ∈ lw_all := lw_g (lw_at lw_m6 185 rfl) rfl
theorem q1500 : (Jvm.Cond.static ({ cls := "java/lang/StringUTF16", name := "checkBoundsOffCount", desc := "(II[B)V" } : Jvm.MethodName)) ∈ lw_all := lw_g (lw_at lw_m6 186 rfl) rfl
theorem q1501 : (Jvm.Cond.code ({ cls := "java/lang/StringUTF16", name := "checkBoundsOffCount", desc := "(II[B)V" } : Jvm.MethodName) prog_42_method_94_code (3 : Nat) (Option.none : Option Jvm.ClassFile.FieldType)) ∈ lw_all := lw_g (lw_at lw_m6 187 rfl) rfl
theorem q1502 : (Jvm.Cond.methodLink "java/lang/StringUTF16" (419 : Nat) ({ cls := "java/lang/String", name := "checkBoundsOffCount", desc := "(III)I" } : Jvm.MethodName)) ∈ lw_all := lw_g (lw_at lw_m6 188 rfl) rfl
theorem q1552 : (Jvm.Cond.static ({ cls := "java/lang/StringUTF16", name := "compress", desc := "([BII)[B" } : Jvm.MethodName)) ∈ lw_all := lw_g (lw_at lw_m6 238 rfl) rfl
theorem q1553 : (Jvm.Cond.code ({ cls := "java/lang/StringUTF16", name := "compress", desc := "([BII)[B" } : Jvm.MethodName) prog_42_method_17_code (6 : Nat) (Option.some (Jvm.ClassFile.FieldType.array Jvm.ClassFile.FieldType.byte))) ∈ lw_all := lw_g (lw_at lw_m6 239 rfl) rfl
theorem q1554 : (Jvm.Cond.methodLink "java/lang/StringUTF16" (123 : Nat) ({ cls := "java/lang/StringUTF16", name := "compress", desc := "([BI[BII)I" } : Jvm.MethodName)) ∈ lw_all := lw_g (lw_at lw_m7 0 rfl) rfl
theorem q1555 : (Jvm.Cond.static ({ cls := "java/lang/StringUTF16", name := "compress", desc := "([BI[BII)I" } : Jvm.MethodName)) ∈ lw_all := lw_g (lw_at lw_m7 1 rfl) rfl
theorem q1556 : (Jvm.Cond.code ({ cls := "java/lang/StringUTF16", name := "compress", desc := "([BI[BII)I" } : Jvm.MethodName) prog_42_method_22_code (7 : Nat) (Option.some Jvm.ClassFile.FieldType.int)) ∈ lw_all := lw_g (lw_at lw_m7 2 rfl) rfl
theorem q1557 : (Jvm.Cond.methodLink "java/lang/StringUTF16" (126 : Nat) ({ cls := "java/util/Arrays", name := "copyOfRange", desc := "([BII)[B" } : Jvm.MethodName)) ∈ lw_all := lw_g (lw_at lw_m7 3 rfl) rfl
theorem q1559 : (Jvm.Cond.static ({ cls := "java/lang/StringUTF16", name := "coderFromArrayLen", desc := "([BI)B" } : Jvm.MethodName)) ∈ lw_all := lw_g (lw_at lw_m7 5 rfl) rfl
theorem q1560 : (Jvm.Cond.code ({ cls := "java/lang/StringUTF16", name := "coderFromArrayLen", desc := "([BI)B" } : Jvm.MethodName) prog_42_method_15_code (2 : Nat) (Option.some Jvm.ClassFile.FieldType.byte)) ∈ lw_all := lw_g (lw_at lw_m7 6 rfl) rfl
theorem q1682 : (Jvm.Cond.static ({ cls := "java/lang/StringUTF16", name := "putCharSB", desc := "([BII)V" } : Jvm.MethodName)) ∈ lw_all := lw_g (lw_at lw_m7 128 rfl) rfl
theorem q1683 : (Jvm.Cond.code ({ cls := "java/lang/StringUTF16", name := "putCharSB", desc := "([BII)V" } : Jvm.MethodName) prog_42_method_71_code (3 : Nat) (Option.none : Option Jvm.ClassFile.FieldType)) ∈ lw_all := lw_g (lw_at lw_m7 129 rfl) rfl
theorem q1806 : (Jvm.Cond.static ({ cls := "java/lang/StringUTF16", name := "fillNull", desc := "([BII)V" } : Jvm.MethodName)) ∈ lw_all := lw_g (lw_at lw_m8 12 rfl) rfl
theorem q1807 : (Jvm.Cond.code ({ cls := "java/lang/StringUTF16", name := "fillNull", desc := "([BII)V" } : Jvm.MethodName) prog_42_method_70_code (3 : Nat) (Option.none : Option Jvm.ClassFile.FieldType)) ∈ lw_all := lw_g (lw_at lw_m8 13 rfl) rfl
theorem q1808 : (Jvm.Cond.methodLink "java/lang/StringUTF16" (380 : Nat) ({ cls := "java/util/Arrays", name := "fill", desc := "([BIIB)V" } : Jvm.MethodName)) ∈ lw_all := lw_g (lw_at lw_m8 14 rfl) rfl
/-! java/util/ArrayDeque -/
set_option maxRecDepth 100000
def RJ16 : String := "java/util/ArrayDeque"
def TJ16 : u_T := fun k => match k with
  | 0 => ("java/util/ArrayDeque", "elements", "[Ljava/lang/Object;", false)
  | 1 => ("java/util/ArrayDeque", "head", "I", false)
  | _ => ("java/util/ArrayDeque", "tail", "I", false)
def tyJ16 : Nat → FieldType := fun k => match k with
  | 0 => .array (.object "java/lang/Object")
  | 1 => .int
  | _ => .int
abbrev wsJ160 : List Cond := u_ws RJ16 TJ16 3
theorem nmJ16 : ∀ a, a < 3 → ∀ b, b < 3 → a ≠ b → (TJ16 a).2.1 ≠ (TJ16 b).2.1 := by decide +kernel
theorem tyJ16_ok : ∀ k, k < 3 → parseFieldDescriptor (TJ16 k).2.2.1 = some (tyJ16 k) := by decide +kernel
abbrev cJ16_init : ByteArray := prog_52_method_4_code
def yJ16_init : MethodName := ⟨RJ16, "<init>", "(I)V"⟩
def dkwJ16_init_1 : List UInt8 := [167, 0, 6, 27, 4, 96, 189, 0, 47, 181, 0, 3, 177]
abbrev dktJ16_init_1 : List UInt8 := dkwJ16_init_1 ++ []
def dkwJ16_init_0 : List UInt8 := [42, 183, 0, 42, 42, 27, 4, 162, 0, 7, 4, 167, 0, 17, 27, 18, 41, 160, 0, 8, 18, 41]
abbrev dktJ16_init_0 : List UInt8 := dkwJ16_init_0 ++ dktJ16_init_1
theorem dksJ16_init_0 : cJ16_init.data.toList.drop 0 = dktJ16_init_0 := by decide +kernel
theorem dksJ16_init_1 : cJ16_init.data.toList.drop 22 = dktJ16_init_1 := dk_seg dksJ16_init_0 22 rfl rfl
theorem dJ16_init_0 : decode cJ16_init 0 = .ok (.aload_n 0, 1) := dk_42 (dk_at dksJ16_init_0 0 rfl rfl)
theorem dJ16_init_1 : decode cJ16_init 1 = .ok (.invokespecial 42, 3) := dk_183 0 42 (dk_at dksJ16_init_0 1 rfl rfl)
theorem dJ16_init_4 : decode cJ16_init 4 = .ok (.aload_n 0, 1) := dk_42 (dk_at dksJ16_init_0 4 rfl rfl)
theorem dJ16_init_5 : decode cJ16_init 5 = .ok (.iload_n 1, 1) := dk_27 (dk_at dksJ16_init_0 5 rfl rfl)
theorem dJ16_init_6 : decode cJ16_init 6 = .ok (.iconst 1, 1) := dk_4 (dk_at dksJ16_init_0 6 rfl rfl)
theorem dJ16_init_7 : decode cJ16_init 7 = .ok (.if_icmp .ge 7, 3) := dk_162 0 7 (dk_at dksJ16_init_0 7 rfl rfl)
theorem dJ16_init_10 : decode cJ16_init 10 = .ok (.iconst 1, 1) := dk_4 (dk_at dksJ16_init_0 10 rfl rfl)
theorem dJ16_init_11 : decode cJ16_init 11 = .ok (.goto 17, 3) := dk_167 0 17 (dk_at dksJ16_init_0 11 rfl rfl)
theorem dJ16_init_14 : decode cJ16_init 14 = .ok (.iload_n 1, 1) := dk_27 (dk_at dksJ16_init_0 14 rfl rfl)
theorem dJ16_init_15 : decode cJ16_init 15 = .ok (.ldc 41, 2) := dk_18 41 (dk_at dksJ16_init_0 15 rfl rfl)
theorem dJ16_init_17 : decode cJ16_init 17 = .ok (.if_icmp .ne 8, 3) := dk_160 0 8 (dk_at dksJ16_init_0 17 rfl rfl)
theorem dJ16_init_20 : decode cJ16_init 20 = .ok (.ldc 41, 2) := dk_18 41 (dk_at dksJ16_init_0 20 rfl rfl)
theorem dJ16_init_22 : decode cJ16_init 22 = .ok (.goto 6, 3) := dk_167 0 6 (dk_at dksJ16_init_1 0 rfl rfl)
theorem dJ16_init_25 : decode cJ16_init 25 = .ok (.iload_n 1, 1) := dk_27 (dk_at dksJ16_init_1 3 rfl rfl)
theorem dJ16_init_26 : decode cJ16_init 26 = .ok (.iconst 1, 1) := dk_4 (dk_at dksJ16_init_1 4 rfl rfl)
theorem dJ16_init_27 : decode cJ16_init 27 = .ok (.iadd, 1) := dk_96 (dk_at dksJ16_init_1 5 rfl rfl)
theorem dJ16_init_28 : decode cJ16_init 28 = .ok (.anewarray 47, 3) := dk_189 0 47 (dk_at dksJ16_init_1 6 rfl rfl)
theorem dJ16_init_31 : decode cJ16_init 31 = .ok (.putfield 3, 3) := dk_181 0 3 (dk_at dksJ16_init_1 9 rfl rfl)
theorem dJ16_init_34 : decode cJ16_init 34 = .ok (.return_, 1) := dk_177 (dk_at dksJ16_init_1 12 rfl rfl)
abbrev cJ16_toArray : ByteArray := prog_52_method_55_code
def yJ16_toArray : MethodName := ⟨RJ16, "toArray", "()[Ljava/lang/Object;"⟩
def dkwJ16_toArray_0 : List UInt8 := [42, 18, 188, 182, 0, 189, 176]
abbrev dktJ16_toArray_0 : List UInt8 := dkwJ16_toArray_0 ++ []
theorem dksJ16_toArray_0 : cJ16_toArray.data.toList.drop 0 = dktJ16_toArray_0 := by decide +kernel
theorem dJ16_toArray_0 : decode cJ16_toArray 0 = .ok (.aload_n 0, 1) := dk_42 (dk_at dksJ16_toArray_0 0 rfl rfl)
theorem dJ16_toArray_1 : decode cJ16_toArray 1 = .ok (.ldc 188, 2) := dk_18 188 (dk_at dksJ16_toArray_0 1 rfl rfl)
theorem dJ16_toArray_3 : decode cJ16_toArray 3 = .ok (.invokevirtual 189, 3) := dk_182 0 189 (dk_at dksJ16_toArray_0 3 rfl rfl)
theorem dJ16_toArray_6 : decode cJ16_toArray 6 = .ok (.areturn, 1) := dk_176 (dk_at dksJ16_toArray_0 6 rfl rfl)
abbrev cJ16_toArray_2 : ByteArray := prog_52_method_56_code
def yJ16_toArray_2 : MethodName := ⟨RJ16, "toArray", "(Ljava/lang/Class;)[Ljava/lang/Object;"⟩
def dkwJ16_toArray_2_4 : List UInt8 := [21, 5, 184, 0, 27, 45, 176]
abbrev dktJ16_toArray_2_4 : List UInt8 := dkwJ16_toArray_2_4 ++ []
def dkwJ16_toArray_2_3 : List UInt8 := [44, 190, 21, 4, 100, 184, 0, 27, 21, 6, 21, 5, 159, 0, 16, 44, 3, 45, 44, 190, 21, 4, 100]
abbrev dktJ16_toArray_2_3 : List UInt8 := dkwJ16_toArray_2_3 ++ dktJ16_toArray_2_4
def dkwJ16_toArray_2_2 : List UInt8 := [184, 0, 193, 78, 167, 0, 28, 44, 3, 21, 6, 21, 4, 100, 43, 184, 0, 193, 78, 44, 21, 4, 45, 3]
abbrev dktJ16_toArray_2_2 : List UInt8 := dkwJ16_toArray_2_2 ++ dktJ16_toArray_2_3
def dkwJ16_toArray_2_1 : List UInt8 := [163, 0, 7, 3, 167, 0, 5, 44, 190, 96, 89, 54, 6, 155, 0, 16, 44, 21, 4, 21, 6, 43]
abbrev dktJ16_toArray_2_1 : List UInt8 := dkwJ16_toArray_2_1 ++ dktJ16_toArray_2_2
def dkwJ16_toArray_2_0 : List UInt8 := [42, 180, 0, 3, 77, 42, 180, 0, 24, 54, 4, 42, 180, 0, 20, 54, 5, 21, 5, 21, 4, 21, 5]
abbrev dktJ16_toArray_2_0 : List UInt8 := dkwJ16_toArray_2_0 ++ dktJ16_toArray_2_1
theorem dksJ16_toArray_2_0 : cJ16_toArray_2.data.toList.drop 0 = dktJ16_toArray_2_0 := by decide +kernel
theorem dksJ16_toArray_2_1 : cJ16_toArray_2.data.toList.drop 23 = dktJ16_toArray_2_1 := dk_seg dksJ16_toArray_2_0 23 rfl rfl
theorem dksJ16_toArray_2_2 : cJ16_toArray_2.data.toList.drop 45 = dktJ16_toArray_2_2 := dk_seg dksJ16_toArray_2_1 22 rfl rfl
theorem dksJ16_toArray_2_3 : cJ16_toArray_2.data.toList.drop 69 = dktJ16_toArray_2_3 := dk_seg dksJ16_toArray_2_2 24 rfl rfl
theorem dksJ16_toArray_2_4 : cJ16_toArray_2.data.toList.drop 92 = dktJ16_toArray_2_4 := dk_seg dksJ16_toArray_2_3 23 rfl rfl
theorem dJ16_toArray_2_0 : decode cJ16_toArray_2 0 = .ok (.aload_n 0, 1) := dk_42 (dk_at dksJ16_toArray_2_0 0 rfl rfl)
theorem dJ16_toArray_2_1 : decode cJ16_toArray_2 1 = .ok (.getfield 3, 3) := dk_180 0 3 (dk_at dksJ16_toArray_2_0 1 rfl rfl)
theorem dJ16_toArray_2_4 : decode cJ16_toArray_2 4 = .ok (.astore_n 2, 1) := dk_77 (dk_at dksJ16_toArray_2_0 4 rfl rfl)
theorem dJ16_toArray_2_5 : decode cJ16_toArray_2 5 = .ok (.aload_n 0, 1) := dk_42 (dk_at dksJ16_toArray_2_0 5 rfl rfl)
theorem dJ16_toArray_2_6 : decode cJ16_toArray_2 6 = .ok (.getfield 24, 3) := dk_180 0 24 (dk_at dksJ16_toArray_2_0 6 rfl rfl)
theorem dJ16_toArray_2_9 : decode cJ16_toArray_2 9 = .ok (.istore 4, 2) := dk_54 4 (dk_at dksJ16_toArray_2_0 9 rfl rfl)
theorem dJ16_toArray_2_11 : decode cJ16_toArray_2 11 = .ok (.aload_n 0, 1) := dk_42 (dk_at dksJ16_toArray_2_0 11 rfl rfl)
theorem dJ16_toArray_2_12 : decode cJ16_toArray_2 12 = .ok (.getfield 20, 3) := dk_180 0 20 (dk_at dksJ16_toArray_2_0 12 rfl rfl)
theorem dJ16_toArray_2_15 : decode cJ16_toArray_2 15 = .ok (.istore 5, 2) := dk_54 5 (dk_at dksJ16_toArray_2_0 15 rfl rfl)
theorem dJ16_toArray_2_17 : decode cJ16_toArray_2 17 = .ok (.iload 5, 2) := dk_21 5 (dk_at dksJ16_toArray_2_0 17 rfl rfl)
theorem dJ16_toArray_2_19 : decode cJ16_toArray_2 19 = .ok (.iload 4, 2) := dk_21 4 (dk_at dksJ16_toArray_2_0 19 rfl rfl)
theorem dJ16_toArray_2_21 : decode cJ16_toArray_2 21 = .ok (.iload 5, 2) := dk_21 5 (dk_at dksJ16_toArray_2_0 21 rfl rfl)
theorem dJ16_toArray_2_23 : decode cJ16_toArray_2 23 = .ok (.if_icmp .gt 7, 3) := dk_163 0 7 (dk_at dksJ16_toArray_2_1 0 rfl rfl)
theorem dJ16_toArray_2_26 : decode cJ16_toArray_2 26 = .ok (.iconst 0, 1) := dk_3 (dk_at dksJ16_toArray_2_1 3 rfl rfl)
theorem dJ16_toArray_2_27 : decode cJ16_toArray_2 27 = .ok (.goto 5, 3) := dk_167 0 5 (dk_at dksJ16_toArray_2_1 4 rfl rfl)
theorem dJ16_toArray_2_30 : decode cJ16_toArray_2 30 = .ok (.aload_n 2, 1) := dk_44 (dk_at dksJ16_toArray_2_1 7 rfl rfl)
theorem dJ16_toArray_2_31 : decode cJ16_toArray_2 31 = .ok (.arraylength, 1) := dk_190 (dk_at dksJ16_toArray_2_1 8 rfl rfl)
theorem dJ16_toArray_2_32 : decode cJ16_toArray_2 32 = .ok (.iadd, 1) := dk_96 (dk_at dksJ16_toArray_2_1 9 rfl rfl)
theorem dJ16_toArray_2_33 : decode cJ16_toArray_2 33 = .ok (.dup, 1) := dk_89 (dk_at dksJ16_toArray_2_1 10 rfl rfl)
theorem dJ16_toArray_2_34 : decode cJ16_toArray_2 34 = .ok (.istore 6, 2) := dk_54 6 (dk_at dksJ16_toArray_2_1 11 rfl rfl)
theorem dJ16_toArray_2_36 : decode cJ16_toArray_2 36 = .ok (.ifCond .lt 16, 3) := dk_155 0 16 (dk_at dksJ16_toArray_2_1 13 rfl rfl)
theorem dJ16_toArray_2_39 : decode cJ16_toArray_2 39 = .ok (.aload_n 2, 1) := dk_44 (dk_at dksJ16_toArray_2_1 16 rfl rfl)
theorem dJ16_toArray_2_40 : decode cJ16_toArray_2 40 = .ok (.iload 4, 2) := dk_21 4 (dk_at dksJ16_toArray_2_1 17 rfl rfl)
theorem dJ16_toArray_2_42 : decode cJ16_toArray_2 42 = .ok (.iload 6, 2) := dk_21 6 (dk_at dksJ16_toArray_2_1 19 rfl rfl)
theorem dJ16_toArray_2_44 : decode cJ16_toArray_2 44 = .ok (.aload_n 1, 1) := dk_43 (dk_at dksJ16_toArray_2_1 21 rfl rfl)
theorem dJ16_toArray_2_45 : decode cJ16_toArray_2 45 = .ok (.invokestatic 193, 3) := dk_184 0 193 (dk_at dksJ16_toArray_2_2 0 rfl rfl)
theorem dJ16_toArray_2_48 : decode cJ16_toArray_2 48 = .ok (.astore_n 3, 1) := dk_78 (dk_at dksJ16_toArray_2_2 3 rfl rfl)
theorem dJ16_toArray_2_49 : decode cJ16_toArray_2 49 = .ok (.goto 28, 3) := dk_167 0 28 (dk_at dksJ16_toArray_2_2 4 rfl rfl)
theorem dJ16_toArray_2_52 : decode cJ16_toArray_2 52 = .ok (.aload_n 2, 1) := dk_44 (dk_at dksJ16_toArray_2_2 7 rfl rfl)
theorem dJ16_toArray_2_53 : decode cJ16_toArray_2 53 = .ok (.iconst 0, 1) := dk_3 (dk_at dksJ16_toArray_2_2 8 rfl rfl)
theorem dJ16_toArray_2_54 : decode cJ16_toArray_2 54 = .ok (.iload 6, 2) := dk_21 6 (dk_at dksJ16_toArray_2_2 9 rfl rfl)
theorem dJ16_toArray_2_56 : decode cJ16_toArray_2 56 = .ok (.iload 4, 2) := dk_21 4 (dk_at dksJ16_toArray_2_2 11 rfl rfl)
theorem dJ16_toArray_2_58 : decode cJ16_toArray_2 58 = .ok (.isub, 1) := dk_100 (dk_at dksJ16_toArray_2_2 13 rfl rfl)
theorem dJ16_toArray_2_59 : decode cJ16_toArray_2 59 = .ok (.aload_n 1, 1) := dk_43 (dk_at dksJ16_toArray_2_2 14 rfl rfl)
theorem dJ16_toArray_2_60 : decode cJ16_toArray_2 60 = .ok (.invokestatic 193, 3) := dk_184 0 193 (dk_at dksJ16_toArray_2_2 15 rfl rfl)
theorem dJ16_toArray_2_63 : decode cJ16_toArray_2 63 = .ok (.astore_n 3, 1) := dk_78 (dk_at dksJ16_toArray_2_2 18 rfl rfl)
theorem dJ16_toArray_2_64 : decode cJ16_toArray_2 64 = .ok (.aload_n 2, 1) := dk_44 (dk_at dksJ16_toArray_2_2 19 rfl rfl)
theorem dJ16_toArray_2_65 : decode cJ16_toArray_2 65 = .ok (.iload 4, 2) := dk_21 4 (dk_at dksJ16_toArray_2_2 20 rfl rfl)
theorem dJ16_toArray_2_67 : decode cJ16_toArray_2 67 = .ok (.aload_n 3, 1) := dk_45 (dk_at dksJ16_toArray_2_2 22 rfl rfl)
theorem dJ16_toArray_2_68 : decode cJ16_toArray_2 68 = .ok (.iconst 0, 1) := dk_3 (dk_at dksJ16_toArray_2_2 23 rfl rfl)
theorem dJ16_toArray_2_69 : decode cJ16_toArray_2 69 = .ok (.aload_n 2, 1) := dk_44 (dk_at dksJ16_toArray_2_3 0 rfl rfl)
theorem dJ16_toArray_2_70 : decode cJ16_toArray_2 70 = .ok (.arraylength, 1) := dk_190 (dk_at dksJ16_toArray_2_3 1 rfl rfl)
theorem dJ16_toArray_2_71 : decode cJ16_toArray_2 71 = .ok (.iload 4, 2) := dk_21 4 (dk_at dksJ16_toArray_2_3 2 rfl rfl)
theorem dJ16_toArray_2_73 : decode cJ16_toArray_2 73 = .ok (.isub, 1) := dk_100 (dk_at dksJ16_toArray_2_3 4 rfl rfl)
theorem dJ16_toArray_2_74 : decode cJ16_toArray_2 74 = .ok (.invokestatic 27, 3) := dk_184 0 27 (dk_at dksJ16_toArray_2_3 5 rfl rfl)
theorem dJ16_toArray_2_77 : decode cJ16_toArray_2 77 = .ok (.iload 6, 2) := dk_21 6 (dk_at dksJ16_toArray_2_3 8 rfl rfl)
theorem dJ16_toArray_2_79 : decode cJ16_toArray_2 79 = .ok (.iload 5, 2) := dk_21 5 (dk_at dksJ16_toArray_2_3 10 rfl rfl)
theorem dJ16_toArray_2_81 : decode cJ16_toArray_2 81 = .ok (.if_icmp .eq 16, 3) := dk_159 0 16 (dk_at dksJ16_toArray_2_3 12 rfl rfl)
theorem dJ16_toArray_2_84 : decode cJ16_toArray_2 84 = .ok (.aload_n 2, 1) := dk_44 (dk_at dksJ16_toArray_2_3 15 rfl rfl)
theorem dJ16_toArray_2_85 : decode cJ16_toArray_2 85 = .ok (.iconst 0, 1) := dk_3 (dk_at dksJ16_toArray_2_3 16 rfl rfl)
theorem dJ16_toArray_2_86 : decode cJ16_toArray_2 86 = .ok (.aload_n 3, 1) := dk_45 (dk_at dksJ16_toArray_2_3 17 rfl rfl)
theorem dJ16_toArray_2_87 : decode cJ16_toArray_2 87 = .ok (.aload_n 2, 1) := dk_44 (dk_at dksJ16_toArray_2_3 18 rfl rfl)
theorem dJ16_toArray_2_88 : decode cJ16_toArray_2 88 = .ok (.arraylength, 1) := dk_190 (dk_at dksJ16_toArray_2_3 19 rfl rfl)
theorem dJ16_toArray_2_89 : decode cJ16_toArray_2 89 = .ok (.iload 4, 2) := dk_21 4 (dk_at dksJ16_toArray_2_3 20 rfl rfl)
theorem dJ16_toArray_2_91 : decode cJ16_toArray_2 91 = .ok (.isub, 1) := dk_100 (dk_at dksJ16_toArray_2_3 22 rfl rfl)
theorem dJ16_toArray_2_92 : decode cJ16_toArray_2 92 = .ok (.iload 5, 2) := dk_21 5 (dk_at dksJ16_toArray_2_4 0 rfl rfl)
theorem dJ16_toArray_2_94 : decode cJ16_toArray_2 94 = .ok (.invokestatic 27, 3) := dk_184 0 27 (dk_at dksJ16_toArray_2_4 2 rfl rfl)
theorem dJ16_toArray_2_97 : decode cJ16_toArray_2 97 = .ok (.aload_n 3, 1) := dk_45 (dk_at dksJ16_toArray_2_4 5 rfl rfl)
theorem dJ16_toArray_2_98 : decode cJ16_toArray_2 98 = .ok (.areturn, 1) := dk_176 (dk_at dksJ16_toArray_2_4 6 rfl rfl)
abbrev cJ16_clear : ByteArray := prog_52_method_53_code
def yJ16_clear : MethodName := ⟨RJ16, "clear", "()V"⟩
def dkwJ16_clear_1 : List UInt8 := [181, 0, 24, 177]
abbrev dktJ16_clear_1 : List UInt8 := dkwJ16_clear_1 ++ []
def dkwJ16_clear_0 : List UInt8 := [42, 180, 0, 3, 42, 180, 0, 24, 42, 180, 0, 20, 184, 0, 181, 42, 42, 3, 90, 181, 0, 20]
abbrev dktJ16_clear_0 : List UInt8 := dkwJ16_clear_0 ++ dktJ16_clear_1
theorem dksJ16_clear_0 : cJ16_clear.data.toList.drop 0 = dktJ16_clear_0 := by decide +kernel
theorem dksJ16_clear_1 : cJ16_clear.data.toList.drop 22 = dktJ16_clear_1 := dk_seg dksJ16_clear_0 22 rfl rfl
theorem dJ16_clear_0 : decode cJ16_clear 0 = .ok (.aload_n 0, 1) := dk_42 (dk_at dksJ16_clear_0 0 rfl rfl)
theorem dJ16_clear_1 : decode cJ16_clear 1 = .ok (.getfield 3, 3) := dk_180 0 3 (dk_at dksJ16_clear_0 1 rfl rfl)
theorem dJ16_clear_4 : decode cJ16_clear 4 = .ok (.aload_n 0, 1) := dk_42 (dk_at dksJ16_clear_0 4 rfl rfl)
theorem dJ16_clear_5 : decode cJ16_clear 5 = .ok (.getfield 24, 3) := dk_180 0 24 (dk_at dksJ16_clear_0 5 rfl rfl)
theorem dJ16_clear_8 : decode cJ16_clear 8 = .ok (.aload_n 0, 1) := dk_42 (dk_at dksJ16_clear_0 8 rfl rfl)
theorem dJ16_clear_9 : decode cJ16_clear 9 = .ok (.getfield 20, 3) := dk_180 0 20 (dk_at dksJ16_clear_0 9 rfl rfl)
theorem dJ16_clear_12 : decode cJ16_clear 12 = .ok (.invokestatic 181, 3) := dk_184 0 181 (dk_at dksJ16_clear_0 12 rfl rfl)
theorem dJ16_clear_15 : decode cJ16_clear 15 = .ok (.aload_n 0, 1) := dk_42 (dk_at dksJ16_clear_0 15 rfl rfl)
theorem dJ16_clear_16 : decode cJ16_clear 16 = .ok (.aload_n 0, 1) := dk_42 (dk_at dksJ16_clear_0 16 rfl rfl)
theorem dJ16_clear_17 : decode cJ16_clear 17 = .ok (.iconst 0, 1) := dk_3 (dk_at dksJ16_clear_0 17 rfl rfl)
theorem dJ16_clear_18 : decode cJ16_clear 18 = .ok (.dup_x1, 1) := dk_90 (dk_at dksJ16_clear_0 18 rfl rfl)
theorem dJ16_clear_19 : decode cJ16_clear 19 = .ok (.putfield 20, 3) := dk_181 0 20 (dk_at dksJ16_clear_0 19 rfl rfl)
theorem dJ16_clear_22 : decode cJ16_clear 22 = .ok (.putfield 24, 3) := dk_181 0 24 (dk_at dksJ16_clear_1 0 rfl rfl)
theorem dJ16_clear_25 : decode cJ16_clear 25 = .ok (.return_, 1) := dk_177 (dk_at dksJ16_clear_1 3 rfl rfl)
abbrev cJ16_circularClear : ByteArray := prog_52_method_54_code
def yJ16_circularClear : MethodName := ⟨RJ16, "circularClear", "([Ljava/lang/Object;II)V"⟩
def dkwJ16_circularClear_1 : List UInt8 := [167, 255, 244, 29, 28, 160, 0, 6, 167, 0, 10, 3, 60, 28, 62, 167, 255, 229, 177]
abbrev dktJ16_circularClear_1 : List UInt8 := dkwJ16_circularClear_1 ++ []
def dkwJ16_circularClear_0 : List UInt8 := [27, 28, 163, 0, 7, 28, 167, 0, 5, 42, 190, 62, 27, 29, 162, 0, 13, 42, 27, 1, 83, 132, 1, 1]
abbrev dktJ16_circularClear_0 : List UInt8 := dkwJ16_circularClear_0 ++ dktJ16_circularClear_1
theorem dksJ16_circularClear_0 : cJ16_circularClear.data.toList.drop 0 = dktJ16_circularClear_0 := by decide +kernel
theorem dksJ16_circularClear_1 : cJ16_circularClear.data.toList.drop 24 = dktJ16_circularClear_1 := dk_seg dksJ16_circularClear_0 24 rfl rfl
theorem dJ16_circularClear_0 : decode cJ16_circularClear 0 = .ok (.iload_n 1, 1) := dk_27 (dk_at dksJ16_circularClear_0 0 rfl rfl)
theorem dJ16_circularClear_1 : decode cJ16_circularClear 1 = .ok (.iload_n 2, 1) := dk_28 (dk_at dksJ16_circularClear_0 1 rfl rfl)
theorem dJ16_circularClear_2 : decode cJ16_circularClear 2 = .ok (.if_icmp .gt 7, 3) := dk_163 0 7 (dk_at dksJ16_circularClear_0 2 rfl rfl)
theorem dJ16_circularClear_5 : decode cJ16_circularClear 5 = .ok (.iload_n 2, 1) := dk_28 (dk_at dksJ16_circularClear_0 5 rfl rfl)
theorem dJ16_circularClear_6 : decode cJ16_circularClear 6 = .ok (.goto 5, 3) := dk_167 0 5 (dk_at dksJ16_circularClear_0 6 rfl rfl)
theorem dJ16_circularClear_9 : decode cJ16_circularClear 9 = .ok (.aload_n 0, 1) := dk_42 (dk_at dksJ16_circularClear_0 9 rfl rfl)
theorem dJ16_circularClear_10 : decode cJ16_circularClear 10 = .ok (.arraylength, 1) := dk_190 (dk_at dksJ16_circularClear_0 10 rfl rfl)
theorem dJ16_circularClear_11 : decode cJ16_circularClear 11 = .ok (.istore_n 3, 1) := dk_62 (dk_at dksJ16_circularClear_0 11 rfl rfl)
theorem dJ16_circularClear_12 : decode cJ16_circularClear 12 = .ok (.iload_n 1, 1) := dk_27 (dk_at dksJ16_circularClear_0 12 rfl rfl)
theorem dJ16_circularClear_13 : decode cJ16_circularClear 13 = .ok (.iload_n 3, 1) := dk_29 (dk_at dksJ16_circularClear_0 13 rfl rfl)
theorem dJ16_circularClear_14 : decode cJ16_circularClear 14 = .ok (.if_icmp .ge 13, 3) := dk_162 0 13 (dk_at dksJ16_circularClear_0 14 rfl rfl)
theorem dJ16_circularClear_17 : decode cJ16_circularClear 17 = .ok (.aload_n 0, 1) := dk_42 (dk_at dksJ16_circularClear_0 17 rfl rfl)
theorem dJ16_circularClear_18 : decode cJ16_circularClear 18 = .ok (.iload_n 1, 1) := dk_27 (dk_at dksJ16_circularClear_0 18 rfl rfl)
theorem dJ16_circularClear_19 : decode cJ16_circularClear 19 = .ok (.aconst_null, 1) := dk_1 (dk_at dksJ16_circularClear_0 19 rfl rfl)
theorem dJ16_circularClear_20 : decode cJ16_circularClear 20 = .ok (.aastore, 1) := dk_83 (dk_at dksJ16_circularClear_0 20 rfl rfl)
theorem dJ16_circularClear_21 : decode cJ16_circularClear 21 = .ok (.iinc 1 1, 3) := dk_132 1 1 (dk_at dksJ16_circularClear_0 21 rfl rfl)
theorem dJ16_circularClear_24 : decode cJ16_circularClear 24 = .ok (.goto (-12), 3) := dk_167 255 244 (dk_at dksJ16_circularClear_1 0 rfl rfl)
theorem dJ16_circularClear_27 : decode cJ16_circularClear 27 = .ok (.iload_n 3, 1) := dk_29 (dk_at dksJ16_circularClear_1 3 rfl rfl)
theorem dJ16_circularClear_28 : decode cJ16_circularClear 28 = .ok (.iload_n 2, 1) := dk_28 (dk_at dksJ16_circularClear_1 4 rfl rfl)
theorem dJ16_circularClear_29 : decode cJ16_circularClear 29 = .ok (.if_icmp .ne 6, 3) := dk_160 0 6 (dk_at dksJ16_circularClear_1 5 rfl rfl)
theorem dJ16_circularClear_32 : decode cJ16_circularClear 32 = .ok (.goto 10, 3) := dk_167 0 10 (dk_at dksJ16_circularClear_1 8 rfl rfl)
theorem dJ16_circularClear_35 : decode cJ16_circularClear 35 = .ok (.iconst 0, 1) := dk_3 (dk_at dksJ16_circularClear_1 11 rfl rfl)
theorem dJ16_circularClear_36 : decode cJ16_circularClear 36 = .ok (.istore_n 1, 1) := dk_60 (dk_at dksJ16_circularClear_1 12 rfl rfl)
theorem dJ16_circularClear_37 : decode cJ16_circularClear 37 = .ok (.iload_n 2, 1) := dk_28 (dk_at dksJ16_circularClear_1 13 rfl rfl)
theorem dJ16_circularClear_38 : decode cJ16_circularClear 38 = .ok (.istore_n 3, 1) := dk_62 (dk_at dksJ16_circularClear_1 14 rfl rfl)
theorem dJ16_circularClear_39 : decode cJ16_circularClear 39 = .ok (.goto (-27), 3) := dk_167 255 229 (dk_at dksJ16_circularClear_1 15 rfl rfl)
theorem dJ16_circularClear_42 : decode cJ16_circularClear 42 = .ok (.return_, 1) := dk_177 (dk_at dksJ16_circularClear_1 18 rfl rfl)
abbrev cJ16_add : ByteArray := prog_52_method_28_code
def yJ16_add : MethodName := ⟨RJ16, "add", "(Ljava/lang/Object;)Z"⟩
def dkwJ16_add_0 : List UInt8 := [42, 43, 182, 0, 90, 4, 172]
abbrev dktJ16_add_0 : List UInt8 := dkwJ16_add_0 ++ []
theorem dksJ16_add_0 : cJ16_add.data.toList.drop 0 = dktJ16_add_0 := by decide +kernel
theorem dJ16_add_0 : decode cJ16_add 0 = .ok (.aload_n 0, 1) := dk_42 (dk_at dksJ16_add_0 0 rfl rfl)
theorem dJ16_add_1 : decode cJ16_add 1 = .ok (.aload_n 1, 1) := dk_43 (dk_at dksJ16_add_0 1 rfl rfl)
theorem dJ16_add_2 : decode cJ16_add 2 = .ok (.invokevirtual 90, 3) := dk_182 0 90 (dk_at dksJ16_add_0 2 rfl rfl)
theorem dJ16_add_5 : decode cJ16_add 5 = .ok (.iconst 1, 1) := dk_4 (dk_at dksJ16_add_0 5 rfl rfl)
theorem dJ16_add_6 : decode cJ16_add 6 = .ok (.ireturn, 1) := dk_172 (dk_at dksJ16_add_0 6 rfl rfl)
abbrev cJ16_addLast : ByteArray := prog_52_method_13_code
def yJ16_addLast : MethodName := ⟨RJ16, "addLast", "(Ljava/lang/Object;)V"⟩
def dkwJ16_addLast_2 : List UInt8 := [182, 0, 71, 177]
abbrev dktJ16_addLast_2 : List UInt8 := dkwJ16_addLast_2 ++ []
def dkwJ16_addLast_1 : List UInt8 := [42, 180, 0, 24, 42, 42, 180, 0, 20, 44, 190, 184, 0, 74, 90, 181, 0, 20, 160, 0, 8, 42, 4]
abbrev dktJ16_addLast_1 : List UInt8 := dkwJ16_addLast_1 ++ dktJ16_addLast_2
def dkwJ16_addLast_0 : List UInt8 := [43, 199, 0, 11, 187, 0, 65, 89, 183, 0, 67, 191, 42, 180, 0, 3, 77, 44, 42, 180, 0, 20, 43, 83]
abbrev dktJ16_addLast_0 : List UInt8 := dkwJ16_addLast_0 ++ dktJ16_addLast_1
theorem dksJ16_addLast_0 : cJ16_addLast.data.toList.drop 0 = dktJ16_addLast_0 := by decide +kernel
theorem dksJ16_addLast_1 : cJ16_addLast.data.toList.drop 24 = dktJ16_addLast_1 := dk_seg dksJ16_addLast_0 24 rfl rfl
theorem dksJ16_addLast_2 : cJ16_addLast.data.toList.drop 47 = dktJ16_addLast_2 := dk_seg dksJ16_addLast_1 23 rfl rfl
theorem dJ16_addLast_0 : decode cJ16_addLast 0 = .ok (.aload_n 1, 1) := dk_43 (dk_at dksJ16_addLast_0 0 rfl rfl)
theorem dJ16_addLast_1 : decode cJ16_addLast 1 = .ok (.ifnonnull 11, 3) := dk_199 0 11 (dk_at dksJ16_addLast_0 1 rfl rfl)
theorem dJ16_addLast_4 : decode cJ16_addLast 4 = .ok (.new 65, 3) := dk_187 0 65 (dk_at dksJ16_addLast_0 4 rfl rfl)
theorem dJ16_addLast_7 : decode cJ16_addLast 7 = .ok (.dup, 1) := dk_89 (dk_at dksJ16_addLast_0 7 rfl rfl)
theorem dJ16_addLast_8 : decode cJ16_addLast 8 = .ok (.invokespecial 67, 3) := dk_183 0 67 (dk_at dksJ16_addLast_0 8 rfl rfl)
theorem dJ16_addLast_11 : decode cJ16_addLast 11 = .ok (.athrow, 1) := dk_191 (dk_at dksJ16_addLast_0 11 rfl rfl)
theorem dJ16_addLast_12 : decode cJ16_addLast 12 = .ok (.aload_n 0, 1) := dk_42 (dk_at dksJ16_addLast_0 12 rfl rfl)
theorem dJ16_addLast_13 : decode cJ16_addLast 13 = .ok (.getfield 3, 3) := dk_180 0 3 (dk_at dksJ16_addLast_0 13 rfl rfl)
theorem dJ16_addLast_16 : decode cJ16_addLast 16 = .ok (.astore_n 2, 1) := dk_77 (dk_at dksJ16_addLast_0 16 rfl rfl)
theorem dJ16_addLast_17 : decode cJ16_addLast 17 = .ok (.aload_n 2, 1) := dk_44 (dk_at dksJ16_addLast_0 17 rfl rfl)
theorem dJ16_addLast_18 : decode cJ16_addLast 18 = .ok (.aload_n 0, 1) := dk_42 (dk_at dksJ16_addLast_0 18 rfl rfl)
theorem dJ16_addLast_19 : decode cJ16_addLast 19 = .ok (.getfield 20, 3) := dk_180 0 20 (dk_at dksJ16_addLast_0 19 rfl rfl)
theorem dJ16_addLast_22 : decode cJ16_addLast 22 = .ok (.aload_n 1, 1) := dk_43 (dk_at dksJ16_addLast_0 22 rfl rfl)
theorem dJ16_addLast_23 : decode cJ16_addLast 23 = .ok (.aastore, 1) := dk_83 (dk_at dksJ16_addLast_0 23 rfl rfl)
theorem dJ16_addLast_24 : decode cJ16_addLast 24 = .ok (.aload_n 0, 1) := dk_42 (dk_at dksJ16_addLast_1 0 rfl rfl)
theorem dJ16_addLast_25 : decode cJ16_addLast 25 = .ok (.getfield 24, 3) := dk_180 0 24 (dk_at dksJ16_addLast_1 1 rfl rfl)
theorem dJ16_addLast_28 : decode cJ16_addLast 28 = .ok (.aload_n 0, 1) := dk_42 (dk_at dksJ16_addLast_1 4 rfl rfl)
theorem dJ16_addLast_29 : decode cJ16_addLast 29 = .ok (.aload_n 0, 1) := dk_42 (dk_at dksJ16_addLast_1 5 rfl rfl)
theorem dJ16_addLast_30 : decode cJ16_addLast 30 = .ok (.getfield 20, 3) := dk_180 0 20 (dk_at dksJ16_addLast_1 6 rfl rfl)
theorem dJ16_addLast_33 : decode cJ16_addLast 33 = .ok (.aload_n 2, 1) := dk_44 (dk_at dksJ16_addLast_1 9 rfl rfl)
theorem dJ16_addLast_34 : decode cJ16_addLast 34 = .ok (.arraylength, 1) := dk_190 (dk_at dksJ16_addLast_1 10 rfl rfl)
theorem dJ16_addLast_35 : decode cJ16_addLast 35 = .ok (.invokestatic 74, 3) := dk_184 0 74 (dk_at dksJ16_addLast_1 11 rfl rfl)
theorem dJ16_addLast_38 : decode cJ16_addLast 38 = .ok (.dup_x1, 1) := dk_90 (dk_at dksJ16_addLast_1 14 rfl rfl)
theorem dJ16_addLast_39 : decode cJ16_addLast 39 = .ok (.putfield 20, 3) := dk_181 0 20 (dk_at dksJ16_addLast_1 15 rfl rfl)
theorem dJ16_addLast_42 : decode cJ16_addLast 42 = .ok (.if_icmp .ne 8, 3) := dk_160 0 8 (dk_at dksJ16_addLast_1 18 rfl rfl)
theorem dJ16_addLast_45 : decode cJ16_addLast 45 = .ok (.aload_n 0, 1) := dk_42 (dk_at dksJ16_addLast_1 21 rfl rfl)
theorem dJ16_addLast_46 : decode cJ16_addLast 46 = .ok (.iconst 1, 1) := dk_4 (dk_at dksJ16_addLast_1 22 rfl rfl)
theorem dJ16_addLast_47 : decode cJ16_addLast 47 = .ok (.invokevirtual 71, 3) := dk_182 0 71 (dk_at dksJ16_addLast_2 0 rfl rfl)
theorem dJ16_addLast_50 : decode cJ16_addLast 50 = .ok (.return_, 1) := dk_177 (dk_at dksJ16_addLast_2 3 rfl rfl)
abbrev cJ16_inc : ByteArray := prog_52_method_6_code
def yJ16_inc : MethodName := ⟨RJ16, "inc", "(II)I"⟩
def dkwJ16_inc_0 : List UInt8 := [132, 0, 1, 26, 27, 161, 0, 5, 3, 59, 26, 172]
abbrev dktJ16_inc_0 : List UInt8 := dkwJ16_inc_0 ++ []
theorem dksJ16_inc_0 : cJ16_inc.data.toList.drop 0 = dktJ16_inc_0 := by decide +kernel
theorem dJ16_inc_0 : decode cJ16_inc 0 = .ok (.iinc 0 1, 3) := dk_132 0 1 (dk_at dksJ16_inc_0 0 rfl rfl)
theorem dJ16_inc_3 : decode cJ16_inc 3 = .ok (.iload_n 0, 1) := dk_26 (dk_at dksJ16_inc_0 3 rfl rfl)
theorem dJ16_inc_4 : decode cJ16_inc 4 = .ok (.iload_n 1, 1) := dk_27 (dk_at dksJ16_inc_0 4 rfl rfl)
theorem dJ16_inc_5 : decode cJ16_inc 5 = .ok (.if_icmp .lt 5, 3) := dk_161 0 5 (dk_at dksJ16_inc_0 5 rfl rfl)
theorem dJ16_inc_8 : decode cJ16_inc 8 = .ok (.iconst 0, 1) := dk_3 (dk_at dksJ16_inc_0 8 rfl rfl)
theorem dJ16_inc_9 : decode cJ16_inc 9 = .ok (.istore_n 0, 1) := dk_59 (dk_at dksJ16_inc_0 9 rfl rfl)
theorem dJ16_inc_10 : decode cJ16_inc 10 = .ok (.iload_n 0, 1) := dk_26 (dk_at dksJ16_inc_0 10 rfl rfl)
theorem dJ16_inc_11 : decode cJ16_inc 11 = .ok (.ireturn, 1) := dk_172 (dk_at dksJ16_inc_0 11 rfl rfl)
abbrev cJ16_grow : ByteArray := prog_52_method_1_code
def yJ16_grow : MethodName := ⟨RJ16, "grow", "(I)V"⟩
def dkwJ16_grow_7 : List UInt8 := [177]
abbrev dktJ16_grow_7 : List UInt8 := dkwJ16_grow_7 ++ []
def dkwJ16_grow_6 : List UInt8 := [181, 0, 24, 54, 8, 21, 7, 21, 8, 162, 0, 15, 25, 5, 21, 7, 1, 83, 132, 7, 1, 167, 255, 240]
abbrev dktJ16_grow_6 : List UInt8 := dkwJ16_grow_6 ++ dktJ16_grow_7
def dkwJ16_grow_5 : List UInt8 := [42, 180, 0, 24, 100, 184, 0, 27, 42, 180, 0, 24, 54, 7, 42, 89, 180, 0, 24, 21, 6, 96, 90]
abbrev dktJ16_grow_5 : List UInt8 := dkwJ16_grow_5 ++ dktJ16_grow_6
def dkwJ16_grow_4 : List UInt8 := [198, 0, 71, 29, 28, 100, 54, 6, 25, 5, 42, 180, 0, 24, 25, 5, 42, 180, 0, 24, 21, 6, 96, 28]
abbrev dktJ16_grow_4 : List UInt8 := dkwJ16_grow_4 ++ dktJ16_grow_5
def dkwJ16_grow_3 : List UInt8 := [180, 0, 24, 161, 0, 24, 42, 180, 0, 20, 42, 180, 0, 24, 160, 0, 81, 25, 5, 42, 180, 0, 24, 50]
abbrev dktJ16_grow_3 : List UInt8 := dkwJ16_grow_3 ++ dktJ16_grow_4
def dkwJ16_grow_2 : List UInt8 := [182, 0, 10, 62, 42, 42, 180, 0, 3, 29, 184, 0, 14, 90, 181, 0, 3, 58, 5, 42, 180, 0, 20, 42]
abbrev dktJ16_grow_2 : List UInt8 := dkwJ16_grow_2 ++ dktJ16_grow_3
def dkwJ16_grow_1 : List UInt8 := [21, 4, 27, 161, 0, 15, 28, 21, 4, 96, 89, 62, 18, 9, 100, 158, 0, 11, 42, 27, 21, 4]
abbrev dktJ16_grow_1 : List UInt8 := dkwJ16_grow_1 ++ dktJ16_grow_2
def dkwJ16_grow_0 : List UInt8 := [42, 180, 0, 3, 190, 61, 28, 16, 64, 162, 0, 9, 28, 5, 96, 167, 0, 6, 28, 4, 122, 54, 4]
abbrev dktJ16_grow_0 : List UInt8 := dkwJ16_grow_0 ++ dktJ16_grow_1
theorem dksJ16_grow_0 : cJ16_grow.data.toList.drop 0 = dktJ16_grow_0 := by decide +kernel
theorem dksJ16_grow_1 : cJ16_grow.data.toList.drop 23 = dktJ16_grow_1 := dk_seg dksJ16_grow_0 23 rfl rfl
theorem dksJ16_grow_2 : cJ16_grow.data.toList.drop 45 = dktJ16_grow_2 := dk_seg dksJ16_grow_1 22 rfl rfl
theorem dksJ16_grow_3 : cJ16_grow.data.toList.drop 69 = dktJ16_grow_3 := dk_seg dksJ16_grow_2 24 rfl rfl
theorem dksJ16_grow_4 : cJ16_grow.data.toList.drop 93 = dktJ16_grow_4 := dk_seg dksJ16_grow_3 24 rfl rfl
theorem dksJ16_grow_5 : cJ16_grow.data.toList.drop 117 = dktJ16_grow_5 := dk_seg dksJ16_grow_4 24 rfl rfl
theorem dksJ16_grow_6 : cJ16_grow.data.toList.drop 140 = dktJ16_grow_6 := dk_seg dksJ16_grow_5 23 rfl rfl
theorem dksJ16_grow_7 : cJ16_grow.data.toList.drop 164 = dktJ16_grow_7 := dk_seg dksJ16_grow_6 24 rfl rfl
theorem dJ16_grow_0 : decode cJ16_grow 0 = .ok (.aload_n 0, 1) := dk_42 (dk_at dksJ16_grow_0 0 rfl rfl)
theorem dJ16_grow_1 : decode cJ16_grow 1 = .ok (.getfield 3, 3) := dk_180 0 3 (dk_at dksJ16_grow_0 1 rfl rfl)
theorem dJ16_grow_4 : decode cJ16_grow 4 = .ok (.arraylength, 1) := dk_190 (dk_at dksJ16_grow_0 4 rfl rfl)
theorem dJ16_grow_5 : decode cJ16_grow 5 = .ok (.istore_n 2, 1) := dk_61 (dk_at dksJ16_grow_0 5 rfl rfl)
theorem dJ16_grow_6 : decode cJ16_grow 6 = .ok (.iload_n 2, 1) := dk_28 (dk_at dksJ16_grow_0 6 rfl rfl)
theorem dJ16_grow_7 : decode cJ16_grow 7 = .ok (.bipush 64, 2) := dk_16 64 (dk_at dksJ16_grow_0 7 rfl rfl)
theorem dJ16_grow_9 : decode cJ16_grow 9 = .ok (.if_icmp .ge 9, 3) := dk_162 0 9 (dk_at dksJ16_grow_0 9 rfl rfl)
theorem dJ16_grow_12 : decode cJ16_grow 12 = .ok (.iload_n 2, 1) := dk_28 (dk_at dksJ16_grow_0 12 rfl rfl)
theorem dJ16_grow_13 : decode cJ16_grow 13 = .ok (.iconst 2, 1) := dk_5 (dk_at dksJ16_grow_0 13 rfl rfl)
theorem dJ16_grow_14 : decode cJ16_grow 14 = .ok (.iadd, 1) := dk_96 (dk_at dksJ16_grow_0 14 rfl rfl)
theorem dJ16_grow_15 : decode cJ16_grow 15 = .ok (.goto 6, 3) := dk_167 0 6 (dk_at dksJ16_grow_0 15 rfl rfl)
theorem dJ16_grow_18 : decode cJ16_grow 18 = .ok (.iload_n 2, 1) := dk_28 (dk_at dksJ16_grow_0 18 rfl rfl)
theorem dJ16_grow_19 : decode cJ16_grow 19 = .ok (.iconst 1, 1) := dk_4 (dk_at dksJ16_grow_0 19 rfl rfl)
theorem dJ16_grow_20 : decode cJ16_grow 20 = .ok (.ishr, 1) := dk_122 (dk_at dksJ16_grow_0 20 rfl rfl)
theorem dJ16_grow_21 : decode cJ16_grow 21 = .ok (.istore 4, 2) := dk_54 4 (dk_at dksJ16_grow_0 21 rfl rfl)
theorem dJ16_grow_23 : decode cJ16_grow 23 = .ok (.iload 4, 2) := dk_21 4 (dk_at dksJ16_grow_1 0 rfl rfl)
theorem dJ16_grow_25 : decode cJ16_grow 25 = .ok (.iload_n 1, 1) := dk_27 (dk_at dksJ16_grow_1 2 rfl rfl)
theorem dJ16_grow_26 : decode cJ16_grow 26 = .ok (.if_icmp .lt 15, 3) := dk_161 0 15 (dk_at dksJ16_grow_1 3 rfl rfl)
theorem dJ16_grow_29 : decode cJ16_grow 29 = .ok (.iload_n 2, 1) := dk_28 (dk_at dksJ16_grow_1 6 rfl rfl)
theorem dJ16_grow_30 : decode cJ16_grow 30 = .ok (.iload 4, 2) := dk_21 4 (dk_at dksJ16_grow_1 7 rfl rfl)
theorem dJ16_grow_32 : decode cJ16_grow 32 = .ok (.iadd, 1) := dk_96 (dk_at dksJ16_grow_1 9 rfl rfl)
theorem dJ16_grow_33 : decode cJ16_grow 33 = .ok (.dup, 1) := dk_89 (dk_at dksJ16_grow_1 10 rfl rfl)
theorem dJ16_grow_34 : decode cJ16_grow 34 = .ok (.istore_n 3, 1) := dk_62 (dk_at dksJ16_grow_1 11 rfl rfl)
theorem dJ16_grow_35 : decode cJ16_grow 35 = .ok (.ldc 9, 2) := dk_18 9 (dk_at dksJ16_grow_1 12 rfl rfl)
theorem dJ16_grow_37 : decode cJ16_grow 37 = .ok (.isub, 1) := dk_100 (dk_at dksJ16_grow_1 14 rfl rfl)
theorem dJ16_grow_38 : decode cJ16_grow 38 = .ok (.ifCond .le 11, 3) := dk_158 0 11 (dk_at dksJ16_grow_1 15 rfl rfl)
theorem dJ16_grow_41 : decode cJ16_grow 41 = .ok (.aload_n 0, 1) := dk_42 (dk_at dksJ16_grow_1 18 rfl rfl)
theorem dJ16_grow_42 : decode cJ16_grow 42 = .ok (.iload_n 1, 1) := dk_27 (dk_at dksJ16_grow_1 19 rfl rfl)
theorem dJ16_grow_43 : decode cJ16_grow 43 = .ok (.iload 4, 2) := dk_21 4 (dk_at dksJ16_grow_1 20 rfl rfl)
theorem dJ16_grow_45 : decode cJ16_grow 45 = .ok (.invokevirtual 10, 3) := dk_182 0 10 (dk_at dksJ16_grow_2 0 rfl rfl)
theorem dJ16_grow_48 : decode cJ16_grow 48 = .ok (.istore_n 3, 1) := dk_62 (dk_at dksJ16_grow_2 3 rfl rfl)
theorem dJ16_grow_49 : decode cJ16_grow 49 = .ok (.aload_n 0, 1) := dk_42 (dk_at dksJ16_grow_2 4 rfl rfl)
theorem dJ16_grow_50 : decode cJ16_grow 50 = .ok (.aload_n 0, 1) := dk_42 (dk_at dksJ16_grow_2 5 rfl rfl)
theorem dJ16_grow_51 : decode cJ16_grow 51 = .ok (.getfield 3, 3) := dk_180 0 3 (dk_at dksJ16_grow_2 6 rfl rfl)
theorem dJ16_grow_54 : decode cJ16_grow 54 = .ok (.iload_n 3, 1) := dk_29 (dk_at dksJ16_grow_2 9 rfl rfl)
theorem dJ16_grow_55 : decode cJ16_grow 55 = .ok (.invokestatic 14, 3) := dk_184 0 14 (dk_at dksJ16_grow_2 10 rfl rfl)
theorem dJ16_grow_58 : decode cJ16_grow 58 = .ok (.dup_x1, 1) := dk_90 (dk_at dksJ16_grow_2 13 rfl rfl)
theorem dJ16_grow_59 : decode cJ16_grow 59 = .ok (.putfield 3, 3) := dk_181 0 3 (dk_at dksJ16_grow_2 14 rfl rfl)
theorem dJ16_grow_62 : decode cJ16_grow 62 = .ok (.astore 5, 2) := dk_58 5 (dk_at dksJ16_grow_2 17 rfl rfl)
theorem dJ16_grow_64 : decode cJ16_grow 64 = .ok (.aload_n 0, 1) := dk_42 (dk_at dksJ16_grow_2 19 rfl rfl)
theorem dJ16_grow_65 : decode cJ16_grow 65 = .ok (.getfield 20, 3) := dk_180 0 20 (dk_at dksJ16_grow_2 20 rfl rfl)
theorem dJ16_grow_68 : decode cJ16_grow 68 = .ok (.aload_n 0, 1) := dk_42 (dk_at dksJ16_grow_2 23 rfl rfl)
theorem dJ16_grow_69 : decode cJ16_grow 69 = .ok (.getfield 24, 3) := dk_180 0 24 (dk_at dksJ16_grow_3 0 rfl rfl)
theorem dJ16_grow_72 : decode cJ16_grow 72 = .ok (.if_icmp .lt 24, 3) := dk_161 0 24 (dk_at dksJ16_grow_3 3 rfl rfl)
theorem dJ16_grow_75 : decode cJ16_grow 75 = .ok (.aload_n 0, 1) := dk_42 (dk_at dksJ16_grow_3 6 rfl rfl)
theorem dJ16_grow_76 : decode cJ16_grow 76 = .ok (.getfield 20, 3) := dk_180 0 20 (dk_at dksJ16_grow_3 7 rfl rfl)
theorem dJ16_grow_79 : decode cJ16_grow 79 = .ok (.aload_n 0, 1) := dk_42 (dk_at dksJ16_grow_3 10 rfl rfl)
theorem dJ16_grow_80 : decode cJ16_grow 80 = .ok (.getfield 24, 3) := dk_180 0 24 (dk_at dksJ16_grow_3 11 rfl rfl)
theorem dJ16_grow_83 : decode cJ16_grow 83 = .ok (.if_icmp .ne 81, 3) := dk_160 0 81 (dk_at dksJ16_grow_3 14 rfl rfl)
theorem dJ16_grow_86 : decode cJ16_grow 86 = .ok (.aload 5, 2) := dk_25 5 (dk_at dksJ16_grow_3 17 rfl rfl)
theorem dJ16_grow_88 : decode cJ16_grow 88 = .ok (.aload_n 0, 1) := dk_42 (dk_at dksJ16_grow_3 19 rfl rfl)
theorem dJ16_grow_89 : decode cJ16_grow 89 = .ok (.getfield 24, 3) := dk_180 0 24 (dk_at dksJ16_grow_3 20 rfl rfl)
theorem dJ16_grow_92 : decode cJ16_grow 92 = .ok (.aaload, 1) := dk_50 (dk_at dksJ16_grow_3 23 rfl rfl)
theorem dJ16_grow_93 : decode cJ16_grow 93 = .ok (.ifnull 71, 3) := dk_198 0 71 (dk_at dksJ16_grow_4 0 rfl rfl)
theorem dJ16_grow_96 : decode cJ16_grow 96 = .ok (.iload_n 3, 1) := dk_29 (dk_at dksJ16_grow_4 3 rfl rfl)
theorem dJ16_grow_97 : decode cJ16_grow 97 = .ok (.iload_n 2, 1) := dk_28 (dk_at dksJ16_grow_4 4 rfl rfl)
theorem dJ16_grow_98 : decode cJ16_grow 98 = .ok (.isub, 1) := dk_100 (dk_at dksJ16_grow_4 5 rfl rfl)
theorem dJ16_grow_99 : decode cJ16_grow 99 = .ok (.istore 6, 2) := dk_54 6 (dk_at dksJ16_grow_4 6 rfl rfl)
theorem dJ16_grow_101 : decode cJ16_grow 101 = .ok (.aload 5, 2) := dk_25 5 (dk_at dksJ16_grow_4 8 rfl rfl)
theorem dJ16_grow_103 : decode cJ16_grow 103 = .ok (.aload_n 0, 1) := dk_42 (dk_at dksJ16_grow_4 10 rfl rfl)
theorem dJ16_grow_104 : decode cJ16_grow 104 = .ok (.getfield 24, 3) := dk_180 0 24 (dk_at dksJ16_grow_4 11 rfl rfl)
theorem dJ16_grow_107 : decode cJ16_grow 107 = .ok (.aload 5, 2) := dk_25 5 (dk_at dksJ16_grow_4 14 rfl rfl)
theorem dJ16_grow_109 : decode cJ16_grow 109 = .ok (.aload_n 0, 1) := dk_42 (dk_at dksJ16_grow_4 16 rfl rfl)
theorem dJ16_grow_110 : decode cJ16_grow 110 = .ok (.getfield 24, 3) := dk_180 0 24 (dk_at dksJ16_grow_4 17 rfl rfl)
theorem dJ16_grow_113 : decode cJ16_grow 113 = .ok (.iload 6, 2) := dk_21 6 (dk_at dksJ16_grow_4 20 rfl rfl)
theorem dJ16_grow_115 : decode cJ16_grow 115 = .ok (.iadd, 1) := dk_96 (dk_at dksJ16_grow_4 22 rfl rfl)
theorem dJ16_grow_116 : decode cJ16_grow 116 = .ok (.iload_n 2, 1) := dk_28 (dk_at dksJ16_grow_4 23 rfl rfl)
theorem dJ16_grow_117 : decode cJ16_grow 117 = .ok (.aload_n 0, 1) := dk_42 (dk_at dksJ16_grow_5 0 rfl rfl)
theorem dJ16_grow_118 : decode cJ16_grow 118 = .ok (.getfield 24, 3) := dk_180 0 24 (dk_at dksJ16_grow_5 1 rfl rfl)
theorem dJ16_grow_121 : decode cJ16_grow 121 = .ok (.isub, 1) := dk_100 (dk_at dksJ16_grow_5 4 rfl rfl)
theorem dJ16_grow_122 : decode cJ16_grow 122 = .ok (.invokestatic 27, 3) := dk_184 0 27 (dk_at dksJ16_grow_5 5 rfl rfl)
theorem dJ16_grow_125 : decode cJ16_grow 125 = .ok (.aload_n 0, 1) := dk_42 (dk_at dksJ16_grow_5 8 rfl rfl)
theorem dJ16_grow_126 : decode cJ16_grow 126 = .ok (.getfield 24, 3) := dk_180 0 24 (dk_at dksJ16_grow_5 9 rfl rfl)
theorem dJ16_grow_129 : decode cJ16_grow 129 = .ok (.istore 7, 2) := dk_54 7 (dk_at dksJ16_grow_5 12 rfl rfl)
theorem dJ16_grow_131 : decode cJ16_grow 131 = .ok (.aload_n 0, 1) := dk_42 (dk_at dksJ16_grow_5 14 rfl rfl)
theorem dJ16_grow_132 : decode cJ16_grow 132 = .ok (.dup, 1) := dk_89 (dk_at dksJ16_grow_5 15 rfl rfl)
theorem dJ16_grow_133 : decode cJ16_grow 133 = .ok (.getfield 24, 3) := dk_180 0 24 (dk_at dksJ16_grow_5 16 rfl rfl)
theorem dJ16_grow_136 : decode cJ16_grow 136 = .ok (.iload 6, 2) := dk_21 6 (dk_at dksJ16_grow_5 19 rfl rfl)
theorem dJ16_grow_138 : decode cJ16_grow 138 = .ok (.iadd, 1) := dk_96 (dk_at dksJ16_grow_5 21 rfl rfl)
theorem dJ16_grow_139 : decode cJ16_grow 139 = .ok (.dup_x1, 1) := dk_90 (dk_at dksJ16_grow_5 22 rfl rfl)
theorem dJ16_grow_140 : decode cJ16_grow 140 = .ok (.putfield 24, 3) := dk_181 0 24 (dk_at dksJ16_grow_6 0 rfl rfl)
theorem dJ16_grow_143 : decode cJ16_grow 143 = .ok (.istore 8, 2) := dk_54 8 (dk_at dksJ16_grow_6 3 rfl rfl)
theorem dJ16_grow_145 : decode cJ16_grow 145 = .ok (.iload 7, 2) := dk_21 7 (dk_at dksJ16_grow_6 5 rfl rfl)
theorem dJ16_grow_147 : decode cJ16_grow 147 = .ok (.iload 8, 2) := dk_21 8 (dk_at dksJ16_grow_6 7 rfl rfl)
theorem dJ16_grow_149 : decode cJ16_grow 149 = .ok (.if_icmp .ge 15, 3) := dk_162 0 15 (dk_at dksJ16_grow_6 9 rfl rfl)
theorem dJ16_grow_152 : decode cJ16_grow 152 = .ok (.aload 5, 2) := dk_25 5 (dk_at dksJ16_grow_6 12 rfl rfl)
theorem dJ16_grow_154 : decode cJ16_grow 154 = .ok (.iload 7, 2) := dk_21 7 (dk_at dksJ16_grow_6 14 rfl rfl)
theorem dJ16_grow_156 : decode cJ16_grow 156 = .ok (.aconst_null, 1) := dk_1 (dk_at dksJ16_grow_6 16 rfl rfl)
theorem dJ16_grow_157 : decode cJ16_grow 157 = .ok (.aastore, 1) := dk_83 (dk_at dksJ16_grow_6 17 rfl rfl)
theorem dJ16_grow_158 : decode cJ16_grow 158 = .ok (.iinc 7 1, 3) := dk_132 7 1 (dk_at dksJ16_grow_6 18 rfl rfl)
theorem dJ16_grow_161 : decode cJ16_grow 161 = .ok (.goto (-16), 3) := dk_167 255 240 (dk_at dksJ16_grow_6 21 rfl rfl)
theorem dJ16_grow_164 : decode cJ16_grow 164 = .ok (.return_, 1) := dk_177 (dk_at dksJ16_grow_7 0 rfl rfl)
abbrev cJ16_newCapacity : ByteArray := prog_52_method_2_code
def yJ16_newCapacity : MethodName := ⟨RJ16, "newCapacity", "(II)I"⟩
def dkwJ16_newCapacity_2 : List UInt8 := [18, 9, 100, 156, 0, 9, 29, 28, 96, 167, 0, 5, 18, 9, 172]
abbrev dktJ16_newCapacity_2 : List UInt8 := dkwJ16_newCapacity_2 ++ []
def dkwJ16_newCapacity_1 : List UInt8 := [187, 0, 33, 89, 18, 35, 183, 0, 37, 191, 18, 41, 172, 27, 28, 164, 0, 6, 21, 4, 172, 29, 28, 96]
abbrev dktJ16_newCapacity_1 : List UInt8 := dkwJ16_newCapacity_1 ++ dktJ16_newCapacity_2
def dkwJ16_newCapacity_0 : List UInt8 := [42, 180, 0, 3, 190, 62, 29, 27, 96, 89, 54, 4, 18, 9, 100, 158, 0, 21, 21, 4, 156, 0, 13]
abbrev dktJ16_newCapacity_0 : List UInt8 := dkwJ16_newCapacity_0 ++ dktJ16_newCapacity_1
theorem dksJ16_newCapacity_0 : cJ16_newCapacity.data.toList.drop 0 = dktJ16_newCapacity_0 := by decide +kernel
theorem dksJ16_newCapacity_1 : cJ16_newCapacity.data.toList.drop 23 = dktJ16_newCapacity_1 := dk_seg dksJ16_newCapacity_0 23 rfl rfl
theorem dksJ16_newCapacity_2 : cJ16_newCapacity.data.toList.drop 47 = dktJ16_newCapacity_2 := dk_seg dksJ16_newCapacity_1 24 rfl rfl
theorem dJ16_newCapacity_0 : decode cJ16_newCapacity 0 = .ok (.aload_n 0, 1) := dk_42 (dk_at dksJ16_newCapacity_0 0 rfl rfl)
theorem dJ16_newCapacity_1 : decode cJ16_newCapacity 1 = .ok (.getfield 3, 3) := dk_180 0 3 (dk_at dksJ16_newCapacity_0 1 rfl rfl)
theorem dJ16_newCapacity_4 : decode cJ16_newCapacity 4 = .ok (.arraylength, 1) := dk_190 (dk_at dksJ16_newCapacity_0 4 rfl rfl)
theorem dJ16_newCapacity_5 : decode cJ16_newCapacity 5 = .ok (.istore_n 3, 1) := dk_62 (dk_at dksJ16_newCapacity_0 5 rfl rfl)
theorem dJ16_newCapacity_6 : decode cJ16_newCapacity 6 = .ok (.iload_n 3, 1) := dk_29 (dk_at dksJ16_newCapacity_0 6 rfl rfl)
theorem dJ16_newCapacity_7 : decode cJ16_newCapacity 7 = .ok (.iload_n 1, 1) := dk_27 (dk_at dksJ16_newCapacity_0 7 rfl rfl)
theorem dJ16_newCapacity_8 : decode cJ16_newCapacity 8 = .ok (.iadd, 1) := dk_96 (dk_at dksJ16_newCapacity_0 8 rfl rfl)
theorem dJ16_newCapacity_9 : decode cJ16_newCapacity 9 = .ok (.dup, 1) := dk_89 (dk_at dksJ16_newCapacity_0 9 rfl rfl)
theorem dJ16_newCapacity_10 : decode cJ16_newCapacity 10 = .ok (.istore 4, 2) := dk_54 4 (dk_at dksJ16_newCapacity_0 10 rfl rfl)
theorem dJ16_newCapacity_12 : decode cJ16_newCapacity 12 = .ok (.ldc 9, 2) := dk_18 9 (dk_at dksJ16_newCapacity_0 12 rfl rfl)
theorem dJ16_newCapacity_14 : decode cJ16_newCapacity 14 = .ok (.isub, 1) := dk_100 (dk_at dksJ16_newCapacity_0 14 rfl rfl)
theorem dJ16_newCapacity_15 : decode cJ16_newCapacity 15 = .ok (.ifCond .le 21, 3) := dk_158 0 21 (dk_at dksJ16_newCapacity_0 15 rfl rfl)
theorem dJ16_newCapacity_18 : decode cJ16_newCapacity 18 = .ok (.iload 4, 2) := dk_21 4 (dk_at dksJ16_newCapacity_0 18 rfl rfl)
theorem dJ16_newCapacity_20 : decode cJ16_newCapacity 20 = .ok (.ifCond .ge 13, 3) := dk_156 0 13 (dk_at dksJ16_newCapacity_0 20 rfl rfl)
theorem dJ16_newCapacity_23 : decode cJ16_newCapacity 23 = .ok (.new 33, 3) := dk_187 0 33 (dk_at dksJ16_newCapacity_1 0 rfl rfl)
theorem dJ16_newCapacity_26 : decode cJ16_newCapacity 26 = .ok (.dup, 1) := dk_89 (dk_at dksJ16_newCapacity_1 3 rfl rfl)
theorem dJ16_newCapacity_27 : decode cJ16_newCapacity 27 = .ok (.ldc 35, 2) := dk_18 35 (dk_at dksJ16_newCapacity_1 4 rfl rfl)
theorem dJ16_newCapacity_29 : decode cJ16_newCapacity 29 = .ok (.invokespecial 37, 3) := dk_183 0 37 (dk_at dksJ16_newCapacity_1 6 rfl rfl)
theorem dJ16_newCapacity_32 : decode cJ16_newCapacity 32 = .ok (.athrow, 1) := dk_191 (dk_at dksJ16_newCapacity_1 9 rfl rfl)
theorem dJ16_newCapacity_33 : decode cJ16_newCapacity 33 = .ok (.ldc 41, 2) := dk_18 41 (dk_at dksJ16_newCapacity_1 10 rfl rfl)
theorem dJ16_newCapacity_35 : decode cJ16_newCapacity 35 = .ok (.ireturn, 1) := dk_172 (dk_at dksJ16_newCapacity_1 12 rfl rfl)
theorem dJ16_newCapacity_36 : decode cJ16_newCapacity 36 = .ok (.iload_n 1, 1) := dk_27 (dk_at dksJ16_newCapacity_1 13 rfl rfl)
theorem dJ16_newCapacity_37 : decode cJ16_newCapacity 37 = .ok (.iload_n 2, 1) := dk_28 (dk_at dksJ16_newCapacity_1 14 rfl rfl)
theorem dJ16_newCapacity_38 : decode cJ16_newCapacity 38 = .ok (.if_icmp .le 6, 3) := dk_164 0 6 (dk_at dksJ16_newCapacity_1 15 rfl rfl)
theorem dJ16_newCapacity_41 : decode cJ16_newCapacity 41 = .ok (.iload 4, 2) := dk_21 4 (dk_at dksJ16_newCapacity_1 18 rfl rfl)
theorem dJ16_newCapacity_43 : decode cJ16_newCapacity 43 = .ok (.ireturn, 1) := dk_172 (dk_at dksJ16_newCapacity_1 20 rfl rfl)
theorem dJ16_newCapacity_44 : decode cJ16_newCapacity 44 = .ok (.iload_n 3, 1) := dk_29 (dk_at dksJ16_newCapacity_1 21 rfl rfl)
theorem dJ16_newCapacity_45 : decode cJ16_newCapacity 45 = .ok (.iload_n 2, 1) := dk_28 (dk_at dksJ16_newCapacity_1 22 rfl rfl)
theorem dJ16_newCapacity_46 : decode cJ16_newCapacity 46 = .ok (.iadd, 1) := dk_96 (dk_at dksJ16_newCapacity_1 23 rfl rfl)
theorem dJ16_newCapacity_47 : decode cJ16_newCapacity 47 = .ok (.ldc 9, 2) := dk_18 9 (dk_at dksJ16_newCapacity_2 0 rfl rfl)
theorem dJ16_newCapacity_49 : decode cJ16_newCapacity 49 = .ok (.isub, 1) := dk_100 (dk_at dksJ16_newCapacity_2 2 rfl rfl)
theorem dJ16_newCapacity_50 : decode cJ16_newCapacity 50 = .ok (.ifCond .ge 9, 3) := dk_156 0 9 (dk_at dksJ16_newCapacity_2 3 rfl rfl)
theorem dJ16_newCapacity_53 : decode cJ16_newCapacity 53 = .ok (.iload_n 3, 1) := dk_29 (dk_at dksJ16_newCapacity_2 6 rfl rfl)
theorem dJ16_newCapacity_54 : decode cJ16_newCapacity 54 = .ok (.iload_n 2, 1) := dk_28 (dk_at dksJ16_newCapacity_2 7 rfl rfl)
theorem dJ16_newCapacity_55 : decode cJ16_newCapacity 55 = .ok (.iadd, 1) := dk_96 (dk_at dksJ16_newCapacity_2 8 rfl rfl)
theorem dJ16_newCapacity_56 : decode cJ16_newCapacity 56 = .ok (.goto 5, 3) := dk_167 0 5 (dk_at dksJ16_newCapacity_2 9 rfl rfl)
theorem dJ16_newCapacity_59 : decode cJ16_newCapacity 59 = .ok (.ldc 9, 2) := dk_18 9 (dk_at dksJ16_newCapacity_2 12 rfl rfl)
theorem dJ16_newCapacity_61 : decode cJ16_newCapacity 61 = .ok (.ireturn, 1) := dk_172 (dk_at dksJ16_newCapacity_2 14 rfl rfl)
abbrev cJ16_isEmpty : ByteArray := prog_52_method_38_code
def yJ16_isEmpty : MethodName := ⟨RJ16, "isEmpty", "()Z"⟩
def dkwJ16_isEmpty_0 : List UInt8 := [42, 180, 0, 24, 42, 180, 0, 20, 160, 0, 7, 4, 167, 0, 4, 3, 172]
abbrev dktJ16_isEmpty_0 : List UInt8 := dkwJ16_isEmpty_0 ++ []
theorem dksJ16_isEmpty_0 : cJ16_isEmpty.data.toList.drop 0 = dktJ16_isEmpty_0 := by decide +kernel
theorem dJ16_isEmpty_0 : decode cJ16_isEmpty 0 = .ok (.aload_n 0, 1) := dk_42 (dk_at dksJ16_isEmpty_0 0 rfl rfl)
theorem dJ16_isEmpty_1 : decode cJ16_isEmpty 1 = .ok (.getfield 24, 3) := dk_180 0 24 (dk_at dksJ16_isEmpty_0 1 rfl rfl)
theorem dJ16_isEmpty_4 : decode cJ16_isEmpty 4 = .ok (.aload_n 0, 1) := dk_42 (dk_at dksJ16_isEmpty_0 4 rfl rfl)
theorem dJ16_isEmpty_5 : decode cJ16_isEmpty 5 = .ok (.getfield 20, 3) := dk_180 0 20 (dk_at dksJ16_isEmpty_0 5 rfl rfl)
theorem dJ16_isEmpty_8 : decode cJ16_isEmpty 8 = .ok (.if_icmp .ne 7, 3) := dk_160 0 7 (dk_at dksJ16_isEmpty_0 8 rfl rfl)
theorem dJ16_isEmpty_11 : decode cJ16_isEmpty 11 = .ok (.iconst 1, 1) := dk_4 (dk_at dksJ16_isEmpty_0 11 rfl rfl)
theorem dJ16_isEmpty_12 : decode cJ16_isEmpty 12 = .ok (.goto 4, 3) := dk_167 0 4 (dk_at dksJ16_isEmpty_0 12 rfl rfl)
theorem dJ16_isEmpty_15 : decode cJ16_isEmpty 15 = .ok (.iconst 0, 1) := dk_3 (dk_at dksJ16_isEmpty_0 15 rfl rfl)
theorem dJ16_isEmpty_16 : decode cJ16_isEmpty 16 = .ok (.ireturn, 1) := dk_172 (dk_at dksJ16_isEmpty_0 16 rfl rfl)
abbrev cJ16_poll : ByteArray := prog_52_method_31_code
def yJ16_poll : MethodName := ⟨RJ16, "poll", "()Ljava/lang/Object;"⟩
theorem dJ16_poll_0 : decode cJ16_poll 0 = .ok (.aload_n 0, 1) := by decide +kernel
theorem dJ16_poll_1 : decode cJ16_poll 1 = .ok (.invokevirtual 93, 3) := by decide +kernel
theorem dJ16_poll_4 : decode cJ16_poll 4 = .ok (.areturn, 1) := by decide +kernel
abbrev cJ16_pollFirst : ByteArray := prog_52_method_20_code
def yJ16_pollFirst : MethodName := ⟨RJ16, "pollFirst", "()Ljava/lang/Object;"⟩
def dkwJ16_pollFirst_1 : List UInt8 := [42, 28, 43, 190, 184, 0, 74, 181, 0, 24, 45, 176]
abbrev dktJ16_pollFirst_1 : List UInt8 := dkwJ16_pollFirst_1 ++ []
def dkwJ16_pollFirst_0 : List UInt8 := [42, 180, 0, 3, 89, 76, 42, 180, 0, 24, 89, 61, 184, 0, 103, 78, 45, 198, 0, 17, 43, 28, 1, 83]
abbrev dktJ16_pollFirst_0 : List UInt8 := dkwJ16_pollFirst_0 ++ dktJ16_pollFirst_1
theorem dksJ16_pollFirst_0 : cJ16_pollFirst.data.toList.drop 0 = dktJ16_pollFirst_0 := by decide +kernel
theorem dksJ16_pollFirst_1 : cJ16_pollFirst.data.toList.drop 24 = dktJ16_pollFirst_1 := dk_seg dksJ16_pollFirst_0 24 rfl rfl
theorem dJ16_pollFirst_0 : decode cJ16_pollFirst 0 = .ok (.aload_n 0, 1) := dk_42 (dk_at dksJ16_pollFirst_0 0 rfl rfl)
theorem dJ16_pollFirst_1 : decode cJ16_pollFirst 1 = .ok (.getfield 3, 3) := dk_180 0 3 (dk_at dksJ16_pollFirst_0 1 rfl rfl)
theorem dJ16_pollFirst_4 : decode cJ16_pollFirst 4 = .ok (.dup, 1) := dk_89 (dk_at dksJ16_pollFirst_0 4 rfl rfl)
theorem dJ16_pollFirst_5 : decode cJ16_pollFirst 5 = .ok (.astore_n 1, 1) := dk_76 (dk_at dksJ16_pollFirst_0 5 rfl rfl)
theorem dJ16_pollFirst_6 : decode cJ16_pollFirst 6 = .ok (.aload_n 0, 1) := dk_42 (dk_at dksJ16_pollFirst_0 6 rfl rfl)
theorem dJ16_pollFirst_7 : decode cJ16_pollFirst 7 = .ok (.getfield 24, 3) := dk_180 0 24 (dk_at dksJ16_pollFirst_0 7 rfl rfl)
theorem dJ16_pollFirst_10 : decode cJ16_pollFirst 10 = .ok (.dup, 1) := dk_89 (dk_at dksJ16_pollFirst_0 10 rfl rfl)
theorem dJ16_pollFirst_11 : decode cJ16_pollFirst 11 = .ok (.istore_n 2, 1) := dk_61 (dk_at dksJ16_pollFirst_0 11 rfl rfl)
theorem dJ16_pollFirst_12 : decode cJ16_pollFirst 12 = .ok (.invokestatic 103, 3) := dk_184 0 103 (dk_at dksJ16_pollFirst_0 12 rfl rfl)
theorem dJ16_pollFirst_15 : decode cJ16_pollFirst 15 = .ok (.astore_n 3, 1) := dk_78 (dk_at dksJ16_pollFirst_0 15 rfl rfl)
theorem dJ16_pollFirst_16 : decode cJ16_pollFirst 16 = .ok (.aload_n 3, 1) := dk_45 (dk_at dksJ16_pollFirst_0 16 rfl rfl)
theorem dJ16_pollFirst_17 : decode cJ16_pollFirst 17 = .ok (.ifnull 17, 3) := dk_198 0 17 (dk_at dksJ16_pollFirst_0 17 rfl rfl)
theorem dJ16_pollFirst_20 : decode cJ16_pollFirst 20 = .ok (.aload_n 1, 1) := dk_43 (dk_at dksJ16_pollFirst_0 20 rfl rfl)
theorem dJ16_pollFirst_21 : decode cJ16_pollFirst 21 = .ok (.iload_n 2, 1) := dk_28 (dk_at dksJ16_pollFirst_0 21 rfl rfl)
theorem dJ16_pollFirst_22 : decode cJ16_pollFirst 22 = .ok (.aconst_null, 1) := dk_1 (dk_at dksJ16_pollFirst_0 22 rfl rfl)
theorem dJ16_pollFirst_23 : decode cJ16_pollFirst 23 = .ok (.aastore, 1) := dk_83 (dk_at dksJ16_pollFirst_0 23 rfl rfl)
theorem dJ16_pollFirst_24 : decode cJ16_pollFirst 24 = .ok (.aload_n 0, 1) := dk_42 (dk_at dksJ16_pollFirst_1 0 rfl rfl)
theorem dJ16_pollFirst_25 : decode cJ16_pollFirst 25 = .ok (.iload_n 2, 1) := dk_28 (dk_at dksJ16_pollFirst_1 1 rfl rfl)
theorem dJ16_pollFirst_26 : decode cJ16_pollFirst 26 = .ok (.aload_n 1, 1) := dk_43 (dk_at dksJ16_pollFirst_1 2 rfl rfl)
theorem dJ16_pollFirst_27 : decode cJ16_pollFirst 27 = .ok (.arraylength, 1) := dk_190 (dk_at dksJ16_pollFirst_1 3 rfl rfl)
theorem dJ16_pollFirst_28 : decode cJ16_pollFirst 28 = .ok (.invokestatic 74, 3) := dk_184 0 74 (dk_at dksJ16_pollFirst_1 4 rfl rfl)
theorem dJ16_pollFirst_31 : decode cJ16_pollFirst 31 = .ok (.putfield 24, 3) := dk_181 0 24 (dk_at dksJ16_pollFirst_1 7 rfl rfl)
theorem dJ16_pollFirst_34 : decode cJ16_pollFirst 34 = .ok (.aload_n 3, 1) := dk_45 (dk_at dksJ16_pollFirst_1 10 rfl rfl)
theorem dJ16_pollFirst_35 : decode cJ16_pollFirst 35 = .ok (.areturn, 1) := dk_176 (dk_at dksJ16_pollFirst_1 11 rfl rfl)
abbrev cJ16_elementAt : ByteArray := prog_52_method_10_code
def yJ16_elementAt : MethodName := ⟨RJ16, "elementAt", "([Ljava/lang/Object;I)Ljava/lang/Object;"⟩
def dkwJ16_elementAt_0 : List UInt8 := [42, 27, 50, 176]
abbrev dktJ16_elementAt_0 : List UInt8 := dkwJ16_elementAt_0 ++ []
theorem dksJ16_elementAt_0 : cJ16_elementAt.data.toList.drop 0 = dktJ16_elementAt_0 := by decide +kernel
theorem dJ16_elementAt_0 : decode cJ16_elementAt 0 = .ok (.aload_n 0, 1) := dk_42 (dk_at dksJ16_elementAt_0 0 rfl rfl)
theorem dJ16_elementAt_1 : decode cJ16_elementAt 1 = .ok (.iload_n 1, 1) := dk_27 (dk_at dksJ16_elementAt_0 1 rfl rfl)
theorem dJ16_elementAt_2 : decode cJ16_elementAt 2 = .ok (.aaload, 1) := dk_50 (dk_at dksJ16_elementAt_0 2 rfl rfl)
theorem dJ16_elementAt_3 : decode cJ16_elementAt 3 = .ok (.areturn, 1) := dk_176 (dk_at dksJ16_elementAt_0 3 rfl rfl)
theorem q141 : (Jvm.Cond.initialized "java/util/ArrayDeque") ∈ lw_all := lw_g (lw_at lw_m1 27 rfl) rfl
theorem q450 : (Jvm.Cond.selects "java/util/ArrayDeque" ({ cls := "java/lang/Object", name := "getClass", desc := "()Ljava/lang/Class;" } : Jvm.MethodName) ({ cls := "java/lang/Object", name := "getClass", desc := "()Ljava/lang/Class;" } : Jvm.MethodName)) ∈ lw_all := lw_g (lw_at lw_m2 96 rfl) rfl
theorem q538 : (Jvm.Cond.instantiable "java/util/ArrayDeque" (3 : Nat)) ∈ lw_all := lw_g (lw_at lw_m2 184 rfl) rfl
theorem q540 : (Jvm.Cond.instanceMethod ({ cls := "java/util/ArrayDeque", name := "<init>", desc := "(I)V" } : Jvm.MethodName)) ∈ lw_all := lw_g (lw_at lw_m2 186 rfl) rfl
theorem q541 : (Jvm.Cond.code ({ cls := "java/util/ArrayDeque", name := "<init>", desc := "(I)V" } : Jvm.MethodName) prog_52_method_4_code (2 : Nat) (Option.none : Option Jvm.ClassFile.FieldType)) ∈ lw_all := lw_g (lw_at lw_m2 187 rfl) rfl
theorem q542 : (Jvm.Cond.methodLink "java/util/ArrayDeque" (42 : Nat) ({ cls := "java/util/AbstractCollection", name := "<init>", desc := "()V" } : Jvm.MethodName)) ∈ lw_all := lw_g (lw_at lw_m2 188 rfl) rfl
theorem q543 : (Jvm.Cond.constant "java/util/ArrayDeque" (41 : Nat) (2147483647 : Int32)) ∈ lw_all := lw_g (lw_at lw_m2 189 rfl) rfl
theorem q544 : (Jvm.Cond.classLink "java/util/ArrayDeque" (47 : Nat) "java/lang/Object") ∈ lw_all := lw_g (lw_at lw_m2 190 rfl) rfl
theorem q545 : (Jvm.Cond.fieldLink "java/util/ArrayDeque" (3 : Nat) "java/util/ArrayDeque" "elements" "[Ljava/lang/Object;") ∈ lw_all := lw_g (lw_at lw_m2 191 rfl) rfl
theorem q546 : (Jvm.Cond.fieldLink "java/util/ArrayDeque" (24 : Nat) "java/util/ArrayDeque" "head" "I") ∈ lw_all := lw_g (lw_at lw_m2 192 rfl) rfl
theorem q547 : (Jvm.Cond.fieldLink "java/util/ArrayDeque" (20 : Nat) "java/util/ArrayDeque" "tail" "I") ∈ lw_all := lw_g (lw_at lw_m2 193 rfl) rfl
theorem q548 : (Jvm.Cond.lays "java/util/ArrayDeque" "java/util/ArrayDeque" "elements" "[Ljava/lang/Object;") ∈ lw_all := lw_g (lw_at lw_m2 194 rfl) rfl
theorem q549 : (Jvm.Cond.soleField "java/util/ArrayDeque" "elements") ∈ lw_all := lw_g (lw_at lw_m2 195 rfl) rfl
theorem q550 : (Jvm.Cond.lays "java/util/ArrayDeque" "java/util/ArrayDeque" "head" "I") ∈ lw_all := lw_g (lw_at lw_m2 196 rfl) rfl
theorem q551 : (Jvm.Cond.soleField "java/util/ArrayDeque" "head") ∈ lw_all := lw_g (lw_at lw_m2 197 rfl) rfl
theorem q552 : (Jvm.Cond.lays "java/util/ArrayDeque" "java/util/ArrayDeque" "tail" "I") ∈ lw_all := lw_g (lw_at lw_m2 198 rfl) rfl
theorem q553 : (Jvm.Cond.soleField "java/util/ArrayDeque" "tail") ∈ lw_all := lw_g (lw_at lw_m2 199 rfl) rfl
theorem q554 : (Jvm.Cond.superclass "java/util/ArrayDeque" "java/util/AbstractCollection") ∈ lw_all := lw_g (lw_at lw_m2 200 rfl) rfl
theorem q708 : (Jvm.Cond.castable "java/util/ArrayDeque" "java/util/Collection") ∈ lw_tbl := lw_at lw_m3 114 rfl
theorem q709 : (Jvm.Cond.selects "java/util/ArrayDeque" ({ cls := "java/util/Collection", name := "toArray", desc := "()[Ljava/lang/Object;" } : Jvm.MethodName) ({ cls := "java/util/ArrayDeque", name := "toArray", desc := "()[Ljava/lang/Object;" } : Jvm.MethodName)) ∈ lw_all := lw_g (lw_at lw_m3 115 rfl) rfl
theorem q710 : (Jvm.Cond.unhidden "java/util/ArrayDeque" "toArray" "()[Ljava/lang/Object;") ∈ lw_tbl := lw_at lw_m3 116 rfl
theorem q711 : (Jvm.Cond.instanceMethod ({ cls := "java/util/ArrayDeque", name := "toArray", desc := "()[Ljava/lang/Object;" } : Jvm.MethodName)) ∈ lw_all := lw_g (lw_at lw_m3 117 rfl) rfl
theorem q712 : (Jvm.Cond.publicMethod ({ cls := "java/util/ArrayDeque", name := "toArray", desc := "()[Ljava/lang/Object;" } : Jvm.MethodName)) ∈ lw_tbl := lw_at lw_m3 118 rfl
theorem q713 : (Jvm.Cond.code ({ cls := "java/util/ArrayDeque", name := "toArray", desc := "()[Ljava/lang/Object;" } : Jvm.MethodName) prog_52_method_55_code (1 : Nat) (Option.some (Jvm.ClassFile.FieldType.array (Jvm.ClassFile.FieldType.object "java/lang/Object")))) ∈ lw_all := lw_g (lw_at lw_m3 119 rfl) rfl
theorem q714 : (Jvm.Cond.classLink "java/util/ArrayDeque" (188 : Nat) "[Ljava/lang/Object;") ∈ lw_all := lw_g (lw_at lw_m3 120 rfl) rfl
theorem q715 : (Jvm.Cond.methodLink "java/util/ArrayDeque" (189 : Nat) ({ cls := "java/util/ArrayDeque", name := "toArray", desc := "(Ljava/lang/Class;)[Ljava/lang/Object;" } : Jvm.MethodName)) ∈ lw_all := lw_g (lw_at lw_m3 121 rfl) rfl
theorem q716 : (Jvm.Cond.privateMethod ({ cls := "java/util/ArrayDeque", name := "toArray", desc := "(Ljava/lang/Class;)[Ljava/lang/Object;" } : Jvm.MethodName)) ∈ lw_tbl := lw_at lw_m3 122 rfl
theorem q717 : (Jvm.Cond.instanceMethod ({ cls := "java/util/ArrayDeque", name := "toArray", desc := "(Ljava/lang/Class;)[Ljava/lang/Object;" } : Jvm.MethodName)) ∈ lw_all := lw_g (lw_at lw_m3 123 rfl) rfl
theorem q718 : (Jvm.Cond.code ({ cls := "java/util/ArrayDeque", name := "toArray", desc := "(Ljava/lang/Class;)[Ljava/lang/Object;" } : Jvm.MethodName) prog_52_method_56_code (7 : Nat) (Option.some (Jvm.ClassFile.FieldType.array (Jvm.ClassFile.FieldType.object "java/lang/Object")))) ∈ lw_all := lw_g (lw_at lw_m3 124 rfl) rfl
theorem q719 : (Jvm.Cond.methodLink "java/util/ArrayDeque" (193 : Nat) ({ cls := "java/util/Arrays", name := "copyOfRange", desc := "([Ljava/lang/Object;IILjava/lang/Class;)[Ljava/lang/Object;" } : Jvm.MethodName)) ∈ lw_all := lw_g (lw_at lw_m3 125 rfl) rfl
theorem q724 : (Jvm.Cond.methodLink "java/util/ArrayDeque" (27 : Nat) ({ cls := "java/lang/System", name := "arraycopy", desc := "(Ljava/lang/Object;ILjava/lang/Object;II)V" } : Jvm.MethodName)) ∈ lw_all := lw_g (lw_at lw_m3 130 rfl) rfl
theorem q1154 : (Jvm.Cond.instanceMethod ({ cls := "java/util/ArrayDeque", name := "clear", desc := "()V" } : Jvm.MethodName)) ∈ lw_all := lw_g (lw_at lw_m5 80 rfl) rfl
theorem q1155 : (Jvm.Cond.selects "java/util/ArrayDeque" ({ cls := "java/util/ArrayDeque", name := "clear", desc := "()V" } : Jvm.MethodName) ({ cls := "java/util/ArrayDeque", name := "clear", desc := "()V" } : Jvm.MethodName)) ∈ lw_all := lw_g (lw_at lw_m5 81 rfl) rfl
theorem q1156 : (Jvm.Cond.code ({ cls := "java/util/ArrayDeque", name := "clear", desc := "()V" } : Jvm.MethodName) prog_52_method_53_code (1 : Nat) (Option.none : Option Jvm.ClassFile.FieldType)) ∈ lw_all := lw_g (lw_at lw_m5 82 rfl) rfl
theorem q1157 : (Jvm.Cond.methodLink "java/util/ArrayDeque" (181 : Nat) ({ cls := "java/util/ArrayDeque", name := "circularClear", desc := "([Ljava/lang/Object;II)V" } : Jvm.MethodName)) ∈ lw_all := lw_g (lw_at lw_m5 83 rfl) rfl
theorem q1158 : (Jvm.Cond.static ({ cls := "java/util/ArrayDeque", name := "circularClear", desc := "([Ljava/lang/Object;II)V" } : Jvm.MethodName)) ∈ lw_all := lw_g (lw_at lw_m5 84 rfl) rfl
theorem q1159 : (Jvm.Cond.code ({ cls := "java/util/ArrayDeque", name := "circularClear", desc := "([Ljava/lang/Object;II)V" } : Jvm.MethodName) prog_52_method_54_code (4 : Nat) (Option.none : Option Jvm.ClassFile.FieldType)) ∈ lw_all := lw_g (lw_at lw_m5 85 rfl) rfl
theorem q1186 : (Jvm.Cond.instanceMethod ({ cls := "java/util/ArrayDeque", name := "add", desc := "(Ljava/lang/Object;)Z" } : Jvm.MethodName)) ∈ lw_all := lw_g (lw_at lw_m5 112 rfl) rfl
theorem q1187 : (Jvm.Cond.selects "java/util/ArrayDeque" ({ cls := "java/util/ArrayDeque", name := "add", desc := "(Ljava/lang/Object;)Z" } : Jvm.MethodName) ({ cls := "java/util/ArrayDeque", name := "add", desc := "(Ljava/lang/Object;)Z" } : Jvm.MethodName)) ∈ lw_all := lw_g (lw_at lw_m5 113 rfl) rfl
theorem q1188 : (Jvm.Cond.code ({ cls := "java/util/ArrayDeque", name := "add", desc := "(Ljava/lang/Object;)Z" } : Jvm.MethodName) prog_52_method_28_code (2 : Nat) (Option.some Jvm.ClassFile.FieldType.boolean)) ∈ lw_all := lw_g (lw_at lw_m5 114 rfl) rfl
theorem q1189 : (Jvm.Cond.methodLink "java/util/ArrayDeque" (90 : Nat) ({ cls := "java/util/ArrayDeque", name := "addLast", desc := "(Ljava/lang/Object;)V" } : Jvm.MethodName)) ∈ lw_all := lw_g (lw_at lw_m5 115 rfl) rfl
theorem q1190 : (Jvm.Cond.instanceMethod ({ cls := "java/util/ArrayDeque", name := "addLast", desc := "(Ljava/lang/Object;)V" } : Jvm.MethodName)) ∈ lw_all := lw_g (lw_at lw_m5 116 rfl) rfl
theorem q1191 : (Jvm.Cond.selects "java/util/ArrayDeque" ({ cls := "java/util/ArrayDeque", name := "addLast", desc := "(Ljava/lang/Object;)V" } : Jvm.MethodName) ({ cls := "java/util/ArrayDeque", name := "addLast", desc := "(Ljava/lang/Object;)V" } : Jvm.MethodName)) ∈ lw_all := lw_g (lw_at lw_m5 117 rfl) rfl
theorem q1192 : (Jvm.Cond.code ({ cls := "java/util/ArrayDeque", name := "addLast", desc := "(Ljava/lang/Object;)V" } : Jvm.MethodName) prog_52_method_13_code (3 : Nat) (Option.none : Option Jvm.ClassFile.FieldType)) ∈ lw_all := lw_g (lw_at lw_m5 118 rfl) rfl
theorem q1193 : (Jvm.Cond.methodLink "java/util/ArrayDeque" (74 : Nat) ({ cls := "java/util/ArrayDeque", name := "inc", desc := "(II)I" } : Jvm.MethodName)) ∈ lw_all := lw_g (lw_at lw_m5 119 rfl) rfl
theorem q1194 : (Jvm.Cond.static ({ cls := "java/util/ArrayDeque", name := "inc", desc := "(II)I" } : Jvm.MethodName)) ∈ lw_all := lw_g (lw_at lw_m5 120 rfl) rfl
theorem q1195 : (Jvm.Cond.code ({ cls := "java/util/ArrayDeque", name := "inc", desc := "(II)I" } : Jvm.MethodName) prog_52_method_6_code (2 : Nat) (Option.some Jvm.ClassFile.FieldType.int)) ∈ lw_all := lw_g (lw_at lw_m5 121 rfl) rfl
theorem q1196 : (Jvm.Cond.methodLink "java/util/ArrayDeque" (71 : Nat) ({ cls := "java/util/ArrayDeque", name := "grow", desc := "(I)V" } : Jvm.MethodName)) ∈ lw_all := lw_g (lw_at lw_m5 122 rfl) rfl
theorem q1197 : (Jvm.Cond.privateMethod ({ cls := "java/util/ArrayDeque", name := "grow", desc := "(I)V" } : Jvm.MethodName)) ∈ lw_tbl := lw_at lw_m5 123 rfl
theorem q1198 : (Jvm.Cond.instanceMethod ({ cls := "java/util/ArrayDeque", name := "grow", desc := "(I)V" } : Jvm.MethodName)) ∈ lw_all := lw_g (lw_at lw_m5 124 rfl) rfl
theorem q1199 : (Jvm.Cond.code ({ cls := "java/util/ArrayDeque", name := "grow", desc := "(I)V" } : Jvm.MethodName) prog_52_method_1_code (9 : Nat) (Option.none : Option Jvm.ClassFile.FieldType)) ∈ lw_all := lw_g (lw_at lw_m5 125 rfl) rfl
theorem q1200 : (Jvm.Cond.constant "java/util/ArrayDeque" (9 : Nat) (2147483639 : Int32)) ∈ lw_all := lw_g (lw_at lw_m5 126 rfl) rfl
theorem q1201 : (Jvm.Cond.methodLink "java/util/ArrayDeque" (10 : Nat) ({ cls := "java/util/ArrayDeque", name := "newCapacity", desc := "(II)I" } : Jvm.MethodName)) ∈ lw_all := lw_g (lw_at lw_m5 127 rfl) rfl
theorem q1202 : (Jvm.Cond.privateMethod ({ cls := "java/util/ArrayDeque", name := "newCapacity", desc := "(II)I" } : Jvm.MethodName)) ∈ lw_tbl := lw_at lw_m5 128 rfl
theorem q1203 : (Jvm.Cond.instanceMethod ({ cls := "java/util/ArrayDeque", name := "newCapacity", desc := "(II)I" } : Jvm.MethodName)) ∈ lw_all := lw_g (lw_at lw_m5 129 rfl) rfl
theorem q1204 : (Jvm.Cond.code ({ cls := "java/util/ArrayDeque", name := "newCapacity", desc := "(II)I" } : Jvm.MethodName) prog_52_method_2_code (5 : Nat) (Option.some Jvm.ClassFile.FieldType.int)) ∈ lw_all := lw_g (lw_at lw_m5 130 rfl) rfl
theorem q1205 : (Jvm.Cond.methodLink "java/util/ArrayDeque" (14 : Nat) ({ cls := "java/util/Arrays", name := "copyOf", desc := "([Ljava/lang/Object;I)[Ljava/lang/Object;" } : Jvm.MethodName)) ∈ lw_all := lw_g (lw_at lw_m5 131 rfl) rfl
theorem q1207 : (Jvm.Cond.instanceMethod ({ cls := "java/util/ArrayDeque", name := "isEmpty", desc := "()Z" } : Jvm.MethodName)) ∈ lw_all := lw_g (lw_at lw_m5 133 rfl) rfl
theorem q1208 : (Jvm.Cond.selects "java/util/ArrayDeque" ({ cls := "java/util/ArrayDeque", name := "isEmpty", desc := "()Z" } : Jvm.MethodName) ({ cls := "java/util/ArrayDeque", name := "isEmpty", desc := "()Z" } : Jvm.MethodName)) ∈ lw_all := lw_g (lw_at lw_m5 134 rfl) rfl
theorem q1209 : (Jvm.Cond.code ({ cls := "java/util/ArrayDeque", name := "isEmpty", desc := "()Z" } : Jvm.MethodName) prog_52_method_38_code (1 : Nat) (Option.some Jvm.ClassFile.FieldType.boolean)) ∈ lw_all := lw_g (lw_at lw_m5 135 rfl) rfl
theorem q1211 : (Jvm.Cond.instanceMethod ({ cls := "java/util/ArrayDeque", name := "poll", desc := "()Ljava/lang/Object;" } : Jvm.MethodName)) ∈ lw_all := lw_g (lw_at lw_m5 137 rfl) rfl
theorem q1212 : (Jvm.Cond.selects "java/util/ArrayDeque" ({ cls := "java/util/ArrayDeque", name := "poll", desc := "()Ljava/lang/Object;" } : Jvm.MethodName) ({ cls := "java/util/ArrayDeque", name := "poll", desc := "()Ljava/lang/Object;" } : Jvm.MethodName)) ∈ lw_all := lw_g (lw_at lw_m5 138 rfl) rfl
theorem q1213 : (Jvm.Cond.code ({ cls := "java/util/ArrayDeque", name := "poll", desc := "()Ljava/lang/Object;" } : Jvm.MethodName) prog_52_method_31_code (1 : Nat) (Option.some (Jvm.ClassFile.FieldType.object "java/lang/Object"))) ∈ lw_all := lw_g (lw_at lw_m5 139 rfl) rfl
theorem q1214 : (Jvm.Cond.methodLink "java/util/ArrayDeque" (93 : Nat) ({ cls := "java/util/ArrayDeque", name := "pollFirst", desc := "()Ljava/lang/Object;" } : Jvm.MethodName)) ∈ lw_all := lw_g (lw_at lw_m5 140 rfl) rfl
theorem q1215 : (Jvm.Cond.instanceMethod ({ cls := "java/util/ArrayDeque", name := "pollFirst", desc := "()Ljava/lang/Object;" } : Jvm.MethodName)) ∈ lw_all := lw_g (lw_at lw_m5 141 rfl) rfl
theorem q1216 : (Jvm.Cond.selects "java/util/ArrayDeque" ({ cls := "java/util/ArrayDeque", name := "pollFirst", desc := "()Ljava/lang/Object;" } : Jvm.MethodName) ({ cls := "java/util/ArrayDeque", name := "pollFirst", desc := "()Ljava/lang/Object;" } : Jvm.MethodName)) ∈ lw_all := lw_g (lw_at lw_m5 142 rfl) rfl
theorem q1217 : (Jvm.Cond.code ({ cls := "java/util/ArrayDeque", name := "pollFirst", desc := "()Ljava/lang/Object;" } : Jvm.MethodName) prog_52_method_20_code (4 : Nat) (Option.some (Jvm.ClassFile.FieldType.object "java/lang/Object"))) ∈ lw_all := lw_g (lw_at lw_m5 143 rfl) rfl
theorem q1218 : (Jvm.Cond.methodLink "java/util/ArrayDeque" (103 : Nat) ({ cls := "java/util/ArrayDeque", name := "elementAt", desc := "([Ljava/lang/Object;I)Ljava/lang/Object;" } : Jvm.MethodName)) ∈ lw_all := lw_g (lw_at lw_m5 144 rfl) rfl
theorem q1219 : (Jvm.Cond.static ({ cls := "java/util/ArrayDeque", name := "elementAt", desc := "([Ljava/lang/Object;I)Ljava/lang/Object;" } : Jvm.MethodName)) ∈ lw_all := lw_g (lw_at lw_m5 145 rfl) rfl
theorem q1220 : (Jvm.Cond.code ({ cls := "java/util/ArrayDeque", name := "elementAt", desc := "([Ljava/lang/Object;I)Ljava/lang/Object;" } : Jvm.MethodName) prog_52_method_10_code (2 : Nat) (Option.some (Jvm.ClassFile.FieldType.object "java/lang/Object"))) ∈ lw_all := lw_g (lw_at lw_m5 146 rfl) rfl
theorem q2464 : (Jvm.Cond.castable "java/util/ArrayDeque" "java/lang/Object") ∈ lw_tbl := lw_at lw_m10 190 rfl
theorem in_J16 : ∀ w ∈ wsJ160, w ∈ lw_all := lw_in wsJ160 [548, 550, 552] (by decide +kernel) (by decide +kernel)
/-! jdk/internal/util/ArraysSupport -/
set_option maxRecDepth 100000
def RJ17 : String := "jdk/internal/util/ArraysSupport"
abbrev cJ17_newLength : ByteArray := prog_75_method_27_code
def yJ17_newLength : MethodName := ⟨RJ17, "newLength", "(III)I"⟩
def dkwJ17_newLength_1 : List UInt8 := [184, 0, 201, 172]
abbrev dktJ17_newLength_1 : List UInt8 := dkwJ17_newLength_1 ++ []
def dkwJ17_newLength_0 : List UInt8 := [26, 27, 28, 184, 0, 194, 96, 62, 3, 29, 162, 0, 11, 29, 18, 200, 163, 0, 5, 29, 172, 26, 27]
abbrev dktJ17_newLength_0 : List UInt8 := dkwJ17_newLength_0 ++ dktJ17_newLength_1
theorem dksJ17_newLength_0 : cJ17_newLength.data.toList.drop 0 = dktJ17_newLength_0 := by decide +kernel
theorem dksJ17_newLength_1 : cJ17_newLength.data.toList.drop 23 = dktJ17_newLength_1 := dk_seg dksJ17_newLength_0 23 rfl rfl
theorem dJ17_newLength_0 : decode cJ17_newLength 0 = .ok (.iload_n 0, 1) := dk_26 (dk_at dksJ17_newLength_0 0 rfl rfl)
theorem dJ17_newLength_1 : decode cJ17_newLength 1 = .ok (.iload_n 1, 1) := dk_27 (dk_at dksJ17_newLength_0 1 rfl rfl)
theorem dJ17_newLength_2 : decode cJ17_newLength 2 = .ok (.iload_n 2, 1) := dk_28 (dk_at dksJ17_newLength_0 2 rfl rfl)
theorem dJ17_newLength_3 : decode cJ17_newLength 3 = .ok (.invokestatic 194, 3) := dk_184 0 194 (dk_at dksJ17_newLength_0 3 rfl rfl)
theorem dJ17_newLength_6 : decode cJ17_newLength 6 = .ok (.iadd, 1) := dk_96 (dk_at dksJ17_newLength_0 6 rfl rfl)
theorem dJ17_newLength_7 : decode cJ17_newLength 7 = .ok (.istore_n 3, 1) := dk_62 (dk_at dksJ17_newLength_0 7 rfl rfl)
theorem dJ17_newLength_8 : decode cJ17_newLength 8 = .ok (.iconst 0, 1) := dk_3 (dk_at dksJ17_newLength_0 8 rfl rfl)
theorem dJ17_newLength_9 : decode cJ17_newLength 9 = .ok (.iload_n 3, 1) := dk_29 (dk_at dksJ17_newLength_0 9 rfl rfl)
theorem dJ17_newLength_10 : decode cJ17_newLength 10 = .ok (.if_icmp .ge 11, 3) := dk_162 0 11 (dk_at dksJ17_newLength_0 10 rfl rfl)
theorem dJ17_newLength_13 : decode cJ17_newLength 13 = .ok (.iload_n 3, 1) := dk_29 (dk_at dksJ17_newLength_0 13 rfl rfl)
theorem dJ17_newLength_14 : decode cJ17_newLength 14 = .ok (.ldc 200, 2) := dk_18 200 (dk_at dksJ17_newLength_0 14 rfl rfl)
theorem dJ17_newLength_16 : decode cJ17_newLength 16 = .ok (.if_icmp .gt 5, 3) := dk_163 0 5 (dk_at dksJ17_newLength_0 16 rfl rfl)
theorem dJ17_newLength_19 : decode cJ17_newLength 19 = .ok (.iload_n 3, 1) := dk_29 (dk_at dksJ17_newLength_0 19 rfl rfl)
theorem dJ17_newLength_20 : decode cJ17_newLength 20 = .ok (.ireturn, 1) := dk_172 (dk_at dksJ17_newLength_0 20 rfl rfl)
theorem dJ17_newLength_21 : decode cJ17_newLength 21 = .ok (.iload_n 0, 1) := dk_26 (dk_at dksJ17_newLength_0 21 rfl rfl)
theorem dJ17_newLength_22 : decode cJ17_newLength 22 = .ok (.iload_n 1, 1) := dk_27 (dk_at dksJ17_newLength_0 22 rfl rfl)
theorem dJ17_newLength_23 : decode cJ17_newLength 23 = .ok (.invokestatic 201, 3) := dk_184 0 201 (dk_at dksJ17_newLength_1 0 rfl rfl)
theorem dJ17_newLength_26 : decode cJ17_newLength 26 = .ok (.ireturn, 1) := dk_172 (dk_at dksJ17_newLength_1 3 rfl rfl)
abbrev cJ17_hugeLength : ByteArray := prog_75_method_28_code
def yJ17_hugeLength : MethodName := ⟨RJ17, "hugeLength", "(II)I"⟩
def dkwJ17_hugeLength_2 : List UInt8 := [191, 28, 18, 200, 163, 0, 6, 18, 200, 172, 28, 172]
abbrev dktJ17_hugeLength_2 : List UInt8 := dkwJ17_hugeLength_2 ++ []
def dkwJ17_hugeLength_1 : List UInt8 := [26, 182, 0, 98, 18, 208, 182, 0, 94, 27, 182, 0, 98, 18, 210, 182, 0, 94, 182, 0, 101, 183, 0, 212]
abbrev dktJ17_hugeLength_1 : List UInt8 := dkwJ17_hugeLength_1 ++ dktJ17_hugeLength_2
def dkwJ17_hugeLength_0 : List UInt8 := [26, 27, 96, 61, 28, 156, 0, 44, 187, 0, 204, 89, 187, 0, 89, 89, 183, 0, 91, 18, 206, 182, 0, 94]
abbrev dktJ17_hugeLength_0 : List UInt8 := dkwJ17_hugeLength_0 ++ dktJ17_hugeLength_1
theorem dksJ17_hugeLength_0 : cJ17_hugeLength.data.toList.drop 0 = dktJ17_hugeLength_0 := by decide +kernel
theorem dksJ17_hugeLength_1 : cJ17_hugeLength.data.toList.drop 24 = dktJ17_hugeLength_1 := dk_seg dksJ17_hugeLength_0 24 rfl rfl
theorem dksJ17_hugeLength_2 : cJ17_hugeLength.data.toList.drop 48 = dktJ17_hugeLength_2 := dk_seg dksJ17_hugeLength_1 24 rfl rfl
theorem dJ17_hugeLength_0 : decode cJ17_hugeLength 0 = .ok (.iload_n 0, 1) := dk_26 (dk_at dksJ17_hugeLength_0 0 rfl rfl)
theorem dJ17_hugeLength_1 : decode cJ17_hugeLength 1 = .ok (.iload_n 1, 1) := dk_27 (dk_at dksJ17_hugeLength_0 1 rfl rfl)
theorem dJ17_hugeLength_2 : decode cJ17_hugeLength 2 = .ok (.iadd, 1) := dk_96 (dk_at dksJ17_hugeLength_0 2 rfl rfl)
theorem dJ17_hugeLength_3 : decode cJ17_hugeLength 3 = .ok (.istore_n 2, 1) := dk_61 (dk_at dksJ17_hugeLength_0 3 rfl rfl)
theorem dJ17_hugeLength_4 : decode cJ17_hugeLength 4 = .ok (.iload_n 2, 1) := dk_28 (dk_at dksJ17_hugeLength_0 4 rfl rfl)
theorem dJ17_hugeLength_5 : decode cJ17_hugeLength 5 = .ok (.ifCond .ge 44, 3) := dk_156 0 44 (dk_at dksJ17_hugeLength_0 5 rfl rfl)
theorem dJ17_hugeLength_8 : decode cJ17_hugeLength 8 = .ok (.new 204, 3) := dk_187 0 204 (dk_at dksJ17_hugeLength_0 8 rfl rfl)
theorem dJ17_hugeLength_11 : decode cJ17_hugeLength 11 = .ok (.dup, 1) := dk_89 (dk_at dksJ17_hugeLength_0 11 rfl rfl)
theorem dJ17_hugeLength_12 : decode cJ17_hugeLength 12 = .ok (.new 89, 3) := dk_187 0 89 (dk_at dksJ17_hugeLength_0 12 rfl rfl)
theorem dJ17_hugeLength_15 : decode cJ17_hugeLength 15 = .ok (.dup, 1) := dk_89 (dk_at dksJ17_hugeLength_0 15 rfl rfl)
theorem dJ17_hugeLength_16 : decode cJ17_hugeLength 16 = .ok (.invokespecial 91, 3) := dk_183 0 91 (dk_at dksJ17_hugeLength_0 16 rfl rfl)
theorem dJ17_hugeLength_19 : decode cJ17_hugeLength 19 = .ok (.ldc 206, 2) := dk_18 206 (dk_at dksJ17_hugeLength_0 19 rfl rfl)
theorem dJ17_hugeLength_21 : decode cJ17_hugeLength 21 = .ok (.invokevirtual 94, 3) := dk_182 0 94 (dk_at dksJ17_hugeLength_0 21 rfl rfl)
theorem dJ17_hugeLength_24 : decode cJ17_hugeLength 24 = .ok (.iload_n 0, 1) := dk_26 (dk_at dksJ17_hugeLength_1 0 rfl rfl)
theorem dJ17_hugeLength_25 : decode cJ17_hugeLength 25 = .ok (.invokevirtual 98, 3) := dk_182 0 98 (dk_at dksJ17_hugeLength_1 1 rfl rfl)
theorem dJ17_hugeLength_28 : decode cJ17_hugeLength 28 = .ok (.ldc 208, 2) := dk_18 208 (dk_at dksJ17_hugeLength_1 4 rfl rfl)
theorem dJ17_hugeLength_30 : decode cJ17_hugeLength 30 = .ok (.invokevirtual 94, 3) := dk_182 0 94 (dk_at dksJ17_hugeLength_1 6 rfl rfl)
theorem dJ17_hugeLength_33 : decode cJ17_hugeLength 33 = .ok (.iload_n 1, 1) := dk_27 (dk_at dksJ17_hugeLength_1 9 rfl rfl)
theorem dJ17_hugeLength_34 : decode cJ17_hugeLength 34 = .ok (.invokevirtual 98, 3) := dk_182 0 98 (dk_at dksJ17_hugeLength_1 10 rfl rfl)
theorem dJ17_hugeLength_37 : decode cJ17_hugeLength 37 = .ok (.ldc 210, 2) := dk_18 210 (dk_at dksJ17_hugeLength_1 13 rfl rfl)
theorem dJ17_hugeLength_39 : decode cJ17_hugeLength 39 = .ok (.invokevirtual 94, 3) := dk_182 0 94 (dk_at dksJ17_hugeLength_1 15 rfl rfl)
theorem dJ17_hugeLength_42 : decode cJ17_hugeLength 42 = .ok (.invokevirtual 101, 3) := dk_182 0 101 (dk_at dksJ17_hugeLength_1 18 rfl rfl)
theorem dJ17_hugeLength_45 : decode cJ17_hugeLength 45 = .ok (.invokespecial 212, 3) := dk_183 0 212 (dk_at dksJ17_hugeLength_1 21 rfl rfl)
theorem dJ17_hugeLength_48 : decode cJ17_hugeLength 48 = .ok (.athrow, 1) := dk_191 (dk_at dksJ17_hugeLength_2 0 rfl rfl)
theorem dJ17_hugeLength_49 : decode cJ17_hugeLength 49 = .ok (.iload_n 2, 1) := dk_28 (dk_at dksJ17_hugeLength_2 1 rfl rfl)
theorem dJ17_hugeLength_50 : decode cJ17_hugeLength 50 = .ok (.ldc 200, 2) := dk_18 200 (dk_at dksJ17_hugeLength_2 2 rfl rfl)
theorem dJ17_hugeLength_52 : decode cJ17_hugeLength 52 = .ok (.if_icmp .gt 6, 3) := dk_163 0 6 (dk_at dksJ17_hugeLength_2 4 rfl rfl)
theorem dJ17_hugeLength_55 : decode cJ17_hugeLength 55 = .ok (.ldc 200, 2) := dk_18 200 (dk_at dksJ17_hugeLength_2 7 rfl rfl)
theorem dJ17_hugeLength_57 : decode cJ17_hugeLength 57 = .ok (.ireturn, 1) := dk_172 (dk_at dksJ17_hugeLength_2 9 rfl rfl)
theorem dJ17_hugeLength_58 : decode cJ17_hugeLength 58 = .ok (.iload_n 2, 1) := dk_28 (dk_at dksJ17_hugeLength_2 10 rfl rfl)
theorem dJ17_hugeLength_59 : decode cJ17_hugeLength 59 = .ok (.ireturn, 1) := dk_172 (dk_at dksJ17_hugeLength_2 11 rfl rfl)
theorem q143 : (Jvm.Cond.initialized "jdk/internal/util/ArraysSupport") ∈ lw_all := lw_g (lw_at lw_m1 29 rfl) rfl
theorem q1436 : (Jvm.Cond.static ({ cls := "jdk/internal/util/ArraysSupport", name := "newLength", desc := "(III)I" } : Jvm.MethodName)) ∈ lw_all := lw_g (lw_at lw_m6 122 rfl) rfl
theorem q1437 : (Jvm.Cond.code ({ cls := "jdk/internal/util/ArraysSupport", name := "newLength", desc := "(III)I" } : Jvm.MethodName) prog_75_method_27_code (4 : Nat) (Option.some Jvm.ClassFile.FieldType.int)) ∈ lw_all := lw_g (lw_at lw_m6 123 rfl) rfl
theorem q1438 : (Jvm.Cond.methodLink "jdk/internal/util/ArraysSupport" (194 : Nat) ({ cls := "java/lang/Math", name := "max", desc := "(II)I" } : Jvm.MethodName)) ∈ lw_all := lw_g (lw_at lw_m6 124 rfl) rfl
theorem q1439 : (Jvm.Cond.constant "jdk/internal/util/ArraysSupport" (200 : Nat) (2147483639 : Int32)) ∈ lw_all := lw_g (lw_at lw_m6 125 rfl) rfl
theorem q1440 : (Jvm.Cond.methodLink "jdk/internal/util/ArraysSupport" (201 : Nat) ({ cls := "jdk/internal/util/ArraysSupport", name := "hugeLength", desc := "(II)I" } : Jvm.MethodName)) ∈ lw_all := lw_g (lw_at lw_m6 126 rfl) rfl
theorem q1441 : (Jvm.Cond.static ({ cls := "jdk/internal/util/ArraysSupport", name := "hugeLength", desc := "(II)I" } : Jvm.MethodName)) ∈ lw_all := lw_g (lw_at lw_m6 127 rfl) rfl
theorem q1442 : (Jvm.Cond.code ({ cls := "jdk/internal/util/ArraysSupport", name := "hugeLength", desc := "(II)I" } : Jvm.MethodName) prog_75_method_28_code (3 : Nat) (Option.some Jvm.ClassFile.FieldType.int)) ∈ lw_all := lw_g (lw_at lw_m6 128 rfl) rfl
/-! java/lang/Math -/
set_option maxRecDepth 100000
def RJ18 : String := "java/lang/Math"
abbrev cJ18_min : ByteArray := prog_36_method_69_code
def yJ18_min : MethodName := ⟨RJ18, "min", "(II)I"⟩
def dkwJ18_min_0 : List UInt8 := [26, 27, 163, 0, 7, 26, 167, 0, 4, 27, 172]
abbrev dktJ18_min_0 : List UInt8 := dkwJ18_min_0 ++ []
theorem dksJ18_min_0 : cJ18_min.data.toList.drop 0 = dktJ18_min_0 := by decide +kernel
theorem dJ18_min_0 : decode cJ18_min 0 = .ok (.iload_n 0, 1) := dk_26 (dk_at dksJ18_min_0 0 rfl rfl)
theorem dJ18_min_1 : decode cJ18_min 1 = .ok (.iload_n 1, 1) := dk_27 (dk_at dksJ18_min_0 1 rfl rfl)
theorem dJ18_min_2 : decode cJ18_min 2 = .ok (.if_icmp .gt 7, 3) := dk_163 0 7 (dk_at dksJ18_min_0 2 rfl rfl)
theorem dJ18_min_5 : decode cJ18_min 5 = .ok (.iload_n 0, 1) := dk_26 (dk_at dksJ18_min_0 5 rfl rfl)
theorem dJ18_min_6 : decode cJ18_min 6 = .ok (.goto 4, 3) := dk_167 0 4 (dk_at dksJ18_min_0 6 rfl rfl)
theorem dJ18_min_9 : decode cJ18_min 9 = .ok (.iload_n 1, 1) := dk_27 (dk_at dksJ18_min_0 9 rfl rfl)
theorem dJ18_min_10 : decode cJ18_min 10 = .ok (.ireturn, 1) := dk_172 (dk_at dksJ18_min_0 10 rfl rfl)
abbrev cJ18_max : ByteArray := prog_36_method_65_code
def yJ18_max : MethodName := ⟨RJ18, "max", "(II)I"⟩
def dkwJ18_max_0 : List UInt8 := [26, 27, 161, 0, 7, 26, 167, 0, 4, 27, 172]
abbrev dktJ18_max_0 : List UInt8 := dkwJ18_max_0 ++ []
theorem dksJ18_max_0 : cJ18_max.data.toList.drop 0 = dktJ18_max_0 := by decide +kernel
theorem dJ18_max_0 : decode cJ18_max 0 = .ok (.iload_n 0, 1) := dk_26 (dk_at dksJ18_max_0 0 rfl rfl)
theorem dJ18_max_1 : decode cJ18_max 1 = .ok (.iload_n 1, 1) := dk_27 (dk_at dksJ18_max_0 1 rfl rfl)
theorem dJ18_max_2 : decode cJ18_max 2 = .ok (.if_icmp .lt 7, 3) := dk_161 0 7 (dk_at dksJ18_max_0 2 rfl rfl)
theorem dJ18_max_5 : decode cJ18_max 5 = .ok (.iload_n 0, 1) := dk_26 (dk_at dksJ18_max_0 5 rfl rfl)
theorem dJ18_max_6 : decode cJ18_max 6 = .ok (.goto 4, 3) := dk_167 0 4 (dk_at dksJ18_max_0 6 rfl rfl)
theorem dJ18_max_9 : decode cJ18_max 9 = .ok (.iload_n 1, 1) := dk_27 (dk_at dksJ18_max_0 9 rfl rfl)
theorem dJ18_max_10 : decode cJ18_max 10 = .ok (.ireturn, 1) := dk_172 (dk_at dksJ18_max_0 10 rfl rfl)
theorem q144 : (Jvm.Cond.initialized "java/lang/Math") ∈ lw_all := lw_g (lw_at lw_m1 30 rfl) rfl
theorem q652 : (Jvm.Cond.static ({ cls := "java/lang/Math", name := "min", desc := "(II)I" } : Jvm.MethodName)) ∈ lw_all := lw_g (lw_at lw_m3 58 rfl) rfl
theorem q653 : (Jvm.Cond.code ({ cls := "java/lang/Math", name := "min", desc := "(II)I" } : Jvm.MethodName) prog_36_method_69_code (2 : Nat) (Option.some Jvm.ClassFile.FieldType.int)) ∈ lw_all := lw_g (lw_at lw_m3 59 rfl) rfl
theorem q659 : (Jvm.Cond.static ({ cls := "java/lang/Math", name := "max", desc := "(II)I" } : Jvm.MethodName)) ∈ lw_all := lw_g (lw_at lw_m3 65 rfl) rfl
theorem q660 : (Jvm.Cond.code ({ cls := "java/lang/Math", name := "max", desc := "(II)I" } : Jvm.MethodName) prog_36_method_65_code (2 : Nat) (Option.some Jvm.ClassFile.FieldType.int)) ∈ lw_all := lw_g (lw_at lw_m3 66 rfl) rfl
/-! java/util/Arrays -/
set_option maxRecDepth 100000
def RJ19 : String := "java/util/Arrays"
abbrev cJ19_copyOf : ByteArray := prog_54_method_124_code
def yJ19_copyOf : MethodName := ⟨RJ19, "copyOf", "([JI)[J"⟩
def dkwJ19_copyOf_1 : List UInt8 := [27, 184, 1, 48, 184, 0, 150, 44, 176]
abbrev dktJ19_copyOf_1 : List UInt8 := dkwJ19_copyOf_1 ++ []
def dkwJ19_copyOf_0 : List UInt8 := [27, 42, 190, 160, 0, 11, 42, 182, 1, 63, 192, 1, 64, 176, 27, 188, 11, 77, 42, 3, 44, 3, 42, 190]
abbrev dktJ19_copyOf_0 : List UInt8 := dkwJ19_copyOf_0 ++ dktJ19_copyOf_1
theorem dksJ19_copyOf_0 : cJ19_copyOf.data.toList.drop 0 = dktJ19_copyOf_0 := by decide +kernel
theorem dksJ19_copyOf_1 : cJ19_copyOf.data.toList.drop 24 = dktJ19_copyOf_1 := dk_seg dksJ19_copyOf_0 24 rfl rfl
theorem dJ19_copyOf_0 : decode cJ19_copyOf 0 = .ok (.iload_n 1, 1) := dk_27 (dk_at dksJ19_copyOf_0 0 rfl rfl)
theorem dJ19_copyOf_1 : decode cJ19_copyOf 1 = .ok (.aload_n 0, 1) := dk_42 (dk_at dksJ19_copyOf_0 1 rfl rfl)
theorem dJ19_copyOf_2 : decode cJ19_copyOf 2 = .ok (.arraylength, 1) := dk_190 (dk_at dksJ19_copyOf_0 2 rfl rfl)
theorem dJ19_copyOf_3 : decode cJ19_copyOf 3 = .ok (.if_icmp .ne 11, 3) := dk_160 0 11 (dk_at dksJ19_copyOf_0 3 rfl rfl)
theorem dJ19_copyOf_6 : decode cJ19_copyOf 6 = .ok (.aload_n 0, 1) := dk_42 (dk_at dksJ19_copyOf_0 6 rfl rfl)
theorem dJ19_copyOf_7 : decode cJ19_copyOf 7 = .ok (.invokevirtual 319, 3) := dk_182 1 63 (dk_at dksJ19_copyOf_0 7 rfl rfl)
theorem dJ19_copyOf_10 : decode cJ19_copyOf 10 = .ok (.checkcast 320, 3) := dk_192 1 64 (dk_at dksJ19_copyOf_0 10 rfl rfl)
theorem dJ19_copyOf_13 : decode cJ19_copyOf 13 = .ok (.areturn, 1) := dk_176 (dk_at dksJ19_copyOf_0 13 rfl rfl)
theorem dJ19_copyOf_14 : decode cJ19_copyOf 14 = .ok (.iload_n 1, 1) := dk_27 (dk_at dksJ19_copyOf_0 14 rfl rfl)
theorem dJ19_copyOf_15 : decode cJ19_copyOf 15 = .ok (.newarray .long, 2) := dk_188_11 (dk_at dksJ19_copyOf_0 15 rfl rfl)
theorem dJ19_copyOf_17 : decode cJ19_copyOf 17 = .ok (.astore_n 2, 1) := dk_77 (dk_at dksJ19_copyOf_0 17 rfl rfl)
theorem dJ19_copyOf_18 : decode cJ19_copyOf 18 = .ok (.aload_n 0, 1) := dk_42 (dk_at dksJ19_copyOf_0 18 rfl rfl)
theorem dJ19_copyOf_19 : decode cJ19_copyOf 19 = .ok (.iconst 0, 1) := dk_3 (dk_at dksJ19_copyOf_0 19 rfl rfl)
theorem dJ19_copyOf_20 : decode cJ19_copyOf 20 = .ok (.aload_n 2, 1) := dk_44 (dk_at dksJ19_copyOf_0 20 rfl rfl)
theorem dJ19_copyOf_21 : decode cJ19_copyOf 21 = .ok (.iconst 0, 1) := dk_3 (dk_at dksJ19_copyOf_0 21 rfl rfl)
theorem dJ19_copyOf_22 : decode cJ19_copyOf 22 = .ok (.aload_n 0, 1) := dk_42 (dk_at dksJ19_copyOf_0 22 rfl rfl)
theorem dJ19_copyOf_23 : decode cJ19_copyOf 23 = .ok (.arraylength, 1) := dk_190 (dk_at dksJ19_copyOf_0 23 rfl rfl)
theorem dJ19_copyOf_24 : decode cJ19_copyOf 24 = .ok (.iload_n 1, 1) := dk_27 (dk_at dksJ19_copyOf_1 0 rfl rfl)
theorem dJ19_copyOf_25 : decode cJ19_copyOf 25 = .ok (.invokestatic 304, 3) := dk_184 1 48 (dk_at dksJ19_copyOf_1 1 rfl rfl)
theorem dJ19_copyOf_28 : decode cJ19_copyOf 28 = .ok (.invokestatic 150, 3) := dk_184 0 150 (dk_at dksJ19_copyOf_1 4 rfl rfl)
theorem dJ19_copyOf_31 : decode cJ19_copyOf 31 = .ok (.aload_n 2, 1) := dk_44 (dk_at dksJ19_copyOf_1 7 rfl rfl)
theorem dJ19_copyOf_32 : decode cJ19_copyOf 32 = .ok (.areturn, 1) := dk_176 (dk_at dksJ19_copyOf_1 8 rfl rfl)
abbrev cJ19_copyOfRange : ByteArray := prog_54_method_130_code
def yJ19_copyOfRange : MethodName := ⟨RJ19, "copyOfRange", "([Ljava/lang/Object;IILjava/lang/Class;)[Ljava/lang/Object;"⟩
def dkwJ19_copyOfRange_3 : List UInt8 := [58, 5, 42, 27, 25, 5, 3, 42, 190, 27, 100, 21, 4, 184, 1, 48, 184, 0, 150, 25, 5, 176]
abbrev dktJ19_copyOfRange_3 : List UInt8 := dkwJ19_copyOfRange_3 ++ []
def dkwJ19_copyOfRange_2 : List UInt8 := [166, 0, 11, 21, 4, 189, 0, 2, 167, 0, 15, 45, 182, 0, 90, 21, 4, 184, 0, 95, 192, 0, 110]
abbrev dktJ19_copyOfRange_2 : List UInt8 := dkwJ19_copyOfRange_2 ++ dktJ19_copyOfRange_3
def dkwJ19_copyOfRange_1 : List UInt8 := [182, 0, 54, 19, 1, 81, 182, 0, 50, 28, 182, 0, 54, 182, 0, 61, 183, 0, 65, 191, 45, 18, 110]
abbrev dktJ19_copyOfRange_1 : List UInt8 := dkwJ19_copyOfRange_1 ++ dktJ19_copyOfRange_2
def dkwJ19_copyOfRange_0 : List UInt8 := [28, 27, 100, 54, 4, 21, 4, 156, 0, 35, 187, 0, 43, 89, 187, 0, 45, 89, 183, 0, 47, 27]
abbrev dktJ19_copyOfRange_0 : List UInt8 := dkwJ19_copyOfRange_0 ++ dktJ19_copyOfRange_1
theorem dksJ19_copyOfRange_0 : cJ19_copyOfRange.data.toList.drop 0 = dktJ19_copyOfRange_0 := by decide +kernel
theorem dksJ19_copyOfRange_1 : cJ19_copyOfRange.data.toList.drop 22 = dktJ19_copyOfRange_1 := dk_seg dksJ19_copyOfRange_0 22 rfl rfl
theorem dksJ19_copyOfRange_2 : cJ19_copyOfRange.data.toList.drop 45 = dktJ19_copyOfRange_2 := dk_seg dksJ19_copyOfRange_1 23 rfl rfl
theorem dksJ19_copyOfRange_3 : cJ19_copyOfRange.data.toList.drop 68 = dktJ19_copyOfRange_3 := dk_seg dksJ19_copyOfRange_2 23 rfl rfl
theorem dJ19_copyOfRange_0 : decode cJ19_copyOfRange 0 = .ok (.iload_n 2, 1) := dk_28 (dk_at dksJ19_copyOfRange_0 0 rfl rfl)
theorem dJ19_copyOfRange_1 : decode cJ19_copyOfRange 1 = .ok (.iload_n 1, 1) := dk_27 (dk_at dksJ19_copyOfRange_0 1 rfl rfl)
theorem dJ19_copyOfRange_2 : decode cJ19_copyOfRange 2 = .ok (.isub, 1) := dk_100 (dk_at dksJ19_copyOfRange_0 2 rfl rfl)
theorem dJ19_copyOfRange_3 : decode cJ19_copyOfRange 3 = .ok (.istore 4, 2) := dk_54 4 (dk_at dksJ19_copyOfRange_0 3 rfl rfl)
theorem dJ19_copyOfRange_5 : decode cJ19_copyOfRange 5 = .ok (.iload 4, 2) := dk_21 4 (dk_at dksJ19_copyOfRange_0 5 rfl rfl)
theorem dJ19_copyOfRange_7 : decode cJ19_copyOfRange 7 = .ok (.ifCond .ge 35, 3) := dk_156 0 35 (dk_at dksJ19_copyOfRange_0 7 rfl rfl)
theorem dJ19_copyOfRange_10 : decode cJ19_copyOfRange 10 = .ok (.new 43, 3) := dk_187 0 43 (dk_at dksJ19_copyOfRange_0 10 rfl rfl)
theorem dJ19_copyOfRange_13 : decode cJ19_copyOfRange 13 = .ok (.dup, 1) := dk_89 (dk_at dksJ19_copyOfRange_0 13 rfl rfl)
theorem dJ19_copyOfRange_14 : decode cJ19_copyOfRange 14 = .ok (.new 45, 3) := dk_187 0 45 (dk_at dksJ19_copyOfRange_0 14 rfl rfl)
theorem dJ19_copyOfRange_17 : decode cJ19_copyOfRange 17 = .ok (.dup, 1) := dk_89 (dk_at dksJ19_copyOfRange_0 17 rfl rfl)
theorem dJ19_copyOfRange_18 : decode cJ19_copyOfRange 18 = .ok (.invokespecial 47, 3) := dk_183 0 47 (dk_at dksJ19_copyOfRange_0 18 rfl rfl)
theorem dJ19_copyOfRange_21 : decode cJ19_copyOfRange 21 = .ok (.iload_n 1, 1) := dk_27 (dk_at dksJ19_copyOfRange_0 21 rfl rfl)
theorem dJ19_copyOfRange_22 : decode cJ19_copyOfRange 22 = .ok (.invokevirtual 54, 3) := dk_182 0 54 (dk_at dksJ19_copyOfRange_1 0 rfl rfl)
theorem dJ19_copyOfRange_25 : decode cJ19_copyOfRange 25 = .ok (.ldc_w 337, 3) := dk_19 1 81 (dk_at dksJ19_copyOfRange_1 3 rfl rfl)
theorem dJ19_copyOfRange_28 : decode cJ19_copyOfRange 28 = .ok (.invokevirtual 50, 3) := dk_182 0 50 (dk_at dksJ19_copyOfRange_1 6 rfl rfl)
theorem dJ19_copyOfRange_31 : decode cJ19_copyOfRange 31 = .ok (.iload_n 2, 1) := dk_28 (dk_at dksJ19_copyOfRange_1 9 rfl rfl)
theorem dJ19_copyOfRange_32 : decode cJ19_copyOfRange 32 = .ok (.invokevirtual 54, 3) := dk_182 0 54 (dk_at dksJ19_copyOfRange_1 10 rfl rfl)
theorem dJ19_copyOfRange_35 : decode cJ19_copyOfRange 35 = .ok (.invokevirtual 61, 3) := dk_182 0 61 (dk_at dksJ19_copyOfRange_1 13 rfl rfl)
theorem dJ19_copyOfRange_38 : decode cJ19_copyOfRange 38 = .ok (.invokespecial 65, 3) := dk_183 0 65 (dk_at dksJ19_copyOfRange_1 16 rfl rfl)
theorem dJ19_copyOfRange_41 : decode cJ19_copyOfRange 41 = .ok (.athrow, 1) := dk_191 (dk_at dksJ19_copyOfRange_1 19 rfl rfl)
theorem dJ19_copyOfRange_42 : decode cJ19_copyOfRange 42 = .ok (.aload_n 3, 1) := dk_45 (dk_at dksJ19_copyOfRange_1 20 rfl rfl)
theorem dJ19_copyOfRange_43 : decode cJ19_copyOfRange 43 = .ok (.ldc 110, 2) := dk_18 110 (dk_at dksJ19_copyOfRange_1 21 rfl rfl)
theorem dJ19_copyOfRange_45 : decode cJ19_copyOfRange 45 = .ok (.if_acmp .ne 11, 3) := dk_166 0 11 (dk_at dksJ19_copyOfRange_2 0 rfl rfl)
theorem dJ19_copyOfRange_48 : decode cJ19_copyOfRange 48 = .ok (.iload 4, 2) := dk_21 4 (dk_at dksJ19_copyOfRange_2 3 rfl rfl)
theorem dJ19_copyOfRange_50 : decode cJ19_copyOfRange 50 = .ok (.anewarray 2, 3) := dk_189 0 2 (dk_at dksJ19_copyOfRange_2 5 rfl rfl)
theorem dJ19_copyOfRange_53 : decode cJ19_copyOfRange 53 = .ok (.goto 15, 3) := dk_167 0 15 (dk_at dksJ19_copyOfRange_2 8 rfl rfl)
theorem dJ19_copyOfRange_56 : decode cJ19_copyOfRange 56 = .ok (.aload_n 3, 1) := dk_45 (dk_at dksJ19_copyOfRange_2 11 rfl rfl)
theorem dJ19_copyOfRange_57 : decode cJ19_copyOfRange 57 = .ok (.invokevirtual 90, 3) := dk_182 0 90 (dk_at dksJ19_copyOfRange_2 12 rfl rfl)
theorem dJ19_copyOfRange_60 : decode cJ19_copyOfRange 60 = .ok (.iload 4, 2) := dk_21 4 (dk_at dksJ19_copyOfRange_2 15 rfl rfl)
theorem dJ19_copyOfRange_62 : decode cJ19_copyOfRange 62 = .ok (.invokestatic 95, 3) := dk_184 0 95 (dk_at dksJ19_copyOfRange_2 17 rfl rfl)
theorem dJ19_copyOfRange_65 : decode cJ19_copyOfRange 65 = .ok (.checkcast 110, 3) := dk_192 0 110 (dk_at dksJ19_copyOfRange_2 20 rfl rfl)
theorem dJ19_copyOfRange_68 : decode cJ19_copyOfRange 68 = .ok (.astore 5, 2) := dk_58 5 (dk_at dksJ19_copyOfRange_3 0 rfl rfl)
theorem dJ19_copyOfRange_70 : decode cJ19_copyOfRange 70 = .ok (.aload_n 0, 1) := dk_42 (dk_at dksJ19_copyOfRange_3 2 rfl rfl)
theorem dJ19_copyOfRange_71 : decode cJ19_copyOfRange 71 = .ok (.iload_n 1, 1) := dk_27 (dk_at dksJ19_copyOfRange_3 3 rfl rfl)
theorem dJ19_copyOfRange_72 : decode cJ19_copyOfRange 72 = .ok (.aload 5, 2) := dk_25 5 (dk_at dksJ19_copyOfRange_3 4 rfl rfl)
theorem dJ19_copyOfRange_74 : decode cJ19_copyOfRange 74 = .ok (.iconst 0, 1) := dk_3 (dk_at dksJ19_copyOfRange_3 6 rfl rfl)
theorem dJ19_copyOfRange_75 : decode cJ19_copyOfRange 75 = .ok (.aload_n 0, 1) := dk_42 (dk_at dksJ19_copyOfRange_3 7 rfl rfl)
theorem dJ19_copyOfRange_76 : decode cJ19_copyOfRange 76 = .ok (.arraylength, 1) := dk_190 (dk_at dksJ19_copyOfRange_3 8 rfl rfl)
theorem dJ19_copyOfRange_77 : decode cJ19_copyOfRange 77 = .ok (.iload_n 1, 1) := dk_27 (dk_at dksJ19_copyOfRange_3 9 rfl rfl)
theorem dJ19_copyOfRange_78 : decode cJ19_copyOfRange 78 = .ok (.isub, 1) := dk_100 (dk_at dksJ19_copyOfRange_3 10 rfl rfl)
theorem dJ19_copyOfRange_79 : decode cJ19_copyOfRange 79 = .ok (.iload 4, 2) := dk_21 4 (dk_at dksJ19_copyOfRange_3 11 rfl rfl)
theorem dJ19_copyOfRange_81 : decode cJ19_copyOfRange 81 = .ok (.invokestatic 304, 3) := dk_184 1 48 (dk_at dksJ19_copyOfRange_3 13 rfl rfl)
theorem dJ19_copyOfRange_84 : decode cJ19_copyOfRange 84 = .ok (.invokestatic 150, 3) := dk_184 0 150 (dk_at dksJ19_copyOfRange_3 16 rfl rfl)
theorem dJ19_copyOfRange_87 : decode cJ19_copyOfRange 87 = .ok (.aload 5, 2) := dk_25 5 (dk_at dksJ19_copyOfRange_3 19 rfl rfl)
theorem dJ19_copyOfRange_89 : decode cJ19_copyOfRange 89 = .ok (.areturn, 1) := dk_176 (dk_at dksJ19_copyOfRange_3 21 rfl rfl)
abbrev cJ19_copyOf_2 : ByteArray := prog_54_method_119_code
def yJ19_copyOf_2 : MethodName := ⟨RJ19, "copyOf", "([Ljava/lang/Object;I)[Ljava/lang/Object;"⟩
def dkwJ19_copyOf_2_0 : List UInt8 := [42, 27, 42, 182, 0, 86, 184, 1, 44, 176]
abbrev dktJ19_copyOf_2_0 : List UInt8 := dkwJ19_copyOf_2_0 ++ []
theorem dksJ19_copyOf_2_0 : cJ19_copyOf_2.data.toList.drop 0 = dktJ19_copyOf_2_0 := by decide +kernel
theorem dJ19_copyOf_2_0 : decode cJ19_copyOf_2 0 = .ok (.aload_n 0, 1) := dk_42 (dk_at dksJ19_copyOf_2_0 0 rfl rfl)
theorem dJ19_copyOf_2_1 : decode cJ19_copyOf_2 1 = .ok (.iload_n 1, 1) := dk_27 (dk_at dksJ19_copyOf_2_0 1 rfl rfl)
theorem dJ19_copyOf_2_2 : decode cJ19_copyOf_2 2 = .ok (.aload_n 0, 1) := dk_42 (dk_at dksJ19_copyOf_2_0 2 rfl rfl)
theorem dJ19_copyOf_2_3 : decode cJ19_copyOf_2 3 = .ok (.invokevirtual 86, 3) := dk_182 0 86 (dk_at dksJ19_copyOf_2_0 3 rfl rfl)
theorem dJ19_copyOf_2_6 : decode cJ19_copyOf_2 6 = .ok (.invokestatic 300, 3) := dk_184 1 44 (dk_at dksJ19_copyOf_2_0 6 rfl rfl)
theorem dJ19_copyOf_2_9 : decode cJ19_copyOf_2 9 = .ok (.areturn, 1) := dk_176 (dk_at dksJ19_copyOf_2_0 9 rfl rfl)
abbrev cJ19_copyOf_3 : ByteArray := prog_54_method_120_code
def yJ19_copyOf_3 : MethodName := ⟨RJ19, "copyOf", "([Ljava/lang/Object;ILjava/lang/Class;)[Ljava/lang/Object;"⟩
def dkwJ19_copyOf_3_1 : List UInt8 := [78, 42, 3, 45, 3, 42, 190, 27, 184, 1, 48, 184, 0, 150, 45, 176]
abbrev dktJ19_copyOf_3_1 : List UInt8 := dkwJ19_copyOf_3_1 ++ []
def dkwJ19_copyOf_3_0 : List UInt8 := [44, 18, 110, 166, 0, 10, 27, 189, 0, 2, 167, 0, 14, 44, 182, 0, 90, 27, 184, 0, 95, 192, 0, 110]
abbrev dktJ19_copyOf_3_0 : List UInt8 := dkwJ19_copyOf_3_0 ++ dktJ19_copyOf_3_1
theorem dksJ19_copyOf_3_0 : cJ19_copyOf_3.data.toList.drop 0 = dktJ19_copyOf_3_0 := by decide +kernel
theorem dksJ19_copyOf_3_1 : cJ19_copyOf_3.data.toList.drop 24 = dktJ19_copyOf_3_1 := dk_seg dksJ19_copyOf_3_0 24 rfl rfl
theorem dJ19_copyOf_3_0 : decode cJ19_copyOf_3 0 = .ok (.aload_n 2, 1) := dk_44 (dk_at dksJ19_copyOf_3_0 0 rfl rfl)
theorem dJ19_copyOf_3_1 : decode cJ19_copyOf_3 1 = .ok (.ldc 110, 2) := dk_18 110 (dk_at dksJ19_copyOf_3_0 1 rfl rfl)
theorem dJ19_copyOf_3_3 : decode cJ19_copyOf_3 3 = .ok (.if_acmp .ne 10, 3) := dk_166 0 10 (dk_at dksJ19_copyOf_3_0 3 rfl rfl)
theorem dJ19_copyOf_3_6 : decode cJ19_copyOf_3 6 = .ok (.iload_n 1, 1) := dk_27 (dk_at dksJ19_copyOf_3_0 6 rfl rfl)
theorem dJ19_copyOf_3_7 : decode cJ19_copyOf_3 7 = .ok (.anewarray 2, 3) := dk_189 0 2 (dk_at dksJ19_copyOf_3_0 7 rfl rfl)
theorem dJ19_copyOf_3_10 : decode cJ19_copyOf_3 10 = .ok (.goto 14, 3) := dk_167 0 14 (dk_at dksJ19_copyOf_3_0 10 rfl rfl)
theorem dJ19_copyOf_3_13 : decode cJ19_copyOf_3 13 = .ok (.aload_n 2, 1) := dk_44 (dk_at dksJ19_copyOf_3_0 13 rfl rfl)
theorem dJ19_copyOf_3_14 : decode cJ19_copyOf_3 14 = .ok (.invokevirtual 90, 3) := dk_182 0 90 (dk_at dksJ19_copyOf_3_0 14 rfl rfl)
theorem dJ19_copyOf_3_17 : decode cJ19_copyOf_3 17 = .ok (.iload_n 1, 1) := dk_27 (dk_at dksJ19_copyOf_3_0 17 rfl rfl)
theorem dJ19_copyOf_3_18 : decode cJ19_copyOf_3 18 = .ok (.invokestatic 95, 3) := dk_184 0 95 (dk_at dksJ19_copyOf_3_0 18 rfl rfl)
theorem dJ19_copyOf_3_21 : decode cJ19_copyOf_3 21 = .ok (.checkcast 110, 3) := dk_192 0 110 (dk_at dksJ19_copyOf_3_0 21 rfl rfl)
theorem dJ19_copyOf_3_24 : decode cJ19_copyOf_3 24 = .ok (.astore_n 3, 1) := dk_78 (dk_at dksJ19_copyOf_3_1 0 rfl rfl)
theorem dJ19_copyOf_3_25 : decode cJ19_copyOf_3 25 = .ok (.aload_n 0, 1) := dk_42 (dk_at dksJ19_copyOf_3_1 1 rfl rfl)
theorem dJ19_copyOf_3_26 : decode cJ19_copyOf_3 26 = .ok (.iconst 0, 1) := dk_3 (dk_at dksJ19_copyOf_3_1 2 rfl rfl)
theorem dJ19_copyOf_3_27 : decode cJ19_copyOf_3 27 = .ok (.aload_n 3, 1) := dk_45 (dk_at dksJ19_copyOf_3_1 3 rfl rfl)
theorem dJ19_copyOf_3_28 : decode cJ19_copyOf_3 28 = .ok (.iconst 0, 1) := dk_3 (dk_at dksJ19_copyOf_3_1 4 rfl rfl)
theorem dJ19_copyOf_3_29 : decode cJ19_copyOf_3 29 = .ok (.aload_n 0, 1) := dk_42 (dk_at dksJ19_copyOf_3_1 5 rfl rfl)
theorem dJ19_copyOf_3_30 : decode cJ19_copyOf_3 30 = .ok (.arraylength, 1) := dk_190 (dk_at dksJ19_copyOf_3_1 6 rfl rfl)
theorem dJ19_copyOf_3_31 : decode cJ19_copyOf_3 31 = .ok (.iload_n 1, 1) := dk_27 (dk_at dksJ19_copyOf_3_1 7 rfl rfl)
theorem dJ19_copyOf_3_32 : decode cJ19_copyOf_3 32 = .ok (.invokestatic 304, 3) := dk_184 1 48 (dk_at dksJ19_copyOf_3_1 8 rfl rfl)
theorem dJ19_copyOf_3_35 : decode cJ19_copyOf_3 35 = .ok (.invokestatic 150, 3) := dk_184 0 150 (dk_at dksJ19_copyOf_3_1 11 rfl rfl)
theorem dJ19_copyOf_3_38 : decode cJ19_copyOf_3 38 = .ok (.aload_n 3, 1) := dk_45 (dk_at dksJ19_copyOf_3_1 14 rfl rfl)
theorem dJ19_copyOf_3_39 : decode cJ19_copyOf_3 39 = .ok (.areturn, 1) := dk_176 (dk_at dksJ19_copyOf_3_1 15 rfl rfl)
abbrev cJ19_copyOf_4 : ByteArray := prog_54_method_121_code
def yJ19_copyOf_4 : MethodName := ⟨RJ19, "copyOf", "([BI)[B"⟩
def dkwJ19_copyOf_4_1 : List UInt8 := [27, 184, 1, 48, 184, 0, 150, 44, 176]
abbrev dktJ19_copyOf_4_1 : List UInt8 := dkwJ19_copyOf_4_1 ++ []
def dkwJ19_copyOf_4_0 : List UInt8 := [27, 42, 190, 160, 0, 11, 42, 182, 1, 54, 192, 1, 55, 176, 27, 188, 8, 77, 42, 3, 44, 3, 42, 190]
abbrev dktJ19_copyOf_4_0 : List UInt8 := dkwJ19_copyOf_4_0 ++ dktJ19_copyOf_4_1
theorem dksJ19_copyOf_4_0 : cJ19_copyOf_4.data.toList.drop 0 = dktJ19_copyOf_4_0 := by decide +kernel
theorem dksJ19_copyOf_4_1 : cJ19_copyOf_4.data.toList.drop 24 = dktJ19_copyOf_4_1 := dk_seg dksJ19_copyOf_4_0 24 rfl rfl
theorem dJ19_copyOf_4_0 : decode cJ19_copyOf_4 0 = .ok (.iload_n 1, 1) := dk_27 (dk_at dksJ19_copyOf_4_0 0 rfl rfl)
theorem dJ19_copyOf_4_1 : decode cJ19_copyOf_4 1 = .ok (.aload_n 0, 1) := dk_42 (dk_at dksJ19_copyOf_4_0 1 rfl rfl)
theorem dJ19_copyOf_4_2 : decode cJ19_copyOf_4 2 = .ok (.arraylength, 1) := dk_190 (dk_at dksJ19_copyOf_4_0 2 rfl rfl)
theorem dJ19_copyOf_4_3 : decode cJ19_copyOf_4 3 = .ok (.if_icmp .ne 11, 3) := dk_160 0 11 (dk_at dksJ19_copyOf_4_0 3 rfl rfl)
theorem dJ19_copyOf_4_6 : decode cJ19_copyOf_4 6 = .ok (.aload_n 0, 1) := dk_42 (dk_at dksJ19_copyOf_4_0 6 rfl rfl)
theorem dJ19_copyOf_4_7 : decode cJ19_copyOf_4 7 = .ok (.invokevirtual 310, 3) := dk_182 1 54 (dk_at dksJ19_copyOf_4_0 7 rfl rfl)
theorem dJ19_copyOf_4_10 : decode cJ19_copyOf_4 10 = .ok (.checkcast 311, 3) := dk_192 1 55 (dk_at dksJ19_copyOf_4_0 10 rfl rfl)
theorem dJ19_copyOf_4_13 : decode cJ19_copyOf_4 13 = .ok (.areturn, 1) := dk_176 (dk_at dksJ19_copyOf_4_0 13 rfl rfl)
theorem dJ19_copyOf_4_14 : decode cJ19_copyOf_4 14 = .ok (.iload_n 1, 1) := dk_27 (dk_at dksJ19_copyOf_4_0 14 rfl rfl)
theorem dJ19_copyOf_4_15 : decode cJ19_copyOf_4 15 = .ok (.newarray .byte, 2) := dk_188_8 (dk_at dksJ19_copyOf_4_0 15 rfl rfl)
theorem dJ19_copyOf_4_17 : decode cJ19_copyOf_4 17 = .ok (.astore_n 2, 1) := dk_77 (dk_at dksJ19_copyOf_4_0 17 rfl rfl)
theorem dJ19_copyOf_4_18 : decode cJ19_copyOf_4 18 = .ok (.aload_n 0, 1) := dk_42 (dk_at dksJ19_copyOf_4_0 18 rfl rfl)
theorem dJ19_copyOf_4_19 : decode cJ19_copyOf_4 19 = .ok (.iconst 0, 1) := dk_3 (dk_at dksJ19_copyOf_4_0 19 rfl rfl)
theorem dJ19_copyOf_4_20 : decode cJ19_copyOf_4 20 = .ok (.aload_n 2, 1) := dk_44 (dk_at dksJ19_copyOf_4_0 20 rfl rfl)
theorem dJ19_copyOf_4_21 : decode cJ19_copyOf_4 21 = .ok (.iconst 0, 1) := dk_3 (dk_at dksJ19_copyOf_4_0 21 rfl rfl)
theorem dJ19_copyOf_4_22 : decode cJ19_copyOf_4 22 = .ok (.aload_n 0, 1) := dk_42 (dk_at dksJ19_copyOf_4_0 22 rfl rfl)
theorem dJ19_copyOf_4_23 : decode cJ19_copyOf_4 23 = .ok (.arraylength, 1) := dk_190 (dk_at dksJ19_copyOf_4_0 23 rfl rfl)
theorem dJ19_copyOf_4_24 : decode cJ19_copyOf_4 24 = .ok (.iload_n 1, 1) := dk_27 (dk_at dksJ19_copyOf_4_1 0 rfl rfl)
theorem dJ19_copyOf_4_25 : decode cJ19_copyOf_4 25 = .ok (.invokestatic 304, 3) := dk_184 1 48 (dk_at dksJ19_copyOf_4_1 1 rfl rfl)
theorem dJ19_copyOf_4_28 : decode cJ19_copyOf_4 28 = .ok (.invokestatic 150, 3) := dk_184 0 150 (dk_at dksJ19_copyOf_4_1 4 rfl rfl)
theorem dJ19_copyOf_4_31 : decode cJ19_copyOf_4 31 = .ok (.aload_n 2, 1) := dk_44 (dk_at dksJ19_copyOf_4_1 7 rfl rfl)
theorem dJ19_copyOf_4_32 : decode cJ19_copyOf_4 32 = .ok (.areturn, 1) := dk_176 (dk_at dksJ19_copyOf_4_1 8 rfl rfl)
abbrev cJ19_copyOfRange_2 : ByteArray := prog_54_method_132_code
def yJ19_copyOfRange_2 : MethodName := ⟨RJ19, "copyOfRange", "([BII)[B"⟩
def dkwJ19_copyOfRange_2_1 : List UInt8 := [176]
abbrev dktJ19_copyOfRange_2_1 : List UInt8 := dkwJ19_copyOfRange_2_1 ++ []
def dkwJ19_copyOfRange_2_0 : List UInt8 := [27, 154, 0, 9, 28, 42, 190, 159, 0, 10, 42, 27, 28, 184, 1, 83, 176, 42, 182, 1, 54, 192, 1, 55]
abbrev dktJ19_copyOfRange_2_0 : List UInt8 := dkwJ19_copyOfRange_2_0 ++ dktJ19_copyOfRange_2_1
theorem dksJ19_copyOfRange_2_0 : cJ19_copyOfRange_2.data.toList.drop 0 = dktJ19_copyOfRange_2_0 := by decide +kernel
theorem dksJ19_copyOfRange_2_1 : cJ19_copyOfRange_2.data.toList.drop 24 = dktJ19_copyOfRange_2_1 := dk_seg dksJ19_copyOfRange_2_0 24 rfl rfl
theorem dJ19_copyOfRange_2_0 : decode cJ19_copyOfRange_2 0 = .ok (.iload_n 1, 1) := dk_27 (dk_at dksJ19_copyOfRange_2_0 0 rfl rfl)
theorem dJ19_copyOfRange_2_1 : decode cJ19_copyOfRange_2 1 = .ok (.ifCond .ne 9, 3) := dk_154 0 9 (dk_at dksJ19_copyOfRange_2_0 1 rfl rfl)
theorem dJ19_copyOfRange_2_4 : decode cJ19_copyOfRange_2 4 = .ok (.iload_n 2, 1) := dk_28 (dk_at dksJ19_copyOfRange_2_0 4 rfl rfl)
theorem dJ19_copyOfRange_2_5 : decode cJ19_copyOfRange_2 5 = .ok (.aload_n 0, 1) := dk_42 (dk_at dksJ19_copyOfRange_2_0 5 rfl rfl)
theorem dJ19_copyOfRange_2_6 : decode cJ19_copyOfRange_2 6 = .ok (.arraylength, 1) := dk_190 (dk_at dksJ19_copyOfRange_2_0 6 rfl rfl)
theorem dJ19_copyOfRange_2_7 : decode cJ19_copyOfRange_2 7 = .ok (.if_icmp .eq 10, 3) := dk_159 0 10 (dk_at dksJ19_copyOfRange_2_0 7 rfl rfl)
theorem dJ19_copyOfRange_2_10 : decode cJ19_copyOfRange_2 10 = .ok (.aload_n 0, 1) := dk_42 (dk_at dksJ19_copyOfRange_2_0 10 rfl rfl)
theorem dJ19_copyOfRange_2_11 : decode cJ19_copyOfRange_2 11 = .ok (.iload_n 1, 1) := dk_27 (dk_at dksJ19_copyOfRange_2_0 11 rfl rfl)
theorem dJ19_copyOfRange_2_12 : decode cJ19_copyOfRange_2 12 = .ok (.iload_n 2, 1) := dk_28 (dk_at dksJ19_copyOfRange_2_0 12 rfl rfl)
theorem dJ19_copyOfRange_2_13 : decode cJ19_copyOfRange_2 13 = .ok (.invokestatic 339, 3) := dk_184 1 83 (dk_at dksJ19_copyOfRange_2_0 13 rfl rfl)
theorem dJ19_copyOfRange_2_16 : decode cJ19_copyOfRange_2 16 = .ok (.areturn, 1) := dk_176 (dk_at dksJ19_copyOfRange_2_0 16 rfl rfl)
theorem dJ19_copyOfRange_2_17 : decode cJ19_copyOfRange_2 17 = .ok (.aload_n 0, 1) := dk_42 (dk_at dksJ19_copyOfRange_2_0 17 rfl rfl)
theorem dJ19_copyOfRange_2_18 : decode cJ19_copyOfRange_2 18 = .ok (.invokevirtual 310, 3) := dk_182 1 54 (dk_at dksJ19_copyOfRange_2_0 18 rfl rfl)
theorem dJ19_copyOfRange_2_21 : decode cJ19_copyOfRange_2 21 = .ok (.checkcast 311, 3) := dk_192 1 55 (dk_at dksJ19_copyOfRange_2_0 21 rfl rfl)
theorem dJ19_copyOfRange_2_24 : decode cJ19_copyOfRange_2 24 = .ok (.areturn, 1) := dk_176 (dk_at dksJ19_copyOfRange_2_1 0 rfl rfl)
abbrev cJ19_copyOfRangeByte : ByteArray := prog_54_method_133_code
def yJ19_copyOfRangeByte : MethodName := ⟨RJ19, "copyOfRangeByte", "([BII)[B"⟩
def dkwJ19_copyOfRangeByte_1 : List UInt8 := [184, 1, 48, 184, 0, 150, 25, 4, 176]
abbrev dktJ19_copyOfRangeByte_1 : List UInt8 := dkwJ19_copyOfRangeByte_1 ++ []
def dkwJ19_copyOfRangeByte_0 : List UInt8 := [27, 28, 184, 1, 87, 28, 27, 100, 62, 29, 188, 8, 58, 4, 42, 27, 25, 4, 3, 42, 190, 27, 100, 29]
abbrev dktJ19_copyOfRangeByte_0 : List UInt8 := dkwJ19_copyOfRangeByte_0 ++ dktJ19_copyOfRangeByte_1
theorem dksJ19_copyOfRangeByte_0 : cJ19_copyOfRangeByte.data.toList.drop 0 = dktJ19_copyOfRangeByte_0 := by decide +kernel
theorem dksJ19_copyOfRangeByte_1 : cJ19_copyOfRangeByte.data.toList.drop 24 = dktJ19_copyOfRangeByte_1 := dk_seg dksJ19_copyOfRangeByte_0 24 rfl rfl
theorem dJ19_copyOfRangeByte_0 : decode cJ19_copyOfRangeByte 0 = .ok (.iload_n 1, 1) := dk_27 (dk_at dksJ19_copyOfRangeByte_0 0 rfl rfl)
theorem dJ19_copyOfRangeByte_1 : decode cJ19_copyOfRangeByte 1 = .ok (.iload_n 2, 1) := dk_28 (dk_at dksJ19_copyOfRangeByte_0 1 rfl rfl)
theorem dJ19_copyOfRangeByte_2 : decode cJ19_copyOfRangeByte 2 = .ok (.invokestatic 343, 3) := dk_184 1 87 (dk_at dksJ19_copyOfRangeByte_0 2 rfl rfl)
theorem dJ19_copyOfRangeByte_5 : decode cJ19_copyOfRangeByte 5 = .ok (.iload_n 2, 1) := dk_28 (dk_at dksJ19_copyOfRangeByte_0 5 rfl rfl)
theorem dJ19_copyOfRangeByte_6 : decode cJ19_copyOfRangeByte 6 = .ok (.iload_n 1, 1) := dk_27 (dk_at dksJ19_copyOfRangeByte_0 6 rfl rfl)
theorem dJ19_copyOfRangeByte_7 : decode cJ19_copyOfRangeByte 7 = .ok (.isub, 1) := dk_100 (dk_at dksJ19_copyOfRangeByte_0 7 rfl rfl)
theorem dJ19_copyOfRangeByte_8 : decode cJ19_copyOfRangeByte 8 = .ok (.istore_n 3, 1) := dk_62 (dk_at dksJ19_copyOfRangeByte_0 8 rfl rfl)
theorem dJ19_copyOfRangeByte_9 : decode cJ19_copyOfRangeByte 9 = .ok (.iload_n 3, 1) := dk_29 (dk_at dksJ19_copyOfRangeByte_0 9 rfl rfl)
theorem dJ19_copyOfRangeByte_10 : decode cJ19_copyOfRangeByte 10 = .ok (.newarray .byte, 2) := dk_188_8 (dk_at dksJ19_copyOfRangeByte_0 10 rfl rfl)
theorem dJ19_copyOfRangeByte_12 : decode cJ19_copyOfRangeByte 12 = .ok (.astore 4, 2) := dk_58 4 (dk_at dksJ19_copyOfRangeByte_0 12 rfl rfl)
theorem dJ19_copyOfRangeByte_14 : decode cJ19_copyOfRangeByte 14 = .ok (.aload_n 0, 1) := dk_42 (dk_at dksJ19_copyOfRangeByte_0 14 rfl rfl)
theorem dJ19_copyOfRangeByte_15 : decode cJ19_copyOfRangeByte 15 = .ok (.iload_n 1, 1) := dk_27 (dk_at dksJ19_copyOfRangeByte_0 15 rfl rfl)
theorem dJ19_copyOfRangeByte_16 : decode cJ19_copyOfRangeByte 16 = .ok (.aload 4, 2) := dk_25 4 (dk_at dksJ19_copyOfRangeByte_0 16 rfl rfl)
theorem dJ19_copyOfRangeByte_18 : decode cJ19_copyOfRangeByte 18 = .ok (.iconst 0, 1) := dk_3 (dk_at dksJ19_copyOfRangeByte_0 18 rfl rfl)
theorem dJ19_copyOfRangeByte_19 : decode cJ19_copyOfRangeByte 19 = .ok (.aload_n 0, 1) := dk_42 (dk_at dksJ19_copyOfRangeByte_0 19 rfl rfl)
theorem dJ19_copyOfRangeByte_20 : decode cJ19_copyOfRangeByte 20 = .ok (.arraylength, 1) := dk_190 (dk_at dksJ19_copyOfRangeByte_0 20 rfl rfl)
theorem dJ19_copyOfRangeByte_21 : decode cJ19_copyOfRangeByte 21 = .ok (.iload_n 1, 1) := dk_27 (dk_at dksJ19_copyOfRangeByte_0 21 rfl rfl)
theorem dJ19_copyOfRangeByte_22 : decode cJ19_copyOfRangeByte 22 = .ok (.isub, 1) := dk_100 (dk_at dksJ19_copyOfRangeByte_0 22 rfl rfl)
theorem dJ19_copyOfRangeByte_23 : decode cJ19_copyOfRangeByte 23 = .ok (.iload_n 3, 1) := dk_29 (dk_at dksJ19_copyOfRangeByte_0 23 rfl rfl)
theorem dJ19_copyOfRangeByte_24 : decode cJ19_copyOfRangeByte 24 = .ok (.invokestatic 304, 3) := dk_184 1 48 (dk_at dksJ19_copyOfRangeByte_1 0 rfl rfl)
theorem dJ19_copyOfRangeByte_27 : decode cJ19_copyOfRangeByte 27 = .ok (.invokestatic 150, 3) := dk_184 0 150 (dk_at dksJ19_copyOfRangeByte_1 3 rfl rfl)
theorem dJ19_copyOfRangeByte_30 : decode cJ19_copyOfRangeByte 30 = .ok (.aload 4, 2) := dk_25 4 (dk_at dksJ19_copyOfRangeByte_1 6 rfl rfl)
theorem dJ19_copyOfRangeByte_32 : decode cJ19_copyOfRangeByte 32 = .ok (.areturn, 1) := dk_176 (dk_at dksJ19_copyOfRangeByte_1 8 rfl rfl)
abbrev cJ19_checkLength : ByteArray := prog_54_method_131_code
def yJ19_checkLength : MethodName := ⟨RJ19, "checkLength", "(II)V"⟩
def dkwJ19_checkLength_1 : List UInt8 := [182, 0, 50, 27, 182, 0, 54, 182, 0, 61, 183, 0, 65, 191, 177]
abbrev dktJ19_checkLength_1 : List UInt8 := dkwJ19_checkLength_1 ++ []
def dkwJ19_checkLength_0 : List UInt8 := [27, 26, 162, 0, 35, 187, 0, 43, 89, 187, 0, 45, 89, 183, 0, 47, 26, 182, 0, 54, 19, 1, 81]
abbrev dktJ19_checkLength_0 : List UInt8 := dkwJ19_checkLength_0 ++ dktJ19_checkLength_1
theorem dksJ19_checkLength_0 : cJ19_checkLength.data.toList.drop 0 = dktJ19_checkLength_0 := by decide +kernel
theorem dksJ19_checkLength_1 : cJ19_checkLength.data.toList.drop 23 = dktJ19_checkLength_1 := dk_seg dksJ19_checkLength_0 23 rfl rfl
theorem dJ19_checkLength_0 : decode cJ19_checkLength 0 = .ok (.iload_n 1, 1) := dk_27 (dk_at dksJ19_checkLength_0 0 rfl rfl)
theorem dJ19_checkLength_1 : decode cJ19_checkLength 1 = .ok (.iload_n 0, 1) := dk_26 (dk_at dksJ19_checkLength_0 1 rfl rfl)
theorem dJ19_checkLength_2 : decode cJ19_checkLength 2 = .ok (.if_icmp .ge 35, 3) := dk_162 0 35 (dk_at dksJ19_checkLength_0 2 rfl rfl)
theorem dJ19_checkLength_5 : decode cJ19_checkLength 5 = .ok (.new 43, 3) := dk_187 0 43 (dk_at dksJ19_checkLength_0 5 rfl rfl)
theorem dJ19_checkLength_8 : decode cJ19_checkLength 8 = .ok (.dup, 1) := dk_89 (dk_at dksJ19_checkLength_0 8 rfl rfl)
theorem dJ19_checkLength_9 : decode cJ19_checkLength 9 = .ok (.new 45, 3) := dk_187 0 45 (dk_at dksJ19_checkLength_0 9 rfl rfl)
theorem dJ19_checkLength_12 : decode cJ19_checkLength 12 = .ok (.dup, 1) := dk_89 (dk_at dksJ19_checkLength_0 12 rfl rfl)
theorem dJ19_checkLength_13 : decode cJ19_checkLength 13 = .ok (.invokespecial 47, 3) := dk_183 0 47 (dk_at dksJ19_checkLength_0 13 rfl rfl)
theorem dJ19_checkLength_16 : decode cJ19_checkLength 16 = .ok (.iload_n 0, 1) := dk_26 (dk_at dksJ19_checkLength_0 16 rfl rfl)
theorem dJ19_checkLength_17 : decode cJ19_checkLength 17 = .ok (.invokevirtual 54, 3) := dk_182 0 54 (dk_at dksJ19_checkLength_0 17 rfl rfl)
theorem dJ19_checkLength_20 : decode cJ19_checkLength 20 = .ok (.ldc_w 337, 3) := dk_19 1 81 (dk_at dksJ19_checkLength_0 20 rfl rfl)
theorem dJ19_checkLength_23 : decode cJ19_checkLength 23 = .ok (.invokevirtual 50, 3) := dk_182 0 50 (dk_at dksJ19_checkLength_1 0 rfl rfl)
theorem dJ19_checkLength_26 : decode cJ19_checkLength 26 = .ok (.iload_n 1, 1) := dk_27 (dk_at dksJ19_checkLength_1 3 rfl rfl)
theorem dJ19_checkLength_27 : decode cJ19_checkLength 27 = .ok (.invokevirtual 54, 3) := dk_182 0 54 (dk_at dksJ19_checkLength_1 4 rfl rfl)
theorem dJ19_checkLength_30 : decode cJ19_checkLength 30 = .ok (.invokevirtual 61, 3) := dk_182 0 61 (dk_at dksJ19_checkLength_1 7 rfl rfl)
theorem dJ19_checkLength_33 : decode cJ19_checkLength 33 = .ok (.invokespecial 65, 3) := dk_183 0 65 (dk_at dksJ19_checkLength_1 10 rfl rfl)
theorem dJ19_checkLength_36 : decode cJ19_checkLength 36 = .ok (.athrow, 1) := dk_191 (dk_at dksJ19_checkLength_1 13 rfl rfl)
theorem dJ19_checkLength_37 : decode cJ19_checkLength 37 = .ok (.return_, 1) := dk_177 (dk_at dksJ19_checkLength_1 14 rfl rfl)
abbrev cJ19_fill : ByteArray := prog_54_method_110_code
def yJ19_fill : MethodName := ⟨RJ19, "fill", "([BIIB)V"⟩
def dkwJ19_fill_1 : List UInt8 := [167, 255, 242, 177]
abbrev dktJ19_fill_1 : List UInt8 := dkwJ19_fill_1 ++ []
def dkwJ19_fill_0 : List UInt8 := [42, 190, 27, 28, 184, 0, 13, 27, 54, 4, 21, 4, 28, 162, 0, 14, 42, 21, 4, 29, 84, 132, 4, 1]
abbrev dktJ19_fill_0 : List UInt8 := dkwJ19_fill_0 ++ dktJ19_fill_1
theorem dksJ19_fill_0 : cJ19_fill.data.toList.drop 0 = dktJ19_fill_0 := by decide +kernel
theorem dksJ19_fill_1 : cJ19_fill.data.toList.drop 24 = dktJ19_fill_1 := dk_seg dksJ19_fill_0 24 rfl rfl
theorem dJ19_fill_0 : decode cJ19_fill 0 = .ok (.aload_n 0, 1) := dk_42 (dk_at dksJ19_fill_0 0 rfl rfl)
theorem dJ19_fill_1 : decode cJ19_fill 1 = .ok (.arraylength, 1) := dk_190 (dk_at dksJ19_fill_0 1 rfl rfl)
theorem dJ19_fill_2 : decode cJ19_fill 2 = .ok (.iload_n 1, 1) := dk_27 (dk_at dksJ19_fill_0 2 rfl rfl)
theorem dJ19_fill_3 : decode cJ19_fill 3 = .ok (.iload_n 2, 1) := dk_28 (dk_at dksJ19_fill_0 3 rfl rfl)
theorem dJ19_fill_4 : decode cJ19_fill 4 = .ok (.invokestatic 13, 3) := dk_184 0 13 (dk_at dksJ19_fill_0 4 rfl rfl)
theorem dJ19_fill_7 : decode cJ19_fill 7 = .ok (.iload_n 1, 1) := dk_27 (dk_at dksJ19_fill_0 7 rfl rfl)
theorem dJ19_fill_8 : decode cJ19_fill 8 = .ok (.istore 4, 2) := dk_54 4 (dk_at dksJ19_fill_0 8 rfl rfl)
theorem dJ19_fill_10 : decode cJ19_fill 10 = .ok (.iload 4, 2) := dk_21 4 (dk_at dksJ19_fill_0 10 rfl rfl)
theorem dJ19_fill_12 : decode cJ19_fill 12 = .ok (.iload_n 2, 1) := dk_28 (dk_at dksJ19_fill_0 12 rfl rfl)
theorem dJ19_fill_13 : decode cJ19_fill 13 = .ok (.if_icmp .ge 14, 3) := dk_162 0 14 (dk_at dksJ19_fill_0 13 rfl rfl)
theorem dJ19_fill_16 : decode cJ19_fill 16 = .ok (.aload_n 0, 1) := dk_42 (dk_at dksJ19_fill_0 16 rfl rfl)
theorem dJ19_fill_17 : decode cJ19_fill 17 = .ok (.iload 4, 2) := dk_21 4 (dk_at dksJ19_fill_0 17 rfl rfl)
theorem dJ19_fill_19 : decode cJ19_fill 19 = .ok (.iload_n 3, 1) := dk_29 (dk_at dksJ19_fill_0 19 rfl rfl)
theorem dJ19_fill_20 : decode cJ19_fill 20 = .ok (.bastore, 1) := dk_84 (dk_at dksJ19_fill_0 20 rfl rfl)
theorem dJ19_fill_21 : decode cJ19_fill 21 = .ok (.iinc 4 1, 3) := dk_132 4 1 (dk_at dksJ19_fill_0 21 rfl rfl)
theorem dJ19_fill_24 : decode cJ19_fill 24 = .ok (.goto (-14), 3) := dk_167 255 242 (dk_at dksJ19_fill_1 0 rfl rfl)
theorem dJ19_fill_27 : decode cJ19_fill 27 = .ok (.return_, 1) := dk_177 (dk_at dksJ19_fill_1 3 rfl rfl)
abbrev cJ19_rangeCheck : ByteArray := prog_54_method_30_code
def yJ19_rangeCheck : MethodName := ⟨RJ19, "rangeCheck", "(III)V"⟩
def dkwJ19_rangeCheck_3 : List UInt8 := [183, 0, 70, 191, 177]
abbrev dktJ19_rangeCheck_3 : List UInt8 := dkwJ19_rangeCheck_3 ++ []
def dkwJ19_rangeCheck_2 : List UInt8 := [27, 156, 0, 12, 187, 0, 68, 89, 27, 183, 0, 70, 191, 28, 26, 164, 0, 12, 187, 0, 68, 89, 28]
abbrev dktJ19_rangeCheck_2 : List UInt8 := dkwJ19_rangeCheck_2 ++ dktJ19_rangeCheck_3
def dkwJ19_rangeCheck_1 : List UInt8 := [182, 0, 54, 18, 57, 182, 0, 50, 28, 182, 0, 54, 18, 59, 182, 0, 50, 182, 0, 61, 183, 0, 65, 191]
abbrev dktJ19_rangeCheck_1 : List UInt8 := dkwJ19_rangeCheck_1 ++ dktJ19_rangeCheck_2
def dkwJ19_rangeCheck_0 : List UInt8 := [27, 28, 164, 0, 44, 187, 0, 43, 89, 187, 0, 45, 89, 183, 0, 47, 18, 48, 182, 0, 50, 27]
abbrev dktJ19_rangeCheck_0 : List UInt8 := dkwJ19_rangeCheck_0 ++ dktJ19_rangeCheck_1
theorem dksJ19_rangeCheck_0 : cJ19_rangeCheck.data.toList.drop 0 = dktJ19_rangeCheck_0 := by decide +kernel
theorem dksJ19_rangeCheck_1 : cJ19_rangeCheck.data.toList.drop 22 = dktJ19_rangeCheck_1 := dk_seg dksJ19_rangeCheck_0 22 rfl rfl
theorem dksJ19_rangeCheck_2 : cJ19_rangeCheck.data.toList.drop 46 = dktJ19_rangeCheck_2 := dk_seg dksJ19_rangeCheck_1 24 rfl rfl
theorem dksJ19_rangeCheck_3 : cJ19_rangeCheck.data.toList.drop 69 = dktJ19_rangeCheck_3 := dk_seg dksJ19_rangeCheck_2 23 rfl rfl
theorem dJ19_rangeCheck_0 : decode cJ19_rangeCheck 0 = .ok (.iload_n 1, 1) := dk_27 (dk_at dksJ19_rangeCheck_0 0 rfl rfl)
theorem dJ19_rangeCheck_1 : decode cJ19_rangeCheck 1 = .ok (.iload_n 2, 1) := dk_28 (dk_at dksJ19_rangeCheck_0 1 rfl rfl)
theorem dJ19_rangeCheck_2 : decode cJ19_rangeCheck 2 = .ok (.if_icmp .le 44, 3) := dk_164 0 44 (dk_at dksJ19_rangeCheck_0 2 rfl rfl)
theorem dJ19_rangeCheck_5 : decode cJ19_rangeCheck 5 = .ok (.new 43, 3) := dk_187 0 43 (dk_at dksJ19_rangeCheck_0 5 rfl rfl)
theorem dJ19_rangeCheck_8 : decode cJ19_rangeCheck 8 = .ok (.dup, 1) := dk_89 (dk_at dksJ19_rangeCheck_0 8 rfl rfl)
theorem dJ19_rangeCheck_9 : decode cJ19_rangeCheck 9 = .ok (.new 45, 3) := dk_187 0 45 (dk_at dksJ19_rangeCheck_0 9 rfl rfl)
theorem dJ19_rangeCheck_12 : decode cJ19_rangeCheck 12 = .ok (.dup, 1) := dk_89 (dk_at dksJ19_rangeCheck_0 12 rfl rfl)
theorem dJ19_rangeCheck_13 : decode cJ19_rangeCheck 13 = .ok (.invokespecial 47, 3) := dk_183 0 47 (dk_at dksJ19_rangeCheck_0 13 rfl rfl)
theorem dJ19_rangeCheck_16 : decode cJ19_rangeCheck 16 = .ok (.ldc 48, 2) := dk_18 48 (dk_at dksJ19_rangeCheck_0 16 rfl rfl)
theorem dJ19_rangeCheck_18 : decode cJ19_rangeCheck 18 = .ok (.invokevirtual 50, 3) := dk_182 0 50 (dk_at dksJ19_rangeCheck_0 18 rfl rfl)
theorem dJ19_rangeCheck_21 : decode cJ19_rangeCheck 21 = .ok (.iload_n 1, 1) := dk_27 (dk_at dksJ19_rangeCheck_0 21 rfl rfl)
theorem dJ19_rangeCheck_22 : decode cJ19_rangeCheck 22 = .ok (.invokevirtual 54, 3) := dk_182 0 54 (dk_at dksJ19_rangeCheck_1 0 rfl rfl)
theorem dJ19_rangeCheck_25 : decode cJ19_rangeCheck 25 = .ok (.ldc 57, 2) := dk_18 57 (dk_at dksJ19_rangeCheck_1 3 rfl rfl)
theorem dJ19_rangeCheck_27 : decode cJ19_rangeCheck 27 = .ok (.invokevirtual 50, 3) := dk_182 0 50 (dk_at dksJ19_rangeCheck_1 5 rfl rfl)
theorem dJ19_rangeCheck_30 : decode cJ19_rangeCheck 30 = .ok (.iload_n 2, 1) := dk_28 (dk_at dksJ19_rangeCheck_1 8 rfl rfl)
theorem dJ19_rangeCheck_31 : decode cJ19_rangeCheck 31 = .ok (.invokevirtual 54, 3) := dk_182 0 54 (dk_at dksJ19_rangeCheck_1 9 rfl rfl)
theorem dJ19_rangeCheck_34 : decode cJ19_rangeCheck 34 = .ok (.ldc 59, 2) := dk_18 59 (dk_at dksJ19_rangeCheck_1 12 rfl rfl)
theorem dJ19_rangeCheck_36 : decode cJ19_rangeCheck 36 = .ok (.invokevirtual 50, 3) := dk_182 0 50 (dk_at dksJ19_rangeCheck_1 14 rfl rfl)
theorem dJ19_rangeCheck_39 : decode cJ19_rangeCheck 39 = .ok (.invokevirtual 61, 3) := dk_182 0 61 (dk_at dksJ19_rangeCheck_1 17 rfl rfl)
theorem dJ19_rangeCheck_42 : decode cJ19_rangeCheck 42 = .ok (.invokespecial 65, 3) := dk_183 0 65 (dk_at dksJ19_rangeCheck_1 20 rfl rfl)
theorem dJ19_rangeCheck_45 : decode cJ19_rangeCheck 45 = .ok (.athrow, 1) := dk_191 (dk_at dksJ19_rangeCheck_1 23 rfl rfl)
theorem dJ19_rangeCheck_46 : decode cJ19_rangeCheck 46 = .ok (.iload_n 1, 1) := dk_27 (dk_at dksJ19_rangeCheck_2 0 rfl rfl)
theorem dJ19_rangeCheck_47 : decode cJ19_rangeCheck 47 = .ok (.ifCond .ge 12, 3) := dk_156 0 12 (dk_at dksJ19_rangeCheck_2 1 rfl rfl)
theorem dJ19_rangeCheck_50 : decode cJ19_rangeCheck 50 = .ok (.new 68, 3) := dk_187 0 68 (dk_at dksJ19_rangeCheck_2 4 rfl rfl)
theorem dJ19_rangeCheck_53 : decode cJ19_rangeCheck 53 = .ok (.dup, 1) := dk_89 (dk_at dksJ19_rangeCheck_2 7 rfl rfl)
theorem dJ19_rangeCheck_54 : decode cJ19_rangeCheck 54 = .ok (.iload_n 1, 1) := dk_27 (dk_at dksJ19_rangeCheck_2 8 rfl rfl)
theorem dJ19_rangeCheck_55 : decode cJ19_rangeCheck 55 = .ok (.invokespecial 70, 3) := dk_183 0 70 (dk_at dksJ19_rangeCheck_2 9 rfl rfl)
theorem dJ19_rangeCheck_58 : decode cJ19_rangeCheck 58 = .ok (.athrow, 1) := dk_191 (dk_at dksJ19_rangeCheck_2 12 rfl rfl)
theorem dJ19_rangeCheck_59 : decode cJ19_rangeCheck 59 = .ok (.iload_n 2, 1) := dk_28 (dk_at dksJ19_rangeCheck_2 13 rfl rfl)
theorem dJ19_rangeCheck_60 : decode cJ19_rangeCheck 60 = .ok (.iload_n 0, 1) := dk_26 (dk_at dksJ19_rangeCheck_2 14 rfl rfl)
theorem dJ19_rangeCheck_61 : decode cJ19_rangeCheck 61 = .ok (.if_icmp .le 12, 3) := dk_164 0 12 (dk_at dksJ19_rangeCheck_2 15 rfl rfl)
theorem dJ19_rangeCheck_64 : decode cJ19_rangeCheck 64 = .ok (.new 68, 3) := dk_187 0 68 (dk_at dksJ19_rangeCheck_2 18 rfl rfl)
theorem dJ19_rangeCheck_67 : decode cJ19_rangeCheck 67 = .ok (.dup, 1) := dk_89 (dk_at dksJ19_rangeCheck_2 21 rfl rfl)
theorem dJ19_rangeCheck_68 : decode cJ19_rangeCheck 68 = .ok (.iload_n 2, 1) := dk_28 (dk_at dksJ19_rangeCheck_2 22 rfl rfl)
theorem dJ19_rangeCheck_69 : decode cJ19_rangeCheck 69 = .ok (.invokespecial 70, 3) := dk_183 0 70 (dk_at dksJ19_rangeCheck_3 0 rfl rfl)
theorem dJ19_rangeCheck_72 : decode cJ19_rangeCheck 72 = .ok (.athrow, 1) := dk_191 (dk_at dksJ19_rangeCheck_3 3 rfl rfl)
theorem dJ19_rangeCheck_73 : decode cJ19_rangeCheck 73 = .ok (.return_, 1) := dk_177 (dk_at dksJ19_rangeCheck_3 4 rfl rfl)
theorem q145 : (Jvm.Cond.initialized "java/util/Arrays") ∈ lw_all := lw_g (lw_at lw_m1 31 rfl) rfl
theorem q662 : (Jvm.Cond.static ({ cls := "java/util/Arrays", name := "copyOf", desc := "([JI)[J" } : Jvm.MethodName)) ∈ lw_all := lw_g (lw_at lw_m3 68 rfl) rfl
theorem q663 : (Jvm.Cond.code ({ cls := "java/util/Arrays", name := "copyOf", desc := "([JI)[J" } : Jvm.MethodName) prog_54_method_124_code (3 : Nat) (Option.some (Jvm.ClassFile.FieldType.array Jvm.ClassFile.FieldType.long))) ∈ lw_all := lw_g (lw_at lw_m3 69 rfl) rfl
theorem q664 : (Jvm.Cond.methodLink "java/util/Arrays" (319 : Nat) ({ cls := "[J", name := "clone", desc := "()Ljava/lang/Object;" } : Jvm.MethodName)) ∈ lw_all := lw_g (lw_at lw_m3 70 rfl) rfl
theorem q670 : (Jvm.Cond.classLink "java/util/Arrays" (320 : Nat) "[J") ∈ lw_all := lw_g (lw_at lw_m3 76 rfl) rfl
theorem q671 : (Jvm.Cond.methodLink "java/util/Arrays" (304 : Nat) ({ cls := "java/lang/Math", name := "min", desc := "(II)I" } : Jvm.MethodName)) ∈ lw_all := lw_g (lw_at lw_m3 77 rfl) rfl
theorem q672 : (Jvm.Cond.methodLink "java/util/Arrays" (150 : Nat) ({ cls := "java/lang/System", name := "arraycopy", desc := "(Ljava/lang/Object;ILjava/lang/Object;II)V" } : Jvm.MethodName)) ∈ lw_all := lw_g (lw_at lw_m3 78 rfl) rfl
theorem q720 : (Jvm.Cond.static ({ cls := "java/util/Arrays", name := "copyOfRange", desc := "([Ljava/lang/Object;IILjava/lang/Class;)[Ljava/lang/Object;" } : Jvm.MethodName)) ∈ lw_all := lw_g (lw_at lw_m3 126 rfl) rfl
theorem q721 : (Jvm.Cond.code ({ cls := "java/util/Arrays", name := "copyOfRange", desc := "([Ljava/lang/Object;IILjava/lang/Class;)[Ljava/lang/Object;" } : Jvm.MethodName) prog_54_method_130_code (6 : Nat) (Option.some (Jvm.ClassFile.FieldType.array (Jvm.ClassFile.FieldType.object "java/lang/Object")))) ∈ lw_all := lw_g (lw_at lw_m3 127 rfl) rfl
theorem q722 : (Jvm.Cond.classLink "java/util/Arrays" (110 : Nat) "[Ljava/lang/Object;") ∈ lw_all := lw_g (lw_at lw_m3 128 rfl) rfl
theorem q723 : (Jvm.Cond.classLink "java/util/Arrays" (2 : Nat) "java/lang/Object") ∈ lw_all := lw_g (lw_at lw_m3 129 rfl) rfl
theorem q739 : (Jvm.Cond.static ({ cls := "java/util/Arrays", name := "copyOf", desc := "([Ljava/lang/Object;I)[Ljava/lang/Object;" } : Jvm.MethodName)) ∈ lw_all := lw_g (lw_at lw_m3 145 rfl) rfl
theorem q740 : (Jvm.Cond.code ({ cls := "java/util/Arrays", name := "copyOf", desc := "([Ljava/lang/Object;I)[Ljava/lang/Object;" } : Jvm.MethodName) prog_54_method_119_code (2 : Nat) (Option.some (Jvm.ClassFile.FieldType.array (Jvm.ClassFile.FieldType.object "java/lang/Object")))) ∈ lw_all := lw_g (lw_at lw_m3 146 rfl) rfl
theorem q741 : (Jvm.Cond.methodLink "java/util/Arrays" (86 : Nat) ({ cls := "java/lang/Object", name := "getClass", desc := "()Ljava/lang/Class;" } : Jvm.MethodName)) ∈ lw_all := lw_g (lw_at lw_m3 147 rfl) rfl
theorem q742 : (Jvm.Cond.methodLink "java/util/Arrays" (300 : Nat) ({ cls := "java/util/Arrays", name := "copyOf", desc := "([Ljava/lang/Object;ILjava/lang/Class;)[Ljava/lang/Object;" } : Jvm.MethodName)) ∈ lw_all := lw_g (lw_at lw_m3 148 rfl) rfl
theorem q743 : (Jvm.Cond.static ({ cls := "java/util/Arrays", name := "copyOf", desc := "([Ljava/lang/Object;ILjava/lang/Class;)[Ljava/lang/Object;" } : Jvm.MethodName)) ∈ lw_all := lw_g (lw_at lw_m3 149 rfl) rfl
theorem q744 : (Jvm.Cond.code ({ cls := "java/util/Arrays", name := "copyOf", desc := "([Ljava/lang/Object;ILjava/lang/Class;)[Ljava/lang/Object;" } : Jvm.MethodName) prog_54_method_120_code (4 : Nat) (Option.some (Jvm.ClassFile.FieldType.array (Jvm.ClassFile.FieldType.object "java/lang/Object")))) ∈ lw_all := lw_g (lw_at lw_m3 150 rfl) rfl
theorem q1445 : (Jvm.Cond.static ({ cls := "java/util/Arrays", name := "copyOf", desc := "([BI)[B" } : Jvm.MethodName)) ∈ lw_all := lw_g (lw_at lw_m6 131 rfl) rfl
theorem q1446 : (Jvm.Cond.code ({ cls := "java/util/Arrays", name := "copyOf", desc := "([BI)[B" } : Jvm.MethodName) prog_54_method_121_code (3 : Nat) (Option.some (Jvm.ClassFile.FieldType.array Jvm.ClassFile.FieldType.byte))) ∈ lw_all := lw_g (lw_at lw_m6 132 rfl) rfl
theorem q1447 : (Jvm.Cond.methodLink "java/util/Arrays" (310 : Nat) ({ cls := "[B", name := "clone", desc := "()Ljava/lang/Object;" } : Jvm.MethodName)) ∈ lw_all := lw_g (lw_at lw_m6 133 rfl) rfl
theorem q1451 : (Jvm.Cond.classLink "java/util/Arrays" (311 : Nat) "[B") ∈ lw_all := lw_g (lw_at lw_m6 137 rfl) rfl
theorem q1543 : (Jvm.Cond.static ({ cls := "java/util/Arrays", name := "copyOfRange", desc := "([BII)[B" } : Jvm.MethodName)) ∈ lw_all := lw_g (lw_at lw_m6 229 rfl) rfl
theorem q1544 : (Jvm.Cond.code ({ cls := "java/util/Arrays", name := "copyOfRange", desc := "([BII)[B" } : Jvm.MethodName) prog_54_method_132_code (3 : Nat) (Option.some (Jvm.ClassFile.FieldType.array Jvm.ClassFile.FieldType.byte))) ∈ lw_all := lw_g (lw_at lw_m6 230 rfl) rfl
theorem q1545 : (Jvm.Cond.methodLink "java/util/Arrays" (339 : Nat) ({ cls := "java/util/Arrays", name := "copyOfRangeByte", desc := "([BII)[B" } : Jvm.MethodName)) ∈ lw_all := lw_g (lw_at lw_m6 231 rfl) rfl
theorem q1546 : (Jvm.Cond.static ({ cls := "java/util/Arrays", name := "copyOfRangeByte", desc := "([BII)[B" } : Jvm.MethodName)) ∈ lw_all := lw_g (lw_at lw_m6 232 rfl) rfl
theorem q1547 : (Jvm.Cond.code ({ cls := "java/util/Arrays", name := "copyOfRangeByte", desc := "([BII)[B" } : Jvm.MethodName) prog_54_method_133_code (5 : Nat) (Option.some (Jvm.ClassFile.FieldType.array Jvm.ClassFile.FieldType.byte))) ∈ lw_all := lw_g (lw_at lw_m6 233 rfl) rfl
theorem q1548 : (Jvm.Cond.methodLink "java/util/Arrays" (343 : Nat) ({ cls := "java/util/Arrays", name := "checkLength", desc := "(II)V" } : Jvm.MethodName)) ∈ lw_all := lw_g (lw_at lw_m6 234 rfl) rfl
theorem q1549 : (Jvm.Cond.static ({ cls := "java/util/Arrays", name := "checkLength", desc := "(II)V" } : Jvm.MethodName)) ∈ lw_all := lw_g (lw_at lw_m6 235 rfl) rfl
theorem q1550 : (Jvm.Cond.code ({ cls := "java/util/Arrays", name := "checkLength", desc := "(II)V" } : Jvm.MethodName) prog_54_method_131_code (2 : Nat) (Option.none : Option Jvm.ClassFile.FieldType)) ∈ lw_all := lw_g (lw_at lw_m6 236 rfl) rfl
theorem q1800 : (Jvm.Cond.static ({ cls := "java/util/Arrays", name := "fill", desc := "([BIIB)V" } : Jvm.MethodName)) ∈ lw_all := lw_g (lw_at lw_m8 6 rfl) rfl
theorem q1801 : (Jvm.Cond.code ({ cls := "java/util/Arrays", name := "fill", desc := "([BIIB)V" } : Jvm.MethodName) prog_54_method_110_code (5 : Nat) (Option.none : Option Jvm.ClassFile.FieldType)) ∈ lw_all := lw_g (lw_at lw_m8 7 rfl) rfl
theorem q1802 : (Jvm.Cond.methodLink "java/util/Arrays" (13 : Nat) ({ cls := "java/util/Arrays", name := "rangeCheck", desc := "(III)V" } : Jvm.MethodName)) ∈ lw_all := lw_g (lw_at lw_m8 8 rfl) rfl
theorem q1803 : (Jvm.Cond.static ({ cls := "java/util/Arrays", name := "rangeCheck", desc := "(III)V" } : Jvm.MethodName)) ∈ lw_all := lw_g (lw_at lw_m8 9 rfl) rfl
theorem q1804 : (Jvm.Cond.code ({ cls := "java/util/Arrays", name := "rangeCheck", desc := "(III)V" } : Jvm.MethodName) prog_54_method_30_code (3 : Nat) (Option.none : Option Jvm.ClassFile.FieldType)) ∈ lw_all := lw_g (lw_at lw_m8 10 rfl) rfl
/-! java/lang/StringLatin1 -/
set_option maxRecDepth 100000
def RJ20 : String := "java/lang/StringLatin1"
abbrev cJ20_charAt : ByteArray := prog_41_method_2_code
def yJ20_charAt : MethodName := ⟨RJ20, "charAt", "([BI)C"⟩
def dkwJ20_charAt_0 : List UInt8 := [27, 42, 190, 184, 0, 9, 42, 27, 51, 17, 0, 255, 126, 146, 172]
abbrev dktJ20_charAt_0 : List UInt8 := dkwJ20_charAt_0 ++ []
theorem dksJ20_charAt_0 : cJ20_charAt.data.toList.drop 0 = dktJ20_charAt_0 := by decide +kernel
theorem dJ20_charAt_0 : decode cJ20_charAt 0 = .ok (.iload_n 1, 1) := dk_27 (dk_at dksJ20_charAt_0 0 rfl rfl)
theorem dJ20_charAt_1 : decode cJ20_charAt 1 = .ok (.aload_n 0, 1) := dk_42 (dk_at dksJ20_charAt_0 1 rfl rfl)
theorem dJ20_charAt_2 : decode cJ20_charAt 2 = .ok (.arraylength, 1) := dk_190 (dk_at dksJ20_charAt_0 2 rfl rfl)
theorem dJ20_charAt_3 : decode cJ20_charAt 3 = .ok (.invokestatic 9, 3) := dk_184 0 9 (dk_at dksJ20_charAt_0 3 rfl rfl)
theorem dJ20_charAt_6 : decode cJ20_charAt 6 = .ok (.aload_n 0, 1) := dk_42 (dk_at dksJ20_charAt_0 6 rfl rfl)
theorem dJ20_charAt_7 : decode cJ20_charAt 7 = .ok (.iload_n 1, 1) := dk_27 (dk_at dksJ20_charAt_0 7 rfl rfl)
theorem dJ20_charAt_8 : decode cJ20_charAt 8 = .ok (.baload, 1) := dk_51 (dk_at dksJ20_charAt_0 8 rfl rfl)
theorem dJ20_charAt_9 : decode cJ20_charAt 9 = .ok (.sipush 255, 3) := dk_17 0 255 (dk_at dksJ20_charAt_0 9 rfl rfl)
theorem dJ20_charAt_12 : decode cJ20_charAt 12 = .ok (.iand, 1) := dk_126 (dk_at dksJ20_charAt_0 12 rfl rfl)
theorem dJ20_charAt_13 : decode cJ20_charAt 13 = .ok (.i2c, 1) := dk_146 (dk_at dksJ20_charAt_0 13 rfl rfl)
theorem dJ20_charAt_14 : decode cJ20_charAt 14 = .ok (.ireturn, 1) := dk_172 (dk_at dksJ20_charAt_0 14 rfl rfl)
abbrev cJ20_inflate : ByteArray := prog_41_method_50_code
def yJ20_inflate : MethodName := ⟨RJ20, "inflate", "([BI[BII)V"⟩
def dkwJ20_inflate_0 : List UInt8 := [42, 27, 44, 29, 21, 4, 184, 0, 240, 177]
abbrev dktJ20_inflate_0 : List UInt8 := dkwJ20_inflate_0 ++ []
theorem dksJ20_inflate_0 : cJ20_inflate.data.toList.drop 0 = dktJ20_inflate_0 := by decide +kernel
theorem dJ20_inflate_0 : decode cJ20_inflate 0 = .ok (.aload_n 0, 1) := dk_42 (dk_at dksJ20_inflate_0 0 rfl rfl)
theorem dJ20_inflate_1 : decode cJ20_inflate 1 = .ok (.iload_n 1, 1) := dk_27 (dk_at dksJ20_inflate_0 1 rfl rfl)
theorem dJ20_inflate_2 : decode cJ20_inflate 2 = .ok (.aload_n 2, 1) := dk_44 (dk_at dksJ20_inflate_0 2 rfl rfl)
theorem dJ20_inflate_3 : decode cJ20_inflate 3 = .ok (.iload_n 3, 1) := dk_29 (dk_at dksJ20_inflate_0 3 rfl rfl)
theorem dJ20_inflate_4 : decode cJ20_inflate 4 = .ok (.iload 4, 2) := dk_21 4 (dk_at dksJ20_inflate_0 4 rfl rfl)
theorem dJ20_inflate_6 : decode cJ20_inflate 6 = .ok (.invokestatic 240, 3) := dk_184 0 240 (dk_at dksJ20_inflate_0 6 rfl rfl)
theorem dJ20_inflate_9 : decode cJ20_inflate 9 = .ok (.return_, 1) := dk_177 (dk_at dksJ20_inflate_0 9 rfl rfl)
abbrev cJ20_canEncode : ByteArray := prog_41_method_3_code
def yJ20_canEncode : MethodName := ⟨RJ20, "canEncode", "(C)Z"⟩
def dkwJ20_canEncode_0 : List UInt8 := [26, 17, 0, 255, 163, 0, 7, 4, 167, 0, 4, 3, 172]
abbrev dktJ20_canEncode_0 : List UInt8 := dkwJ20_canEncode_0 ++ []
theorem dksJ20_canEncode_0 : cJ20_canEncode.data.toList.drop 0 = dktJ20_canEncode_0 := by decide +kernel
theorem dJ20_canEncode_0 : decode cJ20_canEncode 0 = .ok (.iload_n 0, 1) := dk_26 (dk_at dksJ20_canEncode_0 0 rfl rfl)
theorem dJ20_canEncode_1 : decode cJ20_canEncode 1 = .ok (.sipush 255, 3) := dk_17 0 255 (dk_at dksJ20_canEncode_0 1 rfl rfl)
theorem dJ20_canEncode_4 : decode cJ20_canEncode 4 = .ok (.if_icmp .gt 7, 3) := dk_163 0 7 (dk_at dksJ20_canEncode_0 4 rfl rfl)
theorem dJ20_canEncode_7 : decode cJ20_canEncode 7 = .ok (.iconst 1, 1) := dk_4 (dk_at dksJ20_canEncode_0 7 rfl rfl)
theorem dJ20_canEncode_8 : decode cJ20_canEncode 8 = .ok (.goto 4, 3) := dk_167 0 4 (dk_at dksJ20_canEncode_0 8 rfl rfl)
theorem dJ20_canEncode_11 : decode cJ20_canEncode 11 = .ok (.iconst 0, 1) := dk_3 (dk_at dksJ20_canEncode_0 11 rfl rfl)
theorem dJ20_canEncode_12 : decode cJ20_canEncode 12 = .ok (.ireturn, 1) := dk_172 (dk_at dksJ20_canEncode_0 12 rfl rfl)
abbrev cJ20_fillNull : ByteArray := prog_41_method_48_code
def yJ20_fillNull : MethodName := ⟨RJ20, "fillNull", "([BII)V"⟩
def dkwJ20_fillNull_0 : List UInt8 := [42, 27, 28, 3, 184, 0, 236, 177]
abbrev dktJ20_fillNull_0 : List UInt8 := dkwJ20_fillNull_0 ++ []
theorem dksJ20_fillNull_0 : cJ20_fillNull.data.toList.drop 0 = dktJ20_fillNull_0 := by decide +kernel
theorem dJ20_fillNull_0 : decode cJ20_fillNull 0 = .ok (.aload_n 0, 1) := dk_42 (dk_at dksJ20_fillNull_0 0 rfl rfl)
theorem dJ20_fillNull_1 : decode cJ20_fillNull 1 = .ok (.iload_n 1, 1) := dk_27 (dk_at dksJ20_fillNull_0 1 rfl rfl)
theorem dJ20_fillNull_2 : decode cJ20_fillNull 2 = .ok (.iload_n 2, 1) := dk_28 (dk_at dksJ20_fillNull_0 2 rfl rfl)
theorem dJ20_fillNull_3 : decode cJ20_fillNull 3 = .ok (.iconst 0, 1) := dk_3 (dk_at dksJ20_fillNull_0 3 rfl rfl)
theorem dJ20_fillNull_4 : decode cJ20_fillNull 4 = .ok (.invokestatic 236, 3) := dk_184 0 236 (dk_at dksJ20_fillNull_0 4 rfl rfl)
theorem dJ20_fillNull_7 : decode cJ20_fillNull 7 = .ok (.return_, 1) := dk_177 (dk_at dksJ20_fillNull_0 7 rfl rfl)
theorem q147 : (Jvm.Cond.initialized "java/lang/StringLatin1") ∈ lw_all := lw_g (lw_at lw_m1 33 rfl) rfl
theorem q1092 : (Jvm.Cond.static ({ cls := "java/lang/StringLatin1", name := "charAt", desc := "([BI)C" } : Jvm.MethodName)) ∈ lw_all := lw_g (lw_at lw_m5 18 rfl) rfl
theorem q1093 : (Jvm.Cond.code ({ cls := "java/lang/StringLatin1", name := "charAt", desc := "([BI)C" } : Jvm.MethodName) prog_41_method_2_code (2 : Nat) (Option.some Jvm.ClassFile.FieldType.char)) ∈ lw_all := lw_g (lw_at lw_m5 19 rfl) rfl
theorem q1094 : (Jvm.Cond.methodLink "java/lang/StringLatin1" (9 : Nat) ({ cls := "java/lang/String", name := "checkIndex", desc := "(II)V" } : Jvm.MethodName)) ∈ lw_all := lw_g (lw_at lw_m5 20 rfl) rfl
theorem q1494 : (Jvm.Cond.static ({ cls := "java/lang/StringLatin1", name := "inflate", desc := "([BI[BII)V" } : Jvm.MethodName)) ∈ lw_all := lw_g (lw_at lw_m6 180 rfl) rfl
theorem q1495 : (Jvm.Cond.code ({ cls := "java/lang/StringLatin1", name := "inflate", desc := "([BI[BII)V" } : Jvm.MethodName) prog_41_method_50_code (5 : Nat) (Option.none : Option Jvm.ClassFile.FieldType)) ∈ lw_all := lw_g (lw_at lw_m6 181 rfl) rfl
theorem q1496 : (Jvm.Cond.methodLink "java/lang/StringLatin1" (240 : Nat) ({ cls := "java/lang/StringUTF16", name := "inflate", desc := "([BI[BII)V" } : Jvm.MethodName)) ∈ lw_all := lw_g (lw_at lw_m6 182 rfl) rfl
theorem q1679 : (Jvm.Cond.static ({ cls := "java/lang/StringLatin1", name := "canEncode", desc := "(C)Z" } : Jvm.MethodName)) ∈ lw_all := lw_g (lw_at lw_m7 125 rfl) rfl
theorem q1680 : (Jvm.Cond.code ({ cls := "java/lang/StringLatin1", name := "canEncode", desc := "(C)Z" } : Jvm.MethodName) prog_41_method_3_code (1 : Nat) (Option.some Jvm.ClassFile.FieldType.boolean)) ∈ lw_all := lw_g (lw_at lw_m7 126 rfl) rfl
theorem q1797 : (Jvm.Cond.static ({ cls := "java/lang/StringLatin1", name := "fillNull", desc := "([BII)V" } : Jvm.MethodName)) ∈ lw_all := lw_g (lw_at lw_m8 3 rfl) rfl
theorem q1798 : (Jvm.Cond.code ({ cls := "java/lang/StringLatin1", name := "fillNull", desc := "([BII)V" } : Jvm.MethodName) prog_41_method_48_code (3 : Nat) (Option.none : Option Jvm.ClassFile.FieldType)) ∈ lw_all := lw_g (lw_at lw_m8 4 rfl) rfl
theorem q1799 : (Jvm.Cond.methodLink "java/lang/StringLatin1" (236 : Nat) ({ cls := "java/util/Arrays", name := "fill", desc := "([BIIB)V" } : Jvm.MethodName)) ∈ lw_all := lw_g (lw_at lw_m8 5 rfl) rfl
/-! jdk/internal/util/Preconditions -/
set_option maxRecDepth 100000
def RJ21 : String := "jdk/internal/util/Preconditions"
abbrev cJ21_checkIndex : ByteArray := prog_76_method_11_code
def yJ21_checkIndex : MethodName := ⟨RJ21, "checkIndex", "(IILjava/util/function/BiFunction;)I"⟩
def dkwJ21_checkIndex_0 : List UInt8 := [26, 155, 0, 8, 26, 27, 161, 0, 10, 44, 26, 27, 184, 0, 95, 191, 26, 172]
abbrev dktJ21_checkIndex_0 : List UInt8 := dkwJ21_checkIndex_0 ++ []
theorem dksJ21_checkIndex_0 : cJ21_checkIndex.data.toList.drop 0 = dktJ21_checkIndex_0 := by decide +kernel
theorem dJ21_checkIndex_0 : decode cJ21_checkIndex 0 = .ok (.iload_n 0, 1) := dk_26 (dk_at dksJ21_checkIndex_0 0 rfl rfl)
theorem dJ21_checkIndex_1 : decode cJ21_checkIndex 1 = .ok (.ifCond .lt 8, 3) := dk_155 0 8 (dk_at dksJ21_checkIndex_0 1 rfl rfl)
theorem dJ21_checkIndex_4 : decode cJ21_checkIndex 4 = .ok (.iload_n 0, 1) := dk_26 (dk_at dksJ21_checkIndex_0 4 rfl rfl)
theorem dJ21_checkIndex_5 : decode cJ21_checkIndex 5 = .ok (.iload_n 1, 1) := dk_27 (dk_at dksJ21_checkIndex_0 5 rfl rfl)
theorem dJ21_checkIndex_6 : decode cJ21_checkIndex 6 = .ok (.if_icmp .lt 10, 3) := dk_161 0 10 (dk_at dksJ21_checkIndex_0 6 rfl rfl)
theorem dJ21_checkIndex_9 : decode cJ21_checkIndex 9 = .ok (.aload_n 2, 1) := dk_44 (dk_at dksJ21_checkIndex_0 9 rfl rfl)
theorem dJ21_checkIndex_10 : decode cJ21_checkIndex 10 = .ok (.iload_n 0, 1) := dk_26 (dk_at dksJ21_checkIndex_0 10 rfl rfl)
theorem dJ21_checkIndex_11 : decode cJ21_checkIndex 11 = .ok (.iload_n 1, 1) := dk_27 (dk_at dksJ21_checkIndex_0 11 rfl rfl)
theorem dJ21_checkIndex_12 : decode cJ21_checkIndex 12 = .ok (.invokestatic 95, 3) := dk_184 0 95 (dk_at dksJ21_checkIndex_0 12 rfl rfl)
theorem dJ21_checkIndex_15 : decode cJ21_checkIndex 15 = .ok (.athrow, 1) := dk_191 (dk_at dksJ21_checkIndex_0 15 rfl rfl)
theorem dJ21_checkIndex_16 : decode cJ21_checkIndex 16 = .ok (.iload_n 0, 1) := dk_26 (dk_at dksJ21_checkIndex_0 16 rfl rfl)
theorem dJ21_checkIndex_17 : decode cJ21_checkIndex 17 = .ok (.ireturn, 1) := dk_172 (dk_at dksJ21_checkIndex_0 17 rfl rfl)
abbrev cJ21_checkFromToIndex : ByteArray := prog_76_method_12_code
def yJ21_checkFromToIndex : MethodName := ⟨RJ21, "checkFromToIndex", "(IIILjava/util/function/BiFunction;)I"⟩
def dkwJ21_checkFromToIndex_0 : List UInt8 := [26, 155, 0, 13, 26, 27, 163, 0, 8, 27, 28, 164, 0, 11, 45, 26, 27, 28, 184, 0, 99, 191, 26, 172]
abbrev dktJ21_checkFromToIndex_0 : List UInt8 := dkwJ21_checkFromToIndex_0 ++ []
theorem dksJ21_checkFromToIndex_0 : cJ21_checkFromToIndex.data.toList.drop 0 = dktJ21_checkFromToIndex_0 := by decide +kernel
theorem dJ21_checkFromToIndex_0 : decode cJ21_checkFromToIndex 0 = .ok (.iload_n 0, 1) := dk_26 (dk_at dksJ21_checkFromToIndex_0 0 rfl rfl)
theorem dJ21_checkFromToIndex_1 : decode cJ21_checkFromToIndex 1 = .ok (.ifCond .lt 13, 3) := dk_155 0 13 (dk_at dksJ21_checkFromToIndex_0 1 rfl rfl)
theorem dJ21_checkFromToIndex_4 : decode cJ21_checkFromToIndex 4 = .ok (.iload_n 0, 1) := dk_26 (dk_at dksJ21_checkFromToIndex_0 4 rfl rfl)
theorem dJ21_checkFromToIndex_5 : decode cJ21_checkFromToIndex 5 = .ok (.iload_n 1, 1) := dk_27 (dk_at dksJ21_checkFromToIndex_0 5 rfl rfl)
theorem dJ21_checkFromToIndex_6 : decode cJ21_checkFromToIndex 6 = .ok (.if_icmp .gt 8, 3) := dk_163 0 8 (dk_at dksJ21_checkFromToIndex_0 6 rfl rfl)
theorem dJ21_checkFromToIndex_9 : decode cJ21_checkFromToIndex 9 = .ok (.iload_n 1, 1) := dk_27 (dk_at dksJ21_checkFromToIndex_0 9 rfl rfl)
theorem dJ21_checkFromToIndex_10 : decode cJ21_checkFromToIndex 10 = .ok (.iload_n 2, 1) := dk_28 (dk_at dksJ21_checkFromToIndex_0 10 rfl rfl)
theorem dJ21_checkFromToIndex_11 : decode cJ21_checkFromToIndex 11 = .ok (.if_icmp .le 11, 3) := dk_164 0 11 (dk_at dksJ21_checkFromToIndex_0 11 rfl rfl)
theorem dJ21_checkFromToIndex_14 : decode cJ21_checkFromToIndex 14 = .ok (.aload_n 3, 1) := dk_45 (dk_at dksJ21_checkFromToIndex_0 14 rfl rfl)
theorem dJ21_checkFromToIndex_15 : decode cJ21_checkFromToIndex 15 = .ok (.iload_n 0, 1) := dk_26 (dk_at dksJ21_checkFromToIndex_0 15 rfl rfl)
theorem dJ21_checkFromToIndex_16 : decode cJ21_checkFromToIndex 16 = .ok (.iload_n 1, 1) := dk_27 (dk_at dksJ21_checkFromToIndex_0 16 rfl rfl)
theorem dJ21_checkFromToIndex_17 : decode cJ21_checkFromToIndex 17 = .ok (.iload_n 2, 1) := dk_28 (dk_at dksJ21_checkFromToIndex_0 17 rfl rfl)
theorem dJ21_checkFromToIndex_18 : decode cJ21_checkFromToIndex 18 = .ok (.invokestatic 99, 3) := dk_184 0 99 (dk_at dksJ21_checkFromToIndex_0 18 rfl rfl)
theorem dJ21_checkFromToIndex_21 : decode cJ21_checkFromToIndex 21 = .ok (.athrow, 1) := dk_191 (dk_at dksJ21_checkFromToIndex_0 21 rfl rfl)
theorem dJ21_checkFromToIndex_22 : decode cJ21_checkFromToIndex 22 = .ok (.iload_n 0, 1) := dk_26 (dk_at dksJ21_checkFromToIndex_0 22 rfl rfl)
theorem dJ21_checkFromToIndex_23 : decode cJ21_checkFromToIndex 23 = .ok (.ireturn, 1) := dk_172 (dk_at dksJ21_checkFromToIndex_0 23 rfl rfl)
abbrev cJ21_checkFromIndexSize : ByteArray := prog_76_method_13_code
def yJ21_checkFromIndexSize : MethodName := ⟨RJ21, "checkFromIndexSize", "(IIILjava/util/function/BiFunction;)I"⟩
def dkwJ21_checkFromIndexSize_1 : List UInt8 := [172]
abbrev dktJ21_checkFromIndexSize_1 : List UInt8 := dkwJ21_checkFromIndexSize_1 ++ []
def dkwJ21_checkFromIndexSize_0 : List UInt8 := [28, 26, 128, 27, 128, 155, 0, 10, 27, 28, 26, 100, 164, 0, 11, 45, 26, 27, 28, 184, 0, 103, 191, 26]
abbrev dktJ21_checkFromIndexSize_0 : List UInt8 := dkwJ21_checkFromIndexSize_0 ++ dktJ21_checkFromIndexSize_1
theorem dksJ21_checkFromIndexSize_0 : cJ21_checkFromIndexSize.data.toList.drop 0 = dktJ21_checkFromIndexSize_0 := by decide +kernel
theorem dksJ21_checkFromIndexSize_1 : cJ21_checkFromIndexSize.data.toList.drop 24 = dktJ21_checkFromIndexSize_1 := dk_seg dksJ21_checkFromIndexSize_0 24 rfl rfl
theorem dJ21_checkFromIndexSize_0 : decode cJ21_checkFromIndexSize 0 = .ok (.iload_n 2, 1) := dk_28 (dk_at dksJ21_checkFromIndexSize_0 0 rfl rfl)
theorem dJ21_checkFromIndexSize_1 : decode cJ21_checkFromIndexSize 1 = .ok (.iload_n 0, 1) := dk_26 (dk_at dksJ21_checkFromIndexSize_0 1 rfl rfl)
theorem dJ21_checkFromIndexSize_2 : decode cJ21_checkFromIndexSize 2 = .ok (.ior, 1) := dk_128 (dk_at dksJ21_checkFromIndexSize_0 2 rfl rfl)
theorem dJ21_checkFromIndexSize_3 : decode cJ21_checkFromIndexSize 3 = .ok (.iload_n 1, 1) := dk_27 (dk_at dksJ21_checkFromIndexSize_0 3 rfl rfl)
theorem dJ21_checkFromIndexSize_4 : decode cJ21_checkFromIndexSize 4 = .ok (.ior, 1) := dk_128 (dk_at dksJ21_checkFromIndexSize_0 4 rfl rfl)
theorem dJ21_checkFromIndexSize_5 : decode cJ21_checkFromIndexSize 5 = .ok (.ifCond .lt 10, 3) := dk_155 0 10 (dk_at dksJ21_checkFromIndexSize_0 5 rfl rfl)
theorem dJ21_checkFromIndexSize_8 : decode cJ21_checkFromIndexSize 8 = .ok (.iload_n 1, 1) := dk_27 (dk_at dksJ21_checkFromIndexSize_0 8 rfl rfl)
theorem dJ21_checkFromIndexSize_9 : decode cJ21_checkFromIndexSize 9 = .ok (.iload_n 2, 1) := dk_28 (dk_at dksJ21_checkFromIndexSize_0 9 rfl rfl)
theorem dJ21_checkFromIndexSize_10 : decode cJ21_checkFromIndexSize 10 = .ok (.iload_n 0, 1) := dk_26 (dk_at dksJ21_checkFromIndexSize_0 10 rfl rfl)
theorem dJ21_checkFromIndexSize_11 : decode cJ21_checkFromIndexSize 11 = .ok (.isub, 1) := dk_100 (dk_at dksJ21_checkFromIndexSize_0 11 rfl rfl)
theorem dJ21_checkFromIndexSize_12 : decode cJ21_checkFromIndexSize 12 = .ok (.if_icmp .le 11, 3) := dk_164 0 11 (dk_at dksJ21_checkFromIndexSize_0 12 rfl rfl)
theorem dJ21_checkFromIndexSize_15 : decode cJ21_checkFromIndexSize 15 = .ok (.aload_n 3, 1) := dk_45 (dk_at dksJ21_checkFromIndexSize_0 15 rfl rfl)
theorem dJ21_checkFromIndexSize_16 : decode cJ21_checkFromIndexSize 16 = .ok (.iload_n 0, 1) := dk_26 (dk_at dksJ21_checkFromIndexSize_0 16 rfl rfl)
theorem dJ21_checkFromIndexSize_17 : decode cJ21_checkFromIndexSize 17 = .ok (.iload_n 1, 1) := dk_27 (dk_at dksJ21_checkFromIndexSize_0 17 rfl rfl)
theorem dJ21_checkFromIndexSize_18 : decode cJ21_checkFromIndexSize 18 = .ok (.iload_n 2, 1) := dk_28 (dk_at dksJ21_checkFromIndexSize_0 18 rfl rfl)
theorem dJ21_checkFromIndexSize_19 : decode cJ21_checkFromIndexSize 19 = .ok (.invokestatic 103, 3) := dk_184 0 103 (dk_at dksJ21_checkFromIndexSize_0 19 rfl rfl)
theorem dJ21_checkFromIndexSize_22 : decode cJ21_checkFromIndexSize 22 = .ok (.athrow, 1) := dk_191 (dk_at dksJ21_checkFromIndexSize_0 22 rfl rfl)
theorem dJ21_checkFromIndexSize_23 : decode cJ21_checkFromIndexSize 23 = .ok (.iload_n 0, 1) := dk_26 (dk_at dksJ21_checkFromIndexSize_0 23 rfl rfl)
theorem dJ21_checkFromIndexSize_24 : decode cJ21_checkFromIndexSize 24 = .ok (.ireturn, 1) := dk_172 (dk_at dksJ21_checkFromIndexSize_1 0 rfl rfl)
theorem q148 : (Jvm.Cond.initialized "jdk/internal/util/Preconditions") ∈ lw_all := lw_g (lw_at lw_m1 34 rfl) rfl
theorem q1098 : (Jvm.Cond.laysStatic "jdk/internal/util/Preconditions" "SIOOBE_FORMATTER" "Ljava/util/function/BiFunction;") ∈ lw_tbl := lw_at lw_m5 24 rfl
theorem q1100 : (Jvm.Cond.static ({ cls := "jdk/internal/util/Preconditions", name := "checkIndex", desc := "(IILjava/util/function/BiFunction;)I" } : Jvm.MethodName)) ∈ lw_all := lw_g (lw_at lw_m5 26 rfl) rfl
theorem q1101 : (Jvm.Cond.code ({ cls := "jdk/internal/util/Preconditions", name := "checkIndex", desc := "(IILjava/util/function/BiFunction;)I" } : Jvm.MethodName) prog_76_method_11_code (3 : Nat) (Option.some Jvm.ClassFile.FieldType.int)) ∈ lw_all := lw_g (lw_at lw_m5 27 rfl) rfl
theorem q1467 : (Jvm.Cond.static ({ cls := "jdk/internal/util/Preconditions", name := "checkFromToIndex", desc := "(IIILjava/util/function/BiFunction;)I" } : Jvm.MethodName)) ∈ lw_all := lw_g (lw_at lw_m6 153 rfl) rfl
theorem q1468 : (Jvm.Cond.code ({ cls := "jdk/internal/util/Preconditions", name := "checkFromToIndex", desc := "(IIILjava/util/function/BiFunction;)I" } : Jvm.MethodName) prog_76_method_12_code (4 : Nat) (Option.some Jvm.ClassFile.FieldType.int)) ∈ lw_all := lw_g (lw_at lw_m6 154 rfl) rfl
theorem q1506 : (Jvm.Cond.static ({ cls := "jdk/internal/util/Preconditions", name := "checkFromIndexSize", desc := "(IIILjava/util/function/BiFunction;)I" } : Jvm.MethodName)) ∈ lw_all := lw_g (lw_at lw_m6 192 rfl) rfl
theorem q1507 : (Jvm.Cond.code ({ cls := "jdk/internal/util/Preconditions", name := "checkFromIndexSize", desc := "(IIILjava/util/function/BiFunction;)I" } : Jvm.MethodName) prog_76_method_13_code (4 : Nat) (Option.some Jvm.ClassFile.FieldType.int)) ∈ lw_all := lw_g (lw_at lw_m6 193 rfl) rfl
/-! java/util/LinkedList$Node -/
set_option maxRecDepth 100000
def RJ22 : String := "java/util/LinkedList$Node"
def TJ22 : u_T := fun k => match k with
  | 0 => ("java/util/LinkedList$Node", "item", "Ljava/lang/Object;", false)
  | 1 => ("java/util/LinkedList$Node", "next", "Ljava/util/LinkedList$Node;", false)
  | _ => ("java/util/LinkedList$Node", "prev", "Ljava/util/LinkedList$Node;", false)
def tyJ22 : Nat → FieldType := fun k => match k with
  | 0 => .object "java/lang/Object"
  | 1 => .object "java/util/LinkedList$Node"
  | _ => .object "java/util/LinkedList$Node"
abbrev wsJ220 : List Cond := u_ws RJ22 TJ22 3
theorem nmJ22 : ∀ a, a < 3 → ∀ b, b < 3 → a ≠ b → (TJ22 a).2.1 ≠ (TJ22 b).2.1 := by decide +kernel
theorem tyJ22_ok : ∀ k, k < 3 → parseFieldDescriptor (TJ22 k).2.2.1 = some (tyJ22 k) := by decide +kernel
abbrev cJ22_init : ByteArray := prog_67_method_1_code
def yJ22_init : MethodName := ⟨RJ22, "<init>", "(Ljava/util/LinkedList$Node;Ljava/lang/Object;Ljava/util/LinkedList$Node;)V"⟩
def dkwJ22_init_0 : List UInt8 := [42, 183, 0, 1, 42, 44, 181, 0, 7, 42, 45, 181, 0, 13, 42, 43, 181, 0, 17, 177]
abbrev dktJ22_init_0 : List UInt8 := dkwJ22_init_0 ++ []
theorem dksJ22_init_0 : cJ22_init.data.toList.drop 0 = dktJ22_init_0 := by decide +kernel
theorem dJ22_init_0 : decode cJ22_init 0 = .ok (.aload_n 0, 1) := dk_42 (dk_at dksJ22_init_0 0 rfl rfl)
theorem dJ22_init_1 : decode cJ22_init 1 = .ok (.invokespecial 1, 3) := dk_183 0 1 (dk_at dksJ22_init_0 1 rfl rfl)
theorem dJ22_init_4 : decode cJ22_init 4 = .ok (.aload_n 0, 1) := dk_42 (dk_at dksJ22_init_0 4 rfl rfl)
theorem dJ22_init_5 : decode cJ22_init 5 = .ok (.aload_n 2, 1) := dk_44 (dk_at dksJ22_init_0 5 rfl rfl)
theorem dJ22_init_6 : decode cJ22_init 6 = .ok (.putfield 7, 3) := dk_181 0 7 (dk_at dksJ22_init_0 6 rfl rfl)
theorem dJ22_init_9 : decode cJ22_init 9 = .ok (.aload_n 0, 1) := dk_42 (dk_at dksJ22_init_0 9 rfl rfl)
theorem dJ22_init_10 : decode cJ22_init 10 = .ok (.aload_n 3, 1) := dk_45 (dk_at dksJ22_init_0 10 rfl rfl)
theorem dJ22_init_11 : decode cJ22_init 11 = .ok (.putfield 13, 3) := dk_181 0 13 (dk_at dksJ22_init_0 11 rfl rfl)
theorem dJ22_init_14 : decode cJ22_init 14 = .ok (.aload_n 0, 1) := dk_42 (dk_at dksJ22_init_0 14 rfl rfl)
theorem dJ22_init_15 : decode cJ22_init 15 = .ok (.aload_n 1, 1) := dk_43 (dk_at dksJ22_init_0 15 rfl rfl)
theorem dJ22_init_16 : decode cJ22_init 16 = .ok (.putfield 17, 3) := dk_181 0 17 (dk_at dksJ22_init_0 16 rfl rfl)
theorem dJ22_init_19 : decode cJ22_init 19 = .ok (.return_, 1) := dk_177 (dk_at dksJ22_init_0 19 rfl rfl)
theorem q149 : (Jvm.Cond.initialized "java/util/LinkedList$Node") ∈ lw_all := lw_g (lw_at lw_m1 35 rfl) rfl
theorem q457 : (Jvm.Cond.selects "java/util/LinkedList$Node" ({ cls := "java/lang/Object", name := "getClass", desc := "()Ljava/lang/Class;" } : Jvm.MethodName) ({ cls := "java/lang/Object", name := "getClass", desc := "()Ljava/lang/Class;" } : Jvm.MethodName)) ∈ lw_all := lw_g (lw_at lw_m2 103 rfl) rfl
theorem q757 : (Jvm.Cond.instantiable "java/util/LinkedList$Node" (3 : Nat)) ∈ lw_all := lw_g (lw_at lw_m3 163 rfl) rfl
theorem q759 : (Jvm.Cond.instanceMethod ({ cls := "java/util/LinkedList$Node", name := "<init>", desc := "(Ljava/util/LinkedList$Node;Ljava/lang/Object;Ljava/util/LinkedList$Node;)V" } : Jvm.MethodName)) ∈ lw_all := lw_g (lw_at lw_m3 165 rfl) rfl
theorem q760 : (Jvm.Cond.code ({ cls := "java/util/LinkedList$Node", name := "<init>", desc := "(Ljava/util/LinkedList$Node;Ljava/lang/Object;Ljava/util/LinkedList$Node;)V" } : Jvm.MethodName) prog_67_method_1_code (4 : Nat) (Option.none : Option Jvm.ClassFile.FieldType)) ∈ lw_all := lw_g (lw_at lw_m3 166 rfl) rfl
theorem q761 : (Jvm.Cond.methodLink "java/util/LinkedList$Node" (1 : Nat) ({ cls := "java/lang/Object", name := "<init>", desc := "()V" } : Jvm.MethodName)) ∈ lw_all := lw_g (lw_at lw_m3 167 rfl) rfl
theorem q762 : (Jvm.Cond.fieldLink "java/util/LinkedList$Node" (7 : Nat) "java/util/LinkedList$Node" "item" "Ljava/lang/Object;") ∈ lw_all := lw_g (lw_at lw_m3 168 rfl) rfl
theorem q765 : (Jvm.Cond.fieldLink "java/util/LinkedList$Node" (13 : Nat) "java/util/LinkedList$Node" "next" "Ljava/util/LinkedList$Node;") ∈ lw_all := lw_g (lw_at lw_m3 171 rfl) rfl
theorem q768 : (Jvm.Cond.fieldLink "java/util/LinkedList$Node" (17 : Nat) "java/util/LinkedList$Node" "prev" "Ljava/util/LinkedList$Node;") ∈ lw_all := lw_g (lw_at lw_m3 174 rfl) rfl
theorem q770 : (Jvm.Cond.lays "java/util/LinkedList$Node" "java/util/LinkedList$Node" "item" "Ljava/lang/Object;") ∈ lw_all := lw_g (lw_at lw_m3 176 rfl) rfl
theorem q771 : (Jvm.Cond.soleField "java/util/LinkedList$Node" "item") ∈ lw_all := lw_g (lw_at lw_m3 177 rfl) rfl
theorem q772 : (Jvm.Cond.lays "java/util/LinkedList$Node" "java/util/LinkedList$Node" "next" "Ljava/util/LinkedList$Node;") ∈ lw_all := lw_g (lw_at lw_m3 178 rfl) rfl
theorem q773 : (Jvm.Cond.soleField "java/util/LinkedList$Node" "next") ∈ lw_all := lw_g (lw_at lw_m3 179 rfl) rfl
theorem q774 : (Jvm.Cond.lays "java/util/LinkedList$Node" "java/util/LinkedList$Node" "prev" "Ljava/util/LinkedList$Node;") ∈ lw_all := lw_g (lw_at lw_m3 180 rfl) rfl
theorem q775 : (Jvm.Cond.soleField "java/util/LinkedList$Node" "prev") ∈ lw_all := lw_g (lw_at lw_m3 181 rfl) rfl
theorem q776 : (Jvm.Cond.superclass "java/util/LinkedList$Node" "java/lang/Object") ∈ lw_all := lw_g (lw_at lw_m3 182 rfl) rfl
theorem q2466 : (Jvm.Cond.castable "java/util/LinkedList$Node" "java/lang/Object") ∈ lw_tbl := lw_at lw_m10 192 rfl
theorem in_J22 : ∀ w ∈ wsJ220, w ∈ lw_all := lw_in wsJ220 [770, 772, 774] (by decide +kernel) (by decide +kernel)
/-! java/lang/Throwable -/
set_option maxRecDepth 100000
def RJ23 : String := "java/lang/Throwable"
def TJ23 : u_T := fun k => match k with
  | 0 => ("java/lang/Throwable", "cause", "Ljava/lang/Throwable;", false)
  | 1 => ("java/lang/Throwable", "stackTrace", "[Ljava/lang/StackTraceElement;", false)
  | 2 => ("java/lang/Throwable", "suppressedExceptions", "Ljava/util/List;", false)
  | 3 => ("java/lang/Throwable", "detailMessage", "Ljava/lang/String;", false)
  | _ => ("java/lang/Throwable", "backtrace", "Ljava/lang/Object;", false)
def tyJ23 : Nat → FieldType := fun k => match k with
  | 0 => .object "java/lang/Throwable"
  | 1 => .array (.object "java/lang/StackTraceElement")
  | 2 => .object "java/util/List"
  | 3 => .object "java/lang/String"
  | _ => .object "java/lang/Object"
abbrev wsJ230 : List Cond := u_ws RJ23 TJ23 5
theorem nmJ23 : ∀ a, a < 5 → ∀ b, b < 5 → a ≠ b → (TJ23 a).2.1 ≠ (TJ23 b).2.1 := by decide +kernel
theorem tyJ23_ok : ∀ k, k < 5 → parseFieldDescriptor (TJ23 k).2.2.1 = some (tyJ23 k) := by decide +kernel
abbrev cJ23_init : ByteArray := prog_44_method_1_code
def yJ23_init : MethodName := ⟨RJ23, "<init>", "()V"⟩
def dkwJ23_init_1 : List UInt8 := [182, 0, 27, 87, 177]
abbrev dktJ23_init_1 : List UInt8 := dkwJ23_init_1 ++ []
def dkwJ23_init_0 : List UInt8 := [42, 183, 0, 1, 42, 42, 181, 0, 7, 42, 178, 0, 13, 181, 0, 17, 42, 178, 0, 20, 181, 0, 24, 42]
abbrev dktJ23_init_0 : List UInt8 := dkwJ23_init_0 ++ dktJ23_init_1
theorem dksJ23_init_0 : cJ23_init.data.toList.drop 0 = dktJ23_init_0 := by decide +kernel
theorem dksJ23_init_1 : cJ23_init.data.toList.drop 24 = dktJ23_init_1 := dk_seg dksJ23_init_0 24 rfl rfl
theorem dJ23_init_0 : decode cJ23_init 0 = .ok (.aload_n 0, 1) := dk_42 (dk_at dksJ23_init_0 0 rfl rfl)
theorem dJ23_init_1 : decode cJ23_init 1 = .ok (.invokespecial 1, 3) := dk_183 0 1 (dk_at dksJ23_init_0 1 rfl rfl)
theorem dJ23_init_4 : decode cJ23_init 4 = .ok (.aload_n 0, 1) := dk_42 (dk_at dksJ23_init_0 4 rfl rfl)
theorem dJ23_init_5 : decode cJ23_init 5 = .ok (.aload_n 0, 1) := dk_42 (dk_at dksJ23_init_0 5 rfl rfl)
theorem dJ23_init_6 : decode cJ23_init 6 = .ok (.putfield 7, 3) := dk_181 0 7 (dk_at dksJ23_init_0 6 rfl rfl)
theorem dJ23_init_9 : decode cJ23_init 9 = .ok (.aload_n 0, 1) := dk_42 (dk_at dksJ23_init_0 9 rfl rfl)
theorem dJ23_init_10 : decode cJ23_init 10 = .ok (.getstatic 13, 3) := dk_178 0 13 (dk_at dksJ23_init_0 10 rfl rfl)
theorem dJ23_init_13 : decode cJ23_init 13 = .ok (.putfield 17, 3) := dk_181 0 17 (dk_at dksJ23_init_0 13 rfl rfl)
theorem dJ23_init_16 : decode cJ23_init 16 = .ok (.aload_n 0, 1) := dk_42 (dk_at dksJ23_init_0 16 rfl rfl)
theorem dJ23_init_17 : decode cJ23_init 17 = .ok (.getstatic 20, 3) := dk_178 0 20 (dk_at dksJ23_init_0 17 rfl rfl)
theorem dJ23_init_20 : decode cJ23_init 20 = .ok (.putfield 24, 3) := dk_181 0 24 (dk_at dksJ23_init_0 20 rfl rfl)
theorem dJ23_init_23 : decode cJ23_init 23 = .ok (.aload_n 0, 1) := dk_42 (dk_at dksJ23_init_0 23 rfl rfl)
theorem dJ23_init_24 : decode cJ23_init 24 = .ok (.invokevirtual 27, 3) := dk_182 0 27 (dk_at dksJ23_init_1 0 rfl rfl)
theorem dJ23_init_27 : decode cJ23_init 27 = .ok (.pop, 1) := dk_87 (dk_at dksJ23_init_1 3 rfl rfl)
theorem dJ23_init_28 : decode cJ23_init 28 = .ok (.return_, 1) := dk_177 (dk_at dksJ23_init_1 4 rfl rfl)
abbrev cJ23_init_2 : ByteArray := prog_44_method_5_code
def yJ23_init_2 : MethodName := ⟨RJ23, "<init>", "(Ljava/lang/String;Ljava/lang/Throwable;ZZ)V"⟩
def dkwJ23_init_2_2 : List UInt8 := [44, 181, 0, 7, 29, 154, 0, 8, 42, 1, 181, 0, 24, 177]
abbrev dktJ23_init_2_2 : List UInt8 := dkwJ23_init_2_2 ++ []
def dkwJ23_init_2_1 : List UInt8 := [21, 4, 153, 0, 11, 42, 182, 0, 27, 87, 167, 0, 8, 42, 1, 181, 0, 17, 42, 43, 181, 0, 31, 42]
abbrev dktJ23_init_2_1 : List UInt8 := dkwJ23_init_2_1 ++ dktJ23_init_2_2
def dkwJ23_init_2_0 : List UInt8 := [42, 183, 0, 1, 42, 42, 181, 0, 7, 42, 178, 0, 13, 181, 0, 17, 42, 178, 0, 20, 181, 0, 24]
abbrev dktJ23_init_2_0 : List UInt8 := dkwJ23_init_2_0 ++ dktJ23_init_2_1
theorem dksJ23_init_2_0 : cJ23_init_2.data.toList.drop 0 = dktJ23_init_2_0 := by decide +kernel
theorem dksJ23_init_2_1 : cJ23_init_2.data.toList.drop 23 = dktJ23_init_2_1 := dk_seg dksJ23_init_2_0 23 rfl rfl
theorem dksJ23_init_2_2 : cJ23_init_2.data.toList.drop 47 = dktJ23_init_2_2 := dk_seg dksJ23_init_2_1 24 rfl rfl
theorem dJ23_init_2_0 : decode cJ23_init_2 0 = .ok (.aload_n 0, 1) := dk_42 (dk_at dksJ23_init_2_0 0 rfl rfl)
theorem dJ23_init_2_1 : decode cJ23_init_2 1 = .ok (.invokespecial 1, 3) := dk_183 0 1 (dk_at dksJ23_init_2_0 1 rfl rfl)
theorem dJ23_init_2_4 : decode cJ23_init_2 4 = .ok (.aload_n 0, 1) := dk_42 (dk_at dksJ23_init_2_0 4 rfl rfl)
theorem dJ23_init_2_5 : decode cJ23_init_2 5 = .ok (.aload_n 0, 1) := dk_42 (dk_at dksJ23_init_2_0 5 rfl rfl)
theorem dJ23_init_2_6 : decode cJ23_init_2 6 = .ok (.putfield 7, 3) := dk_181 0 7 (dk_at dksJ23_init_2_0 6 rfl rfl)
theorem dJ23_init_2_9 : decode cJ23_init_2 9 = .ok (.aload_n 0, 1) := dk_42 (dk_at dksJ23_init_2_0 9 rfl rfl)
theorem dJ23_init_2_10 : decode cJ23_init_2 10 = .ok (.getstatic 13, 3) := dk_178 0 13 (dk_at dksJ23_init_2_0 10 rfl rfl)
theorem dJ23_init_2_13 : decode cJ23_init_2 13 = .ok (.putfield 17, 3) := dk_181 0 17 (dk_at dksJ23_init_2_0 13 rfl rfl)
theorem dJ23_init_2_16 : decode cJ23_init_2 16 = .ok (.aload_n 0, 1) := dk_42 (dk_at dksJ23_init_2_0 16 rfl rfl)
theorem dJ23_init_2_17 : decode cJ23_init_2 17 = .ok (.getstatic 20, 3) := dk_178 0 20 (dk_at dksJ23_init_2_0 17 rfl rfl)
theorem dJ23_init_2_20 : decode cJ23_init_2 20 = .ok (.putfield 24, 3) := dk_181 0 24 (dk_at dksJ23_init_2_0 20 rfl rfl)
theorem dJ23_init_2_23 : decode cJ23_init_2 23 = .ok (.iload 4, 2) := dk_21 4 (dk_at dksJ23_init_2_1 0 rfl rfl)
theorem dJ23_init_2_25 : decode cJ23_init_2 25 = .ok (.ifCond .eq 11, 3) := dk_153 0 11 (dk_at dksJ23_init_2_1 2 rfl rfl)
theorem dJ23_init_2_28 : decode cJ23_init_2 28 = .ok (.aload_n 0, 1) := dk_42 (dk_at dksJ23_init_2_1 5 rfl rfl)
theorem dJ23_init_2_29 : decode cJ23_init_2 29 = .ok (.invokevirtual 27, 3) := dk_182 0 27 (dk_at dksJ23_init_2_1 6 rfl rfl)
theorem dJ23_init_2_32 : decode cJ23_init_2 32 = .ok (.pop, 1) := dk_87 (dk_at dksJ23_init_2_1 9 rfl rfl)
theorem dJ23_init_2_33 : decode cJ23_init_2 33 = .ok (.goto 8, 3) := dk_167 0 8 (dk_at dksJ23_init_2_1 10 rfl rfl)
theorem dJ23_init_2_36 : decode cJ23_init_2 36 = .ok (.aload_n 0, 1) := dk_42 (dk_at dksJ23_init_2_1 13 rfl rfl)
theorem dJ23_init_2_37 : decode cJ23_init_2 37 = .ok (.aconst_null, 1) := dk_1 (dk_at dksJ23_init_2_1 14 rfl rfl)
theorem dJ23_init_2_38 : decode cJ23_init_2 38 = .ok (.putfield 17, 3) := dk_181 0 17 (dk_at dksJ23_init_2_1 15 rfl rfl)
theorem dJ23_init_2_41 : decode cJ23_init_2 41 = .ok (.aload_n 0, 1) := dk_42 (dk_at dksJ23_init_2_1 18 rfl rfl)
theorem dJ23_init_2_42 : decode cJ23_init_2 42 = .ok (.aload_n 1, 1) := dk_43 (dk_at dksJ23_init_2_1 19 rfl rfl)
theorem dJ23_init_2_43 : decode cJ23_init_2 43 = .ok (.putfield 31, 3) := dk_181 0 31 (dk_at dksJ23_init_2_1 20 rfl rfl)
theorem dJ23_init_2_46 : decode cJ23_init_2 46 = .ok (.aload_n 0, 1) := dk_42 (dk_at dksJ23_init_2_1 23 rfl rfl)
theorem dJ23_init_2_47 : decode cJ23_init_2 47 = .ok (.aload_n 2, 1) := dk_44 (dk_at dksJ23_init_2_2 0 rfl rfl)
theorem dJ23_init_2_48 : decode cJ23_init_2 48 = .ok (.putfield 7, 3) := dk_181 0 7 (dk_at dksJ23_init_2_2 1 rfl rfl)
theorem dJ23_init_2_51 : decode cJ23_init_2 51 = .ok (.iload_n 3, 1) := dk_29 (dk_at dksJ23_init_2_2 4 rfl rfl)
theorem dJ23_init_2_52 : decode cJ23_init_2 52 = .ok (.ifCond .ne 8, 3) := dk_154 0 8 (dk_at dksJ23_init_2_2 5 rfl rfl)
theorem dJ23_init_2_55 : decode cJ23_init_2 55 = .ok (.aload_n 0, 1) := dk_42 (dk_at dksJ23_init_2_2 8 rfl rfl)
theorem dJ23_init_2_56 : decode cJ23_init_2 56 = .ok (.aconst_null, 1) := dk_1 (dk_at dksJ23_init_2_2 9 rfl rfl)
theorem dJ23_init_2_57 : decode cJ23_init_2 57 = .ok (.putfield 24, 3) := dk_181 0 24 (dk_at dksJ23_init_2_2 10 rfl rfl)
theorem dJ23_init_2_60 : decode cJ23_init_2 60 = .ok (.return_, 1) := dk_177 (dk_at dksJ23_init_2_2 13 rfl rfl)
abbrev cJ23_init_3 : ByteArray := prog_44_method_4_code
def yJ23_init_3 : MethodName := ⟨RJ23, "<init>", "(Ljava/lang/Throwable;)V"⟩
def dkwJ23_init_3_2 : List UInt8 := [181, 0, 7, 177]
abbrev dktJ23_init_3_2 : List UInt8 := dkwJ23_init_3_2 ++ []
def dkwJ23_init_3_1 : List UInt8 := [182, 0, 27, 87, 42, 43, 199, 0, 7, 1, 167, 0, 7, 43, 182, 0, 35, 181, 0, 31, 42, 43]
abbrev dktJ23_init_3_1 : List UInt8 := dkwJ23_init_3_1 ++ dktJ23_init_3_2
def dkwJ23_init_3_0 : List UInt8 := [42, 183, 0, 1, 42, 42, 181, 0, 7, 42, 178, 0, 13, 181, 0, 17, 42, 178, 0, 20, 181, 0, 24, 42]
abbrev dktJ23_init_3_0 : List UInt8 := dkwJ23_init_3_0 ++ dktJ23_init_3_1
theorem dksJ23_init_3_0 : cJ23_init_3.data.toList.drop 0 = dktJ23_init_3_0 := by decide +kernel
theorem dksJ23_init_3_1 : cJ23_init_3.data.toList.drop 24 = dktJ23_init_3_1 := dk_seg dksJ23_init_3_0 24 rfl rfl
theorem dksJ23_init_3_2 : cJ23_init_3.data.toList.drop 46 = dktJ23_init_3_2 := dk_seg dksJ23_init_3_1 22 rfl rfl
theorem dJ23_init_3_0 : decode cJ23_init_3 0 = .ok (.aload_n 0, 1) := dk_42 (dk_at dksJ23_init_3_0 0 rfl rfl)
theorem dJ23_init_3_1 : decode cJ23_init_3 1 = .ok (.invokespecial 1, 3) := dk_183 0 1 (dk_at dksJ23_init_3_0 1 rfl rfl)
theorem dJ23_init_3_4 : decode cJ23_init_3 4 = .ok (.aload_n 0, 1) := dk_42 (dk_at dksJ23_init_3_0 4 rfl rfl)
theorem dJ23_init_3_5 : decode cJ23_init_3 5 = .ok (.aload_n 0, 1) := dk_42 (dk_at dksJ23_init_3_0 5 rfl rfl)
theorem dJ23_init_3_6 : decode cJ23_init_3 6 = .ok (.putfield 7, 3) := dk_181 0 7 (dk_at dksJ23_init_3_0 6 rfl rfl)
theorem dJ23_init_3_9 : decode cJ23_init_3 9 = .ok (.aload_n 0, 1) := dk_42 (dk_at dksJ23_init_3_0 9 rfl rfl)
theorem dJ23_init_3_10 : decode cJ23_init_3 10 = .ok (.getstatic 13, 3) := dk_178 0 13 (dk_at dksJ23_init_3_0 10 rfl rfl)
theorem dJ23_init_3_13 : decode cJ23_init_3 13 = .ok (.putfield 17, 3) := dk_181 0 17 (dk_at dksJ23_init_3_0 13 rfl rfl)
theorem dJ23_init_3_16 : decode cJ23_init_3 16 = .ok (.aload_n 0, 1) := dk_42 (dk_at dksJ23_init_3_0 16 rfl rfl)
theorem dJ23_init_3_17 : decode cJ23_init_3 17 = .ok (.getstatic 20, 3) := dk_178 0 20 (dk_at dksJ23_init_3_0 17 rfl rfl)
theorem dJ23_init_3_20 : decode cJ23_init_3 20 = .ok (.putfield 24, 3) := dk_181 0 24 (dk_at dksJ23_init_3_0 20 rfl rfl)
theorem dJ23_init_3_23 : decode cJ23_init_3 23 = .ok (.aload_n 0, 1) := dk_42 (dk_at dksJ23_init_3_0 23 rfl rfl)
theorem dJ23_init_3_24 : decode cJ23_init_3 24 = .ok (.invokevirtual 27, 3) := dk_182 0 27 (dk_at dksJ23_init_3_1 0 rfl rfl)
theorem dJ23_init_3_27 : decode cJ23_init_3 27 = .ok (.pop, 1) := dk_87 (dk_at dksJ23_init_3_1 3 rfl rfl)
theorem dJ23_init_3_28 : decode cJ23_init_3 28 = .ok (.aload_n 0, 1) := dk_42 (dk_at dksJ23_init_3_1 4 rfl rfl)
theorem dJ23_init_3_29 : decode cJ23_init_3 29 = .ok (.aload_n 1, 1) := dk_43 (dk_at dksJ23_init_3_1 5 rfl rfl)
theorem dJ23_init_3_30 : decode cJ23_init_3 30 = .ok (.ifnonnull 7, 3) := dk_199 0 7 (dk_at dksJ23_init_3_1 6 rfl rfl)
theorem dJ23_init_3_33 : decode cJ23_init_3 33 = .ok (.aconst_null, 1) := dk_1 (dk_at dksJ23_init_3_1 9 rfl rfl)
theorem dJ23_init_3_34 : decode cJ23_init_3 34 = .ok (.goto 7, 3) := dk_167 0 7 (dk_at dksJ23_init_3_1 10 rfl rfl)
theorem dJ23_init_3_37 : decode cJ23_init_3 37 = .ok (.aload_n 1, 1) := dk_43 (dk_at dksJ23_init_3_1 13 rfl rfl)
theorem dJ23_init_3_38 : decode cJ23_init_3 38 = .ok (.invokevirtual 35, 3) := dk_182 0 35 (dk_at dksJ23_init_3_1 14 rfl rfl)
theorem dJ23_init_3_41 : decode cJ23_init_3 41 = .ok (.putfield 31, 3) := dk_181 0 31 (dk_at dksJ23_init_3_1 17 rfl rfl)
theorem dJ23_init_3_44 : decode cJ23_init_3 44 = .ok (.aload_n 0, 1) := dk_42 (dk_at dksJ23_init_3_1 20 rfl rfl)
theorem dJ23_init_3_45 : decode cJ23_init_3 45 = .ok (.aload_n 1, 1) := dk_43 (dk_at dksJ23_init_3_1 21 rfl rfl)
theorem dJ23_init_3_46 : decode cJ23_init_3 46 = .ok (.putfield 7, 3) := dk_181 0 7 (dk_at dksJ23_init_3_2 0 rfl rfl)
theorem dJ23_init_3_49 : decode cJ23_init_3 49 = .ok (.return_, 1) := dk_177 (dk_at dksJ23_init_3_2 3 rfl rfl)
abbrev cJ23_toString : ByteArray := prog_44_method_11_code
def yJ23_toString : MethodName := ⟨RJ23, "toString", "()Ljava/lang/String;"⟩
def dkwJ23_toString_1 : List UInt8 := [43, 182, 0, 49, 18, 81, 182, 0, 49, 44, 182, 0, 49, 182, 0, 60, 167, 0, 4, 43, 176]
abbrev dktJ23_toString_1 : List UInt8 := dkwJ23_toString_1 ++ []
def dkwJ23_toString_0 : List UInt8 := [42, 182, 0, 69, 182, 0, 73, 76, 42, 182, 0, 78, 77, 44, 198, 0, 29, 187, 0, 44, 89, 183, 0, 46]
abbrev dktJ23_toString_0 : List UInt8 := dkwJ23_toString_0 ++ dktJ23_toString_1
theorem dksJ23_toString_0 : cJ23_toString.data.toList.drop 0 = dktJ23_toString_0 := by decide +kernel
theorem dksJ23_toString_1 : cJ23_toString.data.toList.drop 24 = dktJ23_toString_1 := dk_seg dksJ23_toString_0 24 rfl rfl
theorem dJ23_toString_0 : decode cJ23_toString 0 = .ok (.aload_n 0, 1) := dk_42 (dk_at dksJ23_toString_0 0 rfl rfl)
theorem dJ23_toString_1 : decode cJ23_toString 1 = .ok (.invokevirtual 69, 3) := dk_182 0 69 (dk_at dksJ23_toString_0 1 rfl rfl)
theorem dJ23_toString_4 : decode cJ23_toString 4 = .ok (.invokevirtual 73, 3) := dk_182 0 73 (dk_at dksJ23_toString_0 4 rfl rfl)
theorem dJ23_toString_7 : decode cJ23_toString 7 = .ok (.astore_n 1, 1) := dk_76 (dk_at dksJ23_toString_0 7 rfl rfl)
theorem dJ23_toString_8 : decode cJ23_toString 8 = .ok (.aload_n 0, 1) := dk_42 (dk_at dksJ23_toString_0 8 rfl rfl)
theorem dJ23_toString_9 : decode cJ23_toString 9 = .ok (.invokevirtual 78, 3) := dk_182 0 78 (dk_at dksJ23_toString_0 9 rfl rfl)
theorem dJ23_toString_12 : decode cJ23_toString 12 = .ok (.astore_n 2, 1) := dk_77 (dk_at dksJ23_toString_0 12 rfl rfl)
theorem dJ23_toString_13 : decode cJ23_toString 13 = .ok (.aload_n 2, 1) := dk_44 (dk_at dksJ23_toString_0 13 rfl rfl)
theorem dJ23_toString_14 : decode cJ23_toString 14 = .ok (.ifnull 29, 3) := dk_198 0 29 (dk_at dksJ23_toString_0 14 rfl rfl)
theorem dJ23_toString_17 : decode cJ23_toString 17 = .ok (.new 44, 3) := dk_187 0 44 (dk_at dksJ23_toString_0 17 rfl rfl)
theorem dJ23_toString_20 : decode cJ23_toString 20 = .ok (.dup, 1) := dk_89 (dk_at dksJ23_toString_0 20 rfl rfl)
theorem dJ23_toString_21 : decode cJ23_toString 21 = .ok (.invokespecial 46, 3) := dk_183 0 46 (dk_at dksJ23_toString_0 21 rfl rfl)
theorem dJ23_toString_24 : decode cJ23_toString 24 = .ok (.aload_n 1, 1) := dk_43 (dk_at dksJ23_toString_1 0 rfl rfl)
theorem dJ23_toString_25 : decode cJ23_toString 25 = .ok (.invokevirtual 49, 3) := dk_182 0 49 (dk_at dksJ23_toString_1 1 rfl rfl)
theorem dJ23_toString_28 : decode cJ23_toString 28 = .ok (.ldc 81, 2) := dk_18 81 (dk_at dksJ23_toString_1 4 rfl rfl)
theorem dJ23_toString_30 : decode cJ23_toString 30 = .ok (.invokevirtual 49, 3) := dk_182 0 49 (dk_at dksJ23_toString_1 6 rfl rfl)
theorem dJ23_toString_33 : decode cJ23_toString 33 = .ok (.aload_n 2, 1) := dk_44 (dk_at dksJ23_toString_1 9 rfl rfl)
theorem dJ23_toString_34 : decode cJ23_toString 34 = .ok (.invokevirtual 49, 3) := dk_182 0 49 (dk_at dksJ23_toString_1 10 rfl rfl)
theorem dJ23_toString_37 : decode cJ23_toString 37 = .ok (.invokevirtual 60, 3) := dk_182 0 60 (dk_at dksJ23_toString_1 13 rfl rfl)
theorem dJ23_toString_40 : decode cJ23_toString 40 = .ok (.goto 4, 3) := dk_167 0 4 (dk_at dksJ23_toString_1 16 rfl rfl)
theorem dJ23_toString_43 : decode cJ23_toString 43 = .ok (.aload_n 1, 1) := dk_43 (dk_at dksJ23_toString_1 19 rfl rfl)
theorem dJ23_toString_44 : decode cJ23_toString 44 = .ok (.areturn, 1) := dk_176 (dk_at dksJ23_toString_1 20 rfl rfl)
abbrev cJ23_getLocalizedMessage : ByteArray := prog_44_method_7_code
def yJ23_getLocalizedMessage : MethodName := ⟨RJ23, "getLocalizedMessage", "()Ljava/lang/String;"⟩
theorem dJ23_getLocalizedMessage_0 : decode cJ23_getLocalizedMessage 0 = .ok (.aload_n 0, 1) := by decide +kernel
theorem dJ23_getLocalizedMessage_1 : decode cJ23_getLocalizedMessage 1 = .ok (.invokevirtual 39, 3) := by decide +kernel
theorem dJ23_getLocalizedMessage_4 : decode cJ23_getLocalizedMessage 4 = .ok (.areturn, 1) := by decide +kernel
abbrev cJ23_getMessage : ByteArray := prog_44_method_6_code
def yJ23_getMessage : MethodName := ⟨RJ23, "getMessage", "()Ljava/lang/String;"⟩
theorem dJ23_getMessage_0 : decode cJ23_getMessage 0 = .ok (.aload_n 0, 1) := by decide +kernel
theorem dJ23_getMessage_1 : decode cJ23_getMessage 1 = .ok (.getfield 31, 3) := by decide +kernel
theorem dJ23_getMessage_4 : decode cJ23_getMessage 4 = .ok (.areturn, 1) := by decide +kernel
theorem q150 : (Jvm.Cond.initialized "java/lang/Throwable") ∈ lw_all := lw_g (lw_at lw_m1 36 rfl) rfl
theorem q799 : (Jvm.Cond.declares ({ cls := "java/lang/Throwable", name := "<init>", desc := "()V" } : Jvm.MethodName)) ∈ lw_tbl := lw_at lw_m3 205 rfl
theorem q800 : (Jvm.Cond.declares ({ cls := "java/lang/Throwable", name := "<init>", desc := "(Ljava/lang/String;)V" } : Jvm.MethodName)) ∈ lw_tbl := lw_at lw_m3 206 rfl
theorem q804 : (Jvm.Cond.lays "java/lang/Throwable" "java/lang/Throwable" "cause" "Ljava/lang/Throwable;") ∈ lw_all := lw_g (lw_at lw_m3 210 rfl) rfl
theorem q806 : (Jvm.Cond.lays "java/lang/Throwable" "java/lang/Throwable" "stackTrace" "[Ljava/lang/StackTraceElement;") ∈ lw_all := lw_g (lw_at lw_m3 212 rfl) rfl
theorem q808 : (Jvm.Cond.lays "java/lang/Throwable" "java/lang/Throwable" "suppressedExceptions" "Ljava/util/List;") ∈ lw_all := lw_g (lw_at lw_m3 214 rfl) rfl
theorem q810 : (Jvm.Cond.lays "java/lang/Throwable" "java/lang/Throwable" "detailMessage" "Ljava/lang/String;") ∈ lw_all := lw_g (lw_at lw_m3 216 rfl) rfl
theorem q812 : (Jvm.Cond.lays "java/lang/Throwable" "java/lang/Throwable" "backtrace" "Ljava/lang/Object;") ∈ lw_all := lw_g (lw_at lw_m3 218 rfl) rfl
theorem q813 : (Jvm.Cond.fieldLink "java/lang/Throwable" (198 : Nat) "java/lang/Throwable" "backtrace" "Ljava/lang/Object;") ∈ lw_all := lw_g (lw_at lw_m3 219 rfl) rfl
theorem q814 : (Jvm.Cond.superclass "java/lang/Throwable" "java/lang/Object") ∈ lw_all := lw_g (lw_at lw_m3 220 rfl) rfl
theorem q815 : (Jvm.Cond.instanceMethod ({ cls := "java/lang/Throwable", name := "<init>", desc := "()V" } : Jvm.MethodName)) ∈ lw_all := lw_g (lw_at lw_m3 221 rfl) rfl
theorem q816 : (Jvm.Cond.code ({ cls := "java/lang/Throwable", name := "<init>", desc := "()V" } : Jvm.MethodName) prog_44_method_1_code (1 : Nat) (Option.none : Option Jvm.ClassFile.FieldType)) ∈ lw_all := lw_g (lw_at lw_m3 222 rfl) rfl
theorem q817 : (Jvm.Cond.methodLink "java/lang/Throwable" (1 : Nat) ({ cls := "java/lang/Object", name := "<init>", desc := "()V" } : Jvm.MethodName)) ∈ lw_all := lw_g (lw_at lw_m3 223 rfl) rfl
theorem q818 : (Jvm.Cond.fieldLink "java/lang/Throwable" (13 : Nat) "java/lang/Throwable" "UNASSIGNED_STACK" "[Ljava/lang/StackTraceElement;") ∈ lw_all := lw_g (lw_at lw_m3 224 rfl) rfl
theorem q819 : (Jvm.Cond.laysStatic "java/lang/Throwable" "UNASSIGNED_STACK" "[Ljava/lang/StackTraceElement;") ∈ lw_tbl := lw_at lw_m3 225 rfl
theorem q820 : (Jvm.Cond.fieldLink "java/lang/Throwable" (20 : Nat) "java/lang/Throwable" "SUPPRESSED_SENTINEL" "Ljava/util/List;") ∈ lw_all := lw_g (lw_at lw_m3 226 rfl) rfl
theorem q821 : (Jvm.Cond.laysStatic "java/lang/Throwable" "SUPPRESSED_SENTINEL" "Ljava/util/List;") ∈ lw_tbl := lw_at lw_m3 227 rfl
theorem q822 : (Jvm.Cond.methodLink "java/lang/Throwable" (27 : Nat) ({ cls := "java/lang/Throwable", name := "fillInStackTrace", desc := "()Ljava/lang/Throwable;" } : Jvm.MethodName)) ∈ lw_all := lw_g (lw_at lw_m3 228 rfl) rfl
theorem q823 : (Jvm.Cond.instanceMethod ({ cls := "java/lang/Throwable", name := "fillInStackTrace", desc := "()Ljava/lang/Throwable;" } : Jvm.MethodName)) ∈ lw_all := lw_g (lw_at lw_m3 229 rfl) rfl
theorem q824 : (Jvm.Cond.sameMethod "java/lang/Throwable" "java/lang/Throwable" "fillInStackTrace" "()Ljava/lang/Throwable;") ∈ lw_all := lw_g (lw_at lw_m3 230 rfl) rfl
theorem q828 : (Jvm.Cond.codeSync ({ cls := "java/lang/Throwable", name := "fillInStackTrace", desc := "()Ljava/lang/Throwable;" } : Jvm.MethodName) prog_44_method_18_code (1 : Nat) (Option.some (Jvm.ClassFile.FieldType.object "java/lang/Throwable"))) ∈ lw_all := lw_g (lw_at lw_m3 234 rfl) rfl
theorem q829 : (Jvm.Cond.methodLink "java/lang/Throwable" (202 : Nat) ({ cls := "java/lang/Throwable", name := "fillInStackTrace", desc := "(I)Ljava/lang/Throwable;" } : Jvm.MethodName)) ∈ lw_all := lw_g (lw_at lw_m3 235 rfl) rfl
theorem q830 : (Jvm.Cond.privateMethod ({ cls := "java/lang/Throwable", name := "fillInStackTrace", desc := "(I)Ljava/lang/Throwable;" } : Jvm.MethodName)) ∈ lw_tbl := lw_at lw_m3 236 rfl
theorem q831 : (Jvm.Cond.instanceMethod ({ cls := "java/lang/Throwable", name := "fillInStackTrace", desc := "(I)Ljava/lang/Throwable;" } : Jvm.MethodName)) ∈ lw_all := lw_g (lw_at lw_m3 237 rfl) rfl
theorem q832 : (Jvm.Cond.instantiable "java/lang/Throwable" (6 : Nat)) ∈ lw_all := lw_g (lw_at lw_m3 238 rfl) rfl
theorem q833 : (Jvm.Cond.native ({ cls := "java/lang/Throwable", name := "fillInStackTrace", desc := "(I)Ljava/lang/Throwable;" } : Jvm.MethodName)) ∈ lw_all := lw_g (lw_at lw_m3 239 rfl) rfl
theorem q841 : (Jvm.Cond.instanceMethod ({ cls := "java/lang/Throwable", name := "<init>", desc := "(Ljava/lang/String;Ljava/lang/Throwable;ZZ)V" } : Jvm.MethodName)) ∈ lw_all := lw_g (lw_at lw_m4 7 rfl) rfl
theorem q842 : (Jvm.Cond.code ({ cls := "java/lang/Throwable", name := "<init>", desc := "(Ljava/lang/String;Ljava/lang/Throwable;ZZ)V" } : Jvm.MethodName) prog_44_method_5_code (5 : Nat) (Option.none : Option Jvm.ClassFile.FieldType)) ∈ lw_all := lw_g (lw_at lw_m4 8 rfl) rfl
theorem q845 : (Jvm.Cond.fieldLink "java/lang/Throwable" (198 : Nat) "java/lang/Throwable" "backtrace" "Ljava/lang/Object;") ∈ lw_all := lw_g (lw_at lw_m4 11 rfl) rfl
theorem q846 : (Jvm.Cond.fieldLink "java/lang/Throwable" (31 : Nat) "java/lang/Throwable" "detailMessage" "Ljava/lang/String;") ∈ lw_all := lw_g (lw_at lw_m4 12 rfl) rfl
theorem q847 : (Jvm.Cond.fieldLink "java/lang/Throwable" (7 : Nat) "java/lang/Throwable" "cause" "Ljava/lang/Throwable;") ∈ lw_all := lw_g (lw_at lw_m4 13 rfl) rfl
theorem q848 : (Jvm.Cond.fieldLink "java/lang/Throwable" (17 : Nat) "java/lang/Throwable" "stackTrace" "[Ljava/lang/StackTraceElement;") ∈ lw_all := lw_g (lw_at lw_m4 14 rfl) rfl
theorem q849 : (Jvm.Cond.fieldLink "java/lang/Throwable" (24 : Nat) "java/lang/Throwable" "suppressedExceptions" "Ljava/util/List;") ∈ lw_all := lw_g (lw_at lw_m4 15 rfl) rfl
theorem q852 : (Jvm.Cond.soleField "java/lang/Throwable" "backtrace") ∈ lw_all := lw_g (lw_at lw_m4 18 rfl) rfl
theorem q853 : (Jvm.Cond.soleField "java/lang/Throwable" "detailMessage") ∈ lw_all := lw_g (lw_at lw_m4 19 rfl) rfl
theorem q854 : (Jvm.Cond.soleField "java/lang/Throwable" "cause") ∈ lw_all := lw_g (lw_at lw_m4 20 rfl) rfl
theorem q855 : (Jvm.Cond.soleField "java/lang/Throwable" "stackTrace") ∈ lw_all := lw_g (lw_at lw_m4 21 rfl) rfl
theorem q857 : (Jvm.Cond.soleField "java/lang/Throwable" "depth") ∈ lw_all := lw_g (lw_at lw_m4 23 rfl) rfl
theorem q858 : (Jvm.Cond.soleField "java/lang/Throwable" "suppressedExceptions") ∈ lw_all := lw_g (lw_at lw_m4 24 rfl) rfl
theorem q1385 : (Jvm.Cond.instanceMethod ({ cls := "java/lang/Throwable", name := "<init>", desc := "(Ljava/lang/Throwable;)V" } : Jvm.MethodName)) ∈ lw_all := lw_g (lw_at lw_m6 71 rfl) rfl
theorem q1386 : (Jvm.Cond.code ({ cls := "java/lang/Throwable", name := "<init>", desc := "(Ljava/lang/Throwable;)V" } : Jvm.MethodName) prog_44_method_4_code (2 : Nat) (Option.none : Option Jvm.ClassFile.FieldType)) ∈ lw_all := lw_g (lw_at lw_m6 72 rfl) rfl
theorem q1387 : (Jvm.Cond.methodLink "java/lang/Throwable" (35 : Nat) ({ cls := "java/lang/Throwable", name := "toString", desc := "()Ljava/lang/String;" } : Jvm.MethodName)) ∈ lw_all := lw_g (lw_at lw_m6 73 rfl) rfl
theorem q1388 : (Jvm.Cond.instanceMethod ({ cls := "java/lang/Throwable", name := "toString", desc := "()Ljava/lang/String;" } : Jvm.MethodName)) ∈ lw_all := lw_g (lw_at lw_m6 74 rfl) rfl
theorem q1389 : (Jvm.Cond.sameMethod "java/lang/Throwable" "java/lang/Throwable" "toString" "()Ljava/lang/String;") ∈ lw_all := lw_g (lw_at lw_m6 75 rfl) rfl
theorem q1394 : (Jvm.Cond.code ({ cls := "java/lang/Throwable", name := "toString", desc := "()Ljava/lang/String;" } : Jvm.MethodName) prog_44_method_11_code (3 : Nat) (Option.some (Jvm.ClassFile.FieldType.object "java/lang/String"))) ∈ lw_all := lw_g (lw_at lw_m6 80 rfl) rfl
theorem q1395 : (Jvm.Cond.methodLink "java/lang/Throwable" (69 : Nat) ({ cls := "java/lang/Object", name := "getClass", desc := "()Ljava/lang/Class;" } : Jvm.MethodName)) ∈ lw_all := lw_g (lw_at lw_m6 81 rfl) rfl
theorem q1396 : (Jvm.Cond.methodLink "java/lang/Throwable" (78 : Nat) ({ cls := "java/lang/Throwable", name := "getLocalizedMessage", desc := "()Ljava/lang/String;" } : Jvm.MethodName)) ∈ lw_all := lw_g (lw_at lw_m6 82 rfl) rfl
theorem q1397 : (Jvm.Cond.instanceMethod ({ cls := "java/lang/Throwable", name := "getLocalizedMessage", desc := "()Ljava/lang/String;" } : Jvm.MethodName)) ∈ lw_all := lw_g (lw_at lw_m6 83 rfl) rfl
theorem q1398 : (Jvm.Cond.sameMethod "java/lang/Throwable" "java/lang/Throwable" "getLocalizedMessage" "()Ljava/lang/String;") ∈ lw_all := lw_g (lw_at lw_m6 84 rfl) rfl
theorem q1403 : (Jvm.Cond.code ({ cls := "java/lang/Throwable", name := "getLocalizedMessage", desc := "()Ljava/lang/String;" } : Jvm.MethodName) prog_44_method_7_code (1 : Nat) (Option.some (Jvm.ClassFile.FieldType.object "java/lang/String"))) ∈ lw_all := lw_g (lw_at lw_m6 89 rfl) rfl
theorem q1404 : (Jvm.Cond.methodLink "java/lang/Throwable" (39 : Nat) ({ cls := "java/lang/Throwable", name := "getMessage", desc := "()Ljava/lang/String;" } : Jvm.MethodName)) ∈ lw_all := lw_g (lw_at lw_m6 90 rfl) rfl
theorem q1405 : (Jvm.Cond.instanceMethod ({ cls := "java/lang/Throwable", name := "getMessage", desc := "()Ljava/lang/String;" } : Jvm.MethodName)) ∈ lw_all := lw_g (lw_at lw_m6 91 rfl) rfl
theorem q1406 : (Jvm.Cond.sameMethod "java/lang/Throwable" "java/lang/Throwable" "getMessage" "()Ljava/lang/String;") ∈ lw_all := lw_g (lw_at lw_m6 92 rfl) rfl
theorem q1411 : (Jvm.Cond.code ({ cls := "java/lang/Throwable", name := "getMessage", desc := "()Ljava/lang/String;" } : Jvm.MethodName) prog_44_method_6_code (1 : Nat) (Option.some (Jvm.ClassFile.FieldType.object "java/lang/String"))) ∈ lw_all := lw_g (lw_at lw_m6 97 rfl) rfl
theorem q1412 : (Jvm.Cond.classLink "java/lang/Throwable" (44 : Nat) "java/lang/StringBuilder") ∈ lw_all := lw_g (lw_at lw_m6 98 rfl) rfl
theorem q1413 : (Jvm.Cond.methodLink "java/lang/Throwable" (46 : Nat) ({ cls := "java/lang/StringBuilder", name := "<init>", desc := "()V" } : Jvm.MethodName)) ∈ lw_all := lw_g (lw_at lw_m6 99 rfl) rfl
theorem q1416 : (Jvm.Cond.methodLink "java/lang/Throwable" (49 : Nat) ({ cls := "java/lang/StringBuilder", name := "append", desc := "(Ljava/lang/String;)Ljava/lang/StringBuilder;" } : Jvm.MethodName)) ∈ lw_all := lw_g (lw_at lw_m6 102 rfl) rfl
theorem q1514 : (Jvm.Cond.stringRef "java/lang/Throwable" (81 : Nat) ": ") ∈ lw_tbl := lw_at lw_m6 200 rfl
theorem q1515 : (Jvm.Cond.methodLink "java/lang/Throwable" (60 : Nat) ({ cls := "java/lang/StringBuilder", name := "toString", desc := "()Ljava/lang/String;" } : Jvm.MethodName)) ∈ lw_all := lw_g (lw_at lw_m6 201 rfl) rfl
theorem q1826 : (Jvm.Cond.instanceMethod ({ cls := "java/lang/Throwable", name := "getCause", desc := "()Ljava/lang/Throwable;" } : Jvm.MethodName)) ∈ lw_all := lw_g (lw_at lw_m8 32 rfl) rfl
theorem q1827 : (Jvm.Cond.sameMethod "java/lang/Throwable" "java/lang/Throwable" "getCause" "()Ljava/lang/Throwable;") ∈ lw_all := lw_g (lw_at lw_m8 33 rfl) rfl
theorem q1832 : (Jvm.Cond.codeSync ({ cls := "java/lang/Throwable", name := "getCause", desc := "()Ljava/lang/Throwable;" } : Jvm.MethodName) prog_44_method_8_code (1 : Nat) (Option.some (Jvm.ClassFile.FieldType.object "java/lang/Throwable"))) ∈ lw_all := lw_g (lw_at lw_m8 38 rfl) rfl
theorem q2426 : (Jvm.Cond.sameMethod "java/lang/Throwable" "java/lang/Throwable" "fillInStackTrace" "(I)Ljava/lang/Throwable;") ∈ lw_all := lw_g (lw_at lw_m10 152 rfl) rfl
theorem q2477 : (Jvm.Cond.castable "java/lang/Throwable" "java/lang/Object") ∈ lw_tbl := lw_at lw_m10 203 rfl
theorem in_J23 : ∀ w ∈ wsJ230, w ∈ lw_all := lw_in wsJ230 [804, 806, 808, 810, 812] (by decide +kernel) (by decide +kernel)
/-! java/lang/Exception -/
set_option maxRecDepth 100000
def RJ24 : String := "java/lang/Exception"
abbrev cJ24_init : ByteArray := prog_31_method_5_code
def yJ24_init : MethodName := ⟨RJ24, "<init>", "(Ljava/lang/String;Ljava/lang/Throwable;ZZ)V"⟩
def dkwJ24_init_0 : List UInt8 := [42, 43, 44, 29, 21, 4, 183, 0, 16, 177]
abbrev dktJ24_init_0 : List UInt8 := dkwJ24_init_0 ++ []
theorem dksJ24_init_0 : cJ24_init.data.toList.drop 0 = dktJ24_init_0 := by decide +kernel
theorem dJ24_init_0 : decode cJ24_init 0 = .ok (.aload_n 0, 1) := dk_42 (dk_at dksJ24_init_0 0 rfl rfl)
theorem dJ24_init_1 : decode cJ24_init 1 = .ok (.aload_n 1, 1) := dk_43 (dk_at dksJ24_init_0 1 rfl rfl)
theorem dJ24_init_2 : decode cJ24_init 2 = .ok (.aload_n 2, 1) := dk_44 (dk_at dksJ24_init_0 2 rfl rfl)
theorem dJ24_init_3 : decode cJ24_init 3 = .ok (.iload_n 3, 1) := dk_29 (dk_at dksJ24_init_0 3 rfl rfl)
theorem dJ24_init_4 : decode cJ24_init 4 = .ok (.iload 4, 2) := dk_21 4 (dk_at dksJ24_init_0 4 rfl rfl)
theorem dJ24_init_6 : decode cJ24_init 6 = .ok (.invokespecial 16, 3) := dk_183 0 16 (dk_at dksJ24_init_0 6 rfl rfl)
theorem dJ24_init_9 : decode cJ24_init 9 = .ok (.return_, 1) := dk_177 (dk_at dksJ24_init_0 9 rfl rfl)
abbrev cJ24_init_2 : ByteArray := prog_31_method_4_code
def yJ24_init_2 : MethodName := ⟨RJ24, "<init>", "(Ljava/lang/Throwable;)V"⟩
def dkwJ24_init_2_0 : List UInt8 := [42, 43, 183, 0, 13, 177]
abbrev dktJ24_init_2_0 : List UInt8 := dkwJ24_init_2_0 ++ []
theorem dksJ24_init_2_0 : cJ24_init_2.data.toList.drop 0 = dktJ24_init_2_0 := by decide +kernel
theorem dJ24_init_2_0 : decode cJ24_init_2 0 = .ok (.aload_n 0, 1) := dk_42 (dk_at dksJ24_init_2_0 0 rfl rfl)
theorem dJ24_init_2_1 : decode cJ24_init_2 1 = .ok (.aload_n 1, 1) := dk_43 (dk_at dksJ24_init_2_0 1 rfl rfl)
theorem dJ24_init_2_2 : decode cJ24_init_2 2 = .ok (.invokespecial 13, 3) := dk_183 0 13 (dk_at dksJ24_init_2_0 2 rfl rfl)
theorem dJ24_init_2_5 : decode cJ24_init_2 5 = .ok (.return_, 1) := dk_177 (dk_at dksJ24_init_2_0 5 rfl rfl)
abbrev cJ24_init_3 : ByteArray := prog_31_method_1_code
def yJ24_init_3 : MethodName := ⟨RJ24, "<init>", "()V"⟩
theorem dJ24_init_3_0 : decode cJ24_init_3 0 = .ok (.aload_n 0, 1) := by decide +kernel
theorem dJ24_init_3_1 : decode cJ24_init_3 1 = .ok (.invokespecial 1, 3) := by decide +kernel
theorem dJ24_init_3_4 : decode cJ24_init_3 4 = .ok (.return_, 1) := by decide +kernel
theorem q151 : (Jvm.Cond.initialized "java/lang/Exception") ∈ lw_all := lw_g (lw_at lw_m1 37 rfl) rfl
theorem q797 : (Jvm.Cond.declares ({ cls := "java/lang/Exception", name := "<init>", desc := "()V" } : Jvm.MethodName)) ∈ lw_tbl := lw_at lw_m3 203 rfl
theorem q798 : (Jvm.Cond.declares ({ cls := "java/lang/Exception", name := "<init>", desc := "(Ljava/lang/String;)V" } : Jvm.MethodName)) ∈ lw_tbl := lw_at lw_m3 204 rfl
theorem q838 : (Jvm.Cond.instanceMethod ({ cls := "java/lang/Exception", name := "<init>", desc := "(Ljava/lang/String;Ljava/lang/Throwable;ZZ)V" } : Jvm.MethodName)) ∈ lw_all := lw_g (lw_at lw_m4 4 rfl) rfl
theorem q839 : (Jvm.Cond.code ({ cls := "java/lang/Exception", name := "<init>", desc := "(Ljava/lang/String;Ljava/lang/Throwable;ZZ)V" } : Jvm.MethodName) prog_31_method_5_code (5 : Nat) (Option.none : Option Jvm.ClassFile.FieldType)) ∈ lw_all := lw_g (lw_at lw_m4 5 rfl) rfl
theorem q840 : (Jvm.Cond.methodLink "java/lang/Exception" (16 : Nat) ({ cls := "java/lang/Throwable", name := "<init>", desc := "(Ljava/lang/String;Ljava/lang/Throwable;ZZ)V" } : Jvm.MethodName)) ∈ lw_all := lw_g (lw_at lw_m4 6 rfl) rfl
theorem q1382 : (Jvm.Cond.instanceMethod ({ cls := "java/lang/Exception", name := "<init>", desc := "(Ljava/lang/Throwable;)V" } : Jvm.MethodName)) ∈ lw_all := lw_g (lw_at lw_m6 68 rfl) rfl
theorem q1383 : (Jvm.Cond.code ({ cls := "java/lang/Exception", name := "<init>", desc := "(Ljava/lang/Throwable;)V" } : Jvm.MethodName) prog_31_method_4_code (2 : Nat) (Option.none : Option Jvm.ClassFile.FieldType)) ∈ lw_all := lw_g (lw_at lw_m6 69 rfl) rfl
theorem q1384 : (Jvm.Cond.methodLink "java/lang/Exception" (13 : Nat) ({ cls := "java/lang/Throwable", name := "<init>", desc := "(Ljava/lang/Throwable;)V" } : Jvm.MethodName)) ∈ lw_all := lw_g (lw_at lw_m6 70 rfl) rfl
theorem q1604 : (Jvm.Cond.instanceMethod ({ cls := "java/lang/Exception", name := "<init>", desc := "()V" } : Jvm.MethodName)) ∈ lw_all := lw_g (lw_at lw_m7 50 rfl) rfl
theorem q1605 : (Jvm.Cond.code ({ cls := "java/lang/Exception", name := "<init>", desc := "()V" } : Jvm.MethodName) prog_31_method_1_code (1 : Nat) (Option.none : Option Jvm.ClassFile.FieldType)) ∈ lw_all := lw_g (lw_at lw_m7 51 rfl) rfl
theorem q1606 : (Jvm.Cond.methodLink "java/lang/Exception" (1 : Nat) ({ cls := "java/lang/Throwable", name := "<init>", desc := "()V" } : Jvm.MethodName)) ∈ lw_all := lw_g (lw_at lw_m7 52 rfl) rfl
/-! java/lang/Number -/
set_option maxRecDepth 100000
def RJ25 : String := "java/lang/Number"
abbrev cJ25_init : ByteArray := prog_37_method_1_code
def yJ25_init : MethodName := ⟨RJ25, "<init>", "()V"⟩
theorem dJ25_init_0 : decode cJ25_init 0 = .ok (.aload_n 0, 1) := by decide +kernel
theorem dJ25_init_1 : decode cJ25_init 1 = .ok (.invokespecial 1, 3) := by decide +kernel
theorem dJ25_init_4 : decode cJ25_init 4 = .ok (.return_, 1) := by decide +kernel
theorem q154 : (Jvm.Cond.initialized "java/lang/Number") ∈ lw_all := lw_g (lw_at lw_m1 40 rfl) rfl
theorem q1178 : (Jvm.Cond.instanceMethod ({ cls := "java/lang/Number", name := "<init>", desc := "()V" } : Jvm.MethodName)) ∈ lw_all := lw_g (lw_at lw_m5 104 rfl) rfl
theorem q1179 : (Jvm.Cond.code ({ cls := "java/lang/Number", name := "<init>", desc := "()V" } : Jvm.MethodName) prog_37_method_1_code (1 : Nat) (Option.none : Option Jvm.ClassFile.FieldType)) ∈ lw_all := lw_g (lw_at lw_m5 105 rfl) rfl
theorem q1180 : (Jvm.Cond.methodLink "java/lang/Number" (1 : Nat) ({ cls := "java/lang/Object", name := "<init>", desc := "()V" } : Jvm.MethodName)) ∈ lw_all := lw_g (lw_at lw_m5 106 rfl) rfl
/-! java/lang/Integer -/
set_option maxRecDepth 100000
def RJ26 : String := "java/lang/Integer"
def TJ26 : u_T := fun k => match k with
  | _ => ("java/lang/Integer", "value", "I", true)
def tyJ26 : Nat → FieldType := fun k => match k with
  | _ => .int
abbrev wsJ260 : List Cond := u_ws RJ26 TJ26 1
theorem nmJ26 : ∀ a, a < 1 → ∀ b, b < 1 → a ≠ b → (TJ26 a).2.1 ≠ (TJ26 b).2.1 := by decide +kernel
theorem tyJ26_ok : ∀ k, k < 1 → parseFieldDescriptor (TJ26 k).2.2.1 = some (tyJ26 k) := by decide +kernel
abbrev cJ26_valueOf : ByteArray := prog_32_method_22_code
def yJ26_valueOf : MethodName := ⟨RJ26, "valueOf", "(I)Ljava/lang/Integer;"⟩
def dkwJ26_valueOf_1 : List UInt8 := [187, 0, 1, 89, 26, 183, 0, 199, 176]
abbrev dktJ26_valueOf_1 : List UInt8 := dkwJ26_valueOf_1 ++ []
def dkwJ26_valueOf_0 : List UInt8 := [26, 16, 128, 161, 0, 20, 26, 178, 0, 191, 163, 0, 13, 178, 0, 195, 26, 17, 0, 128, 96, 50, 176]
abbrev dktJ26_valueOf_0 : List UInt8 := dkwJ26_valueOf_0 ++ dktJ26_valueOf_1
theorem dksJ26_valueOf_0 : cJ26_valueOf.data.toList.drop 0 = dktJ26_valueOf_0 := by decide +kernel
theorem dksJ26_valueOf_1 : cJ26_valueOf.data.toList.drop 23 = dktJ26_valueOf_1 := dk_seg dksJ26_valueOf_0 23 rfl rfl
theorem dJ26_valueOf_0 : decode cJ26_valueOf 0 = .ok (.iload_n 0, 1) := dk_26 (dk_at dksJ26_valueOf_0 0 rfl rfl)
theorem dJ26_valueOf_1 : decode cJ26_valueOf 1 = .ok (.bipush (-128), 2) := dk_16 128 (dk_at dksJ26_valueOf_0 1 rfl rfl)
theorem dJ26_valueOf_3 : decode cJ26_valueOf 3 = .ok (.if_icmp .lt 20, 3) := dk_161 0 20 (dk_at dksJ26_valueOf_0 3 rfl rfl)
theorem dJ26_valueOf_6 : decode cJ26_valueOf 6 = .ok (.iload_n 0, 1) := dk_26 (dk_at dksJ26_valueOf_0 6 rfl rfl)
theorem dJ26_valueOf_7 : decode cJ26_valueOf 7 = .ok (.getstatic 191, 3) := dk_178 0 191 (dk_at dksJ26_valueOf_0 7 rfl rfl)
theorem dJ26_valueOf_10 : decode cJ26_valueOf 10 = .ok (.if_icmp .gt 13, 3) := dk_163 0 13 (dk_at dksJ26_valueOf_0 10 rfl rfl)
theorem dJ26_valueOf_13 : decode cJ26_valueOf 13 = .ok (.getstatic 195, 3) := dk_178 0 195 (dk_at dksJ26_valueOf_0 13 rfl rfl)
theorem dJ26_valueOf_16 : decode cJ26_valueOf 16 = .ok (.iload_n 0, 1) := dk_26 (dk_at dksJ26_valueOf_0 16 rfl rfl)
theorem dJ26_valueOf_17 : decode cJ26_valueOf 17 = .ok (.sipush 128, 3) := dk_17 0 128 (dk_at dksJ26_valueOf_0 17 rfl rfl)
theorem dJ26_valueOf_20 : decode cJ26_valueOf 20 = .ok (.iadd, 1) := dk_96 (dk_at dksJ26_valueOf_0 20 rfl rfl)
theorem dJ26_valueOf_21 : decode cJ26_valueOf 21 = .ok (.aaload, 1) := dk_50 (dk_at dksJ26_valueOf_0 21 rfl rfl)
theorem dJ26_valueOf_22 : decode cJ26_valueOf 22 = .ok (.areturn, 1) := dk_176 (dk_at dksJ26_valueOf_0 22 rfl rfl)
theorem dJ26_valueOf_23 : decode cJ26_valueOf 23 = .ok (.new 1, 3) := dk_187 0 1 (dk_at dksJ26_valueOf_1 0 rfl rfl)
theorem dJ26_valueOf_26 : decode cJ26_valueOf 26 = .ok (.dup, 1) := dk_89 (dk_at dksJ26_valueOf_1 3 rfl rfl)
theorem dJ26_valueOf_27 : decode cJ26_valueOf 27 = .ok (.iload_n 0, 1) := dk_26 (dk_at dksJ26_valueOf_1 4 rfl rfl)
theorem dJ26_valueOf_28 : decode cJ26_valueOf 28 = .ok (.invokespecial 199, 3) := dk_183 0 199 (dk_at dksJ26_valueOf_1 5 rfl rfl)
theorem dJ26_valueOf_31 : decode cJ26_valueOf 31 = .ok (.areturn, 1) := dk_176 (dk_at dksJ26_valueOf_1 8 rfl rfl)
abbrev cJ26_init : ByteArray := prog_32_method_23_code
def yJ26_init : MethodName := ⟨RJ26, "<init>", "(I)V"⟩
def dkwJ26_init_0 : List UInt8 := [42, 183, 0, 202, 42, 27, 181, 0, 205, 177]
abbrev dktJ26_init_0 : List UInt8 := dkwJ26_init_0 ++ []
theorem dksJ26_init_0 : cJ26_init.data.toList.drop 0 = dktJ26_init_0 := by decide +kernel
theorem dJ26_init_0 : decode cJ26_init 0 = .ok (.aload_n 0, 1) := dk_42 (dk_at dksJ26_init_0 0 rfl rfl)
theorem dJ26_init_1 : decode cJ26_init 1 = .ok (.invokespecial 202, 3) := dk_183 0 202 (dk_at dksJ26_init_0 1 rfl rfl)
theorem dJ26_init_4 : decode cJ26_init 4 = .ok (.aload_n 0, 1) := dk_42 (dk_at dksJ26_init_0 4 rfl rfl)
theorem dJ26_init_5 : decode cJ26_init 5 = .ok (.iload_n 1, 1) := dk_27 (dk_at dksJ26_init_0 5 rfl rfl)
theorem dJ26_init_6 : decode cJ26_init 6 = .ok (.putfield 205, 3) := dk_181 0 205 (dk_at dksJ26_init_0 6 rfl rfl)
theorem dJ26_init_9 : decode cJ26_init 9 = .ok (.return_, 1) := dk_177 (dk_at dksJ26_init_0 9 rfl rfl)
abbrev cJ26_intValue : ByteArray := prog_32_method_27_code
def yJ26_intValue : MethodName := ⟨RJ26, "intValue", "()I"⟩
theorem dJ26_intValue_0 : decode cJ26_intValue 0 = .ok (.aload_n 0, 1) := by decide +kernel
theorem dJ26_intValue_1 : decode cJ26_intValue 1 = .ok (.getfield 205, 3) := by decide +kernel
theorem dJ26_intValue_4 : decode cJ26_intValue 4 = .ok (.ireturn, 1) := by decide +kernel
abbrev cJ26_bitCount : ByteArray := prog_32_method_49_code
def yJ26_bitCount : MethodName := ⟨RJ26, "bitCount", "(I)I"⟩
def dkwJ26_bitCount_2 : List UInt8 := [26, 16, 63, 126, 172]
abbrev dktJ26_bitCount_2 : List UInt8 := dkwJ26_bitCount_2 ++ []
def dkwJ26_bitCount_1 : List UInt8 := [26, 26, 7, 124, 96, 19, 1, 11, 126, 59, 26, 26, 16, 8, 124, 96, 59, 26, 26, 16, 16, 124, 96, 59]
abbrev dktJ26_bitCount_1 : List UInt8 := dkwJ26_bitCount_1 ++ dktJ26_bitCount_2
def dkwJ26_bitCount_0 : List UInt8 := [26, 26, 4, 124, 19, 1, 9, 126, 100, 59, 26, 19, 1, 10, 126, 26, 5, 124, 19, 1, 10, 126, 96, 59]
abbrev dktJ26_bitCount_0 : List UInt8 := dkwJ26_bitCount_0 ++ dktJ26_bitCount_1
theorem dksJ26_bitCount_0 : cJ26_bitCount.data.toList.drop 0 = dktJ26_bitCount_0 := by decide +kernel
theorem dksJ26_bitCount_1 : cJ26_bitCount.data.toList.drop 24 = dktJ26_bitCount_1 := dk_seg dksJ26_bitCount_0 24 rfl rfl
theorem dksJ26_bitCount_2 : cJ26_bitCount.data.toList.drop 48 = dktJ26_bitCount_2 := dk_seg dksJ26_bitCount_1 24 rfl rfl
theorem dJ26_bitCount_0 : decode cJ26_bitCount 0 = .ok (.iload_n 0, 1) := dk_26 (dk_at dksJ26_bitCount_0 0 rfl rfl)
theorem dJ26_bitCount_1 : decode cJ26_bitCount 1 = .ok (.iload_n 0, 1) := dk_26 (dk_at dksJ26_bitCount_0 1 rfl rfl)
theorem dJ26_bitCount_2 : decode cJ26_bitCount 2 = .ok (.iconst 1, 1) := dk_4 (dk_at dksJ26_bitCount_0 2 rfl rfl)
theorem dJ26_bitCount_3 : decode cJ26_bitCount 3 = .ok (.iushr, 1) := dk_124 (dk_at dksJ26_bitCount_0 3 rfl rfl)
theorem dJ26_bitCount_4 : decode cJ26_bitCount 4 = .ok (.ldc_w 265, 3) := dk_19 1 9 (dk_at dksJ26_bitCount_0 4 rfl rfl)
theorem dJ26_bitCount_7 : decode cJ26_bitCount 7 = .ok (.iand, 1) := dk_126 (dk_at dksJ26_bitCount_0 7 rfl rfl)
theorem dJ26_bitCount_8 : decode cJ26_bitCount 8 = .ok (.isub, 1) := dk_100 (dk_at dksJ26_bitCount_0 8 rfl rfl)
theorem dJ26_bitCount_9 : decode cJ26_bitCount 9 = .ok (.istore_n 0, 1) := dk_59 (dk_at dksJ26_bitCount_0 9 rfl rfl)
theorem dJ26_bitCount_10 : decode cJ26_bitCount 10 = .ok (.iload_n 0, 1) := dk_26 (dk_at dksJ26_bitCount_0 10 rfl rfl)
theorem dJ26_bitCount_11 : decode cJ26_bitCount 11 = .ok (.ldc_w 266, 3) := dk_19 1 10 (dk_at dksJ26_bitCount_0 11 rfl rfl)
theorem dJ26_bitCount_14 : decode cJ26_bitCount 14 = .ok (.iand, 1) := dk_126 (dk_at dksJ26_bitCount_0 14 rfl rfl)
theorem dJ26_bitCount_15 : decode cJ26_bitCount 15 = .ok (.iload_n 0, 1) := dk_26 (dk_at dksJ26_bitCount_0 15 rfl rfl)
theorem dJ26_bitCount_16 : decode cJ26_bitCount 16 = .ok (.iconst 2, 1) := dk_5 (dk_at dksJ26_bitCount_0 16 rfl rfl)
theorem dJ26_bitCount_17 : decode cJ26_bitCount 17 = .ok (.iushr, 1) := dk_124 (dk_at dksJ26_bitCount_0 17 rfl rfl)
theorem dJ26_bitCount_18 : decode cJ26_bitCount 18 = .ok (.ldc_w 266, 3) := dk_19 1 10 (dk_at dksJ26_bitCount_0 18 rfl rfl)
theorem dJ26_bitCount_21 : decode cJ26_bitCount 21 = .ok (.iand, 1) := dk_126 (dk_at dksJ26_bitCount_0 21 rfl rfl)
theorem dJ26_bitCount_22 : decode cJ26_bitCount 22 = .ok (.iadd, 1) := dk_96 (dk_at dksJ26_bitCount_0 22 rfl rfl)
theorem dJ26_bitCount_23 : decode cJ26_bitCount 23 = .ok (.istore_n 0, 1) := dk_59 (dk_at dksJ26_bitCount_0 23 rfl rfl)
theorem dJ26_bitCount_24 : decode cJ26_bitCount 24 = .ok (.iload_n 0, 1) := dk_26 (dk_at dksJ26_bitCount_1 0 rfl rfl)
theorem dJ26_bitCount_25 : decode cJ26_bitCount 25 = .ok (.iload_n 0, 1) := dk_26 (dk_at dksJ26_bitCount_1 1 rfl rfl)
theorem dJ26_bitCount_26 : decode cJ26_bitCount 26 = .ok (.iconst 4, 1) := dk_7 (dk_at dksJ26_bitCount_1 2 rfl rfl)
theorem dJ26_bitCount_27 : decode cJ26_bitCount 27 = .ok (.iushr, 1) := dk_124 (dk_at dksJ26_bitCount_1 3 rfl rfl)
theorem dJ26_bitCount_28 : decode cJ26_bitCount 28 = .ok (.iadd, 1) := dk_96 (dk_at dksJ26_bitCount_1 4 rfl rfl)
theorem dJ26_bitCount_29 : decode cJ26_bitCount 29 = .ok (.ldc_w 267, 3) := dk_19 1 11 (dk_at dksJ26_bitCount_1 5 rfl rfl)
theorem dJ26_bitCount_32 : decode cJ26_bitCount 32 = .ok (.iand, 1) := dk_126 (dk_at dksJ26_bitCount_1 8 rfl rfl)
theorem dJ26_bitCount_33 : decode cJ26_bitCount 33 = .ok (.istore_n 0, 1) := dk_59 (dk_at dksJ26_bitCount_1 9 rfl rfl)
theorem dJ26_bitCount_34 : decode cJ26_bitCount 34 = .ok (.iload_n 0, 1) := dk_26 (dk_at dksJ26_bitCount_1 10 rfl rfl)
theorem dJ26_bitCount_35 : decode cJ26_bitCount 35 = .ok (.iload_n 0, 1) := dk_26 (dk_at dksJ26_bitCount_1 11 rfl rfl)
theorem dJ26_bitCount_36 : decode cJ26_bitCount 36 = .ok (.bipush 8, 2) := dk_16 8 (dk_at dksJ26_bitCount_1 12 rfl rfl)
theorem dJ26_bitCount_38 : decode cJ26_bitCount 38 = .ok (.iushr, 1) := dk_124 (dk_at dksJ26_bitCount_1 14 rfl rfl)
theorem dJ26_bitCount_39 : decode cJ26_bitCount 39 = .ok (.iadd, 1) := dk_96 (dk_at dksJ26_bitCount_1 15 rfl rfl)
theorem dJ26_bitCount_40 : decode cJ26_bitCount 40 = .ok (.istore_n 0, 1) := dk_59 (dk_at dksJ26_bitCount_1 16 rfl rfl)
theorem dJ26_bitCount_41 : decode cJ26_bitCount 41 = .ok (.iload_n 0, 1) := dk_26 (dk_at dksJ26_bitCount_1 17 rfl rfl)
theorem dJ26_bitCount_42 : decode cJ26_bitCount 42 = .ok (.iload_n 0, 1) := dk_26 (dk_at dksJ26_bitCount_1 18 rfl rfl)
theorem dJ26_bitCount_43 : decode cJ26_bitCount 43 = .ok (.bipush 16, 2) := dk_16 16 (dk_at dksJ26_bitCount_1 19 rfl rfl)
theorem dJ26_bitCount_45 : decode cJ26_bitCount 45 = .ok (.iushr, 1) := dk_124 (dk_at dksJ26_bitCount_1 21 rfl rfl)
theorem dJ26_bitCount_46 : decode cJ26_bitCount 46 = .ok (.iadd, 1) := dk_96 (dk_at dksJ26_bitCount_1 22 rfl rfl)
theorem dJ26_bitCount_47 : decode cJ26_bitCount 47 = .ok (.istore_n 0, 1) := dk_59 (dk_at dksJ26_bitCount_1 23 rfl rfl)
theorem dJ26_bitCount_48 : decode cJ26_bitCount 48 = .ok (.iload_n 0, 1) := dk_26 (dk_at dksJ26_bitCount_2 0 rfl rfl)
theorem dJ26_bitCount_49 : decode cJ26_bitCount 49 = .ok (.bipush 63, 2) := dk_16 63 (dk_at dksJ26_bitCount_2 1 rfl rfl)
theorem dJ26_bitCount_51 : decode cJ26_bitCount 51 = .ok (.iand, 1) := dk_126 (dk_at dksJ26_bitCount_2 3 rfl rfl)
theorem dJ26_bitCount_52 : decode cJ26_bitCount 52 = .ok (.ireturn, 1) := dk_172 (dk_at dksJ26_bitCount_2 4 rfl rfl)
theorem q155 : (Jvm.Cond.initialized "java/lang/Integer") ∈ lw_all := lw_g (lw_at lw_m1 41 rfl) rfl
theorem q446 : (Jvm.Cond.selects "java/lang/Integer" ({ cls := "java/lang/Object", name := "getClass", desc := "()Ljava/lang/Class;" } : Jvm.MethodName) ({ cls := "java/lang/Object", name := "getClass", desc := "()Ljava/lang/Class;" } : Jvm.MethodName)) ∈ lw_all := lw_g (lw_at lw_m2 92 rfl) rfl
theorem q1166 : (Jvm.Cond.static ({ cls := "java/lang/Integer", name := "valueOf", desc := "(I)Ljava/lang/Integer;" } : Jvm.MethodName)) ∈ lw_all := lw_g (lw_at lw_m5 92 rfl) rfl
theorem q1167 : (Jvm.Cond.code ({ cls := "java/lang/Integer", name := "valueOf", desc := "(I)Ljava/lang/Integer;" } : Jvm.MethodName) prog_32_method_22_code (1 : Nat) (Option.some (Jvm.ClassFile.FieldType.object "java/lang/Integer"))) ∈ lw_all := lw_g (lw_at lw_m5 93 rfl) rfl
theorem q1168 : (Jvm.Cond.fieldLink "java/lang/Integer" (191 : Nat) "java/lang/Integer$IntegerCache" "high" "I") ∈ lw_all := lw_g (lw_at lw_m5 94 rfl) rfl
theorem q1170 : (Jvm.Cond.fieldLink "java/lang/Integer" (195 : Nat) "java/lang/Integer$IntegerCache" "cache" "[Ljava/lang/Integer;") ∈ lw_all := lw_g (lw_at lw_m5 96 rfl) rfl
theorem q1172 : (Jvm.Cond.classLink "java/lang/Integer" (1 : Nat) "java/lang/Integer") ∈ lw_all := lw_g (lw_at lw_m5 98 rfl) rfl
theorem q1173 : (Jvm.Cond.instantiable "java/lang/Integer" (1 : Nat)) ∈ lw_all := lw_g (lw_at lw_m5 99 rfl) rfl
theorem q1174 : (Jvm.Cond.methodLink "java/lang/Integer" (199 : Nat) ({ cls := "java/lang/Integer", name := "<init>", desc := "(I)V" } : Jvm.MethodName)) ∈ lw_all := lw_g (lw_at lw_m5 100 rfl) rfl
theorem q1175 : (Jvm.Cond.instanceMethod ({ cls := "java/lang/Integer", name := "<init>", desc := "(I)V" } : Jvm.MethodName)) ∈ lw_all := lw_g (lw_at lw_m5 101 rfl) rfl
theorem q1176 : (Jvm.Cond.code ({ cls := "java/lang/Integer", name := "<init>", desc := "(I)V" } : Jvm.MethodName) prog_32_method_23_code (2 : Nat) (Option.none : Option Jvm.ClassFile.FieldType)) ∈ lw_all := lw_g (lw_at lw_m5 102 rfl) rfl
theorem q1177 : (Jvm.Cond.methodLink "java/lang/Integer" (202 : Nat) ({ cls := "java/lang/Number", name := "<init>", desc := "()V" } : Jvm.MethodName)) ∈ lw_all := lw_g (lw_at lw_m5 103 rfl) rfl
theorem q1181 : (Jvm.Cond.fieldLink "java/lang/Integer" (205 : Nat) "java/lang/Integer" "value" "I") ∈ lw_all := lw_g (lw_at lw_m5 107 rfl) rfl
theorem q1182 : (Jvm.Cond.laysFinal "java/lang/Integer" "java/lang/Integer" "value" "I") ∈ lw_all := lw_g (lw_at lw_m5 108 rfl) rfl
theorem q1183 : (Jvm.Cond.soleField "java/lang/Integer" "value") ∈ lw_all := lw_g (lw_at lw_m5 109 rfl) rfl
theorem q1184 : (Jvm.Cond.superclass "java/lang/Integer" "java/lang/Number") ∈ lw_all := lw_g (lw_at lw_m5 110 rfl) rfl
theorem q1223 : (Jvm.Cond.instanceMethod ({ cls := "java/lang/Integer", name := "intValue", desc := "()I" } : Jvm.MethodName)) ∈ lw_all := lw_g (lw_at lw_m5 149 rfl) rfl
theorem q1224 : (Jvm.Cond.selects "java/lang/Integer" ({ cls := "java/lang/Integer", name := "intValue", desc := "()I" } : Jvm.MethodName) ({ cls := "java/lang/Integer", name := "intValue", desc := "()I" } : Jvm.MethodName)) ∈ lw_all := lw_g (lw_at lw_m5 150 rfl) rfl
theorem q1225 : (Jvm.Cond.code ({ cls := "java/lang/Integer", name := "intValue", desc := "()I" } : Jvm.MethodName) prog_32_method_27_code (1 : Nat) (Option.some Jvm.ClassFile.FieldType.int)) ∈ lw_all := lw_g (lw_at lw_m5 151 rfl) rfl
theorem q1954 : (Jvm.Cond.static ({ cls := "java/lang/Integer", name := "bitCount", desc := "(I)I" } : Jvm.MethodName)) ∈ lw_all := lw_g (lw_at lw_m8 160 rfl) rfl
theorem q1955 : (Jvm.Cond.code ({ cls := "java/lang/Integer", name := "bitCount", desc := "(I)I" } : Jvm.MethodName) prog_32_method_49_code (1 : Nat) (Option.some Jvm.ClassFile.FieldType.int)) ∈ lw_all := lw_g (lw_at lw_m8 161 rfl) rfl
theorem q1956 : (Jvm.Cond.constant "java/lang/Integer" (265 : Nat) (1431655765 : Int32)) ∈ lw_all := lw_g (lw_at lw_m8 162 rfl) rfl
theorem q1957 : (Jvm.Cond.constant "java/lang/Integer" (266 : Nat) (858993459 : Int32)) ∈ lw_all := lw_g (lw_at lw_m8 163 rfl) rfl
theorem q1958 : (Jvm.Cond.constant "java/lang/Integer" (267 : Nat) (252645135 : Int32)) ∈ lw_all := lw_g (lw_at lw_m8 164 rfl) rfl
theorem q2469 : (Jvm.Cond.castable "java/lang/Integer" "java/lang/Object") ∈ lw_tbl := lw_at lw_m10 195 rfl
theorem in_J26 : ∀ w ∈ wsJ260, w ∈ lw_all := lw_in wsJ260 [1182] (by decide +kernel) (by decide +kernel)
/-! java/util/ImmutableCollections$ListItr -/
set_option maxRecDepth 100000
def RJ27 : String := "java/util/ImmutableCollections$ListItr"
def TJ27 : u_T := fun k => match k with
  | 0 => ("java/util/ImmutableCollections$ListItr", "list", "Ljava/util/List;", true)
  | 1 => ("java/util/ImmutableCollections$ListItr", "size", "I", true)
  | 2 => ("java/util/ImmutableCollections$ListItr", "isListIterator", "Z", true)
  | _ => ("java/util/ImmutableCollections$ListItr", "cursor", "I", false)
def tyJ27 : Nat → FieldType := fun k => match k with
  | 0 => .object "java/util/List"
  | 1 => .int
  | 2 => .boolean
  | _ => .int
abbrev wsJ270 : List Cond := u_ws RJ27 TJ27 4
theorem nmJ27 : ∀ a, a < 4 → ∀ b, b < 4 → a ≠ b → (TJ27 a).2.1 ≠ (TJ27 b).2.1 := by decide +kernel
theorem tyJ27_ok : ∀ k, k < 4 → parseFieldDescriptor (TJ27 k).2.2.1 = some (tyJ27 k) := by decide +kernel
abbrev cJ27_init : ByteArray := prog_62_method_1_code
def yJ27_init : MethodName := ⟨RJ27, "<init>", "(Ljava/util/List;I)V"⟩
def dkwJ27_init_1 : List UInt8 := [177]
abbrev dktJ27_init_1 : List UInt8 := dkwJ27_init_1 ++ []
def dkwJ27_init_0 : List UInt8 := [42, 183, 0, 1, 42, 43, 181, 0, 7, 42, 28, 181, 0, 13, 42, 3, 181, 0, 17, 42, 3, 181, 0, 20]
abbrev dktJ27_init_0 : List UInt8 := dkwJ27_init_0 ++ dktJ27_init_1
theorem dksJ27_init_0 : cJ27_init.data.toList.drop 0 = dktJ27_init_0 := by decide +kernel
theorem dksJ27_init_1 : cJ27_init.data.toList.drop 24 = dktJ27_init_1 := dk_seg dksJ27_init_0 24 rfl rfl
theorem dJ27_init_0 : decode cJ27_init 0 = .ok (.aload_n 0, 1) := dk_42 (dk_at dksJ27_init_0 0 rfl rfl)
theorem dJ27_init_1 : decode cJ27_init 1 = .ok (.invokespecial 1, 3) := dk_183 0 1 (dk_at dksJ27_init_0 1 rfl rfl)
theorem dJ27_init_4 : decode cJ27_init 4 = .ok (.aload_n 0, 1) := dk_42 (dk_at dksJ27_init_0 4 rfl rfl)
theorem dJ27_init_5 : decode cJ27_init 5 = .ok (.aload_n 1, 1) := dk_43 (dk_at dksJ27_init_0 5 rfl rfl)
theorem dJ27_init_6 : decode cJ27_init 6 = .ok (.putfield 7, 3) := dk_181 0 7 (dk_at dksJ27_init_0 6 rfl rfl)
theorem dJ27_init_9 : decode cJ27_init 9 = .ok (.aload_n 0, 1) := dk_42 (dk_at dksJ27_init_0 9 rfl rfl)
theorem dJ27_init_10 : decode cJ27_init 10 = .ok (.iload_n 2, 1) := dk_28 (dk_at dksJ27_init_0 10 rfl rfl)
theorem dJ27_init_11 : decode cJ27_init 11 = .ok (.putfield 13, 3) := dk_181 0 13 (dk_at dksJ27_init_0 11 rfl rfl)
theorem dJ27_init_14 : decode cJ27_init 14 = .ok (.aload_n 0, 1) := dk_42 (dk_at dksJ27_init_0 14 rfl rfl)
theorem dJ27_init_15 : decode cJ27_init 15 = .ok (.iconst 0, 1) := dk_3 (dk_at dksJ27_init_0 15 rfl rfl)
theorem dJ27_init_16 : decode cJ27_init 16 = .ok (.putfield 17, 3) := dk_181 0 17 (dk_at dksJ27_init_0 16 rfl rfl)
theorem dJ27_init_19 : decode cJ27_init 19 = .ok (.aload_n 0, 1) := dk_42 (dk_at dksJ27_init_0 19 rfl rfl)
theorem dJ27_init_20 : decode cJ27_init 20 = .ok (.iconst 0, 1) := dk_3 (dk_at dksJ27_init_0 20 rfl rfl)
theorem dJ27_init_21 : decode cJ27_init 21 = .ok (.putfield 20, 3) := dk_181 0 20 (dk_at dksJ27_init_0 21 rfl rfl)
theorem dJ27_init_24 : decode cJ27_init 24 = .ok (.return_, 1) := dk_177 (dk_at dksJ27_init_1 0 rfl rfl)
abbrev cJ27_hasNext : ByteArray := prog_62_method_3_code
def yJ27_hasNext : MethodName := ⟨RJ27, "hasNext", "()Z"⟩
def dkwJ27_hasNext_0 : List UInt8 := [42, 180, 0, 17, 42, 180, 0, 13, 159, 0, 7, 4, 167, 0, 4, 3, 172]
abbrev dktJ27_hasNext_0 : List UInt8 := dkwJ27_hasNext_0 ++ []
theorem dksJ27_hasNext_0 : cJ27_hasNext.data.toList.drop 0 = dktJ27_hasNext_0 := by decide +kernel
theorem dJ27_hasNext_0 : decode cJ27_hasNext 0 = .ok (.aload_n 0, 1) := dk_42 (dk_at dksJ27_hasNext_0 0 rfl rfl)
theorem dJ27_hasNext_1 : decode cJ27_hasNext 1 = .ok (.getfield 17, 3) := dk_180 0 17 (dk_at dksJ27_hasNext_0 1 rfl rfl)
theorem dJ27_hasNext_4 : decode cJ27_hasNext 4 = .ok (.aload_n 0, 1) := dk_42 (dk_at dksJ27_hasNext_0 4 rfl rfl)
theorem dJ27_hasNext_5 : decode cJ27_hasNext 5 = .ok (.getfield 13, 3) := dk_180 0 13 (dk_at dksJ27_hasNext_0 5 rfl rfl)
theorem dJ27_hasNext_8 : decode cJ27_hasNext 8 = .ok (.if_icmp .eq 7, 3) := dk_159 0 7 (dk_at dksJ27_hasNext_0 8 rfl rfl)
theorem dJ27_hasNext_11 : decode cJ27_hasNext 11 = .ok (.iconst 1, 1) := dk_4 (dk_at dksJ27_hasNext_0 11 rfl rfl)
theorem dJ27_hasNext_12 : decode cJ27_hasNext 12 = .ok (.goto 4, 3) := dk_167 0 4 (dk_at dksJ27_hasNext_0 12 rfl rfl)
theorem dJ27_hasNext_15 : decode cJ27_hasNext 15 = .ok (.iconst 0, 1) := dk_3 (dk_at dksJ27_hasNext_0 15 rfl rfl)
theorem dJ27_hasNext_16 : decode cJ27_hasNext 16 = .ok (.ireturn, 1) := dk_172 (dk_at dksJ27_hasNext_0 16 rfl rfl)
abbrev cJ27_next : ByteArray := prog_62_method_4_code
def yJ27_next : MethodName := ⟨RJ27, "next", "()Ljava/lang/Object;"⟩
def dkwJ27_next_1 : List UInt8 := [176, 76, 187, 0, 32, 89, 183, 0, 34, 191]
abbrev dktJ27_next_1 : List UInt8 := dkwJ27_next_1 ++ []
def dkwJ27_next_0 : List UInt8 := [42, 180, 0, 17, 60, 42, 180, 0, 7, 27, 185, 0, 24, 2, 0, 77, 42, 27, 4, 96, 181, 0, 17, 44]
abbrev dktJ27_next_0 : List UInt8 := dkwJ27_next_0 ++ dktJ27_next_1
theorem dksJ27_next_0 : cJ27_next.data.toList.drop 0 = dktJ27_next_0 := by decide +kernel
theorem dksJ27_next_1 : cJ27_next.data.toList.drop 24 = dktJ27_next_1 := dk_seg dksJ27_next_0 24 rfl rfl
theorem dJ27_next_0 : decode cJ27_next 0 = .ok (.aload_n 0, 1) := dk_42 (dk_at dksJ27_next_0 0 rfl rfl)
theorem dJ27_next_1 : decode cJ27_next 1 = .ok (.getfield 17, 3) := dk_180 0 17 (dk_at dksJ27_next_0 1 rfl rfl)
theorem dJ27_next_4 : decode cJ27_next 4 = .ok (.istore_n 1, 1) := dk_60 (dk_at dksJ27_next_0 4 rfl rfl)
theorem dJ27_next_5 : decode cJ27_next 5 = .ok (.aload_n 0, 1) := dk_42 (dk_at dksJ27_next_0 5 rfl rfl)
theorem dJ27_next_6 : decode cJ27_next 6 = .ok (.getfield 7, 3) := dk_180 0 7 (dk_at dksJ27_next_0 6 rfl rfl)
theorem dJ27_next_9 : decode cJ27_next 9 = .ok (.iload_n 1, 1) := dk_27 (dk_at dksJ27_next_0 9 rfl rfl)
theorem dJ27_next_10 : decode cJ27_next 10 = .ok (.invokeinterface 24 2, 5) := by decide +kernel
theorem dJ27_next_15 : decode cJ27_next 15 = .ok (.astore_n 2, 1) := dk_77 (dk_at dksJ27_next_0 15 rfl rfl)
theorem dJ27_next_16 : decode cJ27_next 16 = .ok (.aload_n 0, 1) := dk_42 (dk_at dksJ27_next_0 16 rfl rfl)
theorem dJ27_next_17 : decode cJ27_next 17 = .ok (.iload_n 1, 1) := dk_27 (dk_at dksJ27_next_0 17 rfl rfl)
theorem dJ27_next_18 : decode cJ27_next 18 = .ok (.iconst 1, 1) := dk_4 (dk_at dksJ27_next_0 18 rfl rfl)
theorem dJ27_next_19 : decode cJ27_next 19 = .ok (.iadd, 1) := dk_96 (dk_at dksJ27_next_0 19 rfl rfl)
theorem dJ27_next_20 : decode cJ27_next 20 = .ok (.putfield 17, 3) := dk_181 0 17 (dk_at dksJ27_next_0 20 rfl rfl)
theorem dJ27_next_23 : decode cJ27_next 23 = .ok (.aload_n 2, 1) := dk_44 (dk_at dksJ27_next_0 23 rfl rfl)
theorem dJ27_next_24 : decode cJ27_next 24 = .ok (.areturn, 1) := dk_176 (dk_at dksJ27_next_1 0 rfl rfl)
theorem dJ27_next_25 : decode cJ27_next 25 = .ok (.astore_n 1, 1) := dk_76 (dk_at dksJ27_next_1 1 rfl rfl)
theorem dJ27_next_26 : decode cJ27_next 26 = .ok (.new 32, 3) := dk_187 0 32 (dk_at dksJ27_next_1 2 rfl rfl)
theorem dJ27_next_29 : decode cJ27_next 29 = .ok (.dup, 1) := dk_89 (dk_at dksJ27_next_1 5 rfl rfl)
theorem dJ27_next_30 : decode cJ27_next 30 = .ok (.invokespecial 34, 3) := dk_183 0 34 (dk_at dksJ27_next_1 6 rfl rfl)
theorem dJ27_next_33 : decode cJ27_next 33 = .ok (.athrow, 1) := dk_191 (dk_at dksJ27_next_1 9 rfl rfl)
theorem q157 : (Jvm.Cond.initialized "java/util/ImmutableCollections$ListItr") ∈ lw_all := lw_g (lw_at lw_m1 43 rfl) rfl
theorem q453 : (Jvm.Cond.selects "java/util/ImmutableCollections$ListItr" ({ cls := "java/lang/Object", name := "getClass", desc := "()Ljava/lang/Class;" } : Jvm.MethodName) ({ cls := "java/lang/Object", name := "getClass", desc := "()Ljava/lang/Class;" } : Jvm.MethodName)) ∈ lw_all := lw_g (lw_at lw_m2 99 rfl) rfl
theorem q1237 : (Jvm.Cond.instantiable "java/util/ImmutableCollections$ListItr" (4 : Nat)) ∈ lw_all := lw_g (lw_at lw_m5 163 rfl) rfl
theorem q1248 : (Jvm.Cond.instanceMethod ({ cls := "java/util/ImmutableCollections$ListItr", name := "<init>", desc := "(Ljava/util/List;I)V" } : Jvm.MethodName)) ∈ lw_all := lw_g (lw_at lw_m5 174 rfl) rfl
theorem q1249 : (Jvm.Cond.code ({ cls := "java/util/ImmutableCollections$ListItr", name := "<init>", desc := "(Ljava/util/List;I)V" } : Jvm.MethodName) prog_62_method_1_code (3 : Nat) (Option.none : Option Jvm.ClassFile.FieldType)) ∈ lw_all := lw_g (lw_at lw_m5 175 rfl) rfl
theorem q1250 : (Jvm.Cond.methodLink "java/util/ImmutableCollections$ListItr" (1 : Nat) ({ cls := "java/lang/Object", name := "<init>", desc := "()V" } : Jvm.MethodName)) ∈ lw_all := lw_g (lw_at lw_m5 176 rfl) rfl
theorem q1251 : (Jvm.Cond.fieldLink "java/util/ImmutableCollections$ListItr" (7 : Nat) "java/util/ImmutableCollections$ListItr" "list" "Ljava/util/List;") ∈ lw_all := lw_g (lw_at lw_m5 177 rfl) rfl
theorem q1252 : (Jvm.Cond.fieldLink "java/util/ImmutableCollections$ListItr" (13 : Nat) "java/util/ImmutableCollections$ListItr" "size" "I") ∈ lw_all := lw_g (lw_at lw_m5 178 rfl) rfl
theorem q1253 : (Jvm.Cond.fieldLink "java/util/ImmutableCollections$ListItr" (20 : Nat) "java/util/ImmutableCollections$ListItr" "isListIterator" "Z") ∈ lw_all := lw_g (lw_at lw_m5 179 rfl) rfl
theorem q1254 : (Jvm.Cond.fieldLink "java/util/ImmutableCollections$ListItr" (17 : Nat) "java/util/ImmutableCollections$ListItr" "cursor" "I") ∈ lw_all := lw_g (lw_at lw_m5 180 rfl) rfl
theorem q1255 : (Jvm.Cond.laysFinal "java/util/ImmutableCollections$ListItr" "java/util/ImmutableCollections$ListItr" "list" "Ljava/util/List;") ∈ lw_all := lw_g (lw_at lw_m5 181 rfl) rfl
theorem q1256 : (Jvm.Cond.soleField "java/util/ImmutableCollections$ListItr" "list") ∈ lw_all := lw_g (lw_at lw_m5 182 rfl) rfl
theorem q1257 : (Jvm.Cond.laysFinal "java/util/ImmutableCollections$ListItr" "java/util/ImmutableCollections$ListItr" "size" "I") ∈ lw_all := lw_g (lw_at lw_m5 183 rfl) rfl
theorem q1258 : (Jvm.Cond.soleField "java/util/ImmutableCollections$ListItr" "size") ∈ lw_all := lw_g (lw_at lw_m5 184 rfl) rfl
theorem q1259 : (Jvm.Cond.laysFinal "java/util/ImmutableCollections$ListItr" "java/util/ImmutableCollections$ListItr" "isListIterator" "Z") ∈ lw_all := lw_g (lw_at lw_m5 185 rfl) rfl
theorem q1260 : (Jvm.Cond.soleField "java/util/ImmutableCollections$ListItr" "isListIterator") ∈ lw_all := lw_g (lw_at lw_m5 186 rfl) rfl
theorem q1261 : (Jvm.Cond.lays "java/util/ImmutableCollections$ListItr" "java/util/ImmutableCollections$ListItr" "cursor" "I") ∈ lw_all := lw_g (lw_at lw_m5 187 rfl) rfl
theorem q1262 : (Jvm.Cond.soleField "java/util/ImmutableCollections$ListItr" "cursor") ∈ lw_all := lw_g (lw_at lw_m5 188 rfl) rfl
theorem q1263 : (Jvm.Cond.superclass "java/util/ImmutableCollections$ListItr" "java/lang/Object") ∈ lw_all := lw_g (lw_at lw_m5 189 rfl) rfl
theorem q1324 : (Jvm.Cond.castable "java/util/ImmutableCollections$ListItr" "java/util/Iterator") ∈ lw_tbl := lw_at lw_m6 10 rfl
theorem q1325 : (Jvm.Cond.selects "java/util/ImmutableCollections$ListItr" ({ cls := "java/util/Iterator", name := "hasNext", desc := "()Z" } : Jvm.MethodName) ({ cls := "java/util/ImmutableCollections$ListItr", name := "hasNext", desc := "()Z" } : Jvm.MethodName)) ∈ lw_all := lw_g (lw_at lw_m6 11 rfl) rfl
theorem q1326 : (Jvm.Cond.unhidden "java/util/ImmutableCollections$ListItr" "hasNext" "()Z") ∈ lw_tbl := lw_at lw_m6 12 rfl
theorem q1327 : (Jvm.Cond.instanceMethod ({ cls := "java/util/ImmutableCollections$ListItr", name := "hasNext", desc := "()Z" } : Jvm.MethodName)) ∈ lw_all := lw_g (lw_at lw_m6 13 rfl) rfl
theorem q1328 : (Jvm.Cond.publicMethod ({ cls := "java/util/ImmutableCollections$ListItr", name := "hasNext", desc := "()Z" } : Jvm.MethodName)) ∈ lw_tbl := lw_at lw_m6 14 rfl
theorem q1329 : (Jvm.Cond.code ({ cls := "java/util/ImmutableCollections$ListItr", name := "hasNext", desc := "()Z" } : Jvm.MethodName) prog_62_method_3_code (1 : Nat) (Option.some Jvm.ClassFile.FieldType.boolean)) ∈ lw_all := lw_g (lw_at lw_m6 15 rfl) rfl
theorem q1574 : (Jvm.Cond.selects "java/util/ImmutableCollections$ListItr" ({ cls := "java/util/Iterator", name := "next", desc := "()Ljava/lang/Object;" } : Jvm.MethodName) ({ cls := "java/util/ImmutableCollections$ListItr", name := "next", desc := "()Ljava/lang/Object;" } : Jvm.MethodName)) ∈ lw_all := lw_g (lw_at lw_m7 20 rfl) rfl
theorem q1575 : (Jvm.Cond.unhidden "java/util/ImmutableCollections$ListItr" "next" "()Ljava/lang/Object;") ∈ lw_tbl := lw_at lw_m7 21 rfl
theorem q1576 : (Jvm.Cond.instanceMethod ({ cls := "java/util/ImmutableCollections$ListItr", name := "next", desc := "()Ljava/lang/Object;" } : Jvm.MethodName)) ∈ lw_all := lw_g (lw_at lw_m7 22 rfl) rfl
theorem q1577 : (Jvm.Cond.publicMethod ({ cls := "java/util/ImmutableCollections$ListItr", name := "next", desc := "()Ljava/lang/Object;" } : Jvm.MethodName)) ∈ lw_tbl := lw_at lw_m7 23 rfl
theorem q1578 : (Jvm.Cond.codeWith ({ cls := "java/util/ImmutableCollections$ListItr", name := "next", desc := "()Ljava/lang/Object;" } : Jvm.MethodName) prog_62_method_4_code (3 : Nat) (Option.some (Jvm.ClassFile.FieldType.object "java/lang/Object")) [((0 : Nat), (24 : Nat), (25 : Nat), (30 : Nat))]) ∈ lw_all := lw_g (lw_at lw_m7 24 rfl) rfl
theorem q1579 : (Jvm.Cond.interfaceEntry "java/util/ImmutableCollections$ListItr" (24 : Nat)) ∈ lw_tbl := lw_at lw_m7 25 rfl
theorem q1580 : (Jvm.Cond.methodLink "java/util/ImmutableCollections$ListItr" (24 : Nat) ({ cls := "java/util/List", name := "get", desc := "(I)Ljava/lang/Object;" } : Jvm.MethodName)) ∈ lw_all := lw_g (lw_at lw_m7 26 rfl) rfl
theorem q1596 : (Jvm.Cond.classLink "java/util/ImmutableCollections$ListItr" (32 : Nat) "java/util/NoSuchElementException") ∈ lw_all := lw_g (lw_at lw_m7 42 rfl) rfl
theorem q1597 : (Jvm.Cond.methodLink "java/util/ImmutableCollections$ListItr" (34 : Nat) ({ cls := "java/util/NoSuchElementException", name := "<init>", desc := "()V" } : Jvm.MethodName)) ∈ lw_all := lw_g (lw_at lw_m7 43 rfl) rfl
theorem q2470 : (Jvm.Cond.castable "java/util/ImmutableCollections$ListItr" "java/lang/Object") ∈ lw_tbl := lw_at lw_m10 196 rfl
theorem in_J27 : ∀ w ∈ wsJ270, w ∈ lw_all := lw_in wsJ270 [1255, 1257, 1259, 1261] (by decide +kernel) (by decide +kernel)
/-! java/util/AbstractList$Itr -/
set_option maxRecDepth 100000
def RJ28 : String := "java/util/AbstractList$Itr"
abbrev cJ28_hasNext : ByteArray := prog_49_method_2_code
def yJ28_hasNext : MethodName := ⟨RJ28, "hasNext", "()Z"⟩
def dkwJ28_hasNext_0 : List UInt8 := [42, 180, 0, 13, 42, 180, 0, 1, 182, 0, 28, 159, 0, 7, 4, 167, 0, 4, 3, 172]
abbrev dktJ28_hasNext_0 : List UInt8 := dkwJ28_hasNext_0 ++ []
theorem dksJ28_hasNext_0 : cJ28_hasNext.data.toList.drop 0 = dktJ28_hasNext_0 := by decide +kernel
theorem dJ28_hasNext_0 : decode cJ28_hasNext 0 = .ok (.aload_n 0, 1) := dk_42 (dk_at dksJ28_hasNext_0 0 rfl rfl)
theorem dJ28_hasNext_1 : decode cJ28_hasNext 1 = .ok (.getfield 13, 3) := dk_180 0 13 (dk_at dksJ28_hasNext_0 1 rfl rfl)
theorem dJ28_hasNext_4 : decode cJ28_hasNext 4 = .ok (.aload_n 0, 1) := dk_42 (dk_at dksJ28_hasNext_0 4 rfl rfl)
theorem dJ28_hasNext_5 : decode cJ28_hasNext 5 = .ok (.getfield 1, 3) := dk_180 0 1 (dk_at dksJ28_hasNext_0 5 rfl rfl)
theorem dJ28_hasNext_8 : decode cJ28_hasNext 8 = .ok (.invokevirtual 28, 3) := dk_182 0 28 (dk_at dksJ28_hasNext_0 8 rfl rfl)
theorem dJ28_hasNext_11 : decode cJ28_hasNext 11 = .ok (.if_icmp .eq 7, 3) := dk_159 0 7 (dk_at dksJ28_hasNext_0 11 rfl rfl)
theorem dJ28_hasNext_14 : decode cJ28_hasNext 14 = .ok (.iconst 1, 1) := dk_4 (dk_at dksJ28_hasNext_0 14 rfl rfl)
theorem dJ28_hasNext_15 : decode cJ28_hasNext 15 = .ok (.goto 4, 3) := dk_167 0 4 (dk_at dksJ28_hasNext_0 15 rfl rfl)
theorem dJ28_hasNext_18 : decode cJ28_hasNext 18 = .ok (.iconst 0, 1) := dk_3 (dk_at dksJ28_hasNext_0 18 rfl rfl)
theorem dJ28_hasNext_19 : decode cJ28_hasNext 19 = .ok (.ireturn, 1) := dk_172 (dk_at dksJ28_hasNext_0 19 rfl rfl)
abbrev cJ28_next : ByteArray := prog_49_method_3_code
def yJ28_next : MethodName := ⟨RJ28, "next", "()Ljava/lang/Object;"⟩
def dkwJ28_next_1 : List UInt8 := [27, 4, 96, 181, 0, 13, 44, 176, 76, 42, 182, 0, 32, 187, 0, 41, 89, 43, 183, 0, 43, 191]
abbrev dktJ28_next_1 : List UInt8 := dkwJ28_next_1 ++ []
def dkwJ28_next_0 : List UInt8 := [42, 182, 0, 32, 42, 180, 0, 13, 60, 42, 180, 0, 1, 27, 182, 0, 35, 77, 42, 27, 181, 0, 17, 42]
abbrev dktJ28_next_0 : List UInt8 := dkwJ28_next_0 ++ dktJ28_next_1
theorem dksJ28_next_0 : cJ28_next.data.toList.drop 0 = dktJ28_next_0 := by decide +kernel
theorem dksJ28_next_1 : cJ28_next.data.toList.drop 24 = dktJ28_next_1 := dk_seg dksJ28_next_0 24 rfl rfl
theorem dJ28_next_0 : decode cJ28_next 0 = .ok (.aload_n 0, 1) := dk_42 (dk_at dksJ28_next_0 0 rfl rfl)
theorem dJ28_next_1 : decode cJ28_next 1 = .ok (.invokevirtual 32, 3) := dk_182 0 32 (dk_at dksJ28_next_0 1 rfl rfl)
theorem dJ28_next_4 : decode cJ28_next 4 = .ok (.aload_n 0, 1) := dk_42 (dk_at dksJ28_next_0 4 rfl rfl)
theorem dJ28_next_5 : decode cJ28_next 5 = .ok (.getfield 13, 3) := dk_180 0 13 (dk_at dksJ28_next_0 5 rfl rfl)
theorem dJ28_next_8 : decode cJ28_next 8 = .ok (.istore_n 1, 1) := dk_60 (dk_at dksJ28_next_0 8 rfl rfl)
theorem dJ28_next_9 : decode cJ28_next 9 = .ok (.aload_n 0, 1) := dk_42 (dk_at dksJ28_next_0 9 rfl rfl)
theorem dJ28_next_10 : decode cJ28_next 10 = .ok (.getfield 1, 3) := dk_180 0 1 (dk_at dksJ28_next_0 10 rfl rfl)
theorem dJ28_next_13 : decode cJ28_next 13 = .ok (.iload_n 1, 1) := dk_27 (dk_at dksJ28_next_0 13 rfl rfl)
theorem dJ28_next_14 : decode cJ28_next 14 = .ok (.invokevirtual 35, 3) := dk_182 0 35 (dk_at dksJ28_next_0 14 rfl rfl)
theorem dJ28_next_17 : decode cJ28_next 17 = .ok (.astore_n 2, 1) := dk_77 (dk_at dksJ28_next_0 17 rfl rfl)
theorem dJ28_next_18 : decode cJ28_next 18 = .ok (.aload_n 0, 1) := dk_42 (dk_at dksJ28_next_0 18 rfl rfl)
theorem dJ28_next_19 : decode cJ28_next 19 = .ok (.iload_n 1, 1) := dk_27 (dk_at dksJ28_next_0 19 rfl rfl)
theorem dJ28_next_20 : decode cJ28_next 20 = .ok (.putfield 17, 3) := dk_181 0 17 (dk_at dksJ28_next_0 20 rfl rfl)
theorem dJ28_next_23 : decode cJ28_next 23 = .ok (.aload_n 0, 1) := dk_42 (dk_at dksJ28_next_0 23 rfl rfl)
theorem dJ28_next_24 : decode cJ28_next 24 = .ok (.iload_n 1, 1) := dk_27 (dk_at dksJ28_next_1 0 rfl rfl)
theorem dJ28_next_25 : decode cJ28_next 25 = .ok (.iconst 1, 1) := dk_4 (dk_at dksJ28_next_1 1 rfl rfl)
theorem dJ28_next_26 : decode cJ28_next 26 = .ok (.iadd, 1) := dk_96 (dk_at dksJ28_next_1 2 rfl rfl)
theorem dJ28_next_27 : decode cJ28_next 27 = .ok (.putfield 13, 3) := dk_181 0 13 (dk_at dksJ28_next_1 3 rfl rfl)
theorem dJ28_next_30 : decode cJ28_next 30 = .ok (.aload_n 2, 1) := dk_44 (dk_at dksJ28_next_1 6 rfl rfl)
theorem dJ28_next_31 : decode cJ28_next 31 = .ok (.areturn, 1) := dk_176 (dk_at dksJ28_next_1 7 rfl rfl)
theorem dJ28_next_32 : decode cJ28_next 32 = .ok (.astore_n 1, 1) := dk_76 (dk_at dksJ28_next_1 8 rfl rfl)
theorem dJ28_next_33 : decode cJ28_next 33 = .ok (.aload_n 0, 1) := dk_42 (dk_at dksJ28_next_1 9 rfl rfl)
theorem dJ28_next_34 : decode cJ28_next 34 = .ok (.invokevirtual 32, 3) := dk_182 0 32 (dk_at dksJ28_next_1 10 rfl rfl)
theorem dJ28_next_37 : decode cJ28_next 37 = .ok (.new 41, 3) := dk_187 0 41 (dk_at dksJ28_next_1 13 rfl rfl)
theorem dJ28_next_40 : decode cJ28_next 40 = .ok (.dup, 1) := dk_89 (dk_at dksJ28_next_1 16 rfl rfl)
theorem dJ28_next_41 : decode cJ28_next 41 = .ok (.aload_n 1, 1) := dk_43 (dk_at dksJ28_next_1 17 rfl rfl)
theorem dJ28_next_42 : decode cJ28_next 42 = .ok (.invokespecial 43, 3) := dk_183 0 43 (dk_at dksJ28_next_1 18 rfl rfl)
theorem dJ28_next_45 : decode cJ28_next 45 = .ok (.athrow, 1) := dk_191 (dk_at dksJ28_next_1 21 rfl rfl)
abbrev cJ28_checkForComodification : ByteArray := prog_49_method_5_code
def yJ28_checkForComodification : MethodName := ⟨RJ28, "checkForComodification", "()V"⟩
def dkwJ28_checkForComodification_0 : List UInt8 := [42, 180, 0, 1, 180, 0, 20, 42, 180, 0, 25, 159, 0, 11, 187, 0, 52, 89, 183, 0, 54, 191, 177]
abbrev dktJ28_checkForComodification_0 : List UInt8 := dkwJ28_checkForComodification_0 ++ []
theorem dksJ28_checkForComodification_0 : cJ28_checkForComodification.data.toList.drop 0 = dktJ28_checkForComodification_0 := by decide +kernel
theorem dJ28_checkForComodification_0 : decode cJ28_checkForComodification 0 = .ok (.aload_n 0, 1) := dk_42 (dk_at dksJ28_checkForComodification_0 0 rfl rfl)
theorem dJ28_checkForComodification_1 : decode cJ28_checkForComodification 1 = .ok (.getfield 1, 3) := dk_180 0 1 (dk_at dksJ28_checkForComodification_0 1 rfl rfl)
theorem dJ28_checkForComodification_4 : decode cJ28_checkForComodification 4 = .ok (.getfield 20, 3) := dk_180 0 20 (dk_at dksJ28_checkForComodification_0 4 rfl rfl)
theorem dJ28_checkForComodification_7 : decode cJ28_checkForComodification 7 = .ok (.aload_n 0, 1) := dk_42 (dk_at dksJ28_checkForComodification_0 7 rfl rfl)
theorem dJ28_checkForComodification_8 : decode cJ28_checkForComodification 8 = .ok (.getfield 25, 3) := dk_180 0 25 (dk_at dksJ28_checkForComodification_0 8 rfl rfl)
theorem dJ28_checkForComodification_11 : decode cJ28_checkForComodification 11 = .ok (.if_icmp .eq 11, 3) := dk_159 0 11 (dk_at dksJ28_checkForComodification_0 11 rfl rfl)
theorem dJ28_checkForComodification_14 : decode cJ28_checkForComodification 14 = .ok (.new 52, 3) := dk_187 0 52 (dk_at dksJ28_checkForComodification_0 14 rfl rfl)
theorem dJ28_checkForComodification_17 : decode cJ28_checkForComodification 17 = .ok (.dup, 1) := dk_89 (dk_at dksJ28_checkForComodification_0 17 rfl rfl)
theorem dJ28_checkForComodification_18 : decode cJ28_checkForComodification 18 = .ok (.invokespecial 54, 3) := dk_183 0 54 (dk_at dksJ28_checkForComodification_0 18 rfl rfl)
theorem dJ28_checkForComodification_21 : decode cJ28_checkForComodification 21 = .ok (.athrow, 1) := dk_191 (dk_at dksJ28_checkForComodification_0 21 rfl rfl)
theorem dJ28_checkForComodification_22 : decode cJ28_checkForComodification 22 = .ok (.return_, 1) := dk_177 (dk_at dksJ28_checkForComodification_0 22 rfl rfl)
theorem q158 : (Jvm.Cond.initialized "java/util/AbstractList$Itr") ∈ lw_all := lw_g (lw_at lw_m1 44 rfl) rfl
theorem q231 : (Jvm.Cond.fieldLink "java/util/AbstractList$Itr" (20 : Nat) "java/util/AbstractList" "modCount" "I") ∈ lw_all := lw_g (lw_at lw_m1 117 rfl) rfl
theorem q1316 : (Jvm.Cond.instanceMethod ({ cls := "java/util/AbstractList$Itr", name := "hasNext", desc := "()Z" } : Jvm.MethodName)) ∈ lw_all := lw_g (lw_at lw_m6 2 rfl) rfl
theorem q1317 : (Jvm.Cond.publicMethod ({ cls := "java/util/AbstractList$Itr", name := "hasNext", desc := "()Z" } : Jvm.MethodName)) ∈ lw_tbl := lw_at lw_m6 3 rfl
theorem q1318 : (Jvm.Cond.code ({ cls := "java/util/AbstractList$Itr", name := "hasNext", desc := "()Z" } : Jvm.MethodName) prog_49_method_2_code (1 : Nat) (Option.some Jvm.ClassFile.FieldType.boolean)) ∈ lw_all := lw_g (lw_at lw_m6 4 rfl) rfl
theorem q1319 : (Jvm.Cond.methodLink "java/util/AbstractList$Itr" (28 : Nat) ({ cls := "java/util/AbstractList", name := "size", desc := "()I" } : Jvm.MethodName)) ∈ lw_all := lw_g (lw_at lw_m6 5 rfl) rfl
theorem q1342 : (Jvm.Cond.instanceMethod ({ cls := "java/util/AbstractList$Itr", name := "next", desc := "()Ljava/lang/Object;" } : Jvm.MethodName)) ∈ lw_all := lw_g (lw_at lw_m6 28 rfl) rfl
theorem q1343 : (Jvm.Cond.publicMethod ({ cls := "java/util/AbstractList$Itr", name := "next", desc := "()Ljava/lang/Object;" } : Jvm.MethodName)) ∈ lw_tbl := lw_at lw_m6 29 rfl
theorem q1344 : (Jvm.Cond.codeWith ({ cls := "java/util/AbstractList$Itr", name := "next", desc := "()Ljava/lang/Object;" } : Jvm.MethodName) prog_49_method_3_code (3 : Nat) (Option.some (Jvm.ClassFile.FieldType.object "java/lang/Object")) [((4 : Nat), (31 : Nat), (32 : Nat), (39 : Nat))]) ∈ lw_all := lw_g (lw_at lw_m6 30 rfl) rfl
theorem q1345 : (Jvm.Cond.methodLink "java/util/AbstractList$Itr" (32 : Nat) ({ cls := "java/util/AbstractList$Itr", name := "checkForComodification", desc := "()V" } : Jvm.MethodName)) ∈ lw_all := lw_g (lw_at lw_m6 31 rfl) rfl
theorem q1346 : (Jvm.Cond.instanceMethod ({ cls := "java/util/AbstractList$Itr", name := "checkForComodification", desc := "()V" } : Jvm.MethodName)) ∈ lw_all := lw_g (lw_at lw_m6 32 rfl) rfl
theorem q1347 : (Jvm.Cond.sameMethod "java/util/AbstractList$Itr" "java/util/AbstractList$Itr" "checkForComodification" "()V") ∈ lw_all := lw_g (lw_at lw_m6 33 rfl) rfl
theorem q1349 : (Jvm.Cond.code ({ cls := "java/util/AbstractList$Itr", name := "checkForComodification", desc := "()V" } : Jvm.MethodName) prog_49_method_5_code (1 : Nat) (Option.none : Option Jvm.ClassFile.FieldType)) ∈ lw_all := lw_g (lw_at lw_m6 35 rfl) rfl
theorem q1350 : (Jvm.Cond.methodLink "java/util/AbstractList$Itr" (35 : Nat) ({ cls := "java/util/AbstractList", name := "get", desc := "(I)Ljava/lang/Object;" } : Jvm.MethodName)) ∈ lw_all := lw_g (lw_at lw_m6 36 rfl) rfl
theorem q1364 : (Jvm.Cond.classLink "java/util/AbstractList$Itr" (41 : Nat) "java/util/NoSuchElementException") ∈ lw_all := lw_g (lw_at lw_m6 50 rfl) rfl
theorem q1375 : (Jvm.Cond.methodLink "java/util/AbstractList$Itr" (43 : Nat) ({ cls := "java/util/NoSuchElementException", name := "<init>", desc := "(Ljava/lang/Throwable;)V" } : Jvm.MethodName)) ∈ lw_all := lw_g (lw_at lw_m6 61 rfl) rfl
theorem q2491 : (Jvm.Cond.fieldLink "java/util/AbstractList$Itr" (1 : Nat) "java/util/AbstractList$Itr" "this$0" "Ljava/util/AbstractList;") ∈ lw_all := lw_g (lw_at lw_m10 217 rfl) rfl
theorem q2492 : (Jvm.Cond.fieldLink "java/util/AbstractList$Itr" (13 : Nat) "java/util/AbstractList$Itr" "cursor" "I") ∈ lw_all := lw_g (lw_at lw_m10 218 rfl) rfl
theorem q2493 : (Jvm.Cond.fieldLink "java/util/AbstractList$Itr" (17 : Nat) "java/util/AbstractList$Itr" "lastRet" "I") ∈ lw_all := lw_g (lw_at lw_m10 219 rfl) rfl
theorem q2494 : (Jvm.Cond.fieldLink "java/util/AbstractList$Itr" (25 : Nat) "java/util/AbstractList$Itr" "expectedModCount" "I") ∈ lw_all := lw_g (lw_at lw_m10 220 rfl) rfl
/-! java/util/LinkedList$ListItr -/
set_option maxRecDepth 100000
def RJ29 : String := "java/util/LinkedList$ListItr"
def TJ29 : u_T := fun k => match k with
  | 0 => ("java/util/LinkedList$ListItr", "lastReturned", "Ljava/util/LinkedList$Node;", false)
  | 1 => ("java/util/LinkedList$ListItr", "next", "Ljava/util/LinkedList$Node;", false)
  | 2 => ("java/util/LinkedList$ListItr", "nextIndex", "I", false)
  | 3 => ("java/util/LinkedList$ListItr", "expectedModCount", "I", false)
  | _ => ("java/util/LinkedList$ListItr", "this$0", "Ljava/util/LinkedList;", true)
def tyJ29 : Nat → FieldType := fun k => match k with
  | 0 => .object "java/util/LinkedList$Node"
  | 1 => .object "java/util/LinkedList$Node"
  | 2 => .int
  | 3 => .int
  | _ => .object "java/util/LinkedList"
abbrev wsJ290 : List Cond := u_ws RJ29 TJ29 5
theorem nmJ29 : ∀ a, a < 5 → ∀ b, b < 5 → a ≠ b → (TJ29 a).2.1 ≠ (TJ29 b).2.1 := by decide +kernel
theorem tyJ29_ok : ∀ k, k < 5 → parseFieldDescriptor (TJ29 k).2.2.1 = some (tyJ29 k) := by decide +kernel
abbrev cJ29_init : ByteArray := prog_66_method_1_code
def yJ29_init : MethodName := ⟨RJ29, "<init>", "(Ljava/util/LinkedList;I)V"⟩
def dkwJ29_init_1 : List UInt8 := [180, 0, 22, 160, 0, 7, 1, 167, 0, 8, 43, 28, 182, 0, 25, 181, 0, 29, 42, 28, 181, 0, 33, 177]
abbrev dktJ29_init_1 : List UInt8 := dkwJ29_init_1 ++ []
def dkwJ29_init_0 : List UInt8 := [42, 43, 181, 0, 1, 42, 183, 0, 7, 42, 42, 180, 0, 1, 180, 0, 13, 181, 0, 19, 42, 28, 43]
abbrev dktJ29_init_0 : List UInt8 := dkwJ29_init_0 ++ dktJ29_init_1
theorem dksJ29_init_0 : cJ29_init.data.toList.drop 0 = dktJ29_init_0 := by decide +kernel
theorem dksJ29_init_1 : cJ29_init.data.toList.drop 23 = dktJ29_init_1 := dk_seg dksJ29_init_0 23 rfl rfl
theorem dJ29_init_0 : decode cJ29_init 0 = .ok (.aload_n 0, 1) := dk_42 (dk_at dksJ29_init_0 0 rfl rfl)
theorem dJ29_init_1 : decode cJ29_init 1 = .ok (.aload_n 1, 1) := dk_43 (dk_at dksJ29_init_0 1 rfl rfl)
theorem dJ29_init_2 : decode cJ29_init 2 = .ok (.putfield 1, 3) := dk_181 0 1 (dk_at dksJ29_init_0 2 rfl rfl)
theorem dJ29_init_5 : decode cJ29_init 5 = .ok (.aload_n 0, 1) := dk_42 (dk_at dksJ29_init_0 5 rfl rfl)
theorem dJ29_init_6 : decode cJ29_init 6 = .ok (.invokespecial 7, 3) := dk_183 0 7 (dk_at dksJ29_init_0 6 rfl rfl)
theorem dJ29_init_9 : decode cJ29_init 9 = .ok (.aload_n 0, 1) := dk_42 (dk_at dksJ29_init_0 9 rfl rfl)
theorem dJ29_init_10 : decode cJ29_init 10 = .ok (.aload_n 0, 1) := dk_42 (dk_at dksJ29_init_0 10 rfl rfl)
theorem dJ29_init_11 : decode cJ29_init 11 = .ok (.getfield 1, 3) := dk_180 0 1 (dk_at dksJ29_init_0 11 rfl rfl)
theorem dJ29_init_14 : decode cJ29_init 14 = .ok (.getfield 13, 3) := dk_180 0 13 (dk_at dksJ29_init_0 14 rfl rfl)
theorem dJ29_init_17 : decode cJ29_init 17 = .ok (.putfield 19, 3) := dk_181 0 19 (dk_at dksJ29_init_0 17 rfl rfl)
theorem dJ29_init_20 : decode cJ29_init 20 = .ok (.aload_n 0, 1) := dk_42 (dk_at dksJ29_init_0 20 rfl rfl)
theorem dJ29_init_21 : decode cJ29_init 21 = .ok (.iload_n 2, 1) := dk_28 (dk_at dksJ29_init_0 21 rfl rfl)
theorem dJ29_init_22 : decode cJ29_init 22 = .ok (.aload_n 1, 1) := dk_43 (dk_at dksJ29_init_0 22 rfl rfl)
theorem dJ29_init_23 : decode cJ29_init 23 = .ok (.getfield 22, 3) := dk_180 0 22 (dk_at dksJ29_init_1 0 rfl rfl)
theorem dJ29_init_26 : decode cJ29_init 26 = .ok (.if_icmp .ne 7, 3) := dk_160 0 7 (dk_at dksJ29_init_1 3 rfl rfl)
theorem dJ29_init_29 : decode cJ29_init 29 = .ok (.aconst_null, 1) := dk_1 (dk_at dksJ29_init_1 6 rfl rfl)
theorem dJ29_init_30 : decode cJ29_init 30 = .ok (.goto 8, 3) := dk_167 0 8 (dk_at dksJ29_init_1 7 rfl rfl)
theorem dJ29_init_33 : decode cJ29_init 33 = .ok (.aload_n 1, 1) := dk_43 (dk_at dksJ29_init_1 10 rfl rfl)
theorem dJ29_init_34 : decode cJ29_init 34 = .ok (.iload_n 2, 1) := dk_28 (dk_at dksJ29_init_1 11 rfl rfl)
theorem dJ29_init_35 : decode cJ29_init 35 = .ok (.invokevirtual 25, 3) := dk_182 0 25 (dk_at dksJ29_init_1 12 rfl rfl)
theorem dJ29_init_38 : decode cJ29_init 38 = .ok (.putfield 29, 3) := dk_181 0 29 (dk_at dksJ29_init_1 15 rfl rfl)
theorem dJ29_init_41 : decode cJ29_init 41 = .ok (.aload_n 0, 1) := dk_42 (dk_at dksJ29_init_1 18 rfl rfl)
theorem dJ29_init_42 : decode cJ29_init 42 = .ok (.iload_n 2, 1) := dk_28 (dk_at dksJ29_init_1 19 rfl rfl)
theorem dJ29_init_43 : decode cJ29_init 43 = .ok (.putfield 33, 3) := dk_181 0 33 (dk_at dksJ29_init_1 20 rfl rfl)
theorem dJ29_init_46 : decode cJ29_init 46 = .ok (.return_, 1) := dk_177 (dk_at dksJ29_init_1 23 rfl rfl)
abbrev cJ29_hasNext : ByteArray := prog_66_method_2_code
def yJ29_hasNext : MethodName := ⟨RJ29, "hasNext", "()Z"⟩
def dkwJ29_hasNext_0 : List UInt8 := [42, 180, 0, 33, 42, 180, 0, 1, 180, 0, 22, 162, 0, 7, 4, 167, 0, 4, 3, 172]
abbrev dktJ29_hasNext_0 : List UInt8 := dkwJ29_hasNext_0 ++ []
theorem dksJ29_hasNext_0 : cJ29_hasNext.data.toList.drop 0 = dktJ29_hasNext_0 := by decide +kernel
theorem dJ29_hasNext_0 : decode cJ29_hasNext 0 = .ok (.aload_n 0, 1) := dk_42 (dk_at dksJ29_hasNext_0 0 rfl rfl)
theorem dJ29_hasNext_1 : decode cJ29_hasNext 1 = .ok (.getfield 33, 3) := dk_180 0 33 (dk_at dksJ29_hasNext_0 1 rfl rfl)
theorem dJ29_hasNext_4 : decode cJ29_hasNext 4 = .ok (.aload_n 0, 1) := dk_42 (dk_at dksJ29_hasNext_0 4 rfl rfl)
theorem dJ29_hasNext_5 : decode cJ29_hasNext 5 = .ok (.getfield 1, 3) := dk_180 0 1 (dk_at dksJ29_hasNext_0 5 rfl rfl)
theorem dJ29_hasNext_8 : decode cJ29_hasNext 8 = .ok (.getfield 22, 3) := dk_180 0 22 (dk_at dksJ29_hasNext_0 8 rfl rfl)
theorem dJ29_hasNext_11 : decode cJ29_hasNext 11 = .ok (.if_icmp .ge 7, 3) := dk_162 0 7 (dk_at dksJ29_hasNext_0 11 rfl rfl)
theorem dJ29_hasNext_14 : decode cJ29_hasNext 14 = .ok (.iconst 1, 1) := dk_4 (dk_at dksJ29_hasNext_0 14 rfl rfl)
theorem dJ29_hasNext_15 : decode cJ29_hasNext 15 = .ok (.goto 4, 3) := dk_167 0 4 (dk_at dksJ29_hasNext_0 15 rfl rfl)
theorem dJ29_hasNext_18 : decode cJ29_hasNext 18 = .ok (.iconst 0, 1) := dk_3 (dk_at dksJ29_hasNext_0 18 rfl rfl)
theorem dJ29_hasNext_19 : decode cJ29_hasNext 19 = .ok (.ireturn, 1) := dk_172 (dk_at dksJ29_hasNext_0 19 rfl rfl)
abbrev cJ29_next : ByteArray := prog_66_method_3_code
def yJ29_next : MethodName := ⟨RJ29, "next", "()Ljava/lang/Object;"⟩
def dkwJ29_next_2 : List UInt8 := [42, 180, 0, 46, 180, 0, 52, 176]
abbrev dktJ29_next_2 : List UInt8 := dkwJ29_next_2 ++ []
def dkwJ29_next_1 : List UInt8 := [181, 0, 46, 42, 42, 180, 0, 29, 180, 0, 49, 181, 0, 29, 42, 89, 180, 0, 33, 4, 96, 181, 0, 33]
abbrev dktJ29_next_1 : List UInt8 := dkwJ29_next_1 ++ dktJ29_next_2
def dkwJ29_next_0 : List UInt8 := [42, 182, 0, 36, 42, 182, 0, 39, 154, 0, 11, 187, 0, 43, 89, 183, 0, 45, 191, 42, 42, 180, 0, 29]
abbrev dktJ29_next_0 : List UInt8 := dkwJ29_next_0 ++ dktJ29_next_1
theorem dksJ29_next_0 : cJ29_next.data.toList.drop 0 = dktJ29_next_0 := by decide +kernel
theorem dksJ29_next_1 : cJ29_next.data.toList.drop 24 = dktJ29_next_1 := dk_seg dksJ29_next_0 24 rfl rfl
theorem dksJ29_next_2 : cJ29_next.data.toList.drop 48 = dktJ29_next_2 := dk_seg dksJ29_next_1 24 rfl rfl
theorem dJ29_next_0 : decode cJ29_next 0 = .ok (.aload_n 0, 1) := dk_42 (dk_at dksJ29_next_0 0 rfl rfl)
theorem dJ29_next_1 : decode cJ29_next 1 = .ok (.invokevirtual 36, 3) := dk_182 0 36 (dk_at dksJ29_next_0 1 rfl rfl)
theorem dJ29_next_4 : decode cJ29_next 4 = .ok (.aload_n 0, 1) := dk_42 (dk_at dksJ29_next_0 4 rfl rfl)
theorem dJ29_next_5 : decode cJ29_next 5 = .ok (.invokevirtual 39, 3) := dk_182 0 39 (dk_at dksJ29_next_0 5 rfl rfl)
theorem dJ29_next_8 : decode cJ29_next 8 = .ok (.ifCond .ne 11, 3) := dk_154 0 11 (dk_at dksJ29_next_0 8 rfl rfl)
theorem dJ29_next_11 : decode cJ29_next 11 = .ok (.new 43, 3) := dk_187 0 43 (dk_at dksJ29_next_0 11 rfl rfl)
theorem dJ29_next_14 : decode cJ29_next 14 = .ok (.dup, 1) := dk_89 (dk_at dksJ29_next_0 14 rfl rfl)
theorem dJ29_next_15 : decode cJ29_next 15 = .ok (.invokespecial 45, 3) := dk_183 0 45 (dk_at dksJ29_next_0 15 rfl rfl)
theorem dJ29_next_18 : decode cJ29_next 18 = .ok (.athrow, 1) := dk_191 (dk_at dksJ29_next_0 18 rfl rfl)
theorem dJ29_next_19 : decode cJ29_next 19 = .ok (.aload_n 0, 1) := dk_42 (dk_at dksJ29_next_0 19 rfl rfl)
theorem dJ29_next_20 : decode cJ29_next 20 = .ok (.aload_n 0, 1) := dk_42 (dk_at dksJ29_next_0 20 rfl rfl)
theorem dJ29_next_21 : decode cJ29_next 21 = .ok (.getfield 29, 3) := dk_180 0 29 (dk_at dksJ29_next_0 21 rfl rfl)
theorem dJ29_next_24 : decode cJ29_next 24 = .ok (.putfield 46, 3) := dk_181 0 46 (dk_at dksJ29_next_1 0 rfl rfl)
theorem dJ29_next_27 : decode cJ29_next 27 = .ok (.aload_n 0, 1) := dk_42 (dk_at dksJ29_next_1 3 rfl rfl)
theorem dJ29_next_28 : decode cJ29_next 28 = .ok (.aload_n 0, 1) := dk_42 (dk_at dksJ29_next_1 4 rfl rfl)
theorem dJ29_next_29 : decode cJ29_next 29 = .ok (.getfield 29, 3) := dk_180 0 29 (dk_at dksJ29_next_1 5 rfl rfl)
theorem dJ29_next_32 : decode cJ29_next 32 = .ok (.getfield 49, 3) := dk_180 0 49 (dk_at dksJ29_next_1 8 rfl rfl)
theorem dJ29_next_35 : decode cJ29_next 35 = .ok (.putfield 29, 3) := dk_181 0 29 (dk_at dksJ29_next_1 11 rfl rfl)
theorem dJ29_next_38 : decode cJ29_next 38 = .ok (.aload_n 0, 1) := dk_42 (dk_at dksJ29_next_1 14 rfl rfl)
theorem dJ29_next_39 : decode cJ29_next 39 = .ok (.dup, 1) := dk_89 (dk_at dksJ29_next_1 15 rfl rfl)
theorem dJ29_next_40 : decode cJ29_next 40 = .ok (.getfield 33, 3) := dk_180 0 33 (dk_at dksJ29_next_1 16 rfl rfl)
theorem dJ29_next_43 : decode cJ29_next 43 = .ok (.iconst 1, 1) := dk_4 (dk_at dksJ29_next_1 19 rfl rfl)
theorem dJ29_next_44 : decode cJ29_next 44 = .ok (.iadd, 1) := dk_96 (dk_at dksJ29_next_1 20 rfl rfl)
theorem dJ29_next_45 : decode cJ29_next 45 = .ok (.putfield 33, 3) := dk_181 0 33 (dk_at dksJ29_next_1 21 rfl rfl)
theorem dJ29_next_48 : decode cJ29_next 48 = .ok (.aload_n 0, 1) := dk_42 (dk_at dksJ29_next_2 0 rfl rfl)
theorem dJ29_next_49 : decode cJ29_next 49 = .ok (.getfield 46, 3) := dk_180 0 46 (dk_at dksJ29_next_2 1 rfl rfl)
theorem dJ29_next_52 : decode cJ29_next 52 = .ok (.getfield 52, 3) := dk_180 0 52 (dk_at dksJ29_next_2 4 rfl rfl)
theorem dJ29_next_55 : decode cJ29_next 55 = .ok (.areturn, 1) := dk_176 (dk_at dksJ29_next_2 7 rfl rfl)
abbrev cJ29_checkForComodification : ByteArray := prog_66_method_12_code
def yJ29_checkForComodification : MethodName := ⟨RJ29, "checkForComodification", "()V"⟩
def dkwJ29_checkForComodification_0 : List UInt8 := [42, 180, 0, 1, 180, 0, 13, 42, 180, 0, 19, 159, 0, 11, 187, 0, 91, 89, 183, 0, 93, 191, 177]
abbrev dktJ29_checkForComodification_0 : List UInt8 := dkwJ29_checkForComodification_0 ++ []
theorem dksJ29_checkForComodification_0 : cJ29_checkForComodification.data.toList.drop 0 = dktJ29_checkForComodification_0 := by decide +kernel
theorem dJ29_checkForComodification_0 : decode cJ29_checkForComodification 0 = .ok (.aload_n 0, 1) := dk_42 (dk_at dksJ29_checkForComodification_0 0 rfl rfl)
theorem dJ29_checkForComodification_1 : decode cJ29_checkForComodification 1 = .ok (.getfield 1, 3) := dk_180 0 1 (dk_at dksJ29_checkForComodification_0 1 rfl rfl)
theorem dJ29_checkForComodification_4 : decode cJ29_checkForComodification 4 = .ok (.getfield 13, 3) := dk_180 0 13 (dk_at dksJ29_checkForComodification_0 4 rfl rfl)
theorem dJ29_checkForComodification_7 : decode cJ29_checkForComodification 7 = .ok (.aload_n 0, 1) := dk_42 (dk_at dksJ29_checkForComodification_0 7 rfl rfl)
theorem dJ29_checkForComodification_8 : decode cJ29_checkForComodification 8 = .ok (.getfield 19, 3) := dk_180 0 19 (dk_at dksJ29_checkForComodification_0 8 rfl rfl)
theorem dJ29_checkForComodification_11 : decode cJ29_checkForComodification 11 = .ok (.if_icmp .eq 11, 3) := dk_159 0 11 (dk_at dksJ29_checkForComodification_0 11 rfl rfl)
theorem dJ29_checkForComodification_14 : decode cJ29_checkForComodification 14 = .ok (.new 91, 3) := dk_187 0 91 (dk_at dksJ29_checkForComodification_0 14 rfl rfl)
theorem dJ29_checkForComodification_17 : decode cJ29_checkForComodification 17 = .ok (.dup, 1) := dk_89 (dk_at dksJ29_checkForComodification_0 17 rfl rfl)
theorem dJ29_checkForComodification_18 : decode cJ29_checkForComodification 18 = .ok (.invokespecial 93, 3) := dk_183 0 93 (dk_at dksJ29_checkForComodification_0 18 rfl rfl)
theorem dJ29_checkForComodification_21 : decode cJ29_checkForComodification 21 = .ok (.athrow, 1) := dk_191 (dk_at dksJ29_checkForComodification_0 21 rfl rfl)
theorem dJ29_checkForComodification_22 : decode cJ29_checkForComodification 22 = .ok (.return_, 1) := dk_177 (dk_at dksJ29_checkForComodification_0 22 rfl rfl)
theorem q160 : (Jvm.Cond.initialized "java/util/LinkedList$ListItr") ∈ lw_all := lw_g (lw_at lw_m1 46 rfl) rfl
theorem q225 : (Jvm.Cond.fieldLink "java/util/LinkedList$ListItr" (22 : Nat) "java/util/LinkedList" "size" "I") ∈ lw_all := lw_g (lw_at lw_m1 111 rfl) rfl
theorem q229 : (Jvm.Cond.fieldLink "java/util/LinkedList$ListItr" (13 : Nat) "java/util/LinkedList" "modCount" "I") ∈ lw_all := lw_g (lw_at lw_m1 115 rfl) rfl
theorem q456 : (Jvm.Cond.selects "java/util/LinkedList$ListItr" ({ cls := "java/lang/Object", name := "getClass", desc := "()Ljava/lang/Class;" } : Jvm.MethodName) ({ cls := "java/lang/Object", name := "getClass", desc := "()Ljava/lang/Class;" } : Jvm.MethodName)) ∈ lw_all := lw_g (lw_at lw_m2 102 rfl) rfl
theorem q763 : (Jvm.Cond.fieldLink "java/util/LinkedList$ListItr" (52 : Nat) "java/util/LinkedList$Node" "item" "Ljava/lang/Object;") ∈ lw_all := lw_g (lw_at lw_m3 169 rfl) rfl
theorem q766 : (Jvm.Cond.fieldLink "java/util/LinkedList$ListItr" (49 : Nat) "java/util/LinkedList$Node" "next" "Ljava/util/LinkedList$Node;") ∈ lw_all := lw_g (lw_at lw_m3 172 rfl) rfl
theorem q1286 : (Jvm.Cond.instantiable "java/util/LinkedList$ListItr" (5 : Nat)) ∈ lw_all := lw_g (lw_at lw_m5 212 rfl) rfl
theorem q1288 : (Jvm.Cond.instanceMethod ({ cls := "java/util/LinkedList$ListItr", name := "<init>", desc := "(Ljava/util/LinkedList;I)V" } : Jvm.MethodName)) ∈ lw_all := lw_g (lw_at lw_m5 214 rfl) rfl
theorem q1289 : (Jvm.Cond.code ({ cls := "java/util/LinkedList$ListItr", name := "<init>", desc := "(Ljava/util/LinkedList;I)V" } : Jvm.MethodName) prog_66_method_1_code (3 : Nat) (Option.none : Option Jvm.ClassFile.FieldType)) ∈ lw_all := lw_g (lw_at lw_m5 215 rfl) rfl
theorem q1290 : (Jvm.Cond.methodLink "java/util/LinkedList$ListItr" (7 : Nat) ({ cls := "java/lang/Object", name := "<init>", desc := "()V" } : Jvm.MethodName)) ∈ lw_all := lw_g (lw_at lw_m5 216 rfl) rfl
theorem q1291 : (Jvm.Cond.methodLink "java/util/LinkedList$ListItr" (25 : Nat) ({ cls := "java/util/LinkedList", name := "node", desc := "(I)Ljava/util/LinkedList$Node;" } : Jvm.MethodName)) ∈ lw_all := lw_g (lw_at lw_m5 217 rfl) rfl
theorem q1292 : (Jvm.Cond.fieldLink "java/util/LinkedList$ListItr" (46 : Nat) "java/util/LinkedList$ListItr" "lastReturned" "Ljava/util/LinkedList$Node;") ∈ lw_all := lw_g (lw_at lw_m5 218 rfl) rfl
theorem q1293 : (Jvm.Cond.fieldLink "java/util/LinkedList$ListItr" (29 : Nat) "java/util/LinkedList$ListItr" "next" "Ljava/util/LinkedList$Node;") ∈ lw_all := lw_g (lw_at lw_m5 219 rfl) rfl
theorem q1294 : (Jvm.Cond.fieldLink "java/util/LinkedList$ListItr" (33 : Nat) "java/util/LinkedList$ListItr" "nextIndex" "I") ∈ lw_all := lw_g (lw_at lw_m5 220 rfl) rfl
theorem q1295 : (Jvm.Cond.fieldLink "java/util/LinkedList$ListItr" (19 : Nat) "java/util/LinkedList$ListItr" "expectedModCount" "I") ∈ lw_all := lw_g (lw_at lw_m5 221 rfl) rfl
theorem q1296 : (Jvm.Cond.fieldLink "java/util/LinkedList$ListItr" (1 : Nat) "java/util/LinkedList$ListItr" "this$0" "Ljava/util/LinkedList;") ∈ lw_all := lw_g (lw_at lw_m5 222 rfl) rfl
theorem q1297 : (Jvm.Cond.lays "java/util/LinkedList$ListItr" "java/util/LinkedList$ListItr" "lastReturned" "Ljava/util/LinkedList$Node;") ∈ lw_all := lw_g (lw_at lw_m5 223 rfl) rfl
theorem q1298 : (Jvm.Cond.soleField "java/util/LinkedList$ListItr" "lastReturned") ∈ lw_all := lw_g (lw_at lw_m5 224 rfl) rfl
theorem q1299 : (Jvm.Cond.lays "java/util/LinkedList$ListItr" "java/util/LinkedList$ListItr" "next" "Ljava/util/LinkedList$Node;") ∈ lw_all := lw_g (lw_at lw_m5 225 rfl) rfl
theorem q1300 : (Jvm.Cond.soleField "java/util/LinkedList$ListItr" "next") ∈ lw_all := lw_g (lw_at lw_m5 226 rfl) rfl
theorem q1301 : (Jvm.Cond.lays "java/util/LinkedList$ListItr" "java/util/LinkedList$ListItr" "nextIndex" "I") ∈ lw_all := lw_g (lw_at lw_m5 227 rfl) rfl
theorem q1302 : (Jvm.Cond.soleField "java/util/LinkedList$ListItr" "nextIndex") ∈ lw_all := lw_g (lw_at lw_m5 228 rfl) rfl
theorem q1303 : (Jvm.Cond.lays "java/util/LinkedList$ListItr" "java/util/LinkedList$ListItr" "expectedModCount" "I") ∈ lw_all := lw_g (lw_at lw_m5 229 rfl) rfl
theorem q1304 : (Jvm.Cond.soleField "java/util/LinkedList$ListItr" "expectedModCount") ∈ lw_all := lw_g (lw_at lw_m5 230 rfl) rfl
theorem q1305 : (Jvm.Cond.laysFinal "java/util/LinkedList$ListItr" "java/util/LinkedList$ListItr" "this$0" "Ljava/util/LinkedList;") ∈ lw_all := lw_g (lw_at lw_m5 231 rfl) rfl
theorem q1306 : (Jvm.Cond.soleField "java/util/LinkedList$ListItr" "this$0") ∈ lw_all := lw_g (lw_at lw_m5 232 rfl) rfl
theorem q1307 : (Jvm.Cond.superclass "java/util/LinkedList$ListItr" "java/lang/Object") ∈ lw_all := lw_g (lw_at lw_m5 233 rfl) rfl
theorem q1330 : (Jvm.Cond.castable "java/util/LinkedList$ListItr" "java/util/Iterator") ∈ lw_tbl := lw_at lw_m6 16 rfl
theorem q1331 : (Jvm.Cond.selects "java/util/LinkedList$ListItr" ({ cls := "java/util/Iterator", name := "hasNext", desc := "()Z" } : Jvm.MethodName) ({ cls := "java/util/LinkedList$ListItr", name := "hasNext", desc := "()Z" } : Jvm.MethodName)) ∈ lw_all := lw_g (lw_at lw_m6 17 rfl) rfl
theorem q1332 : (Jvm.Cond.unhidden "java/util/LinkedList$ListItr" "hasNext" "()Z") ∈ lw_tbl := lw_at lw_m6 18 rfl
theorem q1333 : (Jvm.Cond.instanceMethod ({ cls := "java/util/LinkedList$ListItr", name := "hasNext", desc := "()Z" } : Jvm.MethodName)) ∈ lw_all := lw_g (lw_at lw_m6 19 rfl) rfl
theorem q1334 : (Jvm.Cond.publicMethod ({ cls := "java/util/LinkedList$ListItr", name := "hasNext", desc := "()Z" } : Jvm.MethodName)) ∈ lw_tbl := lw_at lw_m6 20 rfl
theorem q1335 : (Jvm.Cond.code ({ cls := "java/util/LinkedList$ListItr", name := "hasNext", desc := "()Z" } : Jvm.MethodName) prog_66_method_2_code (1 : Nat) (Option.some Jvm.ClassFile.FieldType.boolean)) ∈ lw_all := lw_g (lw_at lw_m6 21 rfl) rfl
theorem q1607 : (Jvm.Cond.selects "java/util/LinkedList$ListItr" ({ cls := "java/util/Iterator", name := "next", desc := "()Ljava/lang/Object;" } : Jvm.MethodName) ({ cls := "java/util/LinkedList$ListItr", name := "next", desc := "()Ljava/lang/Object;" } : Jvm.MethodName)) ∈ lw_all := lw_g (lw_at lw_m7 53 rfl) rfl
theorem q1608 : (Jvm.Cond.unhidden "java/util/LinkedList$ListItr" "next" "()Ljava/lang/Object;") ∈ lw_tbl := lw_at lw_m7 54 rfl
theorem q1609 : (Jvm.Cond.instanceMethod ({ cls := "java/util/LinkedList$ListItr", name := "next", desc := "()Ljava/lang/Object;" } : Jvm.MethodName)) ∈ lw_all := lw_g (lw_at lw_m7 55 rfl) rfl
theorem q1610 : (Jvm.Cond.publicMethod ({ cls := "java/util/LinkedList$ListItr", name := "next", desc := "()Ljava/lang/Object;" } : Jvm.MethodName)) ∈ lw_tbl := lw_at lw_m7 56 rfl
theorem q1611 : (Jvm.Cond.code ({ cls := "java/util/LinkedList$ListItr", name := "next", desc := "()Ljava/lang/Object;" } : Jvm.MethodName) prog_66_method_3_code (1 : Nat) (Option.some (Jvm.ClassFile.FieldType.object "java/lang/Object"))) ∈ lw_all := lw_g (lw_at lw_m7 57 rfl) rfl
theorem q1612 : (Jvm.Cond.methodLink "java/util/LinkedList$ListItr" (36 : Nat) ({ cls := "java/util/LinkedList$ListItr", name := "checkForComodification", desc := "()V" } : Jvm.MethodName)) ∈ lw_all := lw_g (lw_at lw_m7 58 rfl) rfl
theorem q1613 : (Jvm.Cond.instanceMethod ({ cls := "java/util/LinkedList$ListItr", name := "checkForComodification", desc := "()V" } : Jvm.MethodName)) ∈ lw_all := lw_g (lw_at lw_m7 59 rfl) rfl
theorem q1614 : (Jvm.Cond.selects "java/util/LinkedList$ListItr" ({ cls := "java/util/LinkedList$ListItr", name := "checkForComodification", desc := "()V" } : Jvm.MethodName) ({ cls := "java/util/LinkedList$ListItr", name := "checkForComodification", desc := "()V" } : Jvm.MethodName)) ∈ lw_all := lw_g (lw_at lw_m7 60 rfl) rfl
theorem q1615 : (Jvm.Cond.code ({ cls := "java/util/LinkedList$ListItr", name := "checkForComodification", desc := "()V" } : Jvm.MethodName) prog_66_method_12_code (1 : Nat) (Option.none : Option Jvm.ClassFile.FieldType)) ∈ lw_all := lw_g (lw_at lw_m7 61 rfl) rfl
theorem q1616 : (Jvm.Cond.methodLink "java/util/LinkedList$ListItr" (39 : Nat) ({ cls := "java/util/LinkedList$ListItr", name := "hasNext", desc := "()Z" } : Jvm.MethodName)) ∈ lw_all := lw_g (lw_at lw_m7 62 rfl) rfl
theorem q2434 : (Jvm.Cond.selects "java/util/LinkedList$ListItr" ({ cls := "java/util/LinkedList$ListItr", name := "hasNext", desc := "()Z" } : Jvm.MethodName) ({ cls := "java/util/LinkedList$ListItr", name := "hasNext", desc := "()Z" } : Jvm.MethodName)) ∈ lw_all := lw_g (lw_at lw_m10 160 rfl) rfl
theorem q2472 : (Jvm.Cond.castable "java/util/LinkedList$ListItr" "java/lang/Object") ∈ lw_tbl := lw_at lw_m10 198 rfl
theorem in_J29 : ∀ w ∈ wsJ290, w ∈ lw_all := lw_in wsJ290 [1297, 1299, 1301, 1303, 1305] (by decide +kernel) (by decide +kernel)
/-! java/lang/RuntimeException -/
set_option maxRecDepth 100000
def RJ30 : String := "java/lang/RuntimeException"
abbrev cJ30_init : ByteArray := prog_38_method_4_code
def yJ30_init : MethodName := ⟨RJ30, "<init>", "(Ljava/lang/Throwable;)V"⟩
def dkwJ30_init_0 : List UInt8 := [42, 43, 183, 0, 13, 177]
abbrev dktJ30_init_0 : List UInt8 := dkwJ30_init_0 ++ []
theorem dksJ30_init_0 : cJ30_init.data.toList.drop 0 = dktJ30_init_0 := by decide +kernel
theorem dJ30_init_0 : decode cJ30_init 0 = .ok (.aload_n 0, 1) := dk_42 (dk_at dksJ30_init_0 0 rfl rfl)
theorem dJ30_init_1 : decode cJ30_init 1 = .ok (.aload_n 1, 1) := dk_43 (dk_at dksJ30_init_0 1 rfl rfl)
theorem dJ30_init_2 : decode cJ30_init 2 = .ok (.invokespecial 13, 3) := dk_183 0 13 (dk_at dksJ30_init_0 2 rfl rfl)
theorem dJ30_init_5 : decode cJ30_init 5 = .ok (.return_, 1) := dk_177 (dk_at dksJ30_init_0 5 rfl rfl)
abbrev cJ30_init_2 : ByteArray := prog_38_method_1_code
def yJ30_init_2 : MethodName := ⟨RJ30, "<init>", "()V"⟩
theorem dJ30_init_2_0 : decode cJ30_init_2 0 = .ok (.aload_n 0, 1) := by decide +kernel
theorem dJ30_init_2_1 : decode cJ30_init_2 1 = .ok (.invokespecial 1, 3) := by decide +kernel
theorem dJ30_init_2_4 : decode cJ30_init_2 4 = .ok (.return_, 1) := by decide +kernel
theorem q161 : (Jvm.Cond.initialized "java/lang/RuntimeException") ∈ lw_all := lw_g (lw_at lw_m1 47 rfl) rfl
theorem q1367 : (Jvm.Cond.declares ({ cls := "java/lang/RuntimeException", name := "<init>", desc := "()V" } : Jvm.MethodName)) ∈ lw_tbl := lw_at lw_m6 53 rfl
theorem q1368 : (Jvm.Cond.declares ({ cls := "java/lang/RuntimeException", name := "<init>", desc := "(Ljava/lang/String;)V" } : Jvm.MethodName)) ∈ lw_tbl := lw_at lw_m6 54 rfl
theorem q1379 : (Jvm.Cond.instanceMethod ({ cls := "java/lang/RuntimeException", name := "<init>", desc := "(Ljava/lang/Throwable;)V" } : Jvm.MethodName)) ∈ lw_all := lw_g (lw_at lw_m6 65 rfl) rfl
theorem q1380 : (Jvm.Cond.code ({ cls := "java/lang/RuntimeException", name := "<init>", desc := "(Ljava/lang/Throwable;)V" } : Jvm.MethodName) prog_38_method_4_code (2 : Nat) (Option.none : Option Jvm.ClassFile.FieldType)) ∈ lw_all := lw_g (lw_at lw_m6 66 rfl) rfl
theorem q1381 : (Jvm.Cond.methodLink "java/lang/RuntimeException" (13 : Nat) ({ cls := "java/lang/Exception", name := "<init>", desc := "(Ljava/lang/Throwable;)V" } : Jvm.MethodName)) ∈ lw_all := lw_g (lw_at lw_m6 67 rfl) rfl
theorem q1601 : (Jvm.Cond.instanceMethod ({ cls := "java/lang/RuntimeException", name := "<init>", desc := "()V" } : Jvm.MethodName)) ∈ lw_all := lw_g (lw_at lw_m7 47 rfl) rfl
theorem q1602 : (Jvm.Cond.code ({ cls := "java/lang/RuntimeException", name := "<init>", desc := "()V" } : Jvm.MethodName) prog_38_method_1_code (1 : Nat) (Option.none : Option Jvm.ClassFile.FieldType)) ∈ lw_all := lw_g (lw_at lw_m7 48 rfl) rfl
theorem q1603 : (Jvm.Cond.methodLink "java/lang/RuntimeException" (1 : Nat) ({ cls := "java/lang/Exception", name := "<init>", desc := "()V" } : Jvm.MethodName)) ∈ lw_all := lw_g (lw_at lw_m7 49 rfl) rfl
/-! java/util/NoSuchElementException -/
set_option maxRecDepth 100000
def RJ31 : String := "java/util/NoSuchElementException"
def TJ31 : u_T := fun k => match k with
  | 0 => ("java/lang/Throwable", "cause", "Ljava/lang/Throwable;", false)
  | 1 => ("java/lang/Throwable", "stackTrace", "[Ljava/lang/StackTraceElement;", false)
  | 2 => ("java/lang/Throwable", "suppressedExceptions", "Ljava/util/List;", false)
  | 3 => ("java/lang/Throwable", "detailMessage", "Ljava/lang/String;", false)
  | 4 => ("java/lang/Throwable", "backtrace", "Ljava/lang/Object;", false)
  | _ => ("java/lang/Throwable", "depth", "I", false)
def tyJ31 : Nat → FieldType := fun k => match k with
  | 0 => .object "java/lang/Throwable"
  | 1 => .array (.object "java/lang/StackTraceElement")
  | 2 => .object "java/util/List"
  | 3 => .object "java/lang/String"
  | 4 => .object "java/lang/Object"
  | _ => .int
abbrev wsJ310 : List Cond := u_ws RJ31 TJ31 6
theorem nmJ31 : ∀ a, a < 6 → ∀ b, b < 6 → a ≠ b → (TJ31 a).2.1 ≠ (TJ31 b).2.1 := by decide +kernel
theorem tyJ31_ok : ∀ k, k < 6 → parseFieldDescriptor (TJ31 k).2.2.1 = some (tyJ31 k) := by decide +kernel
abbrev cJ31_init : ByteArray := prog_70_method_3_code
def yJ31_init : MethodName := ⟨RJ31, "<init>", "(Ljava/lang/Throwable;)V"⟩
def dkwJ31_init_0 : List UInt8 := [42, 43, 183, 0, 10, 177]
abbrev dktJ31_init_0 : List UInt8 := dkwJ31_init_0 ++ []
theorem dksJ31_init_0 : cJ31_init.data.toList.drop 0 = dktJ31_init_0 := by decide +kernel
theorem dJ31_init_0 : decode cJ31_init 0 = .ok (.aload_n 0, 1) := dk_42 (dk_at dksJ31_init_0 0 rfl rfl)
theorem dJ31_init_1 : decode cJ31_init 1 = .ok (.aload_n 1, 1) := dk_43 (dk_at dksJ31_init_0 1 rfl rfl)
theorem dJ31_init_2 : decode cJ31_init 2 = .ok (.invokespecial 10, 3) := dk_183 0 10 (dk_at dksJ31_init_0 2 rfl rfl)
theorem dJ31_init_5 : decode cJ31_init 5 = .ok (.return_, 1) := dk_177 (dk_at dksJ31_init_0 5 rfl rfl)
abbrev cJ31_init_2 : ByteArray := prog_70_method_1_code
def yJ31_init_2 : MethodName := ⟨RJ31, "<init>", "()V"⟩
theorem dJ31_init_2_0 : decode cJ31_init_2 0 = .ok (.aload_n 0, 1) := by decide +kernel
theorem dJ31_init_2_1 : decode cJ31_init_2 1 = .ok (.invokespecial 1, 3) := by decide +kernel
theorem dJ31_init_2_4 : decode cJ31_init_2 4 = .ok (.return_, 1) := by decide +kernel
theorem q162 : (Jvm.Cond.initialized "java/util/NoSuchElementException") ∈ lw_all := lw_g (lw_at lw_m1 48 rfl) rfl
theorem q458 : (Jvm.Cond.selects "java/util/NoSuchElementException" ({ cls := "java/lang/Object", name := "getClass", desc := "()Ljava/lang/Class;" } : Jvm.MethodName) ({ cls := "java/lang/Object", name := "getClass", desc := "()Ljava/lang/Class;" } : Jvm.MethodName)) ∈ lw_all := lw_g (lw_at lw_m2 104 rfl) rfl
theorem q827 : (Jvm.Cond.selects "java/util/NoSuchElementException" ({ cls := "java/lang/Throwable", name := "fillInStackTrace", desc := "()Ljava/lang/Throwable;" } : Jvm.MethodName) ({ cls := "java/lang/Throwable", name := "fillInStackTrace", desc := "()Ljava/lang/Throwable;" } : Jvm.MethodName)) ∈ lw_all := lw_g (lw_at lw_m3 233 rfl) rfl
theorem q1365 : (Jvm.Cond.instantiable "java/util/NoSuchElementException" (6 : Nat)) ∈ lw_all := lw_g (lw_at lw_m6 51 rfl) rfl
theorem q1366 : (Jvm.Cond.castable "java/util/NoSuchElementException" "java/util/NoSuchElementException") ∈ lw_tbl := lw_at lw_m6 52 rfl
theorem q1369 : (Jvm.Cond.selects "java/util/NoSuchElementException" ({ cls := "java/lang/Throwable", name := "fillInStackTrace", desc := "(I)Ljava/lang/Throwable;" } : Jvm.MethodName) ({ cls := "java/lang/Throwable", name := "fillInStackTrace", desc := "(I)Ljava/lang/Throwable;" } : Jvm.MethodName)) ∈ lw_all := lw_g (lw_at lw_m6 55 rfl) rfl
theorem q1370 : (Jvm.Cond.lays "java/util/NoSuchElementException" "java/lang/Throwable" "cause" "Ljava/lang/Throwable;") ∈ lw_all := lw_g (lw_at lw_m6 56 rfl) rfl
theorem q1371 : (Jvm.Cond.lays "java/util/NoSuchElementException" "java/lang/Throwable" "stackTrace" "[Ljava/lang/StackTraceElement;") ∈ lw_all := lw_g (lw_at lw_m6 57 rfl) rfl
theorem q1372 : (Jvm.Cond.lays "java/util/NoSuchElementException" "java/lang/Throwable" "suppressedExceptions" "Ljava/util/List;") ∈ lw_all := lw_g (lw_at lw_m6 58 rfl) rfl
theorem q1373 : (Jvm.Cond.lays "java/util/NoSuchElementException" "java/lang/Throwable" "detailMessage" "Ljava/lang/String;") ∈ lw_all := lw_g (lw_at lw_m6 59 rfl) rfl
theorem q1374 : (Jvm.Cond.lays "java/util/NoSuchElementException" "java/lang/Throwable" "backtrace" "Ljava/lang/Object;") ∈ lw_all := lw_g (lw_at lw_m6 60 rfl) rfl
theorem q1376 : (Jvm.Cond.instanceMethod ({ cls := "java/util/NoSuchElementException", name := "<init>", desc := "(Ljava/lang/Throwable;)V" } : Jvm.MethodName)) ∈ lw_all := lw_g (lw_at lw_m6 62 rfl) rfl
theorem q1377 : (Jvm.Cond.code ({ cls := "java/util/NoSuchElementException", name := "<init>", desc := "(Ljava/lang/Throwable;)V" } : Jvm.MethodName) prog_70_method_3_code (2 : Nat) (Option.none : Option Jvm.ClassFile.FieldType)) ∈ lw_all := lw_g (lw_at lw_m6 63 rfl) rfl
theorem q1378 : (Jvm.Cond.methodLink "java/util/NoSuchElementException" (10 : Nat) ({ cls := "java/lang/RuntimeException", name := "<init>", desc := "(Ljava/lang/Throwable;)V" } : Jvm.MethodName)) ∈ lw_all := lw_g (lw_at lw_m6 64 rfl) rfl
theorem q1393 : (Jvm.Cond.selects "java/util/NoSuchElementException" ({ cls := "java/lang/Throwable", name := "toString", desc := "()Ljava/lang/String;" } : Jvm.MethodName) ({ cls := "java/lang/Throwable", name := "toString", desc := "()Ljava/lang/String;" } : Jvm.MethodName)) ∈ lw_all := lw_g (lw_at lw_m6 79 rfl) rfl
theorem q1402 : (Jvm.Cond.selects "java/util/NoSuchElementException" ({ cls := "java/lang/Throwable", name := "getLocalizedMessage", desc := "()Ljava/lang/String;" } : Jvm.MethodName) ({ cls := "java/lang/Throwable", name := "getLocalizedMessage", desc := "()Ljava/lang/String;" } : Jvm.MethodName)) ∈ lw_all := lw_g (lw_at lw_m6 88 rfl) rfl
theorem q1410 : (Jvm.Cond.selects "java/util/NoSuchElementException" ({ cls := "java/lang/Throwable", name := "getMessage", desc := "()Ljava/lang/String;" } : Jvm.MethodName) ({ cls := "java/lang/Throwable", name := "getMessage", desc := "()Ljava/lang/String;" } : Jvm.MethodName)) ∈ lw_all := lw_g (lw_at lw_m6 96 rfl) rfl
theorem q1572 : (Jvm.Cond.lays "java/util/NoSuchElementException" "java/lang/Throwable" "depth" "I") ∈ lw_all := lw_g (lw_at lw_m7 18 rfl) rfl
theorem q1573 : (Jvm.Cond.superclass "java/util/NoSuchElementException" "java/lang/RuntimeException") ∈ lw_all := lw_g (lw_at lw_m7 19 rfl) rfl
theorem q1598 : (Jvm.Cond.instanceMethod ({ cls := "java/util/NoSuchElementException", name := "<init>", desc := "()V" } : Jvm.MethodName)) ∈ lw_all := lw_g (lw_at lw_m7 44 rfl) rfl
theorem q1599 : (Jvm.Cond.code ({ cls := "java/util/NoSuchElementException", name := "<init>", desc := "()V" } : Jvm.MethodName) prog_70_method_1_code (1 : Nat) (Option.none : Option Jvm.ClassFile.FieldType)) ∈ lw_all := lw_g (lw_at lw_m7 45 rfl) rfl
theorem q1600 : (Jvm.Cond.methodLink "java/util/NoSuchElementException" (1 : Nat) ({ cls := "java/lang/RuntimeException", name := "<init>", desc := "()V" } : Jvm.MethodName)) ∈ lw_all := lw_g (lw_at lw_m7 46 rfl) rfl
theorem q1831 : (Jvm.Cond.selects "java/util/NoSuchElementException" ({ cls := "java/lang/Throwable", name := "getCause", desc := "()Ljava/lang/Throwable;" } : Jvm.MethodName) ({ cls := "java/lang/Throwable", name := "getCause", desc := "()Ljava/lang/Throwable;" } : Jvm.MethodName)) ∈ lw_all := lw_g (lw_at lw_m8 37 rfl) rfl
theorem q2473 : (Jvm.Cond.castable "java/util/NoSuchElementException" "java/lang/Object") ∈ lw_tbl := lw_at lw_m10 199 rfl
theorem in_J31 : ∀ w ∈ wsJ310, w ∈ lw_all := lw_in wsJ310 [1370, 1371, 1372, 1373, 1374, 1572] (by decide +kernel) (by decide +kernel)
/-! java/lang/Long -/
set_option maxRecDepth 100000
def RJ32 : String := "java/lang/Long"
abbrev cJ32_bitCount : ByteArray := prog_35_method_50_code
def yJ32_bitCount : MethodName := ⟨RJ32, "bitCount", "(J)I"⟩
def dkwJ32_bitCount_2 : List UInt8 := [30, 30, 16, 32, 125, 97, 63, 30, 136, 16, 127, 126, 172]
abbrev dktJ32_bitCount_2 : List UInt8 := dkwJ32_bitCount_2 ++ []
def dkwJ32_bitCount_1 : List UInt8 := [30, 30, 7, 125, 97, 20, 1, 62, 127, 63, 30, 30, 16, 8, 125, 97, 63, 30, 30, 16, 16, 125, 97, 63]
abbrev dktJ32_bitCount_1 : List UInt8 := dkwJ32_bitCount_1 ++ dktJ32_bitCount_2
def dkwJ32_bitCount_0 : List UInt8 := [30, 30, 4, 125, 20, 1, 58, 127, 101, 63, 30, 20, 1, 60, 127, 30, 5, 125, 20, 1, 60, 127, 97, 63]
abbrev dktJ32_bitCount_0 : List UInt8 := dkwJ32_bitCount_0 ++ dktJ32_bitCount_1
theorem dksJ32_bitCount_0 : cJ32_bitCount.data.toList.drop 0 = dktJ32_bitCount_0 := by decide +kernel
theorem dksJ32_bitCount_1 : cJ32_bitCount.data.toList.drop 24 = dktJ32_bitCount_1 := dk_seg dksJ32_bitCount_0 24 rfl rfl
theorem dksJ32_bitCount_2 : cJ32_bitCount.data.toList.drop 48 = dktJ32_bitCount_2 := dk_seg dksJ32_bitCount_1 24 rfl rfl
theorem dJ32_bitCount_0 : decode cJ32_bitCount 0 = .ok (.lload_n 0, 1) := dk_30 (dk_at dksJ32_bitCount_0 0 rfl rfl)
theorem dJ32_bitCount_1 : decode cJ32_bitCount 1 = .ok (.lload_n 0, 1) := dk_30 (dk_at dksJ32_bitCount_0 1 rfl rfl)
theorem dJ32_bitCount_2 : decode cJ32_bitCount 2 = .ok (.iconst 1, 1) := dk_4 (dk_at dksJ32_bitCount_0 2 rfl rfl)
theorem dJ32_bitCount_3 : decode cJ32_bitCount 3 = .ok (.lushr, 1) := dk_125 (dk_at dksJ32_bitCount_0 3 rfl rfl)
theorem dJ32_bitCount_4 : decode cJ32_bitCount 4 = .ok (.ldc2_w 314, 3) := dk_20 1 58 (dk_at dksJ32_bitCount_0 4 rfl rfl)
theorem dJ32_bitCount_7 : decode cJ32_bitCount 7 = .ok (.land, 1) := dk_127 (dk_at dksJ32_bitCount_0 7 rfl rfl)
theorem dJ32_bitCount_8 : decode cJ32_bitCount 8 = .ok (.lsub, 1) := dk_101 (dk_at dksJ32_bitCount_0 8 rfl rfl)
theorem dJ32_bitCount_9 : decode cJ32_bitCount 9 = .ok (.lstore_n 0, 1) := dk_63 (dk_at dksJ32_bitCount_0 9 rfl rfl)
theorem dJ32_bitCount_10 : decode cJ32_bitCount 10 = .ok (.lload_n 0, 1) := dk_30 (dk_at dksJ32_bitCount_0 10 rfl rfl)
theorem dJ32_bitCount_11 : decode cJ32_bitCount 11 = .ok (.ldc2_w 316, 3) := dk_20 1 60 (dk_at dksJ32_bitCount_0 11 rfl rfl)
theorem dJ32_bitCount_14 : decode cJ32_bitCount 14 = .ok (.land, 1) := dk_127 (dk_at dksJ32_bitCount_0 14 rfl rfl)
theorem dJ32_bitCount_15 : decode cJ32_bitCount 15 = .ok (.lload_n 0, 1) := dk_30 (dk_at dksJ32_bitCount_0 15 rfl rfl)
theorem dJ32_bitCount_16 : decode cJ32_bitCount 16 = .ok (.iconst 2, 1) := dk_5 (dk_at dksJ32_bitCount_0 16 rfl rfl)
theorem dJ32_bitCount_17 : decode cJ32_bitCount 17 = .ok (.lushr, 1) := dk_125 (dk_at dksJ32_bitCount_0 17 rfl rfl)
theorem dJ32_bitCount_18 : decode cJ32_bitCount 18 = .ok (.ldc2_w 316, 3) := dk_20 1 60 (dk_at dksJ32_bitCount_0 18 rfl rfl)
theorem dJ32_bitCount_21 : decode cJ32_bitCount 21 = .ok (.land, 1) := dk_127 (dk_at dksJ32_bitCount_0 21 rfl rfl)
theorem dJ32_bitCount_22 : decode cJ32_bitCount 22 = .ok (.ladd, 1) := dk_97 (dk_at dksJ32_bitCount_0 22 rfl rfl)
theorem dJ32_bitCount_23 : decode cJ32_bitCount 23 = .ok (.lstore_n 0, 1) := dk_63 (dk_at dksJ32_bitCount_0 23 rfl rfl)
theorem dJ32_bitCount_24 : decode cJ32_bitCount 24 = .ok (.lload_n 0, 1) := dk_30 (dk_at dksJ32_bitCount_1 0 rfl rfl)
theorem dJ32_bitCount_25 : decode cJ32_bitCount 25 = .ok (.lload_n 0, 1) := dk_30 (dk_at dksJ32_bitCount_1 1 rfl rfl)
theorem dJ32_bitCount_26 : decode cJ32_bitCount 26 = .ok (.iconst 4, 1) := dk_7 (dk_at dksJ32_bitCount_1 2 rfl rfl)
theorem dJ32_bitCount_27 : decode cJ32_bitCount 27 = .ok (.lushr, 1) := dk_125 (dk_at dksJ32_bitCount_1 3 rfl rfl)
theorem dJ32_bitCount_28 : decode cJ32_bitCount 28 = .ok (.ladd, 1) := dk_97 (dk_at dksJ32_bitCount_1 4 rfl rfl)
theorem dJ32_bitCount_29 : decode cJ32_bitCount 29 = .ok (.ldc2_w 318, 3) := dk_20 1 62 (dk_at dksJ32_bitCount_1 5 rfl rfl)
theorem dJ32_bitCount_32 : decode cJ32_bitCount 32 = .ok (.land, 1) := dk_127 (dk_at dksJ32_bitCount_1 8 rfl rfl)
theorem dJ32_bitCount_33 : decode cJ32_bitCount 33 = .ok (.lstore_n 0, 1) := dk_63 (dk_at dksJ32_bitCount_1 9 rfl rfl)
theorem dJ32_bitCount_34 : decode cJ32_bitCount 34 = .ok (.lload_n 0, 1) := dk_30 (dk_at dksJ32_bitCount_1 10 rfl rfl)
theorem dJ32_bitCount_35 : decode cJ32_bitCount 35 = .ok (.lload_n 0, 1) := dk_30 (dk_at dksJ32_bitCount_1 11 rfl rfl)
theorem dJ32_bitCount_36 : decode cJ32_bitCount 36 = .ok (.bipush 8, 2) := dk_16 8 (dk_at dksJ32_bitCount_1 12 rfl rfl)
theorem dJ32_bitCount_38 : decode cJ32_bitCount 38 = .ok (.lushr, 1) := dk_125 (dk_at dksJ32_bitCount_1 14 rfl rfl)
theorem dJ32_bitCount_39 : decode cJ32_bitCount 39 = .ok (.ladd, 1) := dk_97 (dk_at dksJ32_bitCount_1 15 rfl rfl)
theorem dJ32_bitCount_40 : decode cJ32_bitCount 40 = .ok (.lstore_n 0, 1) := dk_63 (dk_at dksJ32_bitCount_1 16 rfl rfl)
theorem dJ32_bitCount_41 : decode cJ32_bitCount 41 = .ok (.lload_n 0, 1) := dk_30 (dk_at dksJ32_bitCount_1 17 rfl rfl)
theorem dJ32_bitCount_42 : decode cJ32_bitCount 42 = .ok (.lload_n 0, 1) := dk_30 (dk_at dksJ32_bitCount_1 18 rfl rfl)
theorem dJ32_bitCount_43 : decode cJ32_bitCount 43 = .ok (.bipush 16, 2) := dk_16 16 (dk_at dksJ32_bitCount_1 19 rfl rfl)
theorem dJ32_bitCount_45 : decode cJ32_bitCount 45 = .ok (.lushr, 1) := dk_125 (dk_at dksJ32_bitCount_1 21 rfl rfl)
theorem dJ32_bitCount_46 : decode cJ32_bitCount 46 = .ok (.ladd, 1) := dk_97 (dk_at dksJ32_bitCount_1 22 rfl rfl)
theorem dJ32_bitCount_47 : decode cJ32_bitCount 47 = .ok (.lstore_n 0, 1) := dk_63 (dk_at dksJ32_bitCount_1 23 rfl rfl)
theorem dJ32_bitCount_48 : decode cJ32_bitCount 48 = .ok (.lload_n 0, 1) := dk_30 (dk_at dksJ32_bitCount_2 0 rfl rfl)
theorem dJ32_bitCount_49 : decode cJ32_bitCount 49 = .ok (.lload_n 0, 1) := dk_30 (dk_at dksJ32_bitCount_2 1 rfl rfl)
theorem dJ32_bitCount_50 : decode cJ32_bitCount 50 = .ok (.bipush 32, 2) := dk_16 32 (dk_at dksJ32_bitCount_2 2 rfl rfl)
theorem dJ32_bitCount_52 : decode cJ32_bitCount 52 = .ok (.lushr, 1) := dk_125 (dk_at dksJ32_bitCount_2 4 rfl rfl)
theorem dJ32_bitCount_53 : decode cJ32_bitCount 53 = .ok (.ladd, 1) := dk_97 (dk_at dksJ32_bitCount_2 5 rfl rfl)
theorem dJ32_bitCount_54 : decode cJ32_bitCount 54 = .ok (.lstore_n 0, 1) := dk_63 (dk_at dksJ32_bitCount_2 6 rfl rfl)
theorem dJ32_bitCount_55 : decode cJ32_bitCount 55 = .ok (.lload_n 0, 1) := dk_30 (dk_at dksJ32_bitCount_2 7 rfl rfl)
theorem dJ32_bitCount_56 : decode cJ32_bitCount 56 = .ok (.l2i, 1) := dk_136 (dk_at dksJ32_bitCount_2 8 rfl rfl)
theorem dJ32_bitCount_57 : decode cJ32_bitCount 57 = .ok (.bipush 127, 2) := dk_16 127 (dk_at dksJ32_bitCount_2 9 rfl rfl)
theorem dJ32_bitCount_59 : decode cJ32_bitCount 59 = .ok (.iand, 1) := dk_126 (dk_at dksJ32_bitCount_2 11 rfl rfl)
theorem dJ32_bitCount_60 : decode cJ32_bitCount 60 = .ok (.ireturn, 1) := dk_172 (dk_at dksJ32_bitCount_2 12 rfl rfl)
theorem q165 : (Jvm.Cond.initialized "java/lang/Long") ∈ lw_all := lw_g (lw_at lw_m1 51 rfl) rfl
theorem q1940 : (Jvm.Cond.static ({ cls := "java/lang/Long", name := "bitCount", desc := "(J)I" } : Jvm.MethodName)) ∈ lw_all := lw_g (lw_at lw_m8 146 rfl) rfl
theorem q1941 : (Jvm.Cond.code ({ cls := "java/lang/Long", name := "bitCount", desc := "(J)I" } : Jvm.MethodName) prog_35_method_50_code (2 : Nat) (Option.some Jvm.ClassFile.FieldType.int)) ∈ lw_all := lw_g (lw_at lw_m8 147 rfl) rfl
theorem q1942 : (Jvm.Cond.constantLong "java/lang/Long" (314 : Nat) (6148914691236517205 : Int64)) ∈ lw_all := lw_g (lw_at lw_m8 148 rfl) rfl
theorem q1943 : (Jvm.Cond.constantLong "java/lang/Long" (316 : Nat) (3689348814741910323 : Int64)) ∈ lw_all := lw_g (lw_at lw_m8 149 rfl) rfl
theorem q1944 : (Jvm.Cond.constantLong "java/lang/Long" (318 : Nat) (1085102592571150095 : Int64)) ∈ lw_all := lw_g (lw_at lw_m8 150 rfl) rfl
/-! java/lang/Object -/
set_option maxRecDepth 100000
def RJ33 : String := "java/lang/Object"
abbrev cJ33_init : ByteArray := object_method_1_code
def yJ33_init : MethodName := ⟨RJ33, "<init>", "()V"⟩
theorem dJ33_init_0 : decode cJ33_init 0 = .ok (.return_, 1) := by decide +kernel
theorem q172 : (Jvm.Cond.instanceMethod ({ cls := "java/lang/Object", name := "<init>", desc := "()V" } : Jvm.MethodName)) ∈ lw_all := lw_g (lw_at lw_m1 58 rfl) rfl
theorem q173 : (Jvm.Cond.code ({ cls := "java/lang/Object", name := "<init>", desc := "()V" } : Jvm.MethodName) object_method_1_code (1 : Nat) (Option.none : Option Jvm.ClassFile.FieldType)) ∈ lw_all := lw_g (lw_at lw_m1 59 rfl) rfl
theorem q427 : (Jvm.Cond.instanceMethod ({ cls := "java/lang/Object", name := "getClass", desc := "()Ljava/lang/Class;" } : Jvm.MethodName)) ∈ lw_all := lw_g (lw_at lw_m2 73 rfl) rfl
theorem q428 : (Jvm.Cond.sameMethod "java/lang/Object" "java/lang/Object" "getClass" "()Ljava/lang/Class;") ∈ lw_all := lw_g (lw_at lw_m2 74 rfl) rfl
theorem q459 : (Jvm.Cond.native ({ cls := "java/lang/Object", name := "getClass", desc := "()Ljava/lang/Class;" } : Jvm.MethodName)) ∈ lw_all := lw_g (lw_at lw_m2 105 rfl) rfl
theorem q666 : (Jvm.Cond.native ({ cls := "java/lang/Object", name := "clone", desc := "()Ljava/lang/Object;" } : Jvm.MethodName)) ∈ lw_all := lw_g (lw_at lw_m3 72 rfl) rfl
theorem q667 : (Jvm.Cond.instanceMethod ({ cls := "java/lang/Object", name := "clone", desc := "()Ljava/lang/Object;" } : Jvm.MethodName)) ∈ lw_all := lw_g (lw_at lw_m3 73 rfl) rfl
theorem q2441 : (Jvm.Cond.initialized "java/lang/Object") ∈ lw_all := lw_g (lw_at lw_m10 167 rfl) rfl
theorem q2480 : (Jvm.Cond.declares ({ cls := "java/lang/Object", name := "getClass", desc := "()Ljava/lang/Class;" } : Jvm.MethodName)) ∈ lw_tbl := lw_at lw_m10 206 rfl
theorem q2497 : (Jvm.Cond.instantiable "java/lang/Object" (0 : Nat)) ∈ lw_all := lw_g (lw_at lw_m10 223 rfl) rfl
