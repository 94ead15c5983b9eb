/-! java/util/BitSet -/
set_option maxRecDepth 100000
def RJ0 : String := "java/util/BitSet"
def TJ0 : u_T := fun k => match k with
  | 0 => ("java/util/BitSet", "words", "[J", false)
  | 1 => ("java/util/BitSet", "wordsInUse", "I", false)
  | _ => ("java/util/BitSet", "sizeIsSticky", "Z", false)
def tyJ0 : Nat → FieldType := fun k => match k with
  | 0 => .array .long
  | 1 => .int
  | _ => .boolean
abbrev wsJ00 : List Cond := u_ws RJ0 TJ0 3
theorem nmJ0 : ∀ a, a < 3 → ∀ b, b < 3 → a ≠ b → (TJ0 a).2.1 ≠ (TJ0 b).2.1 := by decide +kernel
theorem tyJ0_ok : ∀ k, k < 3 → parseFieldDescriptor (TJ0 k).2.2.1 = some (tyJ0 k) := by decide +kernel
abbrev cJ0_init : ByteArray := prog_74_method_5_code
def yJ0_init : MethodName := ⟨RJ0, "<init>", "(I)V"⟩
def dkwJ0_init_2 : List UInt8 := [27, 182, 0, 27, 42, 4, 181, 0, 24, 177]
abbrev dktJ0_init_2 : List UInt8 := dkwJ0_init_2 ++ []
def dkwJ0_init_1 : List UInt8 := [187, 0, 33, 89, 183, 0, 35, 18, 36, 182, 0, 38, 27, 182, 0, 42, 182, 0, 45, 183, 0, 49, 191, 42]
abbrev dktJ0_init_1 : List UInt8 := dkwJ0_init_1 ++ dktJ0_init_2
def dkwJ0_init_0 : List UInt8 := [42, 183, 0, 21, 42, 3, 181, 0, 7, 42, 3, 181, 0, 24, 27, 156, 0, 30, 187, 0, 31, 89]
abbrev dktJ0_init_0 : List UInt8 := dkwJ0_init_0 ++ dktJ0_init_1
theorem dksJ0_init_0 : cJ0_init.data.toList.drop 0 = dktJ0_init_0 := by decide +kernel
theorem dksJ0_init_1 : cJ0_init.data.toList.drop 22 = dktJ0_init_1 := dk_seg dksJ0_init_0 22 rfl rfl
theorem dksJ0_init_2 : cJ0_init.data.toList.drop 46 = dktJ0_init_2 := dk_seg dksJ0_init_1 24 rfl rfl
theorem dJ0_init_0 : decode cJ0_init 0 = .ok (.aload_n 0, 1) := dk_42 (dk_at dksJ0_init_0 0 rfl rfl)
theorem dJ0_init_1 : decode cJ0_init 1 = .ok (.invokespecial 21, 3) := dk_183 0 21 (dk_at dksJ0_init_0 1 rfl rfl)
theorem dJ0_init_4 : decode cJ0_init 4 = .ok (.aload_n 0, 1) := dk_42 (dk_at dksJ0_init_0 4 rfl rfl)
theorem dJ0_init_5 : decode cJ0_init 5 = .ok (.iconst 0, 1) := dk_3 (dk_at dksJ0_init_0 5 rfl rfl)
theorem dJ0_init_6 : decode cJ0_init 6 = .ok (.putfield 7, 3) := dk_181 0 7 (dk_at dksJ0_init_0 6 rfl rfl)
theorem dJ0_init_9 : decode cJ0_init 9 = .ok (.aload_n 0, 1) := dk_42 (dk_at dksJ0_init_0 9 rfl rfl)
theorem dJ0_init_10 : decode cJ0_init 10 = .ok (.iconst 0, 1) := dk_3 (dk_at dksJ0_init_0 10 rfl rfl)
theorem dJ0_init_11 : decode cJ0_init 11 = .ok (.putfield 24, 3) := dk_181 0 24 (dk_at dksJ0_init_0 11 rfl rfl)
theorem dJ0_init_14 : decode cJ0_init 14 = .ok (.iload_n 1, 1) := dk_27 (dk_at dksJ0_init_0 14 rfl rfl)
theorem dJ0_init_15 : decode cJ0_init 15 = .ok (.ifCond .ge 30, 3) := dk_156 0 30 (dk_at dksJ0_init_0 15 rfl rfl)
theorem dJ0_init_18 : decode cJ0_init 18 = .ok (.new 31, 3) := dk_187 0 31 (dk_at dksJ0_init_0 18 rfl rfl)
theorem dJ0_init_21 : decode cJ0_init 21 = .ok (.dup, 1) := dk_89 (dk_at dksJ0_init_0 21 rfl rfl)
theorem dJ0_init_22 : decode cJ0_init 22 = .ok (.new 33, 3) := dk_187 0 33 (dk_at dksJ0_init_1 0 rfl rfl)
theorem dJ0_init_25 : decode cJ0_init 25 = .ok (.dup, 1) := dk_89 (dk_at dksJ0_init_1 3 rfl rfl)
theorem dJ0_init_26 : decode cJ0_init 26 = .ok (.invokespecial 35, 3) := dk_183 0 35 (dk_at dksJ0_init_1 4 rfl rfl)
theorem dJ0_init_29 : decode cJ0_init 29 = .ok (.ldc 36, 2) := dk_18 36 (dk_at dksJ0_init_1 7 rfl rfl)
theorem dJ0_init_31 : decode cJ0_init 31 = .ok (.invokevirtual 38, 3) := dk_182 0 38 (dk_at dksJ0_init_1 9 rfl rfl)
theorem dJ0_init_34 : decode cJ0_init 34 = .ok (.iload_n 1, 1) := dk_27 (dk_at dksJ0_init_1 12 rfl rfl)
theorem dJ0_init_35 : decode cJ0_init 35 = .ok (.invokevirtual 42, 3) := dk_182 0 42 (dk_at dksJ0_init_1 13 rfl rfl)
theorem dJ0_init_38 : decode cJ0_init 38 = .ok (.invokevirtual 45, 3) := dk_182 0 45 (dk_at dksJ0_init_1 16 rfl rfl)
theorem dJ0_init_41 : decode cJ0_init 41 = .ok (.invokespecial 49, 3) := dk_183 0 49 (dk_at dksJ0_init_1 19 rfl rfl)
theorem dJ0_init_44 : decode cJ0_init 44 = .ok (.athrow, 1) := dk_191 (dk_at dksJ0_init_1 22 rfl rfl)
theorem dJ0_init_45 : decode cJ0_init 45 = .ok (.aload_n 0, 1) := dk_42 (dk_at dksJ0_init_1 23 rfl rfl)
theorem dJ0_init_46 : decode cJ0_init 46 = .ok (.iload_n 1, 1) := dk_27 (dk_at dksJ0_init_2 0 rfl rfl)
theorem dJ0_init_47 : decode cJ0_init 47 = .ok (.invokevirtual 27, 3) := dk_182 0 27 (dk_at dksJ0_init_2 1 rfl rfl)
theorem dJ0_init_50 : decode cJ0_init 50 = .ok (.aload_n 0, 1) := dk_42 (dk_at dksJ0_init_2 4 rfl rfl)
theorem dJ0_init_51 : decode cJ0_init 51 = .ok (.iconst 1, 1) := dk_4 (dk_at dksJ0_init_2 5 rfl rfl)
theorem dJ0_init_52 : decode cJ0_init 52 = .ok (.putfield 24, 3) := dk_181 0 24 (dk_at dksJ0_init_2 6 rfl rfl)
theorem dJ0_init_55 : decode cJ0_init 55 = .ok (.return_, 1) := dk_177 (dk_at dksJ0_init_2 9 rfl rfl)
abbrev cJ0_initWords : ByteArray := prog_74_method_6_code
def yJ0_initWords : MethodName := ⟨RJ0, "initWords", "(I)V"⟩
def dkwJ0_initWords_0 : List UInt8 := [42, 27, 4, 100, 184, 0, 52, 4, 96, 188, 11, 181, 0, 11, 177]
abbrev dktJ0_initWords_0 : List UInt8 := dkwJ0_initWords_0 ++ []
theorem dksJ0_initWords_0 : cJ0_initWords.data.toList.drop 0 = dktJ0_initWords_0 := by decide +kernel
theorem dJ0_initWords_0 : decode cJ0_initWords 0 = .ok (.aload_n 0, 1) := dk_42 (dk_at dksJ0_initWords_0 0 rfl rfl)
theorem dJ0_initWords_1 : decode cJ0_initWords 1 = .ok (.iload_n 1, 1) := dk_27 (dk_at dksJ0_initWords_0 1 rfl rfl)
theorem dJ0_initWords_2 : decode cJ0_initWords 2 = .ok (.iconst 1, 1) := dk_4 (dk_at dksJ0_initWords_0 2 rfl rfl)
theorem dJ0_initWords_3 : decode cJ0_initWords 3 = .ok (.isub, 1) := dk_100 (dk_at dksJ0_initWords_0 3 rfl rfl)
theorem dJ0_initWords_4 : decode cJ0_initWords 4 = .ok (.invokestatic 52, 3) := dk_184 0 52 (dk_at dksJ0_initWords_0 4 rfl rfl)
theorem dJ0_initWords_7 : decode cJ0_initWords 7 = .ok (.iconst 1, 1) := dk_4 (dk_at dksJ0_initWords_0 7 rfl rfl)
theorem dJ0_initWords_8 : decode cJ0_initWords 8 = .ok (.iadd, 1) := dk_96 (dk_at dksJ0_initWords_0 8 rfl rfl)
theorem dJ0_initWords_9 : decode cJ0_initWords 9 = .ok (.newarray .long, 2) := dk_188_11 (dk_at dksJ0_initWords_0 9 rfl rfl)
theorem dJ0_initWords_11 : decode cJ0_initWords 11 = .ok (.putfield 11, 3) := dk_181 0 11 (dk_at dksJ0_initWords_0 11 rfl rfl)
theorem dJ0_initWords_14 : decode cJ0_initWords 14 = .ok (.return_, 1) := dk_177 (dk_at dksJ0_initWords_0 14 rfl rfl)
abbrev cJ0_wordIndex : ByteArray := prog_74_method_1_code
def yJ0_wordIndex : MethodName := ⟨RJ0, "wordIndex", "(I)I"⟩
def dkwJ0_wordIndex_0 : List UInt8 := [26, 16, 6, 122, 172]
abbrev dktJ0_wordIndex_0 : List UInt8 := dkwJ0_wordIndex_0 ++ []
theorem dksJ0_wordIndex_0 : cJ0_wordIndex.data.toList.drop 0 = dktJ0_wordIndex_0 := by decide +kernel
theorem dJ0_wordIndex_0 : decode cJ0_wordIndex 0 = .ok (.iload_n 0, 1) := dk_26 (dk_at dksJ0_wordIndex_0 0 rfl rfl)
theorem dJ0_wordIndex_1 : decode cJ0_wordIndex 1 = .ok (.bipush 6, 2) := dk_16 6 (dk_at dksJ0_wordIndex_0 1 rfl rfl)
theorem dJ0_wordIndex_3 : decode cJ0_wordIndex 3 = .ok (.ishr, 1) := dk_122 (dk_at dksJ0_wordIndex_0 3 rfl rfl)
theorem dJ0_wordIndex_4 : decode cJ0_wordIndex 4 = .ok (.ireturn, 1) := dk_172 (dk_at dksJ0_wordIndex_0 4 rfl rfl)
abbrev cJ0_get : ByteArray := prog_74_method_26_code
def yJ0_get : MethodName := ⟨RJ0, "get", "(I)Z"⟩
def dkwJ0_get_2 : List UInt8 := [42, 180, 0, 11, 28, 47, 10, 27, 121, 127, 9, 148, 153, 0, 7, 4, 167, 0, 4, 3, 172]
abbrev dktJ0_get_2 : List UInt8 := dkwJ0_get_2 ++ []
def dkwJ0_get_1 : List UInt8 := [182, 0, 45, 183, 0, 146, 191, 42, 182, 0, 56, 27, 184, 0, 52, 61, 28, 42, 180, 0, 7, 162, 0, 22]
abbrev dktJ0_get_1 : List UInt8 := dkwJ0_get_1 ++ dktJ0_get_2
def dkwJ0_get_0 : List UInt8 := [27, 156, 0, 30, 187, 0, 142, 89, 187, 0, 33, 89, 183, 0, 35, 18, 153, 182, 0, 38, 27, 182, 0, 42]
abbrev dktJ0_get_0 : List UInt8 := dkwJ0_get_0 ++ dktJ0_get_1
theorem dksJ0_get_0 : cJ0_get.data.toList.drop 0 = dktJ0_get_0 := by decide +kernel
theorem dksJ0_get_1 : cJ0_get.data.toList.drop 24 = dktJ0_get_1 := dk_seg dksJ0_get_0 24 rfl rfl
theorem dksJ0_get_2 : cJ0_get.data.toList.drop 48 = dktJ0_get_2 := dk_seg dksJ0_get_1 24 rfl rfl
theorem dJ0_get_0 : decode cJ0_get 0 = .ok (.iload_n 1, 1) := dk_27 (dk_at dksJ0_get_0 0 rfl rfl)
theorem dJ0_get_1 : decode cJ0_get 1 = .ok (.ifCond .ge 30, 3) := dk_156 0 30 (dk_at dksJ0_get_0 1 rfl rfl)
theorem dJ0_get_4 : decode cJ0_get 4 = .ok (.new 142, 3) := dk_187 0 142 (dk_at dksJ0_get_0 4 rfl rfl)
theorem dJ0_get_7 : decode cJ0_get 7 = .ok (.dup, 1) := dk_89 (dk_at dksJ0_get_0 7 rfl rfl)
theorem dJ0_get_8 : decode cJ0_get 8 = .ok (.new 33, 3) := dk_187 0 33 (dk_at dksJ0_get_0 8 rfl rfl)
theorem dJ0_get_11 : decode cJ0_get 11 = .ok (.dup, 1) := dk_89 (dk_at dksJ0_get_0 11 rfl rfl)
theorem dJ0_get_12 : decode cJ0_get 12 = .ok (.invokespecial 35, 3) := dk_183 0 35 (dk_at dksJ0_get_0 12 rfl rfl)
theorem dJ0_get_15 : decode cJ0_get 15 = .ok (.ldc 153, 2) := dk_18 153 (dk_at dksJ0_get_0 15 rfl rfl)
theorem dJ0_get_17 : decode cJ0_get 17 = .ok (.invokevirtual 38, 3) := dk_182 0 38 (dk_at dksJ0_get_0 17 rfl rfl)
theorem dJ0_get_20 : decode cJ0_get 20 = .ok (.iload_n 1, 1) := dk_27 (dk_at dksJ0_get_0 20 rfl rfl)
theorem dJ0_get_21 : decode cJ0_get 21 = .ok (.invokevirtual 42, 3) := dk_182 0 42 (dk_at dksJ0_get_0 21 rfl rfl)
theorem dJ0_get_24 : decode cJ0_get 24 = .ok (.invokevirtual 45, 3) := dk_182 0 45 (dk_at dksJ0_get_1 0 rfl rfl)
theorem dJ0_get_27 : decode cJ0_get 27 = .ok (.invokespecial 146, 3) := dk_183 0 146 (dk_at dksJ0_get_1 3 rfl rfl)
theorem dJ0_get_30 : decode cJ0_get 30 = .ok (.athrow, 1) := dk_191 (dk_at dksJ0_get_1 6 rfl rfl)
theorem dJ0_get_31 : decode cJ0_get 31 = .ok (.aload_n 0, 1) := dk_42 (dk_at dksJ0_get_1 7 rfl rfl)
theorem dJ0_get_32 : decode cJ0_get 32 = .ok (.invokevirtual 56, 3) := dk_182 0 56 (dk_at dksJ0_get_1 8 rfl rfl)
theorem dJ0_get_35 : decode cJ0_get 35 = .ok (.iload_n 1, 1) := dk_27 (dk_at dksJ0_get_1 11 rfl rfl)
theorem dJ0_get_36 : decode cJ0_get 36 = .ok (.invokestatic 52, 3) := dk_184 0 52 (dk_at dksJ0_get_1 12 rfl rfl)
theorem dJ0_get_39 : decode cJ0_get 39 = .ok (.istore_n 2, 1) := dk_61 (dk_at dksJ0_get_1 15 rfl rfl)
theorem dJ0_get_40 : decode cJ0_get 40 = .ok (.iload_n 2, 1) := dk_28 (dk_at dksJ0_get_1 16 rfl rfl)
theorem dJ0_get_41 : decode cJ0_get 41 = .ok (.aload_n 0, 1) := dk_42 (dk_at dksJ0_get_1 17 rfl rfl)
theorem dJ0_get_42 : decode cJ0_get 42 = .ok (.getfield 7, 3) := dk_180 0 7 (dk_at dksJ0_get_1 18 rfl rfl)
theorem dJ0_get_45 : decode cJ0_get 45 = .ok (.if_icmp .ge 22, 3) := dk_162 0 22 (dk_at dksJ0_get_1 21 rfl rfl)
theorem dJ0_get_48 : decode cJ0_get 48 = .ok (.aload_n 0, 1) := dk_42 (dk_at dksJ0_get_2 0 rfl rfl)
theorem dJ0_get_49 : decode cJ0_get 49 = .ok (.getfield 11, 3) := dk_180 0 11 (dk_at dksJ0_get_2 1 rfl rfl)
theorem dJ0_get_52 : decode cJ0_get 52 = .ok (.iload_n 2, 1) := dk_28 (dk_at dksJ0_get_2 4 rfl rfl)
theorem dJ0_get_53 : decode cJ0_get 53 = .ok (.laload, 1) := dk_47 (dk_at dksJ0_get_2 5 rfl rfl)
theorem dJ0_get_54 : decode cJ0_get 54 = .ok (.lconst 1, 1) := dk_10 (dk_at dksJ0_get_2 6 rfl rfl)
theorem dJ0_get_55 : decode cJ0_get 55 = .ok (.iload_n 1, 1) := dk_27 (dk_at dksJ0_get_2 7 rfl rfl)
theorem dJ0_get_56 : decode cJ0_get 56 = .ok (.lshl, 1) := dk_121 (dk_at dksJ0_get_2 8 rfl rfl)
theorem dJ0_get_57 : decode cJ0_get 57 = .ok (.land, 1) := dk_127 (dk_at dksJ0_get_2 9 rfl rfl)
theorem dJ0_get_58 : decode cJ0_get 58 = .ok (.lconst 0, 1) := dk_9 (dk_at dksJ0_get_2 10 rfl rfl)
theorem dJ0_get_59 : decode cJ0_get 59 = .ok (.lcmp, 1) := dk_148 (dk_at dksJ0_get_2 11 rfl rfl)
theorem dJ0_get_60 : decode cJ0_get 60 = .ok (.ifCond .eq 7, 3) := dk_153 0 7 (dk_at dksJ0_get_2 12 rfl rfl)
theorem dJ0_get_63 : decode cJ0_get 63 = .ok (.iconst 1, 1) := dk_4 (dk_at dksJ0_get_2 15 rfl rfl)
theorem dJ0_get_64 : decode cJ0_get 64 = .ok (.goto 4, 3) := dk_167 0 4 (dk_at dksJ0_get_2 16 rfl rfl)
theorem dJ0_get_67 : decode cJ0_get 67 = .ok (.iconst 0, 1) := dk_3 (dk_at dksJ0_get_2 19 rfl rfl)
theorem dJ0_get_68 : decode cJ0_get 68 = .ok (.ireturn, 1) := dk_172 (dk_at dksJ0_get_2 20 rfl rfl)
abbrev cJ0_checkInvariants : ByteArray := prog_74_method_2_code
def yJ0_checkInvariants : MethodName := ⟨RJ0, "checkInvariants", "()V"⟩
def dkwJ0_checkInvariants_4 : List UInt8 := [180, 0, 7, 47, 9, 148, 153, 0, 11, 187, 0, 15, 89, 183, 0, 17, 191, 177]
abbrev dktJ0_checkInvariants_4 : List UInt8 := dkwJ0_checkInvariants_4 ++ []
def dkwJ0_checkInvariants_3 : List UInt8 := [178, 0, 3, 154, 0, 37, 42, 180, 0, 7, 42, 180, 0, 11, 190, 159, 0, 25, 42, 180, 0, 11, 42]
abbrev dktJ0_checkInvariants_3 : List UInt8 := dkwJ0_checkInvariants_3 ++ dktJ0_checkInvariants_4
def dkwJ0_checkInvariants_2 : List UInt8 := [155, 0, 15, 42, 180, 0, 7, 42, 180, 0, 11, 190, 164, 0, 11, 187, 0, 15, 89, 183, 0, 17, 191]
abbrev dktJ0_checkInvariants_2 : List UInt8 := dkwJ0_checkInvariants_2 ++ dktJ0_checkInvariants_3
def dkwJ0_checkInvariants_1 : List UInt8 := [9, 148, 154, 0, 11, 187, 0, 15, 89, 183, 0, 17, 191, 178, 0, 3, 154, 0, 30, 42, 180, 0, 7]
abbrev dktJ0_checkInvariants_1 : List UInt8 := dkwJ0_checkInvariants_1 ++ dktJ0_checkInvariants_2
def dkwJ0_checkInvariants_0 : List UInt8 := [178, 0, 3, 154, 0, 34, 42, 180, 0, 7, 153, 0, 27, 42, 180, 0, 11, 42, 180, 0, 7, 4, 100, 47]
abbrev dktJ0_checkInvariants_0 : List UInt8 := dkwJ0_checkInvariants_0 ++ dktJ0_checkInvariants_1
theorem dksJ0_checkInvariants_0 : cJ0_checkInvariants.data.toList.drop 0 = dktJ0_checkInvariants_0 := by decide +kernel
theorem dksJ0_checkInvariants_1 : cJ0_checkInvariants.data.toList.drop 24 = dktJ0_checkInvariants_1 := dk_seg dksJ0_checkInvariants_0 24 rfl rfl
theorem dksJ0_checkInvariants_2 : cJ0_checkInvariants.data.toList.drop 47 = dktJ0_checkInvariants_2 := dk_seg dksJ0_checkInvariants_1 23 rfl rfl
theorem dksJ0_checkInvariants_3 : cJ0_checkInvariants.data.toList.drop 70 = dktJ0_checkInvariants_3 := dk_seg dksJ0_checkInvariants_2 23 rfl rfl
theorem dksJ0_checkInvariants_4 : cJ0_checkInvariants.data.toList.drop 93 = dktJ0_checkInvariants_4 := dk_seg dksJ0_checkInvariants_3 23 rfl rfl
theorem dJ0_checkInvariants_0 : decode cJ0_checkInvariants 0 = .ok (.getstatic 3, 3) := dk_178 0 3 (dk_at dksJ0_checkInvariants_0 0 rfl rfl)
theorem dJ0_checkInvariants_3 : decode cJ0_checkInvariants 3 = .ok (.ifCond .ne 34, 3) := dk_154 0 34 (dk_at dksJ0_checkInvariants_0 3 rfl rfl)
theorem dJ0_checkInvariants_6 : decode cJ0_checkInvariants 6 = .ok (.aload_n 0, 1) := dk_42 (dk_at dksJ0_checkInvariants_0 6 rfl rfl)
theorem dJ0_checkInvariants_7 : decode cJ0_checkInvariants 7 = .ok (.getfield 7, 3) := dk_180 0 7 (dk_at dksJ0_checkInvariants_0 7 rfl rfl)
theorem dJ0_checkInvariants_10 : decode cJ0_checkInvariants 10 = .ok (.ifCond .eq 27, 3) := dk_153 0 27 (dk_at dksJ0_checkInvariants_0 10 rfl rfl)
theorem dJ0_checkInvariants_13 : decode cJ0_checkInvariants 13 = .ok (.aload_n 0, 1) := dk_42 (dk_at dksJ0_checkInvariants_0 13 rfl rfl)
theorem dJ0_checkInvariants_14 : decode cJ0_checkInvariants 14 = .ok (.getfield 11, 3) := dk_180 0 11 (dk_at dksJ0_checkInvariants_0 14 rfl rfl)
theorem dJ0_checkInvariants_17 : decode cJ0_checkInvariants 17 = .ok (.aload_n 0, 1) := dk_42 (dk_at dksJ0_checkInvariants_0 17 rfl rfl)
theorem dJ0_checkInvariants_18 : decode cJ0_checkInvariants 18 = .ok (.getfield 7, 3) := dk_180 0 7 (dk_at dksJ0_checkInvariants_0 18 rfl rfl)
theorem dJ0_checkInvariants_21 : decode cJ0_checkInvariants 21 = .ok (.iconst 1, 1) := dk_4 (dk_at dksJ0_checkInvariants_0 21 rfl rfl)
theorem dJ0_checkInvariants_22 : decode cJ0_checkInvariants 22 = .ok (.isub, 1) := dk_100 (dk_at dksJ0_checkInvariants_0 22 rfl rfl)
theorem dJ0_checkInvariants_23 : decode cJ0_checkInvariants 23 = .ok (.laload, 1) := dk_47 (dk_at dksJ0_checkInvariants_0 23 rfl rfl)
theorem dJ0_checkInvariants_24 : decode cJ0_checkInvariants 24 = .ok (.lconst 0, 1) := dk_9 (dk_at dksJ0_checkInvariants_1 0 rfl rfl)
theorem dJ0_checkInvariants_25 : decode cJ0_checkInvariants 25 = .ok (.lcmp, 1) := dk_148 (dk_at dksJ0_checkInvariants_1 1 rfl rfl)
theorem dJ0_checkInvariants_26 : decode cJ0_checkInvariants 26 = .ok (.ifCond .ne 11, 3) := dk_154 0 11 (dk_at dksJ0_checkInvariants_1 2 rfl rfl)
theorem dJ0_checkInvariants_29 : decode cJ0_checkInvariants 29 = .ok (.new 15, 3) := dk_187 0 15 (dk_at dksJ0_checkInvariants_1 5 rfl rfl)
theorem dJ0_checkInvariants_32 : decode cJ0_checkInvariants 32 = .ok (.dup, 1) := dk_89 (dk_at dksJ0_checkInvariants_1 8 rfl rfl)
theorem dJ0_checkInvariants_33 : decode cJ0_checkInvariants 33 = .ok (.invokespecial 17, 3) := dk_183 0 17 (dk_at dksJ0_checkInvariants_1 9 rfl rfl)
theorem dJ0_checkInvariants_36 : decode cJ0_checkInvariants 36 = .ok (.athrow, 1) := dk_191 (dk_at dksJ0_checkInvariants_1 12 rfl rfl)
theorem dJ0_checkInvariants_37 : decode cJ0_checkInvariants 37 = .ok (.getstatic 3, 3) := dk_178 0 3 (dk_at dksJ0_checkInvariants_1 13 rfl rfl)
theorem dJ0_checkInvariants_40 : decode cJ0_checkInvariants 40 = .ok (.ifCond .ne 30, 3) := dk_154 0 30 (dk_at dksJ0_checkInvariants_1 16 rfl rfl)
theorem dJ0_checkInvariants_43 : decode cJ0_checkInvariants 43 = .ok (.aload_n 0, 1) := dk_42 (dk_at dksJ0_checkInvariants_1 19 rfl rfl)
theorem dJ0_checkInvariants_44 : decode cJ0_checkInvariants 44 = .ok (.getfield 7, 3) := dk_180 0 7 (dk_at dksJ0_checkInvariants_1 20 rfl rfl)
theorem dJ0_checkInvariants_47 : decode cJ0_checkInvariants 47 = .ok (.ifCond .lt 15, 3) := dk_155 0 15 (dk_at dksJ0_checkInvariants_2 0 rfl rfl)
theorem dJ0_checkInvariants_50 : decode cJ0_checkInvariants 50 = .ok (.aload_n 0, 1) := dk_42 (dk_at dksJ0_checkInvariants_2 3 rfl rfl)
theorem dJ0_checkInvariants_51 : decode cJ0_checkInvariants 51 = .ok (.getfield 7, 3) := dk_180 0 7 (dk_at dksJ0_checkInvariants_2 4 rfl rfl)
theorem dJ0_checkInvariants_54 : decode cJ0_checkInvariants 54 = .ok (.aload_n 0, 1) := dk_42 (dk_at dksJ0_checkInvariants_2 7 rfl rfl)
theorem dJ0_checkInvariants_55 : decode cJ0_checkInvariants 55 = .ok (.getfield 11, 3) := dk_180 0 11 (dk_at dksJ0_checkInvariants_2 8 rfl rfl)
theorem dJ0_checkInvariants_58 : decode cJ0_checkInvariants 58 = .ok (.arraylength, 1) := dk_190 (dk_at dksJ0_checkInvariants_2 11 rfl rfl)
theorem dJ0_checkInvariants_59 : decode cJ0_checkInvariants 59 = .ok (.if_icmp .le 11, 3) := dk_164 0 11 (dk_at dksJ0_checkInvariants_2 12 rfl rfl)
theorem dJ0_checkInvariants_62 : decode cJ0_checkInvariants 62 = .ok (.new 15, 3) := dk_187 0 15 (dk_at dksJ0_checkInvariants_2 15 rfl rfl)
theorem dJ0_checkInvariants_65 : decode cJ0_checkInvariants 65 = .ok (.dup, 1) := dk_89 (dk_at dksJ0_checkInvariants_2 18 rfl rfl)
theorem dJ0_checkInvariants_66 : decode cJ0_checkInvariants 66 = .ok (.invokespecial 17, 3) := dk_183 0 17 (dk_at dksJ0_checkInvariants_2 19 rfl rfl)
theorem dJ0_checkInvariants_69 : decode cJ0_checkInvariants 69 = .ok (.athrow, 1) := dk_191 (dk_at dksJ0_checkInvariants_2 22 rfl rfl)
theorem dJ0_checkInvariants_70 : decode cJ0_checkInvariants 70 = .ok (.getstatic 3, 3) := dk_178 0 3 (dk_at dksJ0_checkInvariants_3 0 rfl rfl)
theorem dJ0_checkInvariants_73 : decode cJ0_checkInvariants 73 = .ok (.ifCond .ne 37, 3) := dk_154 0 37 (dk_at dksJ0_checkInvariants_3 3 rfl rfl)
theorem dJ0_checkInvariants_76 : decode cJ0_checkInvariants 76 = .ok (.aload_n 0, 1) := dk_42 (dk_at dksJ0_checkInvariants_3 6 rfl rfl)
theorem dJ0_checkInvariants_77 : decode cJ0_checkInvariants 77 = .ok (.getfield 7, 3) := dk_180 0 7 (dk_at dksJ0_checkInvariants_3 7 rfl rfl)
theorem dJ0_checkInvariants_80 : decode cJ0_checkInvariants 80 = .ok (.aload_n 0, 1) := dk_42 (dk_at dksJ0_checkInvariants_3 10 rfl rfl)
theorem dJ0_checkInvariants_81 : decode cJ0_checkInvariants 81 = .ok (.getfield 11, 3) := dk_180 0 11 (dk_at dksJ0_checkInvariants_3 11 rfl rfl)
theorem dJ0_checkInvariants_84 : decode cJ0_checkInvariants 84 = .ok (.arraylength, 1) := dk_190 (dk_at dksJ0_checkInvariants_3 14 rfl rfl)
theorem dJ0_checkInvariants_85 : decode cJ0_checkInvariants 85 = .ok (.if_icmp .eq 25, 3) := dk_159 0 25 (dk_at dksJ0_checkInvariants_3 15 rfl rfl)
theorem dJ0_checkInvariants_88 : decode cJ0_checkInvariants 88 = .ok (.aload_n 0, 1) := dk_42 (dk_at dksJ0_checkInvariants_3 18 rfl rfl)
theorem dJ0_checkInvariants_89 : decode cJ0_checkInvariants 89 = .ok (.getfield 11, 3) := dk_180 0 11 (dk_at dksJ0_checkInvariants_3 19 rfl rfl)
theorem dJ0_checkInvariants_92 : decode cJ0_checkInvariants 92 = .ok (.aload_n 0, 1) := dk_42 (dk_at dksJ0_checkInvariants_3 22 rfl rfl)
theorem dJ0_checkInvariants_93 : decode cJ0_checkInvariants 93 = .ok (.getfield 7, 3) := dk_180 0 7 (dk_at dksJ0_checkInvariants_4 0 rfl rfl)
theorem dJ0_checkInvariants_96 : decode cJ0_checkInvariants 96 = .ok (.laload, 1) := dk_47 (dk_at dksJ0_checkInvariants_4 3 rfl rfl)
theorem dJ0_checkInvariants_97 : decode cJ0_checkInvariants 97 = .ok (.lconst 0, 1) := dk_9 (dk_at dksJ0_checkInvariants_4 4 rfl rfl)
theorem dJ0_checkInvariants_98 : decode cJ0_checkInvariants 98 = .ok (.lcmp, 1) := dk_148 (dk_at dksJ0_checkInvariants_4 5 rfl rfl)
theorem dJ0_checkInvariants_99 : decode cJ0_checkInvariants 99 = .ok (.ifCond .eq 11, 3) := dk_153 0 11 (dk_at dksJ0_checkInvariants_4 6 rfl rfl)
theorem dJ0_checkInvariants_102 : decode cJ0_checkInvariants 102 = .ok (.new 15, 3) := dk_187 0 15 (dk_at dksJ0_checkInvariants_4 9 rfl rfl)
theorem dJ0_checkInvariants_105 : decode cJ0_checkInvariants 105 = .ok (.dup, 1) := dk_89 (dk_at dksJ0_checkInvariants_4 12 rfl rfl)
theorem dJ0_checkInvariants_106 : decode cJ0_checkInvariants 106 = .ok (.invokespecial 17, 3) := dk_183 0 17 (dk_at dksJ0_checkInvariants_4 13 rfl rfl)
theorem dJ0_checkInvariants_109 : decode cJ0_checkInvariants 109 = .ok (.athrow, 1) := dk_191 (dk_at dksJ0_checkInvariants_4 16 rfl rfl)
theorem dJ0_checkInvariants_110 : decode cJ0_checkInvariants 110 = .ok (.return_, 1) := dk_177 (dk_at dksJ0_checkInvariants_4 17 rfl rfl)
abbrev cJ0_clear : ByteArray := prog_74_method_25_code
def yJ0_clear : MethodName := ⟨RJ0, "clear", "()V"⟩
def dkwJ0_clear_1 : List UInt8 := [167, 255, 232, 177]
abbrev dktJ0_clear_1 : List UInt8 := dkwJ0_clear_1 ++ []
def dkwJ0_clear_0 : List UInt8 := [42, 180, 0, 7, 158, 0, 23, 42, 180, 0, 11, 42, 89, 180, 0, 7, 4, 100, 90, 181, 0, 7, 9, 80]
abbrev dktJ0_clear_0 : List UInt8 := dkwJ0_clear_0 ++ dktJ0_clear_1
theorem dksJ0_clear_0 : cJ0_clear.data.toList.drop 0 = dktJ0_clear_0 := by decide +kernel
theorem dksJ0_clear_1 : cJ0_clear.data.toList.drop 24 = dktJ0_clear_1 := dk_seg dksJ0_clear_0 24 rfl rfl
theorem dJ0_clear_0 : decode cJ0_clear 0 = .ok (.aload_n 0, 1) := dk_42 (dk_at dksJ0_clear_0 0 rfl rfl)
theorem dJ0_clear_1 : decode cJ0_clear 1 = .ok (.getfield 7, 3) := dk_180 0 7 (dk_at dksJ0_clear_0 1 rfl rfl)
theorem dJ0_clear_4 : decode cJ0_clear 4 = .ok (.ifCond .le 23, 3) := dk_158 0 23 (dk_at dksJ0_clear_0 4 rfl rfl)
theorem dJ0_clear_7 : decode cJ0_clear 7 = .ok (.aload_n 0, 1) := dk_42 (dk_at dksJ0_clear_0 7 rfl rfl)
theorem dJ0_clear_8 : decode cJ0_clear 8 = .ok (.getfield 11, 3) := dk_180 0 11 (dk_at dksJ0_clear_0 8 rfl rfl)
theorem dJ0_clear_11 : decode cJ0_clear 11 = .ok (.aload_n 0, 1) := dk_42 (dk_at dksJ0_clear_0 11 rfl rfl)
theorem dJ0_clear_12 : decode cJ0_clear 12 = .ok (.dup, 1) := dk_89 (dk_at dksJ0_clear_0 12 rfl rfl)
theorem dJ0_clear_13 : decode cJ0_clear 13 = .ok (.getfield 7, 3) := dk_180 0 7 (dk_at dksJ0_clear_0 13 rfl rfl)
theorem dJ0_clear_16 : decode cJ0_clear 16 = .ok (.iconst 1, 1) := dk_4 (dk_at dksJ0_clear_0 16 rfl rfl)
theorem dJ0_clear_17 : decode cJ0_clear 17 = .ok (.isub, 1) := dk_100 (dk_at dksJ0_clear_0 17 rfl rfl)
theorem dJ0_clear_18 : decode cJ0_clear 18 = .ok (.dup_x1, 1) := dk_90 (dk_at dksJ0_clear_0 18 rfl rfl)
theorem dJ0_clear_19 : decode cJ0_clear 19 = .ok (.putfield 7, 3) := dk_181 0 7 (dk_at dksJ0_clear_0 19 rfl rfl)
theorem dJ0_clear_22 : decode cJ0_clear 22 = .ok (.lconst 0, 1) := dk_9 (dk_at dksJ0_clear_0 22 rfl rfl)
theorem dJ0_clear_23 : decode cJ0_clear 23 = .ok (.lastore, 1) := dk_80 (dk_at dksJ0_clear_0 23 rfl rfl)
theorem dJ0_clear_24 : decode cJ0_clear 24 = .ok (.goto (-24), 3) := dk_167 255 232 (dk_at dksJ0_clear_1 0 rfl rfl)
theorem dJ0_clear_27 : decode cJ0_clear 27 = .ok (.return_, 1) := dk_177 (dk_at dksJ0_clear_1 3 rfl rfl)
abbrev cJ0_set : ByteArray := prog_74_method_19_code
def yJ0_set : MethodName := ⟨RJ0, "set", "(I)V"⟩
def dkwJ0_set_2 : List UInt8 := [10, 27, 121, 129, 80, 42, 182, 0, 56, 177]
abbrev dktJ0_set_2 : List UInt8 := dkwJ0_set_2 ++ []
def dkwJ0_set_1 : List UInt8 := [182, 0, 45, 183, 0, 146, 191, 27, 184, 0, 52, 61, 42, 28, 182, 0, 155, 42, 180, 0, 11, 28, 92, 47]
abbrev dktJ0_set_1 : List UInt8 := dkwJ0_set_1 ++ dktJ0_set_2
def dkwJ0_set_0 : List UInt8 := [27, 156, 0, 30, 187, 0, 142, 89, 187, 0, 33, 89, 183, 0, 35, 18, 153, 182, 0, 38, 27, 182, 0, 42]
abbrev dktJ0_set_0 : List UInt8 := dkwJ0_set_0 ++ dktJ0_set_1
theorem dksJ0_set_0 : cJ0_set.data.toList.drop 0 = dktJ0_set_0 := by decide +kernel
theorem dksJ0_set_1 : cJ0_set.data.toList.drop 24 = dktJ0_set_1 := dk_seg dksJ0_set_0 24 rfl rfl
theorem dksJ0_set_2 : cJ0_set.data.toList.drop 48 = dktJ0_set_2 := dk_seg dksJ0_set_1 24 rfl rfl
theorem dJ0_set_0 : decode cJ0_set 0 = .ok (.iload_n 1, 1) := dk_27 (dk_at dksJ0_set_0 0 rfl rfl)
theorem dJ0_set_1 : decode cJ0_set 1 = .ok (.ifCond .ge 30, 3) := dk_156 0 30 (dk_at dksJ0_set_0 1 rfl rfl)
theorem dJ0_set_4 : decode cJ0_set 4 = .ok (.new 142, 3) := dk_187 0 142 (dk_at dksJ0_set_0 4 rfl rfl)
theorem dJ0_set_7 : decode cJ0_set 7 = .ok (.dup, 1) := dk_89 (dk_at dksJ0_set_0 7 rfl rfl)
theorem dJ0_set_8 : decode cJ0_set 8 = .ok (.new 33, 3) := dk_187 0 33 (dk_at dksJ0_set_0 8 rfl rfl)
theorem dJ0_set_11 : decode cJ0_set 11 = .ok (.dup, 1) := dk_89 (dk_at dksJ0_set_0 11 rfl rfl)
theorem dJ0_set_12 : decode cJ0_set 12 = .ok (.invokespecial 35, 3) := dk_183 0 35 (dk_at dksJ0_set_0 12 rfl rfl)
theorem dJ0_set_15 : decode cJ0_set 15 = .ok (.ldc 153, 2) := dk_18 153 (dk_at dksJ0_set_0 15 rfl rfl)
theorem dJ0_set_17 : decode cJ0_set 17 = .ok (.invokevirtual 38, 3) := dk_182 0 38 (dk_at dksJ0_set_0 17 rfl rfl)
theorem dJ0_set_20 : decode cJ0_set 20 = .ok (.iload_n 1, 1) := dk_27 (dk_at dksJ0_set_0 20 rfl rfl)
theorem dJ0_set_21 : decode cJ0_set 21 = .ok (.invokevirtual 42, 3) := dk_182 0 42 (dk_at dksJ0_set_0 21 rfl rfl)
theorem dJ0_set_24 : decode cJ0_set 24 = .ok (.invokevirtual 45, 3) := dk_182 0 45 (dk_at dksJ0_set_1 0 rfl rfl)
theorem dJ0_set_27 : decode cJ0_set 27 = .ok (.invokespecial 146, 3) := dk_183 0 146 (dk_at dksJ0_set_1 3 rfl rfl)
theorem dJ0_set_30 : decode cJ0_set 30 = .ok (.athrow, 1) := dk_191 (dk_at dksJ0_set_1 6 rfl rfl)
theorem dJ0_set_31 : decode cJ0_set 31 = .ok (.iload_n 1, 1) := dk_27 (dk_at dksJ0_set_1 7 rfl rfl)
theorem dJ0_set_32 : decode cJ0_set 32 = .ok (.invokestatic 52, 3) := dk_184 0 52 (dk_at dksJ0_set_1 8 rfl rfl)
theorem dJ0_set_35 : decode cJ0_set 35 = .ok (.istore_n 2, 1) := dk_61 (dk_at dksJ0_set_1 11 rfl rfl)
theorem dJ0_set_36 : decode cJ0_set 36 = .ok (.aload_n 0, 1) := dk_42 (dk_at dksJ0_set_1 12 rfl rfl)
theorem dJ0_set_37 : decode cJ0_set 37 = .ok (.iload_n 2, 1) := dk_28 (dk_at dksJ0_set_1 13 rfl rfl)
theorem dJ0_set_38 : decode cJ0_set 38 = .ok (.invokevirtual 155, 3) := dk_182 0 155 (dk_at dksJ0_set_1 14 rfl rfl)
theorem dJ0_set_41 : decode cJ0_set 41 = .ok (.aload_n 0, 1) := dk_42 (dk_at dksJ0_set_1 17 rfl rfl)
theorem dJ0_set_42 : decode cJ0_set 42 = .ok (.getfield 11, 3) := dk_180 0 11 (dk_at dksJ0_set_1 18 rfl rfl)
theorem dJ0_set_45 : decode cJ0_set 45 = .ok (.iload_n 2, 1) := dk_28 (dk_at dksJ0_set_1 21 rfl rfl)
theorem dJ0_set_46 : decode cJ0_set 46 = .ok (.dup2, 1) := dk_92 (dk_at dksJ0_set_1 22 rfl rfl)
theorem dJ0_set_47 : decode cJ0_set 47 = .ok (.laload, 1) := dk_47 (dk_at dksJ0_set_1 23 rfl rfl)
theorem dJ0_set_48 : decode cJ0_set 48 = .ok (.lconst 1, 1) := dk_10 (dk_at dksJ0_set_2 0 rfl rfl)
theorem dJ0_set_49 : decode cJ0_set 49 = .ok (.iload_n 1, 1) := dk_27 (dk_at dksJ0_set_2 1 rfl rfl)
theorem dJ0_set_50 : decode cJ0_set 50 = .ok (.lshl, 1) := dk_121 (dk_at dksJ0_set_2 2 rfl rfl)
theorem dJ0_set_51 : decode cJ0_set 51 = .ok (.lor, 1) := dk_129 (dk_at dksJ0_set_2 3 rfl rfl)
theorem dJ0_set_52 : decode cJ0_set 52 = .ok (.lastore, 1) := dk_80 (dk_at dksJ0_set_2 4 rfl rfl)
theorem dJ0_set_53 : decode cJ0_set 53 = .ok (.aload_n 0, 1) := dk_42 (dk_at dksJ0_set_2 5 rfl rfl)
theorem dJ0_set_54 : decode cJ0_set 54 = .ok (.invokevirtual 56, 3) := dk_182 0 56 (dk_at dksJ0_set_2 6 rfl rfl)
theorem dJ0_set_57 : decode cJ0_set 57 = .ok (.return_, 1) := dk_177 (dk_at dksJ0_set_2 9 rfl rfl)
abbrev cJ0_expandTo : ByteArray := prog_74_method_15_code
def yJ0_expandTo : MethodName := ⟨RJ0, "expandTo", "(I)V"⟩
def dkwJ0_expandTo_0 : List UInt8 := [27, 4, 96, 61, 42, 180, 0, 7, 28, 162, 0, 13, 42, 28, 182, 0, 139, 42, 28, 181, 0, 7, 177]
abbrev dktJ0_expandTo_0 : List UInt8 := dkwJ0_expandTo_0 ++ []
theorem dksJ0_expandTo_0 : cJ0_expandTo.data.toList.drop 0 = dktJ0_expandTo_0 := by decide +kernel
theorem dJ0_expandTo_0 : decode cJ0_expandTo 0 = .ok (.iload_n 1, 1) := dk_27 (dk_at dksJ0_expandTo_0 0 rfl rfl)
theorem dJ0_expandTo_1 : decode cJ0_expandTo 1 = .ok (.iconst 1, 1) := dk_4 (dk_at dksJ0_expandTo_0 1 rfl rfl)
theorem dJ0_expandTo_2 : decode cJ0_expandTo 2 = .ok (.iadd, 1) := dk_96 (dk_at dksJ0_expandTo_0 2 rfl rfl)
theorem dJ0_expandTo_3 : decode cJ0_expandTo 3 = .ok (.istore_n 2, 1) := dk_61 (dk_at dksJ0_expandTo_0 3 rfl rfl)
theorem dJ0_expandTo_4 : decode cJ0_expandTo 4 = .ok (.aload_n 0, 1) := dk_42 (dk_at dksJ0_expandTo_0 4 rfl rfl)
theorem dJ0_expandTo_5 : decode cJ0_expandTo 5 = .ok (.getfield 7, 3) := dk_180 0 7 (dk_at dksJ0_expandTo_0 5 rfl rfl)
theorem dJ0_expandTo_8 : decode cJ0_expandTo 8 = .ok (.iload_n 2, 1) := dk_28 (dk_at dksJ0_expandTo_0 8 rfl rfl)
theorem dJ0_expandTo_9 : decode cJ0_expandTo 9 = .ok (.if_icmp .ge 13, 3) := dk_162 0 13 (dk_at dksJ0_expandTo_0 9 rfl rfl)
theorem dJ0_expandTo_12 : decode cJ0_expandTo 12 = .ok (.aload_n 0, 1) := dk_42 (dk_at dksJ0_expandTo_0 12 rfl rfl)
theorem dJ0_expandTo_13 : decode cJ0_expandTo 13 = .ok (.iload_n 2, 1) := dk_28 (dk_at dksJ0_expandTo_0 13 rfl rfl)
theorem dJ0_expandTo_14 : decode cJ0_expandTo 14 = .ok (.invokevirtual 139, 3) := dk_182 0 139 (dk_at dksJ0_expandTo_0 14 rfl rfl)
theorem dJ0_expandTo_17 : decode cJ0_expandTo 17 = .ok (.aload_n 0, 1) := dk_42 (dk_at dksJ0_expandTo_0 17 rfl rfl)
theorem dJ0_expandTo_18 : decode cJ0_expandTo 18 = .ok (.iload_n 2, 1) := dk_28 (dk_at dksJ0_expandTo_0 18 rfl rfl)
theorem dJ0_expandTo_19 : decode cJ0_expandTo 19 = .ok (.putfield 7, 3) := dk_181 0 7 (dk_at dksJ0_expandTo_0 19 rfl rfl)
theorem dJ0_expandTo_22 : decode cJ0_expandTo 22 = .ok (.return_, 1) := dk_177 (dk_at dksJ0_expandTo_0 22 rfl rfl)
abbrev cJ0_ensureCapacity : ByteArray := prog_74_method_14_code
def yJ0_ensureCapacity : MethodName := ⟨RJ0, "ensureCapacity", "(I)V"⟩
def dkwJ0_ensureCapacity_1 : List UInt8 := [180, 0, 11, 28, 184, 0, 59, 181, 0, 11, 42, 3, 181, 0, 24, 177]
abbrev dktJ0_ensureCapacity_1 : List UInt8 := dkwJ0_ensureCapacity_1 ++ []
def dkwJ0_ensureCapacity_0 : List UInt8 := [42, 180, 0, 11, 190, 27, 162, 0, 32, 5, 42, 180, 0, 11, 190, 104, 27, 184, 0, 133, 61, 42, 42]
abbrev dktJ0_ensureCapacity_0 : List UInt8 := dkwJ0_ensureCapacity_0 ++ dktJ0_ensureCapacity_1
theorem dksJ0_ensureCapacity_0 : cJ0_ensureCapacity.data.toList.drop 0 = dktJ0_ensureCapacity_0 := by decide +kernel
theorem dksJ0_ensureCapacity_1 : cJ0_ensureCapacity.data.toList.drop 23 = dktJ0_ensureCapacity_1 := dk_seg dksJ0_ensureCapacity_0 23 rfl rfl
theorem dJ0_ensureCapacity_0 : decode cJ0_ensureCapacity 0 = .ok (.aload_n 0, 1) := dk_42 (dk_at dksJ0_ensureCapacity_0 0 rfl rfl)
theorem dJ0_ensureCapacity_1 : decode cJ0_ensureCapacity 1 = .ok (.getfield 11, 3) := dk_180 0 11 (dk_at dksJ0_ensureCapacity_0 1 rfl rfl)
theorem dJ0_ensureCapacity_4 : decode cJ0_ensureCapacity 4 = .ok (.arraylength, 1) := dk_190 (dk_at dksJ0_ensureCapacity_0 4 rfl rfl)
theorem dJ0_ensureCapacity_5 : decode cJ0_ensureCapacity 5 = .ok (.iload_n 1, 1) := dk_27 (dk_at dksJ0_ensureCapacity_0 5 rfl rfl)
theorem dJ0_ensureCapacity_6 : decode cJ0_ensureCapacity 6 = .ok (.if_icmp .ge 32, 3) := dk_162 0 32 (dk_at dksJ0_ensureCapacity_0 6 rfl rfl)
theorem dJ0_ensureCapacity_9 : decode cJ0_ensureCapacity 9 = .ok (.iconst 2, 1) := dk_5 (dk_at dksJ0_ensureCapacity_0 9 rfl rfl)
theorem dJ0_ensureCapacity_10 : decode cJ0_ensureCapacity 10 = .ok (.aload_n 0, 1) := dk_42 (dk_at dksJ0_ensureCapacity_0 10 rfl rfl)
theorem dJ0_ensureCapacity_11 : decode cJ0_ensureCapacity 11 = .ok (.getfield 11, 3) := dk_180 0 11 (dk_at dksJ0_ensureCapacity_0 11 rfl rfl)
theorem dJ0_ensureCapacity_14 : decode cJ0_ensureCapacity 14 = .ok (.arraylength, 1) := dk_190 (dk_at dksJ0_ensureCapacity_0 14 rfl rfl)
theorem dJ0_ensureCapacity_15 : decode cJ0_ensureCapacity 15 = .ok (.imul, 1) := dk_104 (dk_at dksJ0_ensureCapacity_0 15 rfl rfl)
theorem dJ0_ensureCapacity_16 : decode cJ0_ensureCapacity 16 = .ok (.iload_n 1, 1) := dk_27 (dk_at dksJ0_ensureCapacity_0 16 rfl rfl)
theorem dJ0_ensureCapacity_17 : decode cJ0_ensureCapacity 17 = .ok (.invokestatic 133, 3) := dk_184 0 133 (dk_at dksJ0_ensureCapacity_0 17 rfl rfl)
theorem dJ0_ensureCapacity_20 : decode cJ0_ensureCapacity 20 = .ok (.istore_n 2, 1) := dk_61 (dk_at dksJ0_ensureCapacity_0 20 rfl rfl)
theorem dJ0_ensureCapacity_21 : decode cJ0_ensureCapacity 21 = .ok (.aload_n 0, 1) := dk_42 (dk_at dksJ0_ensureCapacity_0 21 rfl rfl)
theorem dJ0_ensureCapacity_22 : decode cJ0_ensureCapacity 22 = .ok (.aload_n 0, 1) := dk_42 (dk_at dksJ0_ensureCapacity_0 22 rfl rfl)
theorem dJ0_ensureCapacity_23 : decode cJ0_ensureCapacity 23 = .ok (.getfield 11, 3) := dk_180 0 11 (dk_at dksJ0_ensureCapacity_1 0 rfl rfl)
theorem dJ0_ensureCapacity_26 : decode cJ0_ensureCapacity 26 = .ok (.iload_n 2, 1) := dk_28 (dk_at dksJ0_ensureCapacity_1 3 rfl rfl)
theorem dJ0_ensureCapacity_27 : decode cJ0_ensureCapacity 27 = .ok (.invokestatic 59, 3) := dk_184 0 59 (dk_at dksJ0_ensureCapacity_1 4 rfl rfl)
theorem dJ0_ensureCapacity_30 : decode cJ0_ensureCapacity 30 = .ok (.putfield 11, 3) := dk_181 0 11 (dk_at dksJ0_ensureCapacity_1 7 rfl rfl)
theorem dJ0_ensureCapacity_33 : decode cJ0_ensureCapacity 33 = .ok (.aload_n 0, 1) := dk_42 (dk_at dksJ0_ensureCapacity_1 10 rfl rfl)
theorem dJ0_ensureCapacity_34 : decode cJ0_ensureCapacity 34 = .ok (.iconst 0, 1) := dk_3 (dk_at dksJ0_ensureCapacity_1 11 rfl rfl)
theorem dJ0_ensureCapacity_35 : decode cJ0_ensureCapacity 35 = .ok (.putfield 24, 3) := dk_181 0 24 (dk_at dksJ0_ensureCapacity_1 12 rfl rfl)
theorem dJ0_ensureCapacity_38 : decode cJ0_ensureCapacity 38 = .ok (.return_, 1) := dk_177 (dk_at dksJ0_ensureCapacity_1 15 rfl rfl)
abbrev cJ0_nextSetBit : ByteArray := prog_74_method_28_code
def yJ0_nextSetBit : MethodName := ⟨RJ0, "nextSetBit", "(I)I"⟩
def dkwJ0_nextSetBit_4 : List UInt8 := [28, 47, 66, 167, 255, 220]
abbrev dktJ0_nextSetBit_4 : List UInt8 := dkwJ0_nextSetBit_4 ++ []
def dkwJ0_nextSetBit_3 : List UInt8 := [104, 33, 184, 0, 182, 96, 172, 132, 2, 1, 28, 42, 180, 0, 7, 160, 0, 5, 2, 172, 42, 180, 0, 11]
abbrev dktJ0_nextSetBit_3 : List UInt8 := dkwJ0_nextSetBit_3 ++ dktJ0_nextSetBit_4
def dkwJ0_nextSetBit_2 : List UInt8 := [2, 172, 42, 180, 0, 11, 28, 47, 20, 0, 165, 27, 121, 127, 66, 33, 9, 148, 153, 0, 13, 28, 16, 64]
abbrev dktJ0_nextSetBit_2 : List UInt8 := dkwJ0_nextSetBit_2 ++ dktJ0_nextSetBit_3
def dkwJ0_nextSetBit_1 : List UInt8 := [182, 0, 45, 183, 0, 146, 191, 42, 182, 0, 56, 27, 184, 0, 52, 61, 28, 42, 180, 0, 7, 161, 0, 5]
abbrev dktJ0_nextSetBit_1 : List UInt8 := dkwJ0_nextSetBit_1 ++ dktJ0_nextSetBit_2
def dkwJ0_nextSetBit_0 : List UInt8 := [27, 156, 0, 30, 187, 0, 142, 89, 187, 0, 33, 89, 183, 0, 35, 18, 144, 182, 0, 38, 27, 182, 0, 42]
abbrev dktJ0_nextSetBit_0 : List UInt8 := dkwJ0_nextSetBit_0 ++ dktJ0_nextSetBit_1
theorem dksJ0_nextSetBit_0 : cJ0_nextSetBit.data.toList.drop 0 = dktJ0_nextSetBit_0 := by decide +kernel
theorem dksJ0_nextSetBit_1 : cJ0_nextSetBit.data.toList.drop 24 = dktJ0_nextSetBit_1 := dk_seg dksJ0_nextSetBit_0 24 rfl rfl
theorem dksJ0_nextSetBit_2 : cJ0_nextSetBit.data.toList.drop 48 = dktJ0_nextSetBit_2 := dk_seg dksJ0_nextSetBit_1 24 rfl rfl
theorem dksJ0_nextSetBit_3 : cJ0_nextSetBit.data.toList.drop 72 = dktJ0_nextSetBit_3 := dk_seg dksJ0_nextSetBit_2 24 rfl rfl
theorem dksJ0_nextSetBit_4 : cJ0_nextSetBit.data.toList.drop 96 = dktJ0_nextSetBit_4 := dk_seg dksJ0_nextSetBit_3 24 rfl rfl
theorem dJ0_nextSetBit_0 : decode cJ0_nextSetBit 0 = .ok (.iload_n 1, 1) := dk_27 (dk_at dksJ0_nextSetBit_0 0 rfl rfl)
theorem dJ0_nextSetBit_1 : decode cJ0_nextSetBit 1 = .ok (.ifCond .ge 30, 3) := dk_156 0 30 (dk_at dksJ0_nextSetBit_0 1 rfl rfl)
theorem dJ0_nextSetBit_4 : decode cJ0_nextSetBit 4 = .ok (.new 142, 3) := dk_187 0 142 (dk_at dksJ0_nextSetBit_0 4 rfl rfl)
theorem dJ0_nextSetBit_7 : decode cJ0_nextSetBit 7 = .ok (.dup, 1) := dk_89 (dk_at dksJ0_nextSetBit_0 7 rfl rfl)
theorem dJ0_nextSetBit_8 : decode cJ0_nextSetBit 8 = .ok (.new 33, 3) := dk_187 0 33 (dk_at dksJ0_nextSetBit_0 8 rfl rfl)
theorem dJ0_nextSetBit_11 : decode cJ0_nextSetBit 11 = .ok (.dup, 1) := dk_89 (dk_at dksJ0_nextSetBit_0 11 rfl rfl)
theorem dJ0_nextSetBit_12 : decode cJ0_nextSetBit 12 = .ok (.invokespecial 35, 3) := dk_183 0 35 (dk_at dksJ0_nextSetBit_0 12 rfl rfl)
theorem dJ0_nextSetBit_15 : decode cJ0_nextSetBit 15 = .ok (.ldc 144, 2) := dk_18 144 (dk_at dksJ0_nextSetBit_0 15 rfl rfl)
theorem dJ0_nextSetBit_17 : decode cJ0_nextSetBit 17 = .ok (.invokevirtual 38, 3) := dk_182 0 38 (dk_at dksJ0_nextSetBit_0 17 rfl rfl)
theorem dJ0_nextSetBit_20 : decode cJ0_nextSetBit 20 = .ok (.iload_n 1, 1) := dk_27 (dk_at dksJ0_nextSetBit_0 20 rfl rfl)
theorem dJ0_nextSetBit_21 : decode cJ0_nextSetBit 21 = .ok (.invokevirtual 42, 3) := dk_182 0 42 (dk_at dksJ0_nextSetBit_0 21 rfl rfl)
theorem dJ0_nextSetBit_24 : decode cJ0_nextSetBit 24 = .ok (.invokevirtual 45, 3) := dk_182 0 45 (dk_at dksJ0_nextSetBit_1 0 rfl rfl)
theorem dJ0_nextSetBit_27 : decode cJ0_nextSetBit 27 = .ok (.invokespecial 146, 3) := dk_183 0 146 (dk_at dksJ0_nextSetBit_1 3 rfl rfl)
theorem dJ0_nextSetBit_30 : decode cJ0_nextSetBit 30 = .ok (.athrow, 1) := dk_191 (dk_at dksJ0_nextSetBit_1 6 rfl rfl)
theorem dJ0_nextSetBit_31 : decode cJ0_nextSetBit 31 = .ok (.aload_n 0, 1) := dk_42 (dk_at dksJ0_nextSetBit_1 7 rfl rfl)
theorem dJ0_nextSetBit_32 : decode cJ0_nextSetBit 32 = .ok (.invokevirtual 56, 3) := dk_182 0 56 (dk_at dksJ0_nextSetBit_1 8 rfl rfl)
theorem dJ0_nextSetBit_35 : decode cJ0_nextSetBit 35 = .ok (.iload_n 1, 1) := dk_27 (dk_at dksJ0_nextSetBit_1 11 rfl rfl)
theorem dJ0_nextSetBit_36 : decode cJ0_nextSetBit 36 = .ok (.invokestatic 52, 3) := dk_184 0 52 (dk_at dksJ0_nextSetBit_1 12 rfl rfl)
theorem dJ0_nextSetBit_39 : decode cJ0_nextSetBit 39 = .ok (.istore_n 2, 1) := dk_61 (dk_at dksJ0_nextSetBit_1 15 rfl rfl)
theorem dJ0_nextSetBit_40 : decode cJ0_nextSetBit 40 = .ok (.iload_n 2, 1) := dk_28 (dk_at dksJ0_nextSetBit_1 16 rfl rfl)
theorem dJ0_nextSetBit_41 : decode cJ0_nextSetBit 41 = .ok (.aload_n 0, 1) := dk_42 (dk_at dksJ0_nextSetBit_1 17 rfl rfl)
theorem dJ0_nextSetBit_42 : decode cJ0_nextSetBit 42 = .ok (.getfield 7, 3) := dk_180 0 7 (dk_at dksJ0_nextSetBit_1 18 rfl rfl)
theorem dJ0_nextSetBit_45 : decode cJ0_nextSetBit 45 = .ok (.if_icmp .lt 5, 3) := dk_161 0 5 (dk_at dksJ0_nextSetBit_1 21 rfl rfl)
theorem dJ0_nextSetBit_48 : decode cJ0_nextSetBit 48 = .ok (.iconst (-1), 1) := dk_2 (dk_at dksJ0_nextSetBit_2 0 rfl rfl)
theorem dJ0_nextSetBit_49 : decode cJ0_nextSetBit 49 = .ok (.ireturn, 1) := dk_172 (dk_at dksJ0_nextSetBit_2 1 rfl rfl)
theorem dJ0_nextSetBit_50 : decode cJ0_nextSetBit 50 = .ok (.aload_n 0, 1) := dk_42 (dk_at dksJ0_nextSetBit_2 2 rfl rfl)
theorem dJ0_nextSetBit_51 : decode cJ0_nextSetBit 51 = .ok (.getfield 11, 3) := dk_180 0 11 (dk_at dksJ0_nextSetBit_2 3 rfl rfl)
theorem dJ0_nextSetBit_54 : decode cJ0_nextSetBit 54 = .ok (.iload_n 2, 1) := dk_28 (dk_at dksJ0_nextSetBit_2 6 rfl rfl)
theorem dJ0_nextSetBit_55 : decode cJ0_nextSetBit 55 = .ok (.laload, 1) := dk_47 (dk_at dksJ0_nextSetBit_2 7 rfl rfl)
theorem dJ0_nextSetBit_56 : decode cJ0_nextSetBit 56 = .ok (.ldc2_w 165, 3) := dk_20 0 165 (dk_at dksJ0_nextSetBit_2 8 rfl rfl)
theorem dJ0_nextSetBit_59 : decode cJ0_nextSetBit 59 = .ok (.iload_n 1, 1) := dk_27 (dk_at dksJ0_nextSetBit_2 11 rfl rfl)
theorem dJ0_nextSetBit_60 : decode cJ0_nextSetBit 60 = .ok (.lshl, 1) := dk_121 (dk_at dksJ0_nextSetBit_2 12 rfl rfl)
theorem dJ0_nextSetBit_61 : decode cJ0_nextSetBit 61 = .ok (.land, 1) := dk_127 (dk_at dksJ0_nextSetBit_2 13 rfl rfl)
theorem dJ0_nextSetBit_62 : decode cJ0_nextSetBit 62 = .ok (.lstore_n 3, 1) := dk_66 (dk_at dksJ0_nextSetBit_2 14 rfl rfl)
theorem dJ0_nextSetBit_63 : decode cJ0_nextSetBit 63 = .ok (.lload_n 3, 1) := dk_33 (dk_at dksJ0_nextSetBit_2 15 rfl rfl)
theorem dJ0_nextSetBit_64 : decode cJ0_nextSetBit 64 = .ok (.lconst 0, 1) := dk_9 (dk_at dksJ0_nextSetBit_2 16 rfl rfl)
theorem dJ0_nextSetBit_65 : decode cJ0_nextSetBit 65 = .ok (.lcmp, 1) := dk_148 (dk_at dksJ0_nextSetBit_2 17 rfl rfl)
theorem dJ0_nextSetBit_66 : decode cJ0_nextSetBit 66 = .ok (.ifCond .eq 13, 3) := dk_153 0 13 (dk_at dksJ0_nextSetBit_2 18 rfl rfl)
theorem dJ0_nextSetBit_69 : decode cJ0_nextSetBit 69 = .ok (.iload_n 2, 1) := dk_28 (dk_at dksJ0_nextSetBit_2 21 rfl rfl)
theorem dJ0_nextSetBit_70 : decode cJ0_nextSetBit 70 = .ok (.bipush 64, 2) := dk_16 64 (dk_at dksJ0_nextSetBit_2 22 rfl rfl)
theorem dJ0_nextSetBit_72 : decode cJ0_nextSetBit 72 = .ok (.imul, 1) := dk_104 (dk_at dksJ0_nextSetBit_3 0 rfl rfl)
theorem dJ0_nextSetBit_73 : decode cJ0_nextSetBit 73 = .ok (.lload_n 3, 1) := dk_33 (dk_at dksJ0_nextSetBit_3 1 rfl rfl)
theorem dJ0_nextSetBit_74 : decode cJ0_nextSetBit 74 = .ok (.invokestatic 182, 3) := dk_184 0 182 (dk_at dksJ0_nextSetBit_3 2 rfl rfl)
theorem dJ0_nextSetBit_77 : decode cJ0_nextSetBit 77 = .ok (.iadd, 1) := dk_96 (dk_at dksJ0_nextSetBit_3 5 rfl rfl)
theorem dJ0_nextSetBit_78 : decode cJ0_nextSetBit 78 = .ok (.ireturn, 1) := dk_172 (dk_at dksJ0_nextSetBit_3 6 rfl rfl)
theorem dJ0_nextSetBit_79 : decode cJ0_nextSetBit 79 = .ok (.iinc 2 1, 3) := dk_132 2 1 (dk_at dksJ0_nextSetBit_3 7 rfl rfl)
theorem dJ0_nextSetBit_82 : decode cJ0_nextSetBit 82 = .ok (.iload_n 2, 1) := dk_28 (dk_at dksJ0_nextSetBit_3 10 rfl rfl)
theorem dJ0_nextSetBit_83 : decode cJ0_nextSetBit 83 = .ok (.aload_n 0, 1) := dk_42 (dk_at dksJ0_nextSetBit_3 11 rfl rfl)
theorem dJ0_nextSetBit_84 : decode cJ0_nextSetBit 84 = .ok (.getfield 7, 3) := dk_180 0 7 (dk_at dksJ0_nextSetBit_3 12 rfl rfl)
theorem dJ0_nextSetBit_87 : decode cJ0_nextSetBit 87 = .ok (.if_icmp .ne 5, 3) := dk_160 0 5 (dk_at dksJ0_nextSetBit_3 15 rfl rfl)
theorem dJ0_nextSetBit_90 : decode cJ0_nextSetBit 90 = .ok (.iconst (-1), 1) := dk_2 (dk_at dksJ0_nextSetBit_3 18 rfl rfl)
theorem dJ0_nextSetBit_91 : decode cJ0_nextSetBit 91 = .ok (.ireturn, 1) := dk_172 (dk_at dksJ0_nextSetBit_3 19 rfl rfl)
theorem dJ0_nextSetBit_92 : decode cJ0_nextSetBit 92 = .ok (.aload_n 0, 1) := dk_42 (dk_at dksJ0_nextSetBit_3 20 rfl rfl)
theorem dJ0_nextSetBit_93 : decode cJ0_nextSetBit 93 = .ok (.getfield 11, 3) := dk_180 0 11 (dk_at dksJ0_nextSetBit_3 21 rfl rfl)
theorem dJ0_nextSetBit_96 : decode cJ0_nextSetBit 96 = .ok (.iload_n 2, 1) := dk_28 (dk_at dksJ0_nextSetBit_4 0 rfl rfl)
theorem dJ0_nextSetBit_97 : decode cJ0_nextSetBit 97 = .ok (.laload, 1) := dk_47 (dk_at dksJ0_nextSetBit_4 1 rfl rfl)
theorem dJ0_nextSetBit_98 : decode cJ0_nextSetBit 98 = .ok (.lstore_n 3, 1) := dk_66 (dk_at dksJ0_nextSetBit_4 2 rfl rfl)
theorem dJ0_nextSetBit_99 : decode cJ0_nextSetBit 99 = .ok (.goto (-36), 3) := dk_167 255 220 (dk_at dksJ0_nextSetBit_4 3 rfl rfl)
abbrev cJ0_or : ByteArray := prog_74_method_37_code
def yJ0_or : MethodName := ⟨RJ0, "or", "(Ljava/util/BitSet;)V"⟩
def dkwJ0_or_4 : List UInt8 := [180, 0, 7, 28, 100, 184, 0, 199, 42, 182, 0, 56, 177]
abbrev dktJ0_or_4 : List UInt8 := dkwJ0_or_4 ++ []
def dkwJ0_or_3 : List UInt8 := [167, 255, 233, 28, 43, 180, 0, 7, 162, 0, 22, 43, 180, 0, 11, 28, 42, 180, 0, 11, 28, 42]
abbrev dktJ0_or_3 : List UInt8 := dkwJ0_or_3 ++ dktJ0_or_4
def dkwJ0_or_2 : List UInt8 := [29, 28, 162, 0, 24, 42, 180, 0, 11, 29, 92, 47, 43, 180, 0, 11, 29, 47, 129, 80, 132, 3, 1]
abbrev dktJ0_or_2 : List UInt8 := dkwJ0_or_2 ++ dktJ0_or_3
def dkwJ0_or_1 : List UInt8 := [180, 0, 7, 162, 0, 19, 42, 43, 180, 0, 7, 182, 0, 139, 42, 43, 180, 0, 7, 181, 0, 7, 3, 62]
abbrev dktJ0_or_1 : List UInt8 := dkwJ0_or_1 ++ dktJ0_or_2
def dkwJ0_or_0 : List UInt8 := [42, 43, 166, 0, 4, 177, 42, 180, 0, 7, 43, 180, 0, 7, 184, 0, 193, 61, 42, 180, 0, 7, 43]
abbrev dktJ0_or_0 : List UInt8 := dkwJ0_or_0 ++ dktJ0_or_1
theorem dksJ0_or_0 : cJ0_or.data.toList.drop 0 = dktJ0_or_0 := by decide +kernel
theorem dksJ0_or_1 : cJ0_or.data.toList.drop 23 = dktJ0_or_1 := dk_seg dksJ0_or_0 23 rfl rfl
theorem dksJ0_or_2 : cJ0_or.data.toList.drop 47 = dktJ0_or_2 := dk_seg dksJ0_or_1 24 rfl rfl
theorem dksJ0_or_3 : cJ0_or.data.toList.drop 70 = dktJ0_or_3 := dk_seg dksJ0_or_2 23 rfl rfl
theorem dksJ0_or_4 : cJ0_or.data.toList.drop 92 = dktJ0_or_4 := dk_seg dksJ0_or_3 22 rfl rfl
theorem dJ0_or_0 : decode cJ0_or 0 = .ok (.aload_n 0, 1) := dk_42 (dk_at dksJ0_or_0 0 rfl rfl)
theorem dJ0_or_1 : decode cJ0_or 1 = .ok (.aload_n 1, 1) := dk_43 (dk_at dksJ0_or_0 1 rfl rfl)
theorem dJ0_or_2 : decode cJ0_or 2 = .ok (.if_acmp .ne 4, 3) := dk_166 0 4 (dk_at dksJ0_or_0 2 rfl rfl)
theorem dJ0_or_5 : decode cJ0_or 5 = .ok (.return_, 1) := dk_177 (dk_at dksJ0_or_0 5 rfl rfl)
theorem dJ0_or_6 : decode cJ0_or 6 = .ok (.aload_n 0, 1) := dk_42 (dk_at dksJ0_or_0 6 rfl rfl)
theorem dJ0_or_7 : decode cJ0_or 7 = .ok (.getfield 7, 3) := dk_180 0 7 (dk_at dksJ0_or_0 7 rfl rfl)
theorem dJ0_or_10 : decode cJ0_or 10 = .ok (.aload_n 1, 1) := dk_43 (dk_at dksJ0_or_0 10 rfl rfl)
theorem dJ0_or_11 : decode cJ0_or 11 = .ok (.getfield 7, 3) := dk_180 0 7 (dk_at dksJ0_or_0 11 rfl rfl)
theorem dJ0_or_14 : decode cJ0_or 14 = .ok (.invokestatic 193, 3) := dk_184 0 193 (dk_at dksJ0_or_0 14 rfl rfl)
theorem dJ0_or_17 : decode cJ0_or 17 = .ok (.istore_n 2, 1) := dk_61 (dk_at dksJ0_or_0 17 rfl rfl)
theorem dJ0_or_18 : decode cJ0_or 18 = .ok (.aload_n 0, 1) := dk_42 (dk_at dksJ0_or_0 18 rfl rfl)
theorem dJ0_or_19 : decode cJ0_or 19 = .ok (.getfield 7, 3) := dk_180 0 7 (dk_at dksJ0_or_0 19 rfl rfl)
theorem dJ0_or_22 : decode cJ0_or 22 = .ok (.aload_n 1, 1) := dk_43 (dk_at dksJ0_or_0 22 rfl rfl)
theorem dJ0_or_23 : decode cJ0_or 23 = .ok (.getfield 7, 3) := dk_180 0 7 (dk_at dksJ0_or_1 0 rfl rfl)
theorem dJ0_or_26 : decode cJ0_or 26 = .ok (.if_icmp .ge 19, 3) := dk_162 0 19 (dk_at dksJ0_or_1 3 rfl rfl)
theorem dJ0_or_29 : decode cJ0_or 29 = .ok (.aload_n 0, 1) := dk_42 (dk_at dksJ0_or_1 6 rfl rfl)
theorem dJ0_or_30 : decode cJ0_or 30 = .ok (.aload_n 1, 1) := dk_43 (dk_at dksJ0_or_1 7 rfl rfl)
theorem dJ0_or_31 : decode cJ0_or 31 = .ok (.getfield 7, 3) := dk_180 0 7 (dk_at dksJ0_or_1 8 rfl rfl)
theorem dJ0_or_34 : decode cJ0_or 34 = .ok (.invokevirtual 139, 3) := dk_182 0 139 (dk_at dksJ0_or_1 11 rfl rfl)
theorem dJ0_or_37 : decode cJ0_or 37 = .ok (.aload_n 0, 1) := dk_42 (dk_at dksJ0_or_1 14 rfl rfl)
theorem dJ0_or_38 : decode cJ0_or 38 = .ok (.aload_n 1, 1) := dk_43 (dk_at dksJ0_or_1 15 rfl rfl)
theorem dJ0_or_39 : decode cJ0_or 39 = .ok (.getfield 7, 3) := dk_180 0 7 (dk_at dksJ0_or_1 16 rfl rfl)
theorem dJ0_or_42 : decode cJ0_or 42 = .ok (.putfield 7, 3) := dk_181 0 7 (dk_at dksJ0_or_1 19 rfl rfl)
theorem dJ0_or_45 : decode cJ0_or 45 = .ok (.iconst 0, 1) := dk_3 (dk_at dksJ0_or_1 22 rfl rfl)
theorem dJ0_or_46 : decode cJ0_or 46 = .ok (.istore_n 3, 1) := dk_62 (dk_at dksJ0_or_1 23 rfl rfl)
theorem dJ0_or_47 : decode cJ0_or 47 = .ok (.iload_n 3, 1) := dk_29 (dk_at dksJ0_or_2 0 rfl rfl)
theorem dJ0_or_48 : decode cJ0_or 48 = .ok (.iload_n 2, 1) := dk_28 (dk_at dksJ0_or_2 1 rfl rfl)
theorem dJ0_or_49 : decode cJ0_or 49 = .ok (.if_icmp .ge 24, 3) := dk_162 0 24 (dk_at dksJ0_or_2 2 rfl rfl)
theorem dJ0_or_52 : decode cJ0_or 52 = .ok (.aload_n 0, 1) := dk_42 (dk_at dksJ0_or_2 5 rfl rfl)
theorem dJ0_or_53 : decode cJ0_or 53 = .ok (.getfield 11, 3) := dk_180 0 11 (dk_at dksJ0_or_2 6 rfl rfl)
theorem dJ0_or_56 : decode cJ0_or 56 = .ok (.iload_n 3, 1) := dk_29 (dk_at dksJ0_or_2 9 rfl rfl)
theorem dJ0_or_57 : decode cJ0_or 57 = .ok (.dup2, 1) := dk_92 (dk_at dksJ0_or_2 10 rfl rfl)
theorem dJ0_or_58 : decode cJ0_or 58 = .ok (.laload, 1) := dk_47 (dk_at dksJ0_or_2 11 rfl rfl)
theorem dJ0_or_59 : decode cJ0_or 59 = .ok (.aload_n 1, 1) := dk_43 (dk_at dksJ0_or_2 12 rfl rfl)
theorem dJ0_or_60 : decode cJ0_or 60 = .ok (.getfield 11, 3) := dk_180 0 11 (dk_at dksJ0_or_2 13 rfl rfl)
theorem dJ0_or_63 : decode cJ0_or 63 = .ok (.iload_n 3, 1) := dk_29 (dk_at dksJ0_or_2 16 rfl rfl)
theorem dJ0_or_64 : decode cJ0_or 64 = .ok (.laload, 1) := dk_47 (dk_at dksJ0_or_2 17 rfl rfl)
theorem dJ0_or_65 : decode cJ0_or 65 = .ok (.lor, 1) := dk_129 (dk_at dksJ0_or_2 18 rfl rfl)
theorem dJ0_or_66 : decode cJ0_or 66 = .ok (.lastore, 1) := dk_80 (dk_at dksJ0_or_2 19 rfl rfl)
theorem dJ0_or_67 : decode cJ0_or 67 = .ok (.iinc 3 1, 3) := dk_132 3 1 (dk_at dksJ0_or_2 20 rfl rfl)
theorem dJ0_or_70 : decode cJ0_or 70 = .ok (.goto (-23), 3) := dk_167 255 233 (dk_at dksJ0_or_3 0 rfl rfl)
theorem dJ0_or_73 : decode cJ0_or 73 = .ok (.iload_n 2, 1) := dk_28 (dk_at dksJ0_or_3 3 rfl rfl)
theorem dJ0_or_74 : decode cJ0_or 74 = .ok (.aload_n 1, 1) := dk_43 (dk_at dksJ0_or_3 4 rfl rfl)
theorem dJ0_or_75 : decode cJ0_or 75 = .ok (.getfield 7, 3) := dk_180 0 7 (dk_at dksJ0_or_3 5 rfl rfl)
theorem dJ0_or_78 : decode cJ0_or 78 = .ok (.if_icmp .ge 22, 3) := dk_162 0 22 (dk_at dksJ0_or_3 8 rfl rfl)
theorem dJ0_or_81 : decode cJ0_or 81 = .ok (.aload_n 1, 1) := dk_43 (dk_at dksJ0_or_3 11 rfl rfl)
theorem dJ0_or_82 : decode cJ0_or 82 = .ok (.getfield 11, 3) := dk_180 0 11 (dk_at dksJ0_or_3 12 rfl rfl)
theorem dJ0_or_85 : decode cJ0_or 85 = .ok (.iload_n 2, 1) := dk_28 (dk_at dksJ0_or_3 15 rfl rfl)
theorem dJ0_or_86 : decode cJ0_or 86 = .ok (.aload_n 0, 1) := dk_42 (dk_at dksJ0_or_3 16 rfl rfl)
theorem dJ0_or_87 : decode cJ0_or 87 = .ok (.getfield 11, 3) := dk_180 0 11 (dk_at dksJ0_or_3 17 rfl rfl)
theorem dJ0_or_90 : decode cJ0_or 90 = .ok (.iload_n 2, 1) := dk_28 (dk_at dksJ0_or_3 20 rfl rfl)
theorem dJ0_or_91 : decode cJ0_or 91 = .ok (.aload_n 0, 1) := dk_42 (dk_at dksJ0_or_3 21 rfl rfl)
theorem dJ0_or_92 : decode cJ0_or 92 = .ok (.getfield 7, 3) := dk_180 0 7 (dk_at dksJ0_or_4 0 rfl rfl)
theorem dJ0_or_95 : decode cJ0_or 95 = .ok (.iload_n 2, 1) := dk_28 (dk_at dksJ0_or_4 3 rfl rfl)
theorem dJ0_or_96 : decode cJ0_or 96 = .ok (.isub, 1) := dk_100 (dk_at dksJ0_or_4 4 rfl rfl)
theorem dJ0_or_97 : decode cJ0_or 97 = .ok (.invokestatic 199, 3) := dk_184 0 199 (dk_at dksJ0_or_4 5 rfl rfl)
theorem dJ0_or_100 : decode cJ0_or 100 = .ok (.aload_n 0, 1) := dk_42 (dk_at dksJ0_or_4 8 rfl rfl)
theorem dJ0_or_101 : decode cJ0_or 101 = .ok (.invokevirtual 56, 3) := dk_182 0 56 (dk_at dksJ0_or_4 9 rfl rfl)
theorem dJ0_or_104 : decode cJ0_or 104 = .ok (.return_, 1) := dk_177 (dk_at dksJ0_or_4 12 rfl rfl)
abbrev cJ0_clear_2 : ByteArray := prog_74_method_23_code
def yJ0_clear_2 : MethodName := ⟨RJ0, "clear", "(I)V"⟩
def dkwJ0_clear_2_2 : List UInt8 := [180, 0, 11, 28, 92, 47, 10, 27, 121, 20, 0, 165, 131, 127, 80, 42, 182, 0, 158, 42, 182, 0, 56, 177]
abbrev dktJ0_clear_2_2 : List UInt8 := dkwJ0_clear_2_2 ++ []
def dkwJ0_clear_2_1 : List UInt8 := [182, 0, 45, 183, 0, 146, 191, 27, 184, 0, 52, 61, 28, 42, 180, 0, 7, 161, 0, 4, 177, 42]
abbrev dktJ0_clear_2_1 : List UInt8 := dkwJ0_clear_2_1 ++ dktJ0_clear_2_2
def dkwJ0_clear_2_0 : List UInt8 := [27, 156, 0, 30, 187, 0, 142, 89, 187, 0, 33, 89, 183, 0, 35, 18, 153, 182, 0, 38, 27, 182, 0, 42]
abbrev dktJ0_clear_2_0 : List UInt8 := dkwJ0_clear_2_0 ++ dktJ0_clear_2_1
theorem dksJ0_clear_2_0 : cJ0_clear_2.data.toList.drop 0 = dktJ0_clear_2_0 := by decide +kernel
theorem dksJ0_clear_2_1 : cJ0_clear_2.data.toList.drop 24 = dktJ0_clear_2_1 := dk_seg dksJ0_clear_2_0 24 rfl rfl
theorem dksJ0_clear_2_2 : cJ0_clear_2.data.toList.drop 46 = dktJ0_clear_2_2 := dk_seg dksJ0_clear_2_1 22 rfl rfl
theorem dJ0_clear_2_0 : decode cJ0_clear_2 0 = .ok (.iload_n 1, 1) := dk_27 (dk_at dksJ0_clear_2_0 0 rfl rfl)
theorem dJ0_clear_2_1 : decode cJ0_clear_2 1 = .ok (.ifCond .ge 30, 3) := dk_156 0 30 (dk_at dksJ0_clear_2_0 1 rfl rfl)
theorem dJ0_clear_2_4 : decode cJ0_clear_2 4 = .ok (.new 142, 3) := dk_187 0 142 (dk_at dksJ0_clear_2_0 4 rfl rfl)
theorem dJ0_clear_2_7 : decode cJ0_clear_2 7 = .ok (.dup, 1) := dk_89 (dk_at dksJ0_clear_2_0 7 rfl rfl)
theorem dJ0_clear_2_8 : decode cJ0_clear_2 8 = .ok (.new 33, 3) := dk_187 0 33 (dk_at dksJ0_clear_2_0 8 rfl rfl)
theorem dJ0_clear_2_11 : decode cJ0_clear_2 11 = .ok (.dup, 1) := dk_89 (dk_at dksJ0_clear_2_0 11 rfl rfl)
theorem dJ0_clear_2_12 : decode cJ0_clear_2 12 = .ok (.invokespecial 35, 3) := dk_183 0 35 (dk_at dksJ0_clear_2_0 12 rfl rfl)
theorem dJ0_clear_2_15 : decode cJ0_clear_2 15 = .ok (.ldc 153, 2) := dk_18 153 (dk_at dksJ0_clear_2_0 15 rfl rfl)
theorem dJ0_clear_2_17 : decode cJ0_clear_2 17 = .ok (.invokevirtual 38, 3) := dk_182 0 38 (dk_at dksJ0_clear_2_0 17 rfl rfl)
theorem dJ0_clear_2_20 : decode cJ0_clear_2 20 = .ok (.iload_n 1, 1) := dk_27 (dk_at dksJ0_clear_2_0 20 rfl rfl)
theorem dJ0_clear_2_21 : decode cJ0_clear_2 21 = .ok (.invokevirtual 42, 3) := dk_182 0 42 (dk_at dksJ0_clear_2_0 21 rfl rfl)
theorem dJ0_clear_2_24 : decode cJ0_clear_2 24 = .ok (.invokevirtual 45, 3) := dk_182 0 45 (dk_at dksJ0_clear_2_1 0 rfl rfl)
theorem dJ0_clear_2_27 : decode cJ0_clear_2 27 = .ok (.invokespecial 146, 3) := dk_183 0 146 (dk_at dksJ0_clear_2_1 3 rfl rfl)
theorem dJ0_clear_2_30 : decode cJ0_clear_2 30 = .ok (.athrow, 1) := dk_191 (dk_at dksJ0_clear_2_1 6 rfl rfl)
theorem dJ0_clear_2_31 : decode cJ0_clear_2 31 = .ok (.iload_n 1, 1) := dk_27 (dk_at dksJ0_clear_2_1 7 rfl rfl)
theorem dJ0_clear_2_32 : decode cJ0_clear_2 32 = .ok (.invokestatic 52, 3) := dk_184 0 52 (dk_at dksJ0_clear_2_1 8 rfl rfl)
theorem dJ0_clear_2_35 : decode cJ0_clear_2 35 = .ok (.istore_n 2, 1) := dk_61 (dk_at dksJ0_clear_2_1 11 rfl rfl)
theorem dJ0_clear_2_36 : decode cJ0_clear_2 36 = .ok (.iload_n 2, 1) := dk_28 (dk_at dksJ0_clear_2_1 12 rfl rfl)
theorem dJ0_clear_2_37 : decode cJ0_clear_2 37 = .ok (.aload_n 0, 1) := dk_42 (dk_at dksJ0_clear_2_1 13 rfl rfl)
theorem dJ0_clear_2_38 : decode cJ0_clear_2 38 = .ok (.getfield 7, 3) := dk_180 0 7 (dk_at dksJ0_clear_2_1 14 rfl rfl)
theorem dJ0_clear_2_41 : decode cJ0_clear_2 41 = .ok (.if_icmp .lt 4, 3) := dk_161 0 4 (dk_at dksJ0_clear_2_1 17 rfl rfl)
theorem dJ0_clear_2_44 : decode cJ0_clear_2 44 = .ok (.return_, 1) := dk_177 (dk_at dksJ0_clear_2_1 20 rfl rfl)
theorem dJ0_clear_2_45 : decode cJ0_clear_2 45 = .ok (.aload_n 0, 1) := dk_42 (dk_at dksJ0_clear_2_1 21 rfl rfl)
theorem dJ0_clear_2_46 : decode cJ0_clear_2 46 = .ok (.getfield 11, 3) := dk_180 0 11 (dk_at dksJ0_clear_2_2 0 rfl rfl)
theorem dJ0_clear_2_49 : decode cJ0_clear_2 49 = .ok (.iload_n 2, 1) := dk_28 (dk_at dksJ0_clear_2_2 3 rfl rfl)
theorem dJ0_clear_2_50 : decode cJ0_clear_2 50 = .ok (.dup2, 1) := dk_92 (dk_at dksJ0_clear_2_2 4 rfl rfl)
theorem dJ0_clear_2_51 : decode cJ0_clear_2 51 = .ok (.laload, 1) := dk_47 (dk_at dksJ0_clear_2_2 5 rfl rfl)
theorem dJ0_clear_2_52 : decode cJ0_clear_2 52 = .ok (.lconst 1, 1) := dk_10 (dk_at dksJ0_clear_2_2 6 rfl rfl)
theorem dJ0_clear_2_53 : decode cJ0_clear_2 53 = .ok (.iload_n 1, 1) := dk_27 (dk_at dksJ0_clear_2_2 7 rfl rfl)
theorem dJ0_clear_2_54 : decode cJ0_clear_2 54 = .ok (.lshl, 1) := dk_121 (dk_at dksJ0_clear_2_2 8 rfl rfl)
theorem dJ0_clear_2_55 : decode cJ0_clear_2 55 = .ok (.ldc2_w 165, 3) := dk_20 0 165 (dk_at dksJ0_clear_2_2 9 rfl rfl)
theorem dJ0_clear_2_58 : decode cJ0_clear_2 58 = .ok (.lxor, 1) := dk_131 (dk_at dksJ0_clear_2_2 12 rfl rfl)
theorem dJ0_clear_2_59 : decode cJ0_clear_2 59 = .ok (.land, 1) := dk_127 (dk_at dksJ0_clear_2_2 13 rfl rfl)
theorem dJ0_clear_2_60 : decode cJ0_clear_2 60 = .ok (.lastore, 1) := dk_80 (dk_at dksJ0_clear_2_2 14 rfl rfl)
theorem dJ0_clear_2_61 : decode cJ0_clear_2 61 = .ok (.aload_n 0, 1) := dk_42 (dk_at dksJ0_clear_2_2 15 rfl rfl)
theorem dJ0_clear_2_62 : decode cJ0_clear_2 62 = .ok (.invokevirtual 158, 3) := dk_182 0 158 (dk_at dksJ0_clear_2_2 16 rfl rfl)
theorem dJ0_clear_2_65 : decode cJ0_clear_2 65 = .ok (.aload_n 0, 1) := dk_42 (dk_at dksJ0_clear_2_2 19 rfl rfl)
theorem dJ0_clear_2_66 : decode cJ0_clear_2 66 = .ok (.invokevirtual 56, 3) := dk_182 0 56 (dk_at dksJ0_clear_2_2 20 rfl rfl)
theorem dJ0_clear_2_69 : decode cJ0_clear_2 69 = .ok (.return_, 1) := dk_177 (dk_at dksJ0_clear_2_2 23 rfl rfl)
abbrev cJ0_recalculateWordsInUse : ByteArray := prog_74_method_3_code
def yJ0_recalculateWordsInUse : MethodName := ⟨RJ0, "recalculateWordsInUse", "()V"⟩
def dkwJ0_recalculateWordsInUse_1 : List UInt8 := [167, 0, 9, 132, 1, 255, 167, 255, 235, 42, 27, 4, 96, 181, 0, 7, 177]
abbrev dktJ0_recalculateWordsInUse_1 : List UInt8 := dkwJ0_recalculateWordsInUse_1 ++ []
def dkwJ0_recalculateWordsInUse_0 : List UInt8 := [42, 180, 0, 7, 4, 100, 60, 27, 155, 0, 23, 42, 180, 0, 11, 27, 47, 9, 148, 153, 0, 6]
abbrev dktJ0_recalculateWordsInUse_0 : List UInt8 := dkwJ0_recalculateWordsInUse_0 ++ dktJ0_recalculateWordsInUse_1
theorem dksJ0_recalculateWordsInUse_0 : cJ0_recalculateWordsInUse.data.toList.drop 0 = dktJ0_recalculateWordsInUse_0 := by decide +kernel
theorem dksJ0_recalculateWordsInUse_1 : cJ0_recalculateWordsInUse.data.toList.drop 22 = dktJ0_recalculateWordsInUse_1 := dk_seg dksJ0_recalculateWordsInUse_0 22 rfl rfl
theorem dJ0_recalculateWordsInUse_0 : decode cJ0_recalculateWordsInUse 0 = .ok (.aload_n 0, 1) := dk_42 (dk_at dksJ0_recalculateWordsInUse_0 0 rfl rfl)
theorem dJ0_recalculateWordsInUse_1 : decode cJ0_recalculateWordsInUse 1 = .ok (.getfield 7, 3) := dk_180 0 7 (dk_at dksJ0_recalculateWordsInUse_0 1 rfl rfl)
theorem dJ0_recalculateWordsInUse_4 : decode cJ0_recalculateWordsInUse 4 = .ok (.iconst 1, 1) := dk_4 (dk_at dksJ0_recalculateWordsInUse_0 4 rfl rfl)
theorem dJ0_recalculateWordsInUse_5 : decode cJ0_recalculateWordsInUse 5 = .ok (.isub, 1) := dk_100 (dk_at dksJ0_recalculateWordsInUse_0 5 rfl rfl)
theorem dJ0_recalculateWordsInUse_6 : decode cJ0_recalculateWordsInUse 6 = .ok (.istore_n 1, 1) := dk_60 (dk_at dksJ0_recalculateWordsInUse_0 6 rfl rfl)
theorem dJ0_recalculateWordsInUse_7 : decode cJ0_recalculateWordsInUse 7 = .ok (.iload_n 1, 1) := dk_27 (dk_at dksJ0_recalculateWordsInUse_0 7 rfl rfl)
theorem dJ0_recalculateWordsInUse_8 : decode cJ0_recalculateWordsInUse 8 = .ok (.ifCond .lt 23, 3) := dk_155 0 23 (dk_at dksJ0_recalculateWordsInUse_0 8 rfl rfl)
theorem dJ0_recalculateWordsInUse_11 : decode cJ0_recalculateWordsInUse 11 = .ok (.aload_n 0, 1) := dk_42 (dk_at dksJ0_recalculateWordsInUse_0 11 rfl rfl)
theorem dJ0_recalculateWordsInUse_12 : decode cJ0_recalculateWordsInUse 12 = .ok (.getfield 11, 3) := dk_180 0 11 (dk_at dksJ0_recalculateWordsInUse_0 12 rfl rfl)
theorem dJ0_recalculateWordsInUse_15 : decode cJ0_recalculateWordsInUse 15 = .ok (.iload_n 1, 1) := dk_27 (dk_at dksJ0_recalculateWordsInUse_0 15 rfl rfl)
theorem dJ0_recalculateWordsInUse_16 : decode cJ0_recalculateWordsInUse 16 = .ok (.laload, 1) := dk_47 (dk_at dksJ0_recalculateWordsInUse_0 16 rfl rfl)
theorem dJ0_recalculateWordsInUse_17 : decode cJ0_recalculateWordsInUse 17 = .ok (.lconst 0, 1) := dk_9 (dk_at dksJ0_recalculateWordsInUse_0 17 rfl rfl)
theorem dJ0_recalculateWordsInUse_18 : decode cJ0_recalculateWordsInUse 18 = .ok (.lcmp, 1) := dk_148 (dk_at dksJ0_recalculateWordsInUse_0 18 rfl rfl)
theorem dJ0_recalculateWordsInUse_19 : decode cJ0_recalculateWordsInUse 19 = .ok (.ifCond .eq 6, 3) := dk_153 0 6 (dk_at dksJ0_recalculateWordsInUse_0 19 rfl rfl)
theorem dJ0_recalculateWordsInUse_22 : decode cJ0_recalculateWordsInUse 22 = .ok (.goto 9, 3) := dk_167 0 9 (dk_at dksJ0_recalculateWordsInUse_1 0 rfl rfl)
theorem dJ0_recalculateWordsInUse_25 : decode cJ0_recalculateWordsInUse 25 = .ok (.iinc 1 (-1), 3) := dk_132 1 255 (dk_at dksJ0_recalculateWordsInUse_1 3 rfl rfl)
theorem dJ0_recalculateWordsInUse_28 : decode cJ0_recalculateWordsInUse 28 = .ok (.goto (-21), 3) := dk_167 255 235 (dk_at dksJ0_recalculateWordsInUse_1 6 rfl rfl)
theorem dJ0_recalculateWordsInUse_31 : decode cJ0_recalculateWordsInUse 31 = .ok (.aload_n 0, 1) := dk_42 (dk_at dksJ0_recalculateWordsInUse_1 9 rfl rfl)
theorem dJ0_recalculateWordsInUse_32 : decode cJ0_recalculateWordsInUse 32 = .ok (.iload_n 1, 1) := dk_27 (dk_at dksJ0_recalculateWordsInUse_1 10 rfl rfl)
theorem dJ0_recalculateWordsInUse_33 : decode cJ0_recalculateWordsInUse 33 = .ok (.iconst 1, 1) := dk_4 (dk_at dksJ0_recalculateWordsInUse_1 11 rfl rfl)
theorem dJ0_recalculateWordsInUse_34 : decode cJ0_recalculateWordsInUse 34 = .ok (.iadd, 1) := dk_96 (dk_at dksJ0_recalculateWordsInUse_1 12 rfl rfl)
theorem dJ0_recalculateWordsInUse_35 : decode cJ0_recalculateWordsInUse 35 = .ok (.putfield 7, 3) := dk_181 0 7 (dk_at dksJ0_recalculateWordsInUse_1 13 rfl rfl)
theorem dJ0_recalculateWordsInUse_38 : decode cJ0_recalculateWordsInUse 38 = .ok (.return_, 1) := dk_177 (dk_at dksJ0_recalculateWordsInUse_1 16 rfl rfl)
theorem q133 : (Jvm.Cond.initialized "java/util/BitSet") ∈ lw_all := lw_g (lw_at lw_m1 3 rfl) rfl
theorem q280 : (Jvm.Cond.instantiable "java/util/BitSet" (3 : Nat)) ∈ lw_all := lw_g (lw_at lw_m1 150 rfl) rfl
theorem q282 : (Jvm.Cond.instanceMethod ({ cls := "java/util/BitSet", name := "<init>", desc := "(I)V" } : Jvm.MethodName)) ∈ lw_all := lw_g (lw_at lw_m1 152 rfl) rfl
theorem q283 : (Jvm.Cond.code ({ cls := "java/util/BitSet", name := "<init>", desc := "(I)V" } : Jvm.MethodName) prog_74_method_5_code (2 : Nat) (Option.none : Option Jvm.ClassFile.FieldType)) ∈ lw_all := lw_g (lw_at lw_m1 153 rfl) rfl
theorem q284 : (Jvm.Cond.methodLink "java/util/BitSet" (21 : Nat) ({ cls := "java/lang/Object", name := "<init>", desc := "()V" } : Jvm.MethodName)) ∈ lw_all := lw_g (lw_at lw_m1 154 rfl) rfl
theorem q285 : (Jvm.Cond.classLink "java/util/BitSet" (31 : Nat) "java/lang/NegativeArraySizeException") ∈ lw_all := lw_g (lw_at lw_m1 155 rfl) rfl
theorem q331 : (Jvm.Cond.classLink "java/util/BitSet" (33 : Nat) "java/lang/StringBuilder") ∈ lw_all := lw_g (lw_at lw_m1 201 rfl) rfl
theorem q333 : (Jvm.Cond.methodLink "java/util/BitSet" (35 : Nat) ({ cls := "java/lang/StringBuilder", name := "<init>", desc := "()V" } : Jvm.MethodName)) ∈ lw_all := lw_g (lw_at lw_m1 203 rfl) rfl
theorem q386 : (Jvm.Cond.stringRef "java/util/BitSet" (36 : Nat) "nbits < 0: ") ∈ lw_tbl := lw_at lw_m2 16 rfl
theorem q387 : (Jvm.Cond.methodLink "java/util/BitSet" (38 : Nat) ({ cls := "java/lang/StringBuilder", name := "append", desc := "(Ljava/lang/String;)Ljava/lang/StringBuilder;" } : Jvm.MethodName)) ∈ lw_all := lw_g (lw_at lw_m2 17 rfl) rfl
theorem q507 : (Jvm.Cond.methodLink "java/util/BitSet" (42 : Nat) ({ cls := "java/lang/StringBuilder", name := "append", desc := "(I)Ljava/lang/StringBuilder;" } : Jvm.MethodName)) ∈ lw_all := lw_g (lw_at lw_m2 137 rfl) rfl
theorem q532 : (Jvm.Cond.methodLink "java/util/BitSet" (45 : Nat) ({ cls := "java/lang/StringBuilder", name := "toString", desc := "()Ljava/lang/String;" } : Jvm.MethodName)) ∈ lw_all := lw_g (lw_at lw_m2 162 rfl) rfl
theorem q594 : (Jvm.Cond.methodLink "java/util/BitSet" (49 : Nat) ({ cls := "java/lang/NegativeArraySizeException", name := "<init>", desc := "(Ljava/lang/String;)V" } : Jvm.MethodName)) ∈ lw_all := lw_g (lw_at lw_m2 224 rfl) rfl
theorem q606 : (Jvm.Cond.methodLink "java/util/BitSet" (27 : Nat) ({ cls := "java/util/BitSet", name := "initWords", desc := "(I)V" } : Jvm.MethodName)) ∈ lw_all := lw_g (lw_at lw_m2 236 rfl) rfl
theorem q607 : (Jvm.Cond.privateMethod ({ cls := "java/util/BitSet", name := "initWords", desc := "(I)V" } : Jvm.MethodName)) ∈ lw_tbl := lw_at lw_m2 237 rfl
theorem q608 : (Jvm.Cond.instanceMethod ({ cls := "java/util/BitSet", name := "initWords", desc := "(I)V" } : Jvm.MethodName)) ∈ lw_all := lw_g (lw_at lw_m2 238 rfl) rfl
theorem q609 : (Jvm.Cond.code ({ cls := "java/util/BitSet", name := "initWords", desc := "(I)V" } : Jvm.MethodName) prog_74_method_6_code (2 : Nat) (Option.none : Option Jvm.ClassFile.FieldType)) ∈ lw_all := lw_g (lw_at lw_m2 239 rfl) rfl
theorem q610 : (Jvm.Cond.methodLink "java/util/BitSet" (52 : Nat) ({ cls := "java/util/BitSet", name := "wordIndex", desc := "(I)I" } : Jvm.MethodName)) ∈ lw_all := lw_g (lw_at lw_m3 0 rfl) rfl
theorem q611 : (Jvm.Cond.static ({ cls := "java/util/BitSet", name := "wordIndex", desc := "(I)I" } : Jvm.MethodName)) ∈ lw_all := lw_g (lw_at lw_m3 1 rfl) rfl
theorem q612 : (Jvm.Cond.code ({ cls := "java/util/BitSet", name := "wordIndex", desc := "(I)I" } : Jvm.MethodName) prog_74_method_1_code (1 : Nat) (Option.some Jvm.ClassFile.FieldType.int)) ∈ lw_all := lw_g (lw_at lw_m3 2 rfl) rfl
theorem q613 : (Jvm.Cond.fieldLink "java/util/BitSet" (11 : Nat) "java/util/BitSet" "words" "[J") ∈ lw_all := lw_g (lw_at lw_m3 3 rfl) rfl
theorem q614 : (Jvm.Cond.fieldLink "java/util/BitSet" (7 : Nat) "java/util/BitSet" "wordsInUse" "I") ∈ lw_all := lw_g (lw_at lw_m3 4 rfl) rfl
theorem q615 : (Jvm.Cond.fieldLink "java/util/BitSet" (24 : Nat) "java/util/BitSet" "sizeIsSticky" "Z") ∈ lw_all := lw_g (lw_at lw_m3 5 rfl) rfl
theorem q616 : (Jvm.Cond.lays "java/util/BitSet" "java/util/BitSet" "words" "[J") ∈ lw_all := lw_g (lw_at lw_m3 6 rfl) rfl
theorem q617 : (Jvm.Cond.soleField "java/util/BitSet" "words") ∈ lw_all := lw_g (lw_at lw_m3 7 rfl) rfl
theorem q618 : (Jvm.Cond.lays "java/util/BitSet" "java/util/BitSet" "wordsInUse" "I") ∈ lw_all := lw_g (lw_at lw_m3 8 rfl) rfl
theorem q619 : (Jvm.Cond.soleField "java/util/BitSet" "wordsInUse") ∈ lw_all := lw_g (lw_at lw_m3 9 rfl) rfl
theorem q620 : (Jvm.Cond.lays "java/util/BitSet" "java/util/BitSet" "sizeIsSticky" "Z") ∈ lw_all := lw_g (lw_at lw_m3 10 rfl) rfl
theorem q621 : (Jvm.Cond.soleField "java/util/BitSet" "sizeIsSticky") ∈ lw_all := lw_g (lw_at lw_m3 11 rfl) rfl
theorem q622 : (Jvm.Cond.superclass "java/util/BitSet" "java/lang/Object") ∈ lw_all := lw_g (lw_at lw_m3 12 rfl) rfl
theorem q705 : (Jvm.Cond.instanceMethod ({ cls := "java/util/BitSet", name := "get", desc := "(I)Z" } : Jvm.MethodName)) ∈ lw_all := lw_g (lw_at lw_m3 95 rfl) rfl
theorem q706 : (Jvm.Cond.selects "java/util/BitSet" ({ cls := "java/util/BitSet", name := "get", desc := "(I)Z" } : Jvm.MethodName) ({ cls := "java/util/BitSet", name := "get", desc := "(I)Z" } : Jvm.MethodName)) ∈ lw_all := lw_g (lw_at lw_m3 96 rfl) rfl
theorem q707 : (Jvm.Cond.code ({ cls := "java/util/BitSet", name := "get", desc := "(I)Z" } : Jvm.MethodName) prog_74_method_26_code (3 : Nat) (Option.some Jvm.ClassFile.FieldType.boolean)) ∈ lw_all := lw_g (lw_at lw_m3 97 rfl) rfl
theorem q708 : (Jvm.Cond.classLink "java/util/BitSet" (142 : Nat) "java/lang/IndexOutOfBoundsException") ∈ lw_all := lw_g (lw_at lw_m3 98 rfl) rfl
theorem q717 : (Jvm.Cond.stringRef "java/util/BitSet" (153 : Nat) "bitIndex < 0: ") ∈ lw_tbl := lw_at lw_m3 107 rfl
theorem q718 : (Jvm.Cond.methodLink "java/util/BitSet" (146 : Nat) ({ cls := "java/lang/IndexOutOfBoundsException", name := "<init>", desc := "(Ljava/lang/String;)V" } : Jvm.MethodName)) ∈ lw_all := lw_g (lw_at lw_m3 108 rfl) rfl
theorem q724 : (Jvm.Cond.methodLink "java/util/BitSet" (56 : Nat) ({ cls := "java/util/BitSet", name := "checkInvariants", desc := "()V" } : Jvm.MethodName)) ∈ lw_all := lw_g (lw_at lw_m3 114 rfl) rfl
theorem q725 : (Jvm.Cond.privateMethod ({ cls := "java/util/BitSet", name := "checkInvariants", desc := "()V" } : Jvm.MethodName)) ∈ lw_tbl := lw_at lw_m3 115 rfl
theorem q726 : (Jvm.Cond.instanceMethod ({ cls := "java/util/BitSet", name := "checkInvariants", desc := "()V" } : Jvm.MethodName)) ∈ lw_all := lw_g (lw_at lw_m3 116 rfl) rfl
theorem q727 : (Jvm.Cond.code ({ cls := "java/util/BitSet", name := "checkInvariants", desc := "()V" } : Jvm.MethodName) prog_74_method_2_code (1 : Nat) (Option.none : Option Jvm.ClassFile.FieldType)) ∈ lw_all := lw_g (lw_at lw_m3 117 rfl) rfl
theorem q728 : (Jvm.Cond.fieldLink "java/util/BitSet" (3 : Nat) "java/util/BitSet" "$assertionsDisabled" "Z") ∈ lw_all := lw_g (lw_at lw_m3 118 rfl) rfl
theorem q729 : (Jvm.Cond.laysStatic "java/util/BitSet" "$assertionsDisabled" "Z") ∈ lw_tbl := lw_at lw_m3 119 rfl
theorem q886 : (Jvm.Cond.selects "java/util/BitSet" ({ cls := "java/lang/Object", name := "getClass", desc := "()Ljava/lang/Class;" } : Jvm.MethodName) ({ cls := "java/lang/Object", name := "getClass", desc := "()Ljava/lang/Class;" } : Jvm.MethodName)) ∈ lw_all := lw_g (lw_at lw_m4 36 rfl) rfl
theorem q920 : (Jvm.Cond.instanceMethod ({ cls := "java/util/BitSet", name := "clear", desc := "()V" } : Jvm.MethodName)) ∈ lw_all := lw_g (lw_at lw_m4 70 rfl) rfl
theorem q921 : (Jvm.Cond.selects "java/util/BitSet" ({ cls := "java/util/BitSet", name := "clear", desc := "()V" } : Jvm.MethodName) ({ cls := "java/util/BitSet", name := "clear", desc := "()V" } : Jvm.MethodName)) ∈ lw_all := lw_g (lw_at lw_m4 71 rfl) rfl
theorem q922 : (Jvm.Cond.code ({ cls := "java/util/BitSet", name := "clear", desc := "()V" } : Jvm.MethodName) prog_74_method_25_code (1 : Nat) (Option.none : Option Jvm.ClassFile.FieldType)) ∈ lw_all := lw_g (lw_at lw_m4 72 rfl) rfl
theorem q924 : (Jvm.Cond.instanceMethod ({ cls := "java/util/BitSet", name := "set", desc := "(I)V" } : Jvm.MethodName)) ∈ lw_all := lw_g (lw_at lw_m4 74 rfl) rfl
theorem q925 : (Jvm.Cond.selects "java/util/BitSet" ({ cls := "java/util/BitSet", name := "set", desc := "(I)V" } : Jvm.MethodName) ({ cls := "java/util/BitSet", name := "set", desc := "(I)V" } : Jvm.MethodName)) ∈ lw_all := lw_g (lw_at lw_m4 75 rfl) rfl
theorem q926 : (Jvm.Cond.code ({ cls := "java/util/BitSet", name := "set", desc := "(I)V" } : Jvm.MethodName) prog_74_method_19_code (3 : Nat) (Option.none : Option Jvm.ClassFile.FieldType)) ∈ lw_all := lw_g (lw_at lw_m4 76 rfl) rfl
theorem q927 : (Jvm.Cond.methodLink "java/util/BitSet" (155 : Nat) ({ cls := "java/util/BitSet", name := "expandTo", desc := "(I)V" } : Jvm.MethodName)) ∈ lw_all := lw_g (lw_at lw_m4 77 rfl) rfl
theorem q928 : (Jvm.Cond.privateMethod ({ cls := "java/util/BitSet", name := "expandTo", desc := "(I)V" } : Jvm.MethodName)) ∈ lw_tbl := lw_at lw_m4 78 rfl
theorem q929 : (Jvm.Cond.instanceMethod ({ cls := "java/util/BitSet", name := "expandTo", desc := "(I)V" } : Jvm.MethodName)) ∈ lw_all := lw_g (lw_at lw_m4 79 rfl) rfl
theorem q930 : (Jvm.Cond.code ({ cls := "java/util/BitSet", name := "expandTo", desc := "(I)V" } : Jvm.MethodName) prog_74_method_15_code (3 : Nat) (Option.none : Option Jvm.ClassFile.FieldType)) ∈ lw_all := lw_g (lw_at lw_m4 80 rfl) rfl
theorem q931 : (Jvm.Cond.methodLink "java/util/BitSet" (139 : Nat) ({ cls := "java/util/BitSet", name := "ensureCapacity", desc := "(I)V" } : Jvm.MethodName)) ∈ lw_all := lw_g (lw_at lw_m4 81 rfl) rfl
theorem q932 : (Jvm.Cond.privateMethod ({ cls := "java/util/BitSet", name := "ensureCapacity", desc := "(I)V" } : Jvm.MethodName)) ∈ lw_tbl := lw_at lw_m4 82 rfl
theorem q933 : (Jvm.Cond.instanceMethod ({ cls := "java/util/BitSet", name := "ensureCapacity", desc := "(I)V" } : Jvm.MethodName)) ∈ lw_all := lw_g (lw_at lw_m4 83 rfl) rfl
theorem q934 : (Jvm.Cond.code ({ cls := "java/util/BitSet", name := "ensureCapacity", desc := "(I)V" } : Jvm.MethodName) prog_74_method_14_code (3 : Nat) (Option.none : Option Jvm.ClassFile.FieldType)) ∈ lw_all := lw_g (lw_at lw_m4 84 rfl) rfl
theorem q935 : (Jvm.Cond.methodLink "java/util/BitSet" (133 : Nat) ({ cls := "java/lang/Math", name := "max", desc := "(II)I" } : Jvm.MethodName)) ∈ lw_all := lw_g (lw_at lw_m4 85 rfl) rfl
theorem q936 : (Jvm.Cond.methodLink "java/util/BitSet" (59 : Nat) ({ cls := "java/util/Arrays", name := "copyOf", desc := "([JI)[J" } : Jvm.MethodName)) ∈ lw_all := lw_g (lw_at lw_m4 86 rfl) rfl
theorem q945 : (Jvm.Cond.instanceMethod ({ cls := "java/util/BitSet", name := "nextSetBit", desc := "(I)I" } : Jvm.MethodName)) ∈ lw_all := lw_g (lw_at lw_m4 95 rfl) rfl
theorem q946 : (Jvm.Cond.selects "java/util/BitSet" ({ cls := "java/util/BitSet", name := "nextSetBit", desc := "(I)I" } : Jvm.MethodName) ({ cls := "java/util/BitSet", name := "nextSetBit", desc := "(I)I" } : Jvm.MethodName)) ∈ lw_all := lw_g (lw_at lw_m4 96 rfl) rfl
theorem q947 : (Jvm.Cond.code ({ cls := "java/util/BitSet", name := "nextSetBit", desc := "(I)I" } : Jvm.MethodName) prog_74_method_28_code (5 : Nat) (Option.some Jvm.ClassFile.FieldType.int)) ∈ lw_all := lw_g (lw_at lw_m4 97 rfl) rfl
theorem q948 : (Jvm.Cond.stringRef "java/util/BitSet" (144 : Nat) "fromIndex < 0: ") ∈ lw_tbl := lw_at lw_m4 98 rfl
theorem q949 : (Jvm.Cond.constantLong "java/util/BitSet" (165 : Nat) (-1 : Int64)) ∈ lw_all := lw_g (lw_at lw_m4 99 rfl) rfl
theorem q950 : (Jvm.Cond.methodLink "java/util/BitSet" (182 : Nat) ({ cls := "java/lang/Long", name := "numberOfTrailingZeros", desc := "(J)I" } : Jvm.MethodName)) ∈ lw_all := lw_g (lw_at lw_m4 100 rfl) rfl
theorem q958 : (Jvm.Cond.instanceMethod ({ cls := "java/util/BitSet", name := "or", desc := "(Ljava/util/BitSet;)V" } : Jvm.MethodName)) ∈ lw_all := lw_g (lw_at lw_m4 108 rfl) rfl
theorem q959 : (Jvm.Cond.selects "java/util/BitSet" ({ cls := "java/util/BitSet", name := "or", desc := "(Ljava/util/BitSet;)V" } : Jvm.MethodName) ({ cls := "java/util/BitSet", name := "or", desc := "(Ljava/util/BitSet;)V" } : Jvm.MethodName)) ∈ lw_all := lw_g (lw_at lw_m4 109 rfl) rfl
theorem q960 : (Jvm.Cond.code ({ cls := "java/util/BitSet", name := "or", desc := "(Ljava/util/BitSet;)V" } : Jvm.MethodName) prog_74_method_37_code (4 : Nat) (Option.none : Option Jvm.ClassFile.FieldType)) ∈ lw_all := lw_g (lw_at lw_m4 110 rfl) rfl
theorem q961 : (Jvm.Cond.methodLink "java/util/BitSet" (193 : Nat) ({ cls := "java/lang/Math", name := "min", desc := "(II)I" } : Jvm.MethodName)) ∈ lw_all := lw_g (lw_at lw_m4 111 rfl) rfl
theorem q962 : (Jvm.Cond.methodLink "java/util/BitSet" (199 : Nat) ({ cls := "java/lang/System", name := "arraycopy", desc := "(Ljava/lang/Object;ILjava/lang/Object;II)V" } : Jvm.MethodName)) ∈ lw_all := lw_g (lw_at lw_m4 112 rfl) rfl
theorem q1157 : (Jvm.Cond.instanceMethod ({ cls := "java/util/BitSet", name := "clear", desc := "(I)V" } : Jvm.MethodName)) ∈ lw_all := lw_g (lw_at lw_m5 67 rfl) rfl
theorem q1158 : (Jvm.Cond.selects "java/util/BitSet" ({ cls := "java/util/BitSet", name := "clear", desc := "(I)V" } : Jvm.MethodName) ({ cls := "java/util/BitSet", name := "clear", desc := "(I)V" } : Jvm.MethodName)) ∈ lw_all := lw_g (lw_at lw_m5 68 rfl) rfl
theorem q1159 : (Jvm.Cond.code ({ cls := "java/util/BitSet", name := "clear", desc := "(I)V" } : Jvm.MethodName) prog_74_method_23_code (3 : Nat) (Option.none : Option Jvm.ClassFile.FieldType)) ∈ lw_all := lw_g (lw_at lw_m5 69 rfl) rfl
theorem q1160 : (Jvm.Cond.methodLink "java/util/BitSet" (158 : Nat) ({ cls := "java/util/BitSet", name := "recalculateWordsInUse", desc := "()V" } : Jvm.MethodName)) ∈ lw_all := lw_g (lw_at lw_m5 70 rfl) rfl
theorem q1161 : (Jvm.Cond.privateMethod ({ cls := "java/util/BitSet", name := "recalculateWordsInUse", desc := "()V" } : Jvm.MethodName)) ∈ lw_tbl := lw_at lw_m5 71 rfl
theorem q1162 : (Jvm.Cond.instanceMethod ({ cls := "java/util/BitSet", name := "recalculateWordsInUse", desc := "()V" } : Jvm.MethodName)) ∈ lw_all := lw_g (lw_at lw_m5 72 rfl) rfl
theorem q1163 : (Jvm.Cond.code ({ cls := "java/util/BitSet", name := "recalculateWordsInUse", desc := "()V" } : Jvm.MethodName) prog_74_method_3_code (2 : Nat) (Option.none : Option Jvm.ClassFile.FieldType)) ∈ lw_all := lw_g (lw_at lw_m5 73 rfl) rfl
theorem q3394 : (Jvm.Cond.castable "java/util/BitSet" "java/lang/Object") ∈ lw_tbl := lw_at lw_m14 144 rfl
theorem in_J0 : ∀ w ∈ wsJ00, w ∈ lw_all := lw_in wsJ00 [616, 618, 620] (by decide +kernel) (by decide +kernel)
/-! java/lang/Throwable -/
set_option maxRecDepth 100000
def RJ1 : String := "java/lang/Throwable"
def TJ1 : u_T := fun k => match k with
  | 0 => ("java/lang/Throwable", "cause", "Ljava/lang/Throwable;", false)
  | 1 => ("java/lang/Throwable", "stackTrace", "[Ljava/lang/StackTraceElement;", false)
  | 2 => ("java/lang/Throwable", "suppressedExceptions", "Ljava/util/List;", false)
  | 3 => ("java/lang/Throwable", "detailMessage", "Ljava/lang/String;", false)
  | _ => ("java/lang/Throwable", "backtrace", "Ljava/lang/Object;", false)
def tyJ1 : Nat → FieldType := fun k => match k with
  | 0 => .object "java/lang/Throwable"
  | 1 => .array (.object "java/lang/StackTraceElement")
  | 2 => .object "java/util/List"
  | 3 => .object "java/lang/String"
  | _ => .object "java/lang/Object"
abbrev wsJ10 : List Cond := u_ws RJ1 TJ1 5
theorem nmJ1 : ∀ a, a < 5 → ∀ b, b < 5 → a ≠ b → (TJ1 a).2.1 ≠ (TJ1 b).2.1 := by decide +kernel
theorem tyJ1_ok : ∀ k, k < 5 → parseFieldDescriptor (TJ1 k).2.2.1 = some (tyJ1 k) := by decide +kernel
abbrev cJ1_init : ByteArray := prog_63_method_1_code
def yJ1_init : MethodName := ⟨RJ1, "<init>", "()V"⟩
def dkwJ1_init_1 : List UInt8 := [182, 0, 27, 87, 177]
abbrev dktJ1_init_1 : List UInt8 := dkwJ1_init_1 ++ []
def dkwJ1_init_0 : List UInt8 := [42, 183, 0, 1, 42, 42, 181, 0, 7, 42, 178, 0, 13, 181, 0, 17, 42, 178, 0, 20, 181, 0, 24, 42]
abbrev dktJ1_init_0 : List UInt8 := dkwJ1_init_0 ++ dktJ1_init_1
theorem dksJ1_init_0 : cJ1_init.data.toList.drop 0 = dktJ1_init_0 := by decide +kernel
theorem dksJ1_init_1 : cJ1_init.data.toList.drop 24 = dktJ1_init_1 := dk_seg dksJ1_init_0 24 rfl rfl
theorem dJ1_init_0 : decode cJ1_init 0 = .ok (.aload_n 0, 1) := dk_42 (dk_at dksJ1_init_0 0 rfl rfl)
theorem dJ1_init_1 : decode cJ1_init 1 = .ok (.invokespecial 1, 3) := dk_183 0 1 (dk_at dksJ1_init_0 1 rfl rfl)
theorem dJ1_init_4 : decode cJ1_init 4 = .ok (.aload_n 0, 1) := dk_42 (dk_at dksJ1_init_0 4 rfl rfl)
theorem dJ1_init_5 : decode cJ1_init 5 = .ok (.aload_n 0, 1) := dk_42 (dk_at dksJ1_init_0 5 rfl rfl)
theorem dJ1_init_6 : decode cJ1_init 6 = .ok (.putfield 7, 3) := dk_181 0 7 (dk_at dksJ1_init_0 6 rfl rfl)
theorem dJ1_init_9 : decode cJ1_init 9 = .ok (.aload_n 0, 1) := dk_42 (dk_at dksJ1_init_0 9 rfl rfl)
theorem dJ1_init_10 : decode cJ1_init 10 = .ok (.getstatic 13, 3) := dk_178 0 13 (dk_at dksJ1_init_0 10 rfl rfl)
theorem dJ1_init_13 : decode cJ1_init 13 = .ok (.putfield 17, 3) := dk_181 0 17 (dk_at dksJ1_init_0 13 rfl rfl)
theorem dJ1_init_16 : decode cJ1_init 16 = .ok (.aload_n 0, 1) := dk_42 (dk_at dksJ1_init_0 16 rfl rfl)
theorem dJ1_init_17 : decode cJ1_init 17 = .ok (.getstatic 20, 3) := dk_178 0 20 (dk_at dksJ1_init_0 17 rfl rfl)
theorem dJ1_init_20 : decode cJ1_init 20 = .ok (.putfield 24, 3) := dk_181 0 24 (dk_at dksJ1_init_0 20 rfl rfl)
theorem dJ1_init_23 : decode cJ1_init 23 = .ok (.aload_n 0, 1) := dk_42 (dk_at dksJ1_init_0 23 rfl rfl)
theorem dJ1_init_24 : decode cJ1_init 24 = .ok (.invokevirtual 27, 3) := dk_182 0 27 (dk_at dksJ1_init_1 0 rfl rfl)
theorem dJ1_init_27 : decode cJ1_init 27 = .ok (.pop, 1) := dk_87 (dk_at dksJ1_init_1 3 rfl rfl)
theorem dJ1_init_28 : decode cJ1_init 28 = .ok (.return_, 1) := dk_177 (dk_at dksJ1_init_1 4 rfl rfl)
abbrev cJ1_init_2 : ByteArray := prog_63_method_2_code
def yJ1_init_2 : MethodName := ⟨RJ1, "<init>", "(Ljava/lang/String;)V"⟩
def dkwJ1_init_2_1 : List UInt8 := [182, 0, 27, 87, 42, 43, 181, 0, 31, 177]
abbrev dktJ1_init_2_1 : List UInt8 := dkwJ1_init_2_1 ++ []
def dkwJ1_init_2_0 : List UInt8 := [42, 183, 0, 1, 42, 42, 181, 0, 7, 42, 178, 0, 13, 181, 0, 17, 42, 178, 0, 20, 181, 0, 24, 42]
abbrev dktJ1_init_2_0 : List UInt8 := dkwJ1_init_2_0 ++ dktJ1_init_2_1
theorem dksJ1_init_2_0 : cJ1_init_2.data.toList.drop 0 = dktJ1_init_2_0 := by decide +kernel
theorem dksJ1_init_2_1 : cJ1_init_2.data.toList.drop 24 = dktJ1_init_2_1 := dk_seg dksJ1_init_2_0 24 rfl rfl
theorem dJ1_init_2_0 : decode cJ1_init_2 0 = .ok (.aload_n 0, 1) := dk_42 (dk_at dksJ1_init_2_0 0 rfl rfl)
theorem dJ1_init_2_1 : decode cJ1_init_2 1 = .ok (.invokespecial 1, 3) := dk_183 0 1 (dk_at dksJ1_init_2_0 1 rfl rfl)
theorem dJ1_init_2_4 : decode cJ1_init_2 4 = .ok (.aload_n 0, 1) := dk_42 (dk_at dksJ1_init_2_0 4 rfl rfl)
theorem dJ1_init_2_5 : decode cJ1_init_2 5 = .ok (.aload_n 0, 1) := dk_42 (dk_at dksJ1_init_2_0 5 rfl rfl)
theorem dJ1_init_2_6 : decode cJ1_init_2 6 = .ok (.putfield 7, 3) := dk_181 0 7 (dk_at dksJ1_init_2_0 6 rfl rfl)
theorem dJ1_init_2_9 : decode cJ1_init_2 9 = .ok (.aload_n 0, 1) := dk_42 (dk_at dksJ1_init_2_0 9 rfl rfl)
theorem dJ1_init_2_10 : decode cJ1_init_2 10 = .ok (.getstatic 13, 3) := dk_178 0 13 (dk_at dksJ1_init_2_0 10 rfl rfl)
theorem dJ1_init_2_13 : decode cJ1_init_2 13 = .ok (.putfield 17, 3) := dk_181 0 17 (dk_at dksJ1_init_2_0 13 rfl rfl)
theorem dJ1_init_2_16 : decode cJ1_init_2 16 = .ok (.aload_n 0, 1) := dk_42 (dk_at dksJ1_init_2_0 16 rfl rfl)
theorem dJ1_init_2_17 : decode cJ1_init_2 17 = .ok (.getstatic 20, 3) := dk_178 0 20 (dk_at dksJ1_init_2_0 17 rfl rfl)
theorem dJ1_init_2_20 : decode cJ1_init_2 20 = .ok (.putfield 24, 3) := dk_181 0 24 (dk_at dksJ1_init_2_0 20 rfl rfl)
theorem dJ1_init_2_23 : decode cJ1_init_2 23 = .ok (.aload_n 0, 1) := dk_42 (dk_at dksJ1_init_2_0 23 rfl rfl)
theorem dJ1_init_2_24 : decode cJ1_init_2 24 = .ok (.invokevirtual 27, 3) := dk_182 0 27 (dk_at dksJ1_init_2_1 0 rfl rfl)
theorem dJ1_init_2_27 : decode cJ1_init_2 27 = .ok (.pop, 1) := dk_87 (dk_at dksJ1_init_2_1 3 rfl rfl)
theorem dJ1_init_2_28 : decode cJ1_init_2 28 = .ok (.aload_n 0, 1) := dk_42 (dk_at dksJ1_init_2_1 4 rfl rfl)
theorem dJ1_init_2_29 : decode cJ1_init_2 29 = .ok (.aload_n 1, 1) := dk_43 (dk_at dksJ1_init_2_1 5 rfl rfl)
theorem dJ1_init_2_30 : decode cJ1_init_2 30 = .ok (.putfield 31, 3) := dk_181 0 31 (dk_at dksJ1_init_2_1 6 rfl rfl)
theorem dJ1_init_2_33 : decode cJ1_init_2 33 = .ok (.return_, 1) := dk_177 (dk_at dksJ1_init_2_1 9 rfl rfl)
abbrev cJ1_init_3 : ByteArray := prog_63_method_4_code
def yJ1_init_3 : MethodName := ⟨RJ1, "<init>", "(Ljava/lang/Throwable;)V"⟩
def dkwJ1_init_3_2 : List UInt8 := [181, 0, 7, 177]
abbrev dktJ1_init_3_2 : List UInt8 := dkwJ1_init_3_2 ++ []
def dkwJ1_init_3_1 : List UInt8 := [182, 0, 27, 87, 42, 43, 199, 0, 7, 1, 167, 0, 7, 43, 182, 0, 35, 181, 0, 31, 42, 43]
abbrev dktJ1_init_3_1 : List UInt8 := dkwJ1_init_3_1 ++ dktJ1_init_3_2
def dkwJ1_init_3_0 : List UInt8 := [42, 183, 0, 1, 42, 42, 181, 0, 7, 42, 178, 0, 13, 181, 0, 17, 42, 178, 0, 20, 181, 0, 24, 42]
abbrev dktJ1_init_3_0 : List UInt8 := dkwJ1_init_3_0 ++ dktJ1_init_3_1
theorem dksJ1_init_3_0 : cJ1_init_3.data.toList.drop 0 = dktJ1_init_3_0 := by decide +kernel
theorem dksJ1_init_3_1 : cJ1_init_3.data.toList.drop 24 = dktJ1_init_3_1 := dk_seg dksJ1_init_3_0 24 rfl rfl
theorem dksJ1_init_3_2 : cJ1_init_3.data.toList.drop 46 = dktJ1_init_3_2 := dk_seg dksJ1_init_3_1 22 rfl rfl
theorem dJ1_init_3_0 : decode cJ1_init_3 0 = .ok (.aload_n 0, 1) := dk_42 (dk_at dksJ1_init_3_0 0 rfl rfl)
theorem dJ1_init_3_1 : decode cJ1_init_3 1 = .ok (.invokespecial 1, 3) := dk_183 0 1 (dk_at dksJ1_init_3_0 1 rfl rfl)
theorem dJ1_init_3_4 : decode cJ1_init_3 4 = .ok (.aload_n 0, 1) := dk_42 (dk_at dksJ1_init_3_0 4 rfl rfl)
theorem dJ1_init_3_5 : decode cJ1_init_3 5 = .ok (.aload_n 0, 1) := dk_42 (dk_at dksJ1_init_3_0 5 rfl rfl)
theorem dJ1_init_3_6 : decode cJ1_init_3 6 = .ok (.putfield 7, 3) := dk_181 0 7 (dk_at dksJ1_init_3_0 6 rfl rfl)
theorem dJ1_init_3_9 : decode cJ1_init_3 9 = .ok (.aload_n 0, 1) := dk_42 (dk_at dksJ1_init_3_0 9 rfl rfl)
theorem dJ1_init_3_10 : decode cJ1_init_3 10 = .ok (.getstatic 13, 3) := dk_178 0 13 (dk_at dksJ1_init_3_0 10 rfl rfl)
theorem dJ1_init_3_13 : decode cJ1_init_3 13 = .ok (.putfield 17, 3) := dk_181 0 17 (dk_at dksJ1_init_3_0 13 rfl rfl)
theorem dJ1_init_3_16 : decode cJ1_init_3 16 = .ok (.aload_n 0, 1) := dk_42 (dk_at dksJ1_init_3_0 16 rfl rfl)
theorem dJ1_init_3_17 : decode cJ1_init_3 17 = .ok (.getstatic 20, 3) := dk_178 0 20 (dk_at dksJ1_init_3_0 17 rfl rfl)
theorem dJ1_init_3_20 : decode cJ1_init_3 20 = .ok (.putfield 24, 3) := dk_181 0 24 (dk_at dksJ1_init_3_0 20 rfl rfl)
theorem dJ1_init_3_23 : decode cJ1_init_3 23 = .ok (.aload_n 0, 1) := dk_42 (dk_at dksJ1_init_3_0 23 rfl rfl)
theorem dJ1_init_3_24 : decode cJ1_init_3 24 = .ok (.invokevirtual 27, 3) := dk_182 0 27 (dk_at dksJ1_init_3_1 0 rfl rfl)
theorem dJ1_init_3_27 : decode cJ1_init_3 27 = .ok (.pop, 1) := dk_87 (dk_at dksJ1_init_3_1 3 rfl rfl)
theorem dJ1_init_3_28 : decode cJ1_init_3 28 = .ok (.aload_n 0, 1) := dk_42 (dk_at dksJ1_init_3_1 4 rfl rfl)
theorem dJ1_init_3_29 : decode cJ1_init_3 29 = .ok (.aload_n 1, 1) := dk_43 (dk_at dksJ1_init_3_1 5 rfl rfl)
theorem dJ1_init_3_30 : decode cJ1_init_3 30 = .ok (.ifnonnull 7, 3) := dk_199 0 7 (dk_at dksJ1_init_3_1 6 rfl rfl)
theorem dJ1_init_3_33 : decode cJ1_init_3 33 = .ok (.aconst_null, 1) := dk_1 (dk_at dksJ1_init_3_1 9 rfl rfl)
theorem dJ1_init_3_34 : decode cJ1_init_3 34 = .ok (.goto 7, 3) := dk_167 0 7 (dk_at dksJ1_init_3_1 10 rfl rfl)
theorem dJ1_init_3_37 : decode cJ1_init_3 37 = .ok (.aload_n 1, 1) := dk_43 (dk_at dksJ1_init_3_1 13 rfl rfl)
theorem dJ1_init_3_38 : decode cJ1_init_3 38 = .ok (.invokevirtual 35, 3) := dk_182 0 35 (dk_at dksJ1_init_3_1 14 rfl rfl)
theorem dJ1_init_3_41 : decode cJ1_init_3 41 = .ok (.putfield 31, 3) := dk_181 0 31 (dk_at dksJ1_init_3_1 17 rfl rfl)
theorem dJ1_init_3_44 : decode cJ1_init_3 44 = .ok (.aload_n 0, 1) := dk_42 (dk_at dksJ1_init_3_1 20 rfl rfl)
theorem dJ1_init_3_45 : decode cJ1_init_3 45 = .ok (.aload_n 1, 1) := dk_43 (dk_at dksJ1_init_3_1 21 rfl rfl)
theorem dJ1_init_3_46 : decode cJ1_init_3 46 = .ok (.putfield 7, 3) := dk_181 0 7 (dk_at dksJ1_init_3_2 0 rfl rfl)
theorem dJ1_init_3_49 : decode cJ1_init_3 49 = .ok (.return_, 1) := dk_177 (dk_at dksJ1_init_3_2 3 rfl rfl)
abbrev cJ1_toString : ByteArray := prog_63_method_11_code
def yJ1_toString : MethodName := ⟨RJ1, "toString", "()Ljava/lang/String;"⟩
def dkwJ1_toString_1 : List UInt8 := [43, 182, 0, 49, 18, 81, 182, 0, 49, 44, 182, 0, 49, 182, 0, 60, 167, 0, 4, 43, 176]
abbrev dktJ1_toString_1 : List UInt8 := dkwJ1_toString_1 ++ []
def dkwJ1_toString_0 : List UInt8 := [42, 182, 0, 69, 182, 0, 73, 76, 42, 182, 0, 78, 77, 44, 198, 0, 29, 187, 0, 44, 89, 183, 0, 46]
abbrev dktJ1_toString_0 : List UInt8 := dkwJ1_toString_0 ++ dktJ1_toString_1
theorem dksJ1_toString_0 : cJ1_toString.data.toList.drop 0 = dktJ1_toString_0 := by decide +kernel
theorem dksJ1_toString_1 : cJ1_toString.data.toList.drop 24 = dktJ1_toString_1 := dk_seg dksJ1_toString_0 24 rfl rfl
theorem dJ1_toString_0 : decode cJ1_toString 0 = .ok (.aload_n 0, 1) := dk_42 (dk_at dksJ1_toString_0 0 rfl rfl)
theorem dJ1_toString_1 : decode cJ1_toString 1 = .ok (.invokevirtual 69, 3) := dk_182 0 69 (dk_at dksJ1_toString_0 1 rfl rfl)
theorem dJ1_toString_4 : decode cJ1_toString 4 = .ok (.invokevirtual 73, 3) := dk_182 0 73 (dk_at dksJ1_toString_0 4 rfl rfl)
theorem dJ1_toString_7 : decode cJ1_toString 7 = .ok (.astore_n 1, 1) := dk_76 (dk_at dksJ1_toString_0 7 rfl rfl)
theorem dJ1_toString_8 : decode cJ1_toString 8 = .ok (.aload_n 0, 1) := dk_42 (dk_at dksJ1_toString_0 8 rfl rfl)
theorem dJ1_toString_9 : decode cJ1_toString 9 = .ok (.invokevirtual 78, 3) := dk_182 0 78 (dk_at dksJ1_toString_0 9 rfl rfl)
theorem dJ1_toString_12 : decode cJ1_toString 12 = .ok (.astore_n 2, 1) := dk_77 (dk_at dksJ1_toString_0 12 rfl rfl)
theorem dJ1_toString_13 : decode cJ1_toString 13 = .ok (.aload_n 2, 1) := dk_44 (dk_at dksJ1_toString_0 13 rfl rfl)
theorem dJ1_toString_14 : decode cJ1_toString 14 = .ok (.ifnull 29, 3) := dk_198 0 29 (dk_at dksJ1_toString_0 14 rfl rfl)
theorem dJ1_toString_17 : decode cJ1_toString 17 = .ok (.new 44, 3) := dk_187 0 44 (dk_at dksJ1_toString_0 17 rfl rfl)
theorem dJ1_toString_20 : decode cJ1_toString 20 = .ok (.dup, 1) := dk_89 (dk_at dksJ1_toString_0 20 rfl rfl)
theorem dJ1_toString_21 : decode cJ1_toString 21 = .ok (.invokespecial 46, 3) := dk_183 0 46 (dk_at dksJ1_toString_0 21 rfl rfl)
theorem dJ1_toString_24 : decode cJ1_toString 24 = .ok (.aload_n 1, 1) := dk_43 (dk_at dksJ1_toString_1 0 rfl rfl)
theorem dJ1_toString_25 : decode cJ1_toString 25 = .ok (.invokevirtual 49, 3) := dk_182 0 49 (dk_at dksJ1_toString_1 1 rfl rfl)
theorem dJ1_toString_28 : decode cJ1_toString 28 = .ok (.ldc 81, 2) := dk_18 81 (dk_at dksJ1_toString_1 4 rfl rfl)
theorem dJ1_toString_30 : decode cJ1_toString 30 = .ok (.invokevirtual 49, 3) := dk_182 0 49 (dk_at dksJ1_toString_1 6 rfl rfl)
theorem dJ1_toString_33 : decode cJ1_toString 33 = .ok (.aload_n 2, 1) := dk_44 (dk_at dksJ1_toString_1 9 rfl rfl)
theorem dJ1_toString_34 : decode cJ1_toString 34 = .ok (.invokevirtual 49, 3) := dk_182 0 49 (dk_at dksJ1_toString_1 10 rfl rfl)
theorem dJ1_toString_37 : decode cJ1_toString 37 = .ok (.invokevirtual 60, 3) := dk_182 0 60 (dk_at dksJ1_toString_1 13 rfl rfl)
theorem dJ1_toString_40 : decode cJ1_toString 40 = .ok (.goto 4, 3) := dk_167 0 4 (dk_at dksJ1_toString_1 16 rfl rfl)
theorem dJ1_toString_43 : decode cJ1_toString 43 = .ok (.aload_n 1, 1) := dk_43 (dk_at dksJ1_toString_1 19 rfl rfl)
theorem dJ1_toString_44 : decode cJ1_toString 44 = .ok (.areturn, 1) := dk_176 (dk_at dksJ1_toString_1 20 rfl rfl)
abbrev cJ1_getLocalizedMessage : ByteArray := prog_63_method_7_code
def yJ1_getLocalizedMessage : MethodName := ⟨RJ1, "getLocalizedMessage", "()Ljava/lang/String;"⟩
theorem dJ1_getLocalizedMessage_0 : decode cJ1_getLocalizedMessage 0 = .ok (.aload_n 0, 1) := by decide +kernel
theorem dJ1_getLocalizedMessage_1 : decode cJ1_getLocalizedMessage 1 = .ok (.invokevirtual 39, 3) := by decide +kernel
theorem dJ1_getLocalizedMessage_4 : decode cJ1_getLocalizedMessage 4 = .ok (.areturn, 1) := by decide +kernel
abbrev cJ1_getMessage : ByteArray := prog_63_method_6_code
def yJ1_getMessage : MethodName := ⟨RJ1, "getMessage", "()Ljava/lang/String;"⟩
theorem dJ1_getMessage_0 : decode cJ1_getMessage 0 = .ok (.aload_n 0, 1) := by decide +kernel
theorem dJ1_getMessage_1 : decode cJ1_getMessage 1 = .ok (.getfield 31, 3) := by decide +kernel
theorem dJ1_getMessage_4 : decode cJ1_getMessage 4 = .ok (.areturn, 1) := by decide +kernel
abbrev cJ1_init_4 : ByteArray := prog_63_method_5_code
def yJ1_init_4 : MethodName := ⟨RJ1, "<init>", "(Ljava/lang/String;Ljava/lang/Throwable;ZZ)V"⟩
def dkwJ1_init_4_2 : List UInt8 := [44, 181, 0, 7, 29, 154, 0, 8, 42, 1, 181, 0, 24, 177]
abbrev dktJ1_init_4_2 : List UInt8 := dkwJ1_init_4_2 ++ []
def dkwJ1_init_4_1 : List UInt8 := [21, 4, 153, 0, 11, 42, 182, 0, 27, 87, 167, 0, 8, 42, 1, 181, 0, 17, 42, 43, 181, 0, 31, 42]
abbrev dktJ1_init_4_1 : List UInt8 := dkwJ1_init_4_1 ++ dktJ1_init_4_2
def dkwJ1_init_4_0 : List UInt8 := [42, 183, 0, 1, 42, 42, 181, 0, 7, 42, 178, 0, 13, 181, 0, 17, 42, 178, 0, 20, 181, 0, 24]
abbrev dktJ1_init_4_0 : List UInt8 := dkwJ1_init_4_0 ++ dktJ1_init_4_1
theorem dksJ1_init_4_0 : cJ1_init_4.data.toList.drop 0 = dktJ1_init_4_0 := by decide +kernel
theorem dksJ1_init_4_1 : cJ1_init_4.data.toList.drop 23 = dktJ1_init_4_1 := dk_seg dksJ1_init_4_0 23 rfl rfl
theorem dksJ1_init_4_2 : cJ1_init_4.data.toList.drop 47 = dktJ1_init_4_2 := dk_seg dksJ1_init_4_1 24 rfl rfl
theorem dJ1_init_4_0 : decode cJ1_init_4 0 = .ok (.aload_n 0, 1) := dk_42 (dk_at dksJ1_init_4_0 0 rfl rfl)
theorem dJ1_init_4_1 : decode cJ1_init_4 1 = .ok (.invokespecial 1, 3) := dk_183 0 1 (dk_at dksJ1_init_4_0 1 rfl rfl)
theorem dJ1_init_4_4 : decode cJ1_init_4 4 = .ok (.aload_n 0, 1) := dk_42 (dk_at dksJ1_init_4_0 4 rfl rfl)
theorem dJ1_init_4_5 : decode cJ1_init_4 5 = .ok (.aload_n 0, 1) := dk_42 (dk_at dksJ1_init_4_0 5 rfl rfl)
theorem dJ1_init_4_6 : decode cJ1_init_4 6 = .ok (.putfield 7, 3) := dk_181 0 7 (dk_at dksJ1_init_4_0 6 rfl rfl)
theorem dJ1_init_4_9 : decode cJ1_init_4 9 = .ok (.aload_n 0, 1) := dk_42 (dk_at dksJ1_init_4_0 9 rfl rfl)
theorem dJ1_init_4_10 : decode cJ1_init_4 10 = .ok (.getstatic 13, 3) := dk_178 0 13 (dk_at dksJ1_init_4_0 10 rfl rfl)
theorem dJ1_init_4_13 : decode cJ1_init_4 13 = .ok (.putfield 17, 3) := dk_181 0 17 (dk_at dksJ1_init_4_0 13 rfl rfl)
theorem dJ1_init_4_16 : decode cJ1_init_4 16 = .ok (.aload_n 0, 1) := dk_42 (dk_at dksJ1_init_4_0 16 rfl rfl)
theorem dJ1_init_4_17 : decode cJ1_init_4 17 = .ok (.getstatic 20, 3) := dk_178 0 20 (dk_at dksJ1_init_4_0 17 rfl rfl)
theorem dJ1_init_4_20 : decode cJ1_init_4 20 = .ok (.putfield 24, 3) := dk_181 0 24 (dk_at dksJ1_init_4_0 20 rfl rfl)
theorem dJ1_init_4_23 : decode cJ1_init_4 23 = .ok (.iload 4, 2) := dk_21 4 (dk_at dksJ1_init_4_1 0 rfl rfl)
theorem dJ1_init_4_25 : decode cJ1_init_4 25 = .ok (.ifCond .eq 11, 3) := dk_153 0 11 (dk_at dksJ1_init_4_1 2 rfl rfl)
theorem dJ1_init_4_28 : decode cJ1_init_4 28 = .ok (.aload_n 0, 1) := dk_42 (dk_at dksJ1_init_4_1 5 rfl rfl)
theorem dJ1_init_4_29 : decode cJ1_init_4 29 = .ok (.invokevirtual 27, 3) := dk_182 0 27 (dk_at dksJ1_init_4_1 6 rfl rfl)
theorem dJ1_init_4_32 : decode cJ1_init_4 32 = .ok (.pop, 1) := dk_87 (dk_at dksJ1_init_4_1 9 rfl rfl)
theorem dJ1_init_4_33 : decode cJ1_init_4 33 = .ok (.goto 8, 3) := dk_167 0 8 (dk_at dksJ1_init_4_1 10 rfl rfl)
theorem dJ1_init_4_36 : decode cJ1_init_4 36 = .ok (.aload_n 0, 1) := dk_42 (dk_at dksJ1_init_4_1 13 rfl rfl)
theorem dJ1_init_4_37 : decode cJ1_init_4 37 = .ok (.aconst_null, 1) := dk_1 (dk_at dksJ1_init_4_1 14 rfl rfl)
theorem dJ1_init_4_38 : decode cJ1_init_4 38 = .ok (.putfield 17, 3) := dk_181 0 17 (dk_at dksJ1_init_4_1 15 rfl rfl)
theorem dJ1_init_4_41 : decode cJ1_init_4 41 = .ok (.aload_n 0, 1) := dk_42 (dk_at dksJ1_init_4_1 18 rfl rfl)
theorem dJ1_init_4_42 : decode cJ1_init_4 42 = .ok (.aload_n 1, 1) := dk_43 (dk_at dksJ1_init_4_1 19 rfl rfl)
theorem dJ1_init_4_43 : decode cJ1_init_4 43 = .ok (.putfield 31, 3) := dk_181 0 31 (dk_at dksJ1_init_4_1 20 rfl rfl)
theorem dJ1_init_4_46 : decode cJ1_init_4 46 = .ok (.aload_n 0, 1) := dk_42 (dk_at dksJ1_init_4_1 23 rfl rfl)
theorem dJ1_init_4_47 : decode cJ1_init_4 47 = .ok (.aload_n 2, 1) := dk_44 (dk_at dksJ1_init_4_2 0 rfl rfl)
theorem dJ1_init_4_48 : decode cJ1_init_4 48 = .ok (.putfield 7, 3) := dk_181 0 7 (dk_at dksJ1_init_4_2 1 rfl rfl)
theorem dJ1_init_4_51 : decode cJ1_init_4 51 = .ok (.iload_n 3, 1) := dk_29 (dk_at dksJ1_init_4_2 4 rfl rfl)
theorem dJ1_init_4_52 : decode cJ1_init_4 52 = .ok (.ifCond .ne 8, 3) := dk_154 0 8 (dk_at dksJ1_init_4_2 5 rfl rfl)
theorem dJ1_init_4_55 : decode cJ1_init_4 55 = .ok (.aload_n 0, 1) := dk_42 (dk_at dksJ1_init_4_2 8 rfl rfl)
theorem dJ1_init_4_56 : decode cJ1_init_4 56 = .ok (.aconst_null, 1) := dk_1 (dk_at dksJ1_init_4_2 9 rfl rfl)
theorem dJ1_init_4_57 : decode cJ1_init_4 57 = .ok (.putfield 24, 3) := dk_181 0 24 (dk_at dksJ1_init_4_2 10 rfl rfl)
theorem dJ1_init_4_60 : decode cJ1_init_4 60 = .ok (.return_, 1) := dk_177 (dk_at dksJ1_init_4_2 13 rfl rfl)
theorem q134 : (Jvm.Cond.initialized "java/lang/Throwable") ∈ lw_all := lw_g (lw_at lw_m1 4 rfl) rfl
theorem q292 : (Jvm.Cond.declares ({ cls := "java/lang/Throwable", name := "<init>", desc := "()V" } : Jvm.MethodName)) ∈ lw_tbl := lw_at lw_m1 162 rfl
theorem q293 : (Jvm.Cond.declares ({ cls := "java/lang/Throwable", name := "<init>", desc := "(Ljava/lang/String;)V" } : Jvm.MethodName)) ∈ lw_tbl := lw_at lw_m1 163 rfl
theorem q297 : (Jvm.Cond.lays "java/lang/Throwable" "java/lang/Throwable" "cause" "Ljava/lang/Throwable;") ∈ lw_all := lw_g (lw_at lw_m1 167 rfl) rfl
theorem q299 : (Jvm.Cond.lays "java/lang/Throwable" "java/lang/Throwable" "stackTrace" "[Ljava/lang/StackTraceElement;") ∈ lw_all := lw_g (lw_at lw_m1 169 rfl) rfl
theorem q301 : (Jvm.Cond.lays "java/lang/Throwable" "java/lang/Throwable" "suppressedExceptions" "Ljava/util/List;") ∈ lw_all := lw_g (lw_at lw_m1 171 rfl) rfl
theorem q303 : (Jvm.Cond.lays "java/lang/Throwable" "java/lang/Throwable" "detailMessage" "Ljava/lang/String;") ∈ lw_all := lw_g (lw_at lw_m1 173 rfl) rfl
theorem q305 : (Jvm.Cond.lays "java/lang/Throwable" "java/lang/Throwable" "backtrace" "Ljava/lang/Object;") ∈ lw_all := lw_g (lw_at lw_m1 175 rfl) rfl
theorem q306 : (Jvm.Cond.fieldLink "java/lang/Throwable" (198 : Nat) "java/lang/Throwable" "backtrace" "Ljava/lang/Object;") ∈ lw_all := lw_g (lw_at lw_m1 176 rfl) rfl
theorem q307 : (Jvm.Cond.superclass "java/lang/Throwable" "java/lang/Object") ∈ lw_all := lw_g (lw_at lw_m1 177 rfl) rfl
theorem q308 : (Jvm.Cond.instanceMethod ({ cls := "java/lang/Throwable", name := "<init>", desc := "()V" } : Jvm.MethodName)) ∈ lw_all := lw_g (lw_at lw_m1 178 rfl) rfl
theorem q309 : (Jvm.Cond.code ({ cls := "java/lang/Throwable", name := "<init>", desc := "()V" } : Jvm.MethodName) prog_63_method_1_code (1 : Nat) (Option.none : Option Jvm.ClassFile.FieldType)) ∈ lw_all := lw_g (lw_at lw_m1 179 rfl) rfl
theorem q310 : (Jvm.Cond.methodLink "java/lang/Throwable" (1 : Nat) ({ cls := "java/lang/Object", name := "<init>", desc := "()V" } : Jvm.MethodName)) ∈ lw_all := lw_g (lw_at lw_m1 180 rfl) rfl
theorem q311 : (Jvm.Cond.fieldLink "java/lang/Throwable" (13 : Nat) "java/lang/Throwable" "UNASSIGNED_STACK" "[Ljava/lang/StackTraceElement;") ∈ lw_all := lw_g (lw_at lw_m1 181 rfl) rfl
theorem q312 : (Jvm.Cond.laysStatic "java/lang/Throwable" "UNASSIGNED_STACK" "[Ljava/lang/StackTraceElement;") ∈ lw_tbl := lw_at lw_m1 182 rfl
theorem q313 : (Jvm.Cond.fieldLink "java/lang/Throwable" (20 : Nat) "java/lang/Throwable" "SUPPRESSED_SENTINEL" "Ljava/util/List;") ∈ lw_all := lw_g (lw_at lw_m1 183 rfl) rfl
theorem q314 : (Jvm.Cond.laysStatic "java/lang/Throwable" "SUPPRESSED_SENTINEL" "Ljava/util/List;") ∈ lw_tbl := lw_at lw_m1 184 rfl
theorem q315 : (Jvm.Cond.methodLink "java/lang/Throwable" (27 : Nat) ({ cls := "java/lang/Throwable", name := "fillInStackTrace", desc := "()Ljava/lang/Throwable;" } : Jvm.MethodName)) ∈ lw_all := lw_g (lw_at lw_m1 185 rfl) rfl
theorem q316 : (Jvm.Cond.instanceMethod ({ cls := "java/lang/Throwable", name := "fillInStackTrace", desc := "()Ljava/lang/Throwable;" } : Jvm.MethodName)) ∈ lw_all := lw_g (lw_at lw_m1 186 rfl) rfl
theorem q317 : (Jvm.Cond.sameMethod "java/lang/Throwable" "java/lang/Throwable" "fillInStackTrace" "()Ljava/lang/Throwable;") ∈ lw_all := lw_g (lw_at lw_m1 187 rfl) rfl
theorem q325 : (Jvm.Cond.codeSync ({ cls := "java/lang/Throwable", name := "fillInStackTrace", desc := "()Ljava/lang/Throwable;" } : Jvm.MethodName) prog_63_method_18_code (1 : Nat) (Option.some (Jvm.ClassFile.FieldType.object "java/lang/Throwable"))) ∈ lw_all := lw_g (lw_at lw_m1 195 rfl) rfl
theorem q326 : (Jvm.Cond.methodLink "java/lang/Throwable" (202 : Nat) ({ cls := "java/lang/Throwable", name := "fillInStackTrace", desc := "(I)Ljava/lang/Throwable;" } : Jvm.MethodName)) ∈ lw_all := lw_g (lw_at lw_m1 196 rfl) rfl
theorem q327 : (Jvm.Cond.privateMethod ({ cls := "java/lang/Throwable", name := "fillInStackTrace", desc := "(I)Ljava/lang/Throwable;" } : Jvm.MethodName)) ∈ lw_tbl := lw_at lw_m1 197 rfl
theorem q328 : (Jvm.Cond.instanceMethod ({ cls := "java/lang/Throwable", name := "fillInStackTrace", desc := "(I)Ljava/lang/Throwable;" } : Jvm.MethodName)) ∈ lw_all := lw_g (lw_at lw_m1 198 rfl) rfl
theorem q329 : (Jvm.Cond.instantiable "java/lang/Throwable" (6 : Nat)) ∈ lw_all := lw_g (lw_at lw_m1 199 rfl) rfl
theorem q330 : (Jvm.Cond.native ({ cls := "java/lang/Throwable", name := "fillInStackTrace", desc := "(I)Ljava/lang/Throwable;" } : Jvm.MethodName)) ∈ lw_all := lw_g (lw_at lw_m1 200 rfl) rfl
theorem q359 : (Jvm.Cond.fieldLink "java/lang/Throwable" (198 : Nat) "java/lang/Throwable" "backtrace" "Ljava/lang/Object;") ∈ lw_all := lw_g (lw_at lw_m1 229 rfl) rfl
theorem q360 : (Jvm.Cond.fieldLink "java/lang/Throwable" (31 : Nat) "java/lang/Throwable" "detailMessage" "Ljava/lang/String;") ∈ lw_all := lw_g (lw_at lw_m1 230 rfl) rfl
theorem q361 : (Jvm.Cond.fieldLink "java/lang/Throwable" (7 : Nat) "java/lang/Throwable" "cause" "Ljava/lang/Throwable;") ∈ lw_all := lw_g (lw_at lw_m1 231 rfl) rfl
theorem q362 : (Jvm.Cond.fieldLink "java/lang/Throwable" (17 : Nat) "java/lang/Throwable" "stackTrace" "[Ljava/lang/StackTraceElement;") ∈ lw_all := lw_g (lw_at lw_m1 232 rfl) rfl
theorem q363 : (Jvm.Cond.fieldLink "java/lang/Throwable" (24 : Nat) "java/lang/Throwable" "suppressedExceptions" "Ljava/util/List;") ∈ lw_all := lw_g (lw_at lw_m1 233 rfl) rfl
theorem q364 : (Jvm.Cond.soleField "java/lang/Throwable" "backtrace") ∈ lw_all := lw_g (lw_at lw_m1 234 rfl) rfl
theorem q365 : (Jvm.Cond.soleField "java/lang/Throwable" "detailMessage") ∈ lw_all := lw_g (lw_at lw_m1 235 rfl) rfl
theorem q366 : (Jvm.Cond.soleField "java/lang/Throwable" "cause") ∈ lw_all := lw_g (lw_at lw_m1 236 rfl) rfl
theorem q367 : (Jvm.Cond.soleField "java/lang/Throwable" "stackTrace") ∈ lw_all := lw_g (lw_at lw_m1 237 rfl) rfl
theorem q369 : (Jvm.Cond.soleField "java/lang/Throwable" "depth") ∈ lw_all := lw_g (lw_at lw_m1 239 rfl) rfl
theorem q370 : (Jvm.Cond.soleField "java/lang/Throwable" "suppressedExceptions") ∈ lw_all := lw_g (lw_at lw_m2 0 rfl) rfl
theorem q604 : (Jvm.Cond.instanceMethod ({ cls := "java/lang/Throwable", name := "<init>", desc := "(Ljava/lang/String;)V" } : Jvm.MethodName)) ∈ lw_all := lw_g (lw_at lw_m2 234 rfl) rfl
theorem q605 : (Jvm.Cond.code ({ cls := "java/lang/Throwable", name := "<init>", desc := "(Ljava/lang/String;)V" } : Jvm.MethodName) prog_63_method_2_code (2 : Nat) (Option.none : Option Jvm.ClassFile.FieldType)) ∈ lw_all := lw_g (lw_at lw_m2 235 rfl) rfl
theorem q1100 : (Jvm.Cond.instanceMethod ({ cls := "java/lang/Throwable", name := "<init>", desc := "(Ljava/lang/Throwable;)V" } : Jvm.MethodName)) ∈ lw_all := lw_g (lw_at lw_m5 10 rfl) rfl
theorem q1101 : (Jvm.Cond.code ({ cls := "java/lang/Throwable", name := "<init>", desc := "(Ljava/lang/Throwable;)V" } : Jvm.MethodName) prog_63_method_4_code (2 : Nat) (Option.none : Option Jvm.ClassFile.FieldType)) ∈ lw_all := lw_g (lw_at lw_m5 11 rfl) rfl
theorem q1102 : (Jvm.Cond.methodLink "java/lang/Throwable" (35 : Nat) ({ cls := "java/lang/Throwable", name := "toString", desc := "()Ljava/lang/String;" } : Jvm.MethodName)) ∈ lw_all := lw_g (lw_at lw_m5 12 rfl) rfl
theorem q1103 : (Jvm.Cond.instanceMethod ({ cls := "java/lang/Throwable", name := "toString", desc := "()Ljava/lang/String;" } : Jvm.MethodName)) ∈ lw_all := lw_g (lw_at lw_m5 13 rfl) rfl
theorem q1104 : (Jvm.Cond.sameMethod "java/lang/Throwable" "java/lang/Throwable" "toString" "()Ljava/lang/String;") ∈ lw_all := lw_g (lw_at lw_m5 14 rfl) rfl
theorem q1113 : (Jvm.Cond.code ({ cls := "java/lang/Throwable", name := "toString", desc := "()Ljava/lang/String;" } : Jvm.MethodName) prog_63_method_11_code (3 : Nat) (Option.some (Jvm.ClassFile.FieldType.object "java/lang/String"))) ∈ lw_all := lw_g (lw_at lw_m5 23 rfl) rfl
theorem q1114 : (Jvm.Cond.methodLink "java/lang/Throwable" (69 : Nat) ({ cls := "java/lang/Object", name := "getClass", desc := "()Ljava/lang/Class;" } : Jvm.MethodName)) ∈ lw_all := lw_g (lw_at lw_m5 24 rfl) rfl
theorem q1115 : (Jvm.Cond.methodLink "java/lang/Throwable" (78 : Nat) ({ cls := "java/lang/Throwable", name := "getLocalizedMessage", desc := "()Ljava/lang/String;" } : Jvm.MethodName)) ∈ lw_all := lw_g (lw_at lw_m5 25 rfl) rfl
theorem q1116 : (Jvm.Cond.instanceMethod ({ cls := "java/lang/Throwable", name := "getLocalizedMessage", desc := "()Ljava/lang/String;" } : Jvm.MethodName)) ∈ lw_all := lw_g (lw_at lw_m5 26 rfl) rfl
theorem q1117 : (Jvm.Cond.sameMethod "java/lang/Throwable" "java/lang/Throwable" "getLocalizedMessage" "()Ljava/lang/String;") ∈ lw_all := lw_g (lw_at lw_m5 27 rfl) rfl
theorem q1126 : (Jvm.Cond.code ({ cls := "java/lang/Throwable", name := "getLocalizedMessage", desc := "()Ljava/lang/String;" } : Jvm.MethodName) prog_63_method_7_code (1 : Nat) (Option.some (Jvm.ClassFile.FieldType.object "java/lang/String"))) ∈ lw_all := lw_g (lw_at lw_m5 36 rfl) rfl
theorem q1127 : (Jvm.Cond.methodLink "java/lang/Throwable" (39 : Nat) ({ cls := "java/lang/Throwable", name := "getMessage", desc := "()Ljava/lang/String;" } : Jvm.MethodName)) ∈ lw_all := lw_g (lw_at lw_m5 37 rfl) rfl
theorem q1128 : (Jvm.Cond.instanceMethod ({ cls := "java/lang/Throwable", name := "getMessage", desc := "()Ljava/lang/String;" } : Jvm.MethodName)) ∈ lw_all := lw_g (lw_at lw_m5 38 rfl) rfl
theorem q1129 : (Jvm.Cond.sameMethod "java/lang/Throwable" "java/lang/Throwable" "getMessage" "()Ljava/lang/String;") ∈ lw_all := lw_g (lw_at lw_m5 39 rfl) rfl
theorem q1138 : (Jvm.Cond.code ({ cls := "java/lang/Throwable", name := "getMessage", desc := "()Ljava/lang/String;" } : Jvm.MethodName) prog_63_method_6_code (1 : Nat) (Option.some (Jvm.ClassFile.FieldType.object "java/lang/String"))) ∈ lw_all := lw_g (lw_at lw_m5 48 rfl) rfl
theorem q1139 : (Jvm.Cond.classLink "java/lang/Throwable" (44 : Nat) "java/lang/StringBuilder") ∈ lw_all := lw_g (lw_at lw_m5 49 rfl) rfl
theorem q1140 : (Jvm.Cond.methodLink "java/lang/Throwable" (46 : Nat) ({ cls := "java/lang/StringBuilder", name := "<init>", desc := "()V" } : Jvm.MethodName)) ∈ lw_all := lw_g (lw_at lw_m5 50 rfl) rfl
theorem q1141 : (Jvm.Cond.methodLink "java/lang/Throwable" (49 : Nat) ({ cls := "java/lang/StringBuilder", name := "append", desc := "(Ljava/lang/String;)Ljava/lang/StringBuilder;" } : Jvm.MethodName)) ∈ lw_all := lw_g (lw_at lw_m5 51 rfl) rfl
theorem q1142 : (Jvm.Cond.stringRef "java/lang/Throwable" (81 : Nat) ": ") ∈ lw_tbl := lw_at lw_m5 52 rfl
theorem q1143 : (Jvm.Cond.methodLink "java/lang/Throwable" (60 : Nat) ({ cls := "java/lang/StringBuilder", name := "toString", desc := "()Ljava/lang/String;" } : Jvm.MethodName)) ∈ lw_all := lw_g (lw_at lw_m5 53 rfl) rfl
theorem q1195 : (Jvm.Cond.instanceMethod ({ cls := "java/lang/Throwable", name := "<init>", desc := "(Ljava/lang/String;Ljava/lang/Throwable;ZZ)V" } : Jvm.MethodName)) ∈ lw_all := lw_g (lw_at lw_m5 105 rfl) rfl
theorem q1196 : (Jvm.Cond.code ({ cls := "java/lang/Throwable", name := "<init>", desc := "(Ljava/lang/String;Ljava/lang/Throwable;ZZ)V" } : Jvm.MethodName) prog_63_method_5_code (5 : Nat) (Option.none : Option Jvm.ClassFile.FieldType)) ∈ lw_all := lw_g (lw_at lw_m5 106 rfl) rfl
theorem q3346 : (Jvm.Cond.sameMethod "java/lang/Throwable" "java/lang/Throwable" "fillInStackTrace" "(I)Ljava/lang/Throwable;") ∈ lw_all := lw_g (lw_at lw_m14 96 rfl) rfl
theorem q3439 : (Jvm.Cond.castable "java/lang/Throwable" "java/lang/Object") ∈ lw_tbl := lw_at lw_m14 189 rfl
theorem in_J1 : ∀ w ∈ wsJ10, w ∈ lw_all := lw_in wsJ10 [297, 299, 301, 303, 305] (by decide +kernel) (by decide +kernel)
/-! java/lang/Math -/
set_option maxRecDepth 100000
def RJ10 : String := "java/lang/Math"
abbrev cJ10_max : ByteArray := prog_53_method_65_code
def yJ10_max : MethodName := ⟨RJ10, "max", "(II)I"⟩
def dkwJ10_max_0 : List UInt8 := [26, 27, 161, 0, 7, 26, 167, 0, 4, 27, 172]
abbrev dktJ10_max_0 : List UInt8 := dkwJ10_max_0 ++ []
theorem dksJ10_max_0 : cJ10_max.data.toList.drop 0 = dktJ10_max_0 := by decide +kernel
theorem dJ10_max_0 : decode cJ10_max 0 = .ok (.iload_n 0, 1) := dk_26 (dk_at dksJ10_max_0 0 rfl rfl)
theorem dJ10_max_1 : decode cJ10_max 1 = .ok (.iload_n 1, 1) := dk_27 (dk_at dksJ10_max_0 1 rfl rfl)
theorem dJ10_max_2 : decode cJ10_max 2 = .ok (.if_icmp .lt 7, 3) := dk_161 0 7 (dk_at dksJ10_max_0 2 rfl rfl)
theorem dJ10_max_5 : decode cJ10_max 5 = .ok (.iload_n 0, 1) := dk_26 (dk_at dksJ10_max_0 5 rfl rfl)
theorem dJ10_max_6 : decode cJ10_max 6 = .ok (.goto 4, 3) := dk_167 0 4 (dk_at dksJ10_max_0 6 rfl rfl)
theorem dJ10_max_9 : decode cJ10_max 9 = .ok (.iload_n 1, 1) := dk_27 (dk_at dksJ10_max_0 9 rfl rfl)
theorem dJ10_max_10 : decode cJ10_max 10 = .ok (.ireturn, 1) := dk_172 (dk_at dksJ10_max_0 10 rfl rfl)
abbrev cJ10_min : ByteArray := prog_53_method_69_code
def yJ10_min : MethodName := ⟨RJ10, "min", "(II)I"⟩
def dkwJ10_min_0 : List UInt8 := [26, 27, 163, 0, 7, 26, 167, 0, 4, 27, 172]
abbrev dktJ10_min_0 : List UInt8 := dkwJ10_min_0 ++ []
theorem dksJ10_min_0 : cJ10_min.data.toList.drop 0 = dktJ10_min_0 := by decide +kernel
theorem dJ10_min_0 : decode cJ10_min 0 = .ok (.iload_n 0, 1) := dk_26 (dk_at dksJ10_min_0 0 rfl rfl)
theorem dJ10_min_1 : decode cJ10_min 1 = .ok (.iload_n 1, 1) := dk_27 (dk_at dksJ10_min_0 1 rfl rfl)
theorem dJ10_min_2 : decode cJ10_min 2 = .ok (.if_icmp .gt 7, 3) := dk_163 0 7 (dk_at dksJ10_min_0 2 rfl rfl)
theorem dJ10_min_5 : decode cJ10_min 5 = .ok (.iload_n 0, 1) := dk_26 (dk_at dksJ10_min_0 5 rfl rfl)
theorem dJ10_min_6 : decode cJ10_min 6 = .ok (.goto 4, 3) := dk_167 0 4 (dk_at dksJ10_min_0 6 rfl rfl)
theorem dJ10_min_9 : decode cJ10_min 9 = .ok (.iload_n 1, 1) := dk_27 (dk_at dksJ10_min_0 9 rfl rfl)
theorem dJ10_min_10 : decode cJ10_min 10 = .ok (.ireturn, 1) := dk_172 (dk_at dksJ10_min_0 10 rfl rfl)
abbrev cJ10_min_2 : ByteArray := prog_53_method_70_code
def yJ10_min_2 : MethodName := ⟨RJ10, "min", "(JJ)J"⟩
def dkwJ10_min_2_0 : List UInt8 := [30, 32, 148, 157, 0, 7, 30, 167, 0, 4, 32, 173]
abbrev dktJ10_min_2_0 : List UInt8 := dkwJ10_min_2_0 ++ []
theorem dksJ10_min_2_0 : cJ10_min_2.data.toList.drop 0 = dktJ10_min_2_0 := by decide +kernel
theorem dJ10_min_2_0 : decode cJ10_min_2 0 = .ok (.lload_n 0, 1) := dk_30 (dk_at dksJ10_min_2_0 0 rfl rfl)
theorem dJ10_min_2_1 : decode cJ10_min_2 1 = .ok (.lload_n 2, 1) := dk_32 (dk_at dksJ10_min_2_0 1 rfl rfl)
theorem dJ10_min_2_2 : decode cJ10_min_2 2 = .ok (.lcmp, 1) := dk_148 (dk_at dksJ10_min_2_0 2 rfl rfl)
theorem dJ10_min_2_3 : decode cJ10_min_2 3 = .ok (.ifCond .gt 7, 3) := dk_157 0 7 (dk_at dksJ10_min_2_0 3 rfl rfl)
theorem dJ10_min_2_6 : decode cJ10_min_2 6 = .ok (.lload_n 0, 1) := dk_30 (dk_at dksJ10_min_2_0 6 rfl rfl)
theorem dJ10_min_2_7 : decode cJ10_min_2 7 = .ok (.goto 4, 3) := dk_167 0 4 (dk_at dksJ10_min_2_0 7 rfl rfl)
theorem dJ10_min_2_10 : decode cJ10_min_2 10 = .ok (.lload_n 2, 1) := dk_32 (dk_at dksJ10_min_2_0 10 rfl rfl)
theorem dJ10_min_2_11 : decode cJ10_min_2 11 = .ok (.lreturn, 1) := dk_173 (dk_at dksJ10_min_2_0 11 rfl rfl)
abbrev cJ10_abs : ByteArray := prog_53_method_64_code
def yJ10_abs : MethodName := ⟨RJ10, "abs", "(D)D"⟩
def dkwJ10_abs_0 : List UInt8 := [38, 184, 0, 79, 20, 0, 135, 127, 184, 0, 166, 175]
abbrev dktJ10_abs_0 : List UInt8 := dkwJ10_abs_0 ++ []
theorem dksJ10_abs_0 : cJ10_abs.data.toList.drop 0 = dktJ10_abs_0 := by decide +kernel
theorem dJ10_abs_0 : decode cJ10_abs 0 = .ok (.dload_n 0, 1) := dk_38 (dk_at dksJ10_abs_0 0 rfl rfl)
theorem dJ10_abs_1 : decode cJ10_abs 1 = .ok (.invokestatic 79, 3) := dk_184 0 79 (dk_at dksJ10_abs_0 1 rfl rfl)
theorem dJ10_abs_4 : decode cJ10_abs 4 = .ok (.ldc2_w 135, 3) := dk_20 0 135 (dk_at dksJ10_abs_0 4 rfl rfl)
theorem dJ10_abs_7 : decode cJ10_abs 7 = .ok (.land, 1) := dk_127 (dk_at dksJ10_abs_0 7 rfl rfl)
theorem dJ10_abs_8 : decode cJ10_abs 8 = .ok (.invokestatic 166, 3) := dk_184 0 166 (dk_at dksJ10_abs_0 8 rfl rfl)
theorem dJ10_abs_11 : decode cJ10_abs 11 = .ok (.dreturn, 1) := dk_175 (dk_at dksJ10_abs_0 11 rfl rfl)
theorem q143 : (Jvm.Cond.initialized "java/lang/Math") ∈ lw_all := lw_g (lw_at lw_m1 13 rfl) rfl
theorem q410 : (Jvm.Cond.static ({ cls := "java/lang/Math", name := "max", desc := "(II)I" } : Jvm.MethodName)) ∈ lw_all := lw_g (lw_at lw_m2 40 rfl) rfl
theorem q411 : (Jvm.Cond.code ({ cls := "java/lang/Math", name := "max", desc := "(II)I" } : Jvm.MethodName) prog_53_method_65_code (2 : Nat) (Option.some Jvm.ClassFile.FieldType.int)) ∈ lw_all := lw_g (lw_at lw_m2 41 rfl) rfl
theorem q428 : (Jvm.Cond.static ({ cls := "java/lang/Math", name := "min", desc := "(II)I" } : Jvm.MethodName)) ∈ lw_all := lw_g (lw_at lw_m2 58 rfl) rfl
theorem q429 : (Jvm.Cond.code ({ cls := "java/lang/Math", name := "min", desc := "(II)I" } : Jvm.MethodName) prog_53_method_69_code (2 : Nat) (Option.some Jvm.ClassFile.FieldType.int)) ∈ lw_all := lw_g (lw_at lw_m2 59 rfl) rfl
theorem q2993 : (Jvm.Cond.static ({ cls := "java/lang/Math", name := "min", desc := "(JJ)J" } : Jvm.MethodName)) ∈ lw_all := lw_g (lw_at lw_m12 223 rfl) rfl
theorem q2994 : (Jvm.Cond.code ({ cls := "java/lang/Math", name := "min", desc := "(JJ)J" } : Jvm.MethodName) prog_53_method_70_code (4 : Nat) (Option.some Jvm.ClassFile.FieldType.long)) ∈ lw_all := lw_g (lw_at lw_m12 224 rfl) rfl
theorem q3266 : (Jvm.Cond.static ({ cls := "java/lang/Math", name := "abs", desc := "(D)D" } : Jvm.MethodName)) ∈ lw_all := lw_g (lw_at lw_m14 16 rfl) rfl
theorem q3267 : (Jvm.Cond.code ({ cls := "java/lang/Math", name := "abs", desc := "(D)D" } : Jvm.MethodName) prog_53_method_64_code (2 : Nat) (Option.some Jvm.ClassFile.FieldType.double)) ∈ lw_all := lw_g (lw_at lw_m14 17 rfl) rfl
theorem q3268 : (Jvm.Cond.methodLink "java/lang/Math" (79 : Nat) ({ cls := "java/lang/Double", name := "doubleToRawLongBits", desc := "(D)J" } : Jvm.MethodName)) ∈ lw_all := lw_g (lw_at lw_m14 18 rfl) rfl
theorem q3269 : (Jvm.Cond.constantLong "java/lang/Math" (135 : Nat) (9223372036854775807 : Int64)) ∈ lw_all := lw_g (lw_at lw_m14 19 rfl) rfl
theorem q3270 : (Jvm.Cond.methodLink "java/lang/Math" (166 : Nat) ({ cls := "java/lang/Double", name := "longBitsToDouble", desc := "(J)D" } : Jvm.MethodName)) ∈ lw_all := lw_g (lw_at lw_m14 20 rfl) rfl
/-! java/util/Arrays -/
set_option maxRecDepth 100000
def RJ11 : String := "java/util/Arrays"
abbrev cJ11_copyOf : ByteArray := prog_73_method_121_code
def yJ11_copyOf : MethodName := ⟨RJ11, "copyOf", "([BI)[B"⟩
def dkwJ11_copyOf_1 : List UInt8 := [27, 184, 1, 48, 184, 0, 150, 44, 176]
abbrev dktJ11_copyOf_1 : List UInt8 := dkwJ11_copyOf_1 ++ []
def dkwJ11_copyOf_0 : List UInt8 := [27, 42, 190, 160, 0, 11, 42, 182, 1, 54, 192, 1, 55, 176, 27, 188, 8, 77, 42, 3, 44, 3, 42, 190]
abbrev dktJ11_copyOf_0 : List UInt8 := dkwJ11_copyOf_0 ++ dktJ11_copyOf_1
theorem dksJ11_copyOf_0 : cJ11_copyOf.data.toList.drop 0 = dktJ11_copyOf_0 := by decide +kernel
theorem dksJ11_copyOf_1 : cJ11_copyOf.data.toList.drop 24 = dktJ11_copyOf_1 := dk_seg dksJ11_copyOf_0 24 rfl rfl
theorem dJ11_copyOf_0 : decode cJ11_copyOf 0 = .ok (.iload_n 1, 1) := dk_27 (dk_at dksJ11_copyOf_0 0 rfl rfl)
theorem dJ11_copyOf_1 : decode cJ11_copyOf 1 = .ok (.aload_n 0, 1) := dk_42 (dk_at dksJ11_copyOf_0 1 rfl rfl)
theorem dJ11_copyOf_2 : decode cJ11_copyOf 2 = .ok (.arraylength, 1) := dk_190 (dk_at dksJ11_copyOf_0 2 rfl rfl)
theorem dJ11_copyOf_3 : decode cJ11_copyOf 3 = .ok (.if_icmp .ne 11, 3) := dk_160 0 11 (dk_at dksJ11_copyOf_0 3 rfl rfl)
theorem dJ11_copyOf_6 : decode cJ11_copyOf 6 = .ok (.aload_n 0, 1) := dk_42 (dk_at dksJ11_copyOf_0 6 rfl rfl)
theorem dJ11_copyOf_7 : decode cJ11_copyOf 7 = .ok (.invokevirtual 310, 3) := dk_182 1 54 (dk_at dksJ11_copyOf_0 7 rfl rfl)
theorem dJ11_copyOf_10 : decode cJ11_copyOf 10 = .ok (.checkcast 311, 3) := dk_192 1 55 (dk_at dksJ11_copyOf_0 10 rfl rfl)
theorem dJ11_copyOf_13 : decode cJ11_copyOf 13 = .ok (.areturn, 1) := dk_176 (dk_at dksJ11_copyOf_0 13 rfl rfl)
theorem dJ11_copyOf_14 : decode cJ11_copyOf 14 = .ok (.iload_n 1, 1) := dk_27 (dk_at dksJ11_copyOf_0 14 rfl rfl)
theorem dJ11_copyOf_15 : decode cJ11_copyOf 15 = .ok (.newarray .byte, 2) := dk_188_8 (dk_at dksJ11_copyOf_0 15 rfl rfl)
theorem dJ11_copyOf_17 : decode cJ11_copyOf 17 = .ok (.astore_n 2, 1) := dk_77 (dk_at dksJ11_copyOf_0 17 rfl rfl)
theorem dJ11_copyOf_18 : decode cJ11_copyOf 18 = .ok (.aload_n 0, 1) := dk_42 (dk_at dksJ11_copyOf_0 18 rfl rfl)
theorem dJ11_copyOf_19 : decode cJ11_copyOf 19 = .ok (.iconst 0, 1) := dk_3 (dk_at dksJ11_copyOf_0 19 rfl rfl)
theorem dJ11_copyOf_20 : decode cJ11_copyOf 20 = .ok (.aload_n 2, 1) := dk_44 (dk_at dksJ11_copyOf_0 20 rfl rfl)
theorem dJ11_copyOf_21 : decode cJ11_copyOf 21 = .ok (.iconst 0, 1) := dk_3 (dk_at dksJ11_copyOf_0 21 rfl rfl)
theorem dJ11_copyOf_22 : decode cJ11_copyOf 22 = .ok (.aload_n 0, 1) := dk_42 (dk_at dksJ11_copyOf_0 22 rfl rfl)
theorem dJ11_copyOf_23 : decode cJ11_copyOf 23 = .ok (.arraylength, 1) := dk_190 (dk_at dksJ11_copyOf_0 23 rfl rfl)
theorem dJ11_copyOf_24 : decode cJ11_copyOf 24 = .ok (.iload_n 1, 1) := dk_27 (dk_at dksJ11_copyOf_1 0 rfl rfl)
theorem dJ11_copyOf_25 : decode cJ11_copyOf 25 = .ok (.invokestatic 304, 3) := dk_184 1 48 (dk_at dksJ11_copyOf_1 1 rfl rfl)
theorem dJ11_copyOf_28 : decode cJ11_copyOf 28 = .ok (.invokestatic 150, 3) := dk_184 0 150 (dk_at dksJ11_copyOf_1 4 rfl rfl)
theorem dJ11_copyOf_31 : decode cJ11_copyOf 31 = .ok (.aload_n 2, 1) := dk_44 (dk_at dksJ11_copyOf_1 7 rfl rfl)
theorem dJ11_copyOf_32 : decode cJ11_copyOf 32 = .ok (.areturn, 1) := dk_176 (dk_at dksJ11_copyOf_1 8 rfl rfl)
abbrev cJ11_copyOfRange : ByteArray := prog_73_method_132_code
def yJ11_copyOfRange : MethodName := ⟨RJ11, "copyOfRange", "([BII)[B"⟩
def dkwJ11_copyOfRange_1 : List UInt8 := [176]
abbrev dktJ11_copyOfRange_1 : List UInt8 := dkwJ11_copyOfRange_1 ++ []
def dkwJ11_copyOfRange_0 : List UInt8 := [27, 154, 0, 9, 28, 42, 190, 159, 0, 10, 42, 27, 28, 184, 1, 83, 176, 42, 182, 1, 54, 192, 1, 55]
abbrev dktJ11_copyOfRange_0 : List UInt8 := dkwJ11_copyOfRange_0 ++ dktJ11_copyOfRange_1
theorem dksJ11_copyOfRange_0 : cJ11_copyOfRange.data.toList.drop 0 = dktJ11_copyOfRange_0 := by decide +kernel
theorem dksJ11_copyOfRange_1 : cJ11_copyOfRange.data.toList.drop 24 = dktJ11_copyOfRange_1 := dk_seg dksJ11_copyOfRange_0 24 rfl rfl
theorem dJ11_copyOfRange_0 : decode cJ11_copyOfRange 0 = .ok (.iload_n 1, 1) := dk_27 (dk_at dksJ11_copyOfRange_0 0 rfl rfl)
theorem dJ11_copyOfRange_1 : decode cJ11_copyOfRange 1 = .ok (.ifCond .ne 9, 3) := dk_154 0 9 (dk_at dksJ11_copyOfRange_0 1 rfl rfl)
theorem dJ11_copyOfRange_4 : decode cJ11_copyOfRange 4 = .ok (.iload_n 2, 1) := dk_28 (dk_at dksJ11_copyOfRange_0 4 rfl rfl)
theorem dJ11_copyOfRange_5 : decode cJ11_copyOfRange 5 = .ok (.aload_n 0, 1) := dk_42 (dk_at dksJ11_copyOfRange_0 5 rfl rfl)
theorem dJ11_copyOfRange_6 : decode cJ11_copyOfRange 6 = .ok (.arraylength, 1) := dk_190 (dk_at dksJ11_copyOfRange_0 6 rfl rfl)
theorem dJ11_copyOfRange_7 : decode cJ11_copyOfRange 7 = .ok (.if_icmp .eq 10, 3) := dk_159 0 10 (dk_at dksJ11_copyOfRange_0 7 rfl rfl)
theorem dJ11_copyOfRange_10 : decode cJ11_copyOfRange 10 = .ok (.aload_n 0, 1) := dk_42 (dk_at dksJ11_copyOfRange_0 10 rfl rfl)
theorem dJ11_copyOfRange_11 : decode cJ11_copyOfRange 11 = .ok (.iload_n 1, 1) := dk_27 (dk_at dksJ11_copyOfRange_0 11 rfl rfl)
theorem dJ11_copyOfRange_12 : decode cJ11_copyOfRange 12 = .ok (.iload_n 2, 1) := dk_28 (dk_at dksJ11_copyOfRange_0 12 rfl rfl)
theorem dJ11_copyOfRange_13 : decode cJ11_copyOfRange 13 = .ok (.invokestatic 339, 3) := dk_184 1 83 (dk_at dksJ11_copyOfRange_0 13 rfl rfl)
theorem dJ11_copyOfRange_16 : decode cJ11_copyOfRange 16 = .ok (.areturn, 1) := dk_176 (dk_at dksJ11_copyOfRange_0 16 rfl rfl)
theorem dJ11_copyOfRange_17 : decode cJ11_copyOfRange 17 = .ok (.aload_n 0, 1) := dk_42 (dk_at dksJ11_copyOfRange_0 17 rfl rfl)
theorem dJ11_copyOfRange_18 : decode cJ11_copyOfRange 18 = .ok (.invokevirtual 310, 3) := dk_182 1 54 (dk_at dksJ11_copyOfRange_0 18 rfl rfl)
theorem dJ11_copyOfRange_21 : decode cJ11_copyOfRange 21 = .ok (.checkcast 311, 3) := dk_192 1 55 (dk_at dksJ11_copyOfRange_0 21 rfl rfl)
theorem dJ11_copyOfRange_24 : decode cJ11_copyOfRange 24 = .ok (.areturn, 1) := dk_176 (dk_at dksJ11_copyOfRange_1 0 rfl rfl)
abbrev cJ11_copyOfRangeByte : ByteArray := prog_73_method_133_code
def yJ11_copyOfRangeByte : MethodName := ⟨RJ11, "copyOfRangeByte", "([BII)[B"⟩
def dkwJ11_copyOfRangeByte_1 : List UInt8 := [184, 1, 48, 184, 0, 150, 25, 4, 176]
abbrev dktJ11_copyOfRangeByte_1 : List UInt8 := dkwJ11_copyOfRangeByte_1 ++ []
def dkwJ11_copyOfRangeByte_0 : List UInt8 := [27, 28, 184, 1, 87, 28, 27, 100, 62, 29, 188, 8, 58, 4, 42, 27, 25, 4, 3, 42, 190, 27, 100, 29]
abbrev dktJ11_copyOfRangeByte_0 : List UInt8 := dkwJ11_copyOfRangeByte_0 ++ dktJ11_copyOfRangeByte_1
theorem dksJ11_copyOfRangeByte_0 : cJ11_copyOfRangeByte.data.toList.drop 0 = dktJ11_copyOfRangeByte_0 := by decide +kernel
theorem dksJ11_copyOfRangeByte_1 : cJ11_copyOfRangeByte.data.toList.drop 24 = dktJ11_copyOfRangeByte_1 := dk_seg dksJ11_copyOfRangeByte_0 24 rfl rfl
theorem dJ11_copyOfRangeByte_0 : decode cJ11_copyOfRangeByte 0 = .ok (.iload_n 1, 1) := dk_27 (dk_at dksJ11_copyOfRangeByte_0 0 rfl rfl)
theorem dJ11_copyOfRangeByte_1 : decode cJ11_copyOfRangeByte 1 = .ok (.iload_n 2, 1) := dk_28 (dk_at dksJ11_copyOfRangeByte_0 1 rfl rfl)
theorem dJ11_copyOfRangeByte_2 : decode cJ11_copyOfRangeByte 2 = .ok (.invokestatic 343, 3) := dk_184 1 87 (dk_at dksJ11_copyOfRangeByte_0 2 rfl rfl)
theorem dJ11_copyOfRangeByte_5 : decode cJ11_copyOfRangeByte 5 = .ok (.iload_n 2, 1) := dk_28 (dk_at dksJ11_copyOfRangeByte_0 5 rfl rfl)
theorem dJ11_copyOfRangeByte_6 : decode cJ11_copyOfRangeByte 6 = .ok (.iload_n 1, 1) := dk_27 (dk_at dksJ11_copyOfRangeByte_0 6 rfl rfl)
theorem dJ11_copyOfRangeByte_7 : decode cJ11_copyOfRangeByte 7 = .ok (.isub, 1) := dk_100 (dk_at dksJ11_copyOfRangeByte_0 7 rfl rfl)
theorem dJ11_copyOfRangeByte_8 : decode cJ11_copyOfRangeByte 8 = .ok (.istore_n 3, 1) := dk_62 (dk_at dksJ11_copyOfRangeByte_0 8 rfl rfl)
theorem dJ11_copyOfRangeByte_9 : decode cJ11_copyOfRangeByte 9 = .ok (.iload_n 3, 1) := dk_29 (dk_at dksJ11_copyOfRangeByte_0 9 rfl rfl)
theorem dJ11_copyOfRangeByte_10 : decode cJ11_copyOfRangeByte 10 = .ok (.newarray .byte, 2) := dk_188_8 (dk_at dksJ11_copyOfRangeByte_0 10 rfl rfl)
theorem dJ11_copyOfRangeByte_12 : decode cJ11_copyOfRangeByte 12 = .ok (.astore 4, 2) := dk_58 4 (dk_at dksJ11_copyOfRangeByte_0 12 rfl rfl)
theorem dJ11_copyOfRangeByte_14 : decode cJ11_copyOfRangeByte 14 = .ok (.aload_n 0, 1) := dk_42 (dk_at dksJ11_copyOfRangeByte_0 14 rfl rfl)
theorem dJ11_copyOfRangeByte_15 : decode cJ11_copyOfRangeByte 15 = .ok (.iload_n 1, 1) := dk_27 (dk_at dksJ11_copyOfRangeByte_0 15 rfl rfl)
theorem dJ11_copyOfRangeByte_16 : decode cJ11_copyOfRangeByte 16 = .ok (.aload 4, 2) := dk_25 4 (dk_at dksJ11_copyOfRangeByte_0 16 rfl rfl)
theorem dJ11_copyOfRangeByte_18 : decode cJ11_copyOfRangeByte 18 = .ok (.iconst 0, 1) := dk_3 (dk_at dksJ11_copyOfRangeByte_0 18 rfl rfl)
theorem dJ11_copyOfRangeByte_19 : decode cJ11_copyOfRangeByte 19 = .ok (.aload_n 0, 1) := dk_42 (dk_at dksJ11_copyOfRangeByte_0 19 rfl rfl)
theorem dJ11_copyOfRangeByte_20 : decode cJ11_copyOfRangeByte 20 = .ok (.arraylength, 1) := dk_190 (dk_at dksJ11_copyOfRangeByte_0 20 rfl rfl)
theorem dJ11_copyOfRangeByte_21 : decode cJ11_copyOfRangeByte 21 = .ok (.iload_n 1, 1) := dk_27 (dk_at dksJ11_copyOfRangeByte_0 21 rfl rfl)
theorem dJ11_copyOfRangeByte_22 : decode cJ11_copyOfRangeByte 22 = .ok (.isub, 1) := dk_100 (dk_at dksJ11_copyOfRangeByte_0 22 rfl rfl)
theorem dJ11_copyOfRangeByte_23 : decode cJ11_copyOfRangeByte 23 = .ok (.iload_n 3, 1) := dk_29 (dk_at dksJ11_copyOfRangeByte_0 23 rfl rfl)
theorem dJ11_copyOfRangeByte_24 : decode cJ11_copyOfRangeByte 24 = .ok (.invokestatic 304, 3) := dk_184 1 48 (dk_at dksJ11_copyOfRangeByte_1 0 rfl rfl)
theorem dJ11_copyOfRangeByte_27 : decode cJ11_copyOfRangeByte 27 = .ok (.invokestatic 150, 3) := dk_184 0 150 (dk_at dksJ11_copyOfRangeByte_1 3 rfl rfl)
theorem dJ11_copyOfRangeByte_30 : decode cJ11_copyOfRangeByte 30 = .ok (.aload 4, 2) := dk_25 4 (dk_at dksJ11_copyOfRangeByte_1 6 rfl rfl)
theorem dJ11_copyOfRangeByte_32 : decode cJ11_copyOfRangeByte 32 = .ok (.areturn, 1) := dk_176 (dk_at dksJ11_copyOfRangeByte_1 8 rfl rfl)
abbrev cJ11_checkLength : ByteArray := prog_73_method_131_code
def yJ11_checkLength : MethodName := ⟨RJ11, "checkLength", "(II)V"⟩
def dkwJ11_checkLength_1 : List UInt8 := [182, 0, 50, 27, 182, 0, 54, 182, 0, 61, 183, 0, 65, 191, 177]
abbrev dktJ11_checkLength_1 : List UInt8 := dkwJ11_checkLength_1 ++ []
def dkwJ11_checkLength_0 : List UInt8 := [27, 26, 162, 0, 35, 187, 0, 43, 89, 187, 0, 45, 89, 183, 0, 47, 26, 182, 0, 54, 19, 1, 81]
abbrev dktJ11_checkLength_0 : List UInt8 := dkwJ11_checkLength_0 ++ dktJ11_checkLength_1
theorem dksJ11_checkLength_0 : cJ11_checkLength.data.toList.drop 0 = dktJ11_checkLength_0 := by decide +kernel
theorem dksJ11_checkLength_1 : cJ11_checkLength.data.toList.drop 23 = dktJ11_checkLength_1 := dk_seg dksJ11_checkLength_0 23 rfl rfl
theorem dJ11_checkLength_0 : decode cJ11_checkLength 0 = .ok (.iload_n 1, 1) := dk_27 (dk_at dksJ11_checkLength_0 0 rfl rfl)
theorem dJ11_checkLength_1 : decode cJ11_checkLength 1 = .ok (.iload_n 0, 1) := dk_26 (dk_at dksJ11_checkLength_0 1 rfl rfl)
theorem dJ11_checkLength_2 : decode cJ11_checkLength 2 = .ok (.if_icmp .ge 35, 3) := dk_162 0 35 (dk_at dksJ11_checkLength_0 2 rfl rfl)
theorem dJ11_checkLength_5 : decode cJ11_checkLength 5 = .ok (.new 43, 3) := dk_187 0 43 (dk_at dksJ11_checkLength_0 5 rfl rfl)
theorem dJ11_checkLength_8 : decode cJ11_checkLength 8 = .ok (.dup, 1) := dk_89 (dk_at dksJ11_checkLength_0 8 rfl rfl)
theorem dJ11_checkLength_9 : decode cJ11_checkLength 9 = .ok (.new 45, 3) := dk_187 0 45 (dk_at dksJ11_checkLength_0 9 rfl rfl)
theorem dJ11_checkLength_12 : decode cJ11_checkLength 12 = .ok (.dup, 1) := dk_89 (dk_at dksJ11_checkLength_0 12 rfl rfl)
theorem dJ11_checkLength_13 : decode cJ11_checkLength 13 = .ok (.invokespecial 47, 3) := dk_183 0 47 (dk_at dksJ11_checkLength_0 13 rfl rfl)
theorem dJ11_checkLength_16 : decode cJ11_checkLength 16 = .ok (.iload_n 0, 1) := dk_26 (dk_at dksJ11_checkLength_0 16 rfl rfl)
theorem dJ11_checkLength_17 : decode cJ11_checkLength 17 = .ok (.invokevirtual 54, 3) := dk_182 0 54 (dk_at dksJ11_checkLength_0 17 rfl rfl)
theorem dJ11_checkLength_20 : decode cJ11_checkLength 20 = .ok (.ldc_w 337, 3) := dk_19 1 81 (dk_at dksJ11_checkLength_0 20 rfl rfl)
theorem dJ11_checkLength_23 : decode cJ11_checkLength 23 = .ok (.invokevirtual 50, 3) := dk_182 0 50 (dk_at dksJ11_checkLength_1 0 rfl rfl)
theorem dJ11_checkLength_26 : decode cJ11_checkLength 26 = .ok (.iload_n 1, 1) := dk_27 (dk_at dksJ11_checkLength_1 3 rfl rfl)
theorem dJ11_checkLength_27 : decode cJ11_checkLength 27 = .ok (.invokevirtual 54, 3) := dk_182 0 54 (dk_at dksJ11_checkLength_1 4 rfl rfl)
theorem dJ11_checkLength_30 : decode cJ11_checkLength 30 = .ok (.invokevirtual 61, 3) := dk_182 0 61 (dk_at dksJ11_checkLength_1 7 rfl rfl)
theorem dJ11_checkLength_33 : decode cJ11_checkLength 33 = .ok (.invokespecial 65, 3) := dk_183 0 65 (dk_at dksJ11_checkLength_1 10 rfl rfl)
theorem dJ11_checkLength_36 : decode cJ11_checkLength 36 = .ok (.athrow, 1) := dk_191 (dk_at dksJ11_checkLength_1 13 rfl rfl)
theorem dJ11_checkLength_37 : decode cJ11_checkLength 37 = .ok (.return_, 1) := dk_177 (dk_at dksJ11_checkLength_1 14 rfl rfl)
abbrev cJ11_copyOf_2 : ByteArray := prog_73_method_119_code
def yJ11_copyOf_2 : MethodName := ⟨RJ11, "copyOf", "([Ljava/lang/Object;I)[Ljava/lang/Object;"⟩
def dkwJ11_copyOf_2_0 : List UInt8 := [42, 27, 42, 182, 0, 86, 184, 1, 44, 176]
abbrev dktJ11_copyOf_2_0 : List UInt8 := dkwJ11_copyOf_2_0 ++ []
theorem dksJ11_copyOf_2_0 : cJ11_copyOf_2.data.toList.drop 0 = dktJ11_copyOf_2_0 := by decide +kernel
theorem dJ11_copyOf_2_0 : decode cJ11_copyOf_2 0 = .ok (.aload_n 0, 1) := dk_42 (dk_at dksJ11_copyOf_2_0 0 rfl rfl)
theorem dJ11_copyOf_2_1 : decode cJ11_copyOf_2 1 = .ok (.iload_n 1, 1) := dk_27 (dk_at dksJ11_copyOf_2_0 1 rfl rfl)
theorem dJ11_copyOf_2_2 : decode cJ11_copyOf_2 2 = .ok (.aload_n 0, 1) := dk_42 (dk_at dksJ11_copyOf_2_0 2 rfl rfl)
theorem dJ11_copyOf_2_3 : decode cJ11_copyOf_2 3 = .ok (.invokevirtual 86, 3) := dk_182 0 86 (dk_at dksJ11_copyOf_2_0 3 rfl rfl)
theorem dJ11_copyOf_2_6 : decode cJ11_copyOf_2 6 = .ok (.invokestatic 300, 3) := dk_184 1 44 (dk_at dksJ11_copyOf_2_0 6 rfl rfl)
theorem dJ11_copyOf_2_9 : decode cJ11_copyOf_2 9 = .ok (.areturn, 1) := dk_176 (dk_at dksJ11_copyOf_2_0 9 rfl rfl)
abbrev cJ11_copyOf_3 : ByteArray := prog_73_method_120_code
def yJ11_copyOf_3 : MethodName := ⟨RJ11, "copyOf", "([Ljava/lang/Object;ILjava/lang/Class;)[Ljava/lang/Object;"⟩
def dkwJ11_copyOf_3_1 : List UInt8 := [78, 42, 3, 45, 3, 42, 190, 27, 184, 1, 48, 184, 0, 150, 45, 176]
abbrev dktJ11_copyOf_3_1 : List UInt8 := dkwJ11_copyOf_3_1 ++ []
def dkwJ11_copyOf_3_0 : List UInt8 := [44, 18, 110, 166, 0, 10, 27, 189, 0, 2, 167, 0, 14, 44, 182, 0, 90, 27, 184, 0, 95, 192, 0, 110]
abbrev dktJ11_copyOf_3_0 : List UInt8 := dkwJ11_copyOf_3_0 ++ dktJ11_copyOf_3_1
theorem dksJ11_copyOf_3_0 : cJ11_copyOf_3.data.toList.drop 0 = dktJ11_copyOf_3_0 := by decide +kernel
theorem dksJ11_copyOf_3_1 : cJ11_copyOf_3.data.toList.drop 24 = dktJ11_copyOf_3_1 := dk_seg dksJ11_copyOf_3_0 24 rfl rfl
theorem dJ11_copyOf_3_0 : decode cJ11_copyOf_3 0 = .ok (.aload_n 2, 1) := dk_44 (dk_at dksJ11_copyOf_3_0 0 rfl rfl)
theorem dJ11_copyOf_3_1 : decode cJ11_copyOf_3 1 = .ok (.ldc 110, 2) := dk_18 110 (dk_at dksJ11_copyOf_3_0 1 rfl rfl)
theorem dJ11_copyOf_3_3 : decode cJ11_copyOf_3 3 = .ok (.if_acmp .ne 10, 3) := dk_166 0 10 (dk_at dksJ11_copyOf_3_0 3 rfl rfl)
theorem dJ11_copyOf_3_6 : decode cJ11_copyOf_3 6 = .ok (.iload_n 1, 1) := dk_27 (dk_at dksJ11_copyOf_3_0 6 rfl rfl)
theorem dJ11_copyOf_3_7 : decode cJ11_copyOf_3 7 = .ok (.anewarray 2, 3) := dk_189 0 2 (dk_at dksJ11_copyOf_3_0 7 rfl rfl)
theorem dJ11_copyOf_3_10 : decode cJ11_copyOf_3 10 = .ok (.goto 14, 3) := dk_167 0 14 (dk_at dksJ11_copyOf_3_0 10 rfl rfl)
theorem dJ11_copyOf_3_13 : decode cJ11_copyOf_3 13 = .ok (.aload_n 2, 1) := dk_44 (dk_at dksJ11_copyOf_3_0 13 rfl rfl)
theorem dJ11_copyOf_3_14 : decode cJ11_copyOf_3 14 = .ok (.invokevirtual 90, 3) := dk_182 0 90 (dk_at dksJ11_copyOf_3_0 14 rfl rfl)
theorem dJ11_copyOf_3_17 : decode cJ11_copyOf_3 17 = .ok (.iload_n 1, 1) := dk_27 (dk_at dksJ11_copyOf_3_0 17 rfl rfl)
theorem dJ11_copyOf_3_18 : decode cJ11_copyOf_3 18 = .ok (.invokestatic 95, 3) := dk_184 0 95 (dk_at dksJ11_copyOf_3_0 18 rfl rfl)
theorem dJ11_copyOf_3_21 : decode cJ11_copyOf_3 21 = .ok (.checkcast 110, 3) := dk_192 0 110 (dk_at dksJ11_copyOf_3_0 21 rfl rfl)
theorem dJ11_copyOf_3_24 : decode cJ11_copyOf_3 24 = .ok (.astore_n 3, 1) := dk_78 (dk_at dksJ11_copyOf_3_1 0 rfl rfl)
theorem dJ11_copyOf_3_25 : decode cJ11_copyOf_3 25 = .ok (.aload_n 0, 1) := dk_42 (dk_at dksJ11_copyOf_3_1 1 rfl rfl)
theorem dJ11_copyOf_3_26 : decode cJ11_copyOf_3 26 = .ok (.iconst 0, 1) := dk_3 (dk_at dksJ11_copyOf_3_1 2 rfl rfl)
theorem dJ11_copyOf_3_27 : decode cJ11_copyOf_3 27 = .ok (.aload_n 3, 1) := dk_45 (dk_at dksJ11_copyOf_3_1 3 rfl rfl)
theorem dJ11_copyOf_3_28 : decode cJ11_copyOf_3 28 = .ok (.iconst 0, 1) := dk_3 (dk_at dksJ11_copyOf_3_1 4 rfl rfl)
theorem dJ11_copyOf_3_29 : decode cJ11_copyOf_3 29 = .ok (.aload_n 0, 1) := dk_42 (dk_at dksJ11_copyOf_3_1 5 rfl rfl)
theorem dJ11_copyOf_3_30 : decode cJ11_copyOf_3 30 = .ok (.arraylength, 1) := dk_190 (dk_at dksJ11_copyOf_3_1 6 rfl rfl)
theorem dJ11_copyOf_3_31 : decode cJ11_copyOf_3 31 = .ok (.iload_n 1, 1) := dk_27 (dk_at dksJ11_copyOf_3_1 7 rfl rfl)
theorem dJ11_copyOf_3_32 : decode cJ11_copyOf_3 32 = .ok (.invokestatic 304, 3) := dk_184 1 48 (dk_at dksJ11_copyOf_3_1 8 rfl rfl)
theorem dJ11_copyOf_3_35 : decode cJ11_copyOf_3 35 = .ok (.invokestatic 150, 3) := dk_184 0 150 (dk_at dksJ11_copyOf_3_1 11 rfl rfl)
theorem dJ11_copyOf_3_38 : decode cJ11_copyOf_3 38 = .ok (.aload_n 3, 1) := dk_45 (dk_at dksJ11_copyOf_3_1 14 rfl rfl)
theorem dJ11_copyOf_3_39 : decode cJ11_copyOf_3 39 = .ok (.areturn, 1) := dk_176 (dk_at dksJ11_copyOf_3_1 15 rfl rfl)
abbrev cJ11_copyOf_4 : ByteArray := prog_73_method_124_code
def yJ11_copyOf_4 : MethodName := ⟨RJ11, "copyOf", "([JI)[J"⟩
def dkwJ11_copyOf_4_1 : List UInt8 := [27, 184, 1, 48, 184, 0, 150, 44, 176]
abbrev dktJ11_copyOf_4_1 : List UInt8 := dkwJ11_copyOf_4_1 ++ []
def dkwJ11_copyOf_4_0 : List UInt8 := [27, 42, 190, 160, 0, 11, 42, 182, 1, 63, 192, 1, 64, 176, 27, 188, 11, 77, 42, 3, 44, 3, 42, 190]
abbrev dktJ11_copyOf_4_0 : List UInt8 := dkwJ11_copyOf_4_0 ++ dktJ11_copyOf_4_1
theorem dksJ11_copyOf_4_0 : cJ11_copyOf_4.data.toList.drop 0 = dktJ11_copyOf_4_0 := by decide +kernel
theorem dksJ11_copyOf_4_1 : cJ11_copyOf_4.data.toList.drop 24 = dktJ11_copyOf_4_1 := dk_seg dksJ11_copyOf_4_0 24 rfl rfl
theorem dJ11_copyOf_4_0 : decode cJ11_copyOf_4 0 = .ok (.iload_n 1, 1) := dk_27 (dk_at dksJ11_copyOf_4_0 0 rfl rfl)
theorem dJ11_copyOf_4_1 : decode cJ11_copyOf_4 1 = .ok (.aload_n 0, 1) := dk_42 (dk_at dksJ11_copyOf_4_0 1 rfl rfl)
theorem dJ11_copyOf_4_2 : decode cJ11_copyOf_4 2 = .ok (.arraylength, 1) := dk_190 (dk_at dksJ11_copyOf_4_0 2 rfl rfl)
theorem dJ11_copyOf_4_3 : decode cJ11_copyOf_4 3 = .ok (.if_icmp .ne 11, 3) := dk_160 0 11 (dk_at dksJ11_copyOf_4_0 3 rfl rfl)
theorem dJ11_copyOf_4_6 : decode cJ11_copyOf_4 6 = .ok (.aload_n 0, 1) := dk_42 (dk_at dksJ11_copyOf_4_0 6 rfl rfl)
theorem dJ11_copyOf_4_7 : decode cJ11_copyOf_4 7 = .ok (.invokevirtual 319, 3) := dk_182 1 63 (dk_at dksJ11_copyOf_4_0 7 rfl rfl)
theorem dJ11_copyOf_4_10 : decode cJ11_copyOf_4 10 = .ok (.checkcast 320, 3) := dk_192 1 64 (dk_at dksJ11_copyOf_4_0 10 rfl rfl)
theorem dJ11_copyOf_4_13 : decode cJ11_copyOf_4 13 = .ok (.areturn, 1) := dk_176 (dk_at dksJ11_copyOf_4_0 13 rfl rfl)
theorem dJ11_copyOf_4_14 : decode cJ11_copyOf_4 14 = .ok (.iload_n 1, 1) := dk_27 (dk_at dksJ11_copyOf_4_0 14 rfl rfl)
theorem dJ11_copyOf_4_15 : decode cJ11_copyOf_4 15 = .ok (.newarray .long, 2) := dk_188_11 (dk_at dksJ11_copyOf_4_0 15 rfl rfl)
theorem dJ11_copyOf_4_17 : decode cJ11_copyOf_4 17 = .ok (.astore_n 2, 1) := dk_77 (dk_at dksJ11_copyOf_4_0 17 rfl rfl)
theorem dJ11_copyOf_4_18 : decode cJ11_copyOf_4 18 = .ok (.aload_n 0, 1) := dk_42 (dk_at dksJ11_copyOf_4_0 18 rfl rfl)
theorem dJ11_copyOf_4_19 : decode cJ11_copyOf_4 19 = .ok (.iconst 0, 1) := dk_3 (dk_at dksJ11_copyOf_4_0 19 rfl rfl)
theorem dJ11_copyOf_4_20 : decode cJ11_copyOf_4 20 = .ok (.aload_n 2, 1) := dk_44 (dk_at dksJ11_copyOf_4_0 20 rfl rfl)
theorem dJ11_copyOf_4_21 : decode cJ11_copyOf_4 21 = .ok (.iconst 0, 1) := dk_3 (dk_at dksJ11_copyOf_4_0 21 rfl rfl)
theorem dJ11_copyOf_4_22 : decode cJ11_copyOf_4 22 = .ok (.aload_n 0, 1) := dk_42 (dk_at dksJ11_copyOf_4_0 22 rfl rfl)
theorem dJ11_copyOf_4_23 : decode cJ11_copyOf_4 23 = .ok (.arraylength, 1) := dk_190 (dk_at dksJ11_copyOf_4_0 23 rfl rfl)
theorem dJ11_copyOf_4_24 : decode cJ11_copyOf_4 24 = .ok (.iload_n 1, 1) := dk_27 (dk_at dksJ11_copyOf_4_1 0 rfl rfl)
theorem dJ11_copyOf_4_25 : decode cJ11_copyOf_4 25 = .ok (.invokestatic 304, 3) := dk_184 1 48 (dk_at dksJ11_copyOf_4_1 1 rfl rfl)
theorem dJ11_copyOf_4_28 : decode cJ11_copyOf_4 28 = .ok (.invokestatic 150, 3) := dk_184 0 150 (dk_at dksJ11_copyOf_4_1 4 rfl rfl)
theorem dJ11_copyOf_4_31 : decode cJ11_copyOf_4 31 = .ok (.aload_n 2, 1) := dk_44 (dk_at dksJ11_copyOf_4_1 7 rfl rfl)
theorem dJ11_copyOf_4_32 : decode cJ11_copyOf_4 32 = .ok (.areturn, 1) := dk_176 (dk_at dksJ11_copyOf_4_1 8 rfl rfl)
theorem q144 : (Jvm.Cond.initialized "java/util/Arrays") ∈ lw_all := lw_g (lw_at lw_m1 14 rfl) rfl
theorem q418 : (Jvm.Cond.static ({ cls := "java/util/Arrays", name := "copyOf", desc := "([BI)[B" } : Jvm.MethodName)) ∈ lw_all := lw_g (lw_at lw_m2 48 rfl) rfl
theorem q419 : (Jvm.Cond.code ({ cls := "java/util/Arrays", name := "copyOf", desc := "([BI)[B" } : Jvm.MethodName) prog_73_method_121_code (3 : Nat) (Option.some (Jvm.ClassFile.FieldType.array Jvm.ClassFile.FieldType.byte))) ∈ lw_all := lw_g (lw_at lw_m2 49 rfl) rfl
theorem q420 : (Jvm.Cond.methodLink "java/util/Arrays" (310 : Nat) ({ cls := "[B", name := "clone", desc := "()Ljava/lang/Object;" } : Jvm.MethodName)) ∈ lw_all := lw_g (lw_at lw_m2 50 rfl) rfl
theorem q426 : (Jvm.Cond.classLink "java/util/Arrays" (311 : Nat) "[B") ∈ lw_all := lw_g (lw_at lw_m2 56 rfl) rfl
theorem q427 : (Jvm.Cond.methodLink "java/util/Arrays" (304 : Nat) ({ cls := "java/lang/Math", name := "min", desc := "(II)I" } : Jvm.MethodName)) ∈ lw_all := lw_g (lw_at lw_m2 57 rfl) rfl
theorem q430 : (Jvm.Cond.methodLink "java/util/Arrays" (150 : Nat) ({ cls := "java/lang/System", name := "arraycopy", desc := "(Ljava/lang/Object;ILjava/lang/Object;II)V" } : Jvm.MethodName)) ∈ lw_all := lw_g (lw_at lw_m2 60 rfl) rfl
theorem q560 : (Jvm.Cond.static ({ cls := "java/util/Arrays", name := "copyOfRange", desc := "([BII)[B" } : Jvm.MethodName)) ∈ lw_all := lw_g (lw_at lw_m2 190 rfl) rfl
theorem q561 : (Jvm.Cond.code ({ cls := "java/util/Arrays", name := "copyOfRange", desc := "([BII)[B" } : Jvm.MethodName) prog_73_method_132_code (3 : Nat) (Option.some (Jvm.ClassFile.FieldType.array Jvm.ClassFile.FieldType.byte))) ∈ lw_all := lw_g (lw_at lw_m2 191 rfl) rfl
theorem q562 : (Jvm.Cond.methodLink "java/util/Arrays" (339 : Nat) ({ cls := "java/util/Arrays", name := "copyOfRangeByte", desc := "([BII)[B" } : Jvm.MethodName)) ∈ lw_all := lw_g (lw_at lw_m2 192 rfl) rfl
theorem q563 : (Jvm.Cond.static ({ cls := "java/util/Arrays", name := "copyOfRangeByte", desc := "([BII)[B" } : Jvm.MethodName)) ∈ lw_all := lw_g (lw_at lw_m2 193 rfl) rfl
theorem q564 : (Jvm.Cond.code ({ cls := "java/util/Arrays", name := "copyOfRangeByte", desc := "([BII)[B" } : Jvm.MethodName) prog_73_method_133_code (5 : Nat) (Option.some (Jvm.ClassFile.FieldType.array Jvm.ClassFile.FieldType.byte))) ∈ lw_all := lw_g (lw_at lw_m2 194 rfl) rfl
theorem q565 : (Jvm.Cond.methodLink "java/util/Arrays" (343 : Nat) ({ cls := "java/util/Arrays", name := "checkLength", desc := "(II)V" } : Jvm.MethodName)) ∈ lw_all := lw_g (lw_at lw_m2 195 rfl) rfl
theorem q566 : (Jvm.Cond.static ({ cls := "java/util/Arrays", name := "checkLength", desc := "(II)V" } : Jvm.MethodName)) ∈ lw_all := lw_g (lw_at lw_m2 196 rfl) rfl
theorem q567 : (Jvm.Cond.code ({ cls := "java/util/Arrays", name := "checkLength", desc := "(II)V" } : Jvm.MethodName) prog_73_method_131_code (2 : Nat) (Option.none : Option Jvm.ClassFile.FieldType)) ∈ lw_all := lw_g (lw_at lw_m2 197 rfl) rfl
theorem q838 : (Jvm.Cond.static ({ cls := "java/util/Arrays", name := "copyOf", desc := "([Ljava/lang/Object;I)[Ljava/lang/Object;" } : Jvm.MethodName)) ∈ lw_all := lw_g (lw_at lw_m3 228 rfl) rfl
theorem q839 : (Jvm.Cond.code ({ cls := "java/util/Arrays", name := "copyOf", desc := "([Ljava/lang/Object;I)[Ljava/lang/Object;" } : Jvm.MethodName) prog_73_method_119_code (2 : Nat) (Option.some (Jvm.ClassFile.FieldType.array (Jvm.ClassFile.FieldType.object "java/lang/Object")))) ∈ lw_all := lw_g (lw_at lw_m3 229 rfl) rfl
theorem q840 : (Jvm.Cond.methodLink "java/util/Arrays" (86 : Nat) ({ cls := "java/lang/Object", name := "getClass", desc := "()Ljava/lang/Class;" } : Jvm.MethodName)) ∈ lw_all := lw_g (lw_at lw_m3 230 rfl) rfl
theorem q892 : (Jvm.Cond.methodLink "java/util/Arrays" (300 : Nat) ({ cls := "java/util/Arrays", name := "copyOf", desc := "([Ljava/lang/Object;ILjava/lang/Class;)[Ljava/lang/Object;" } : Jvm.MethodName)) ∈ lw_all := lw_g (lw_at lw_m4 42 rfl) rfl
theorem q893 : (Jvm.Cond.static ({ cls := "java/util/Arrays", name := "copyOf", desc := "([Ljava/lang/Object;ILjava/lang/Class;)[Ljava/lang/Object;" } : Jvm.MethodName)) ∈ lw_all := lw_g (lw_at lw_m4 43 rfl) rfl
theorem q894 : (Jvm.Cond.code ({ cls := "java/util/Arrays", name := "copyOf", desc := "([Ljava/lang/Object;ILjava/lang/Class;)[Ljava/lang/Object;" } : Jvm.MethodName) prog_73_method_120_code (4 : Nat) (Option.some (Jvm.ClassFile.FieldType.array (Jvm.ClassFile.FieldType.object "java/lang/Object")))) ∈ lw_all := lw_g (lw_at lw_m4 44 rfl) rfl
theorem q895 : (Jvm.Cond.classLink "java/util/Arrays" (110 : Nat) "[Ljava/lang/Object;") ∈ lw_all := lw_g (lw_at lw_m4 45 rfl) rfl
theorem q896 : (Jvm.Cond.classLink "java/util/Arrays" (2 : Nat) "java/lang/Object") ∈ lw_all := lw_g (lw_at lw_m4 46 rfl) rfl
theorem q937 : (Jvm.Cond.static ({ cls := "java/util/Arrays", name := "copyOf", desc := "([JI)[J" } : Jvm.MethodName)) ∈ lw_all := lw_g (lw_at lw_m4 87 rfl) rfl
theorem q938 : (Jvm.Cond.code ({ cls := "java/util/Arrays", name := "copyOf", desc := "([JI)[J" } : Jvm.MethodName) prog_73_method_124_code (3 : Nat) (Option.some (Jvm.ClassFile.FieldType.array Jvm.ClassFile.FieldType.long))) ∈ lw_all := lw_g (lw_at lw_m4 88 rfl) rfl
theorem q939 : (Jvm.Cond.methodLink "java/util/Arrays" (319 : Nat) ({ cls := "[J", name := "clone", desc := "()Ljava/lang/Object;" } : Jvm.MethodName)) ∈ lw_all := lw_g (lw_at lw_m4 89 rfl) rfl
theorem q943 : (Jvm.Cond.classLink "java/util/Arrays" (320 : Nat) "[J") ∈ lw_all := lw_g (lw_at lw_m4 93 rfl) rfl
/-! jdk/internal/util/Preconditions -/
set_option maxRecDepth 100000
def RJ12 : String := "jdk/internal/util/Preconditions"
abbrev cJ12_checkFromToIndex : ByteArray := prog_89_method_12_code
def yJ12_checkFromToIndex : MethodName := ⟨RJ12, "checkFromToIndex", "(IIILjava/util/function/BiFunction;)I"⟩
def dkwJ12_checkFromToIndex_0 : List UInt8 := [26, 155, 0, 13, 26, 27, 163, 0, 8, 27, 28, 164, 0, 11, 45, 26, 27, 28, 184, 0, 99, 191, 26, 172]
abbrev dktJ12_checkFromToIndex_0 : List UInt8 := dkwJ12_checkFromToIndex_0 ++ []
theorem dksJ12_checkFromToIndex_0 : cJ12_checkFromToIndex.data.toList.drop 0 = dktJ12_checkFromToIndex_0 := by decide +kernel
theorem dJ12_checkFromToIndex_0 : decode cJ12_checkFromToIndex 0 = .ok (.iload_n 0, 1) := dk_26 (dk_at dksJ12_checkFromToIndex_0 0 rfl rfl)
theorem dJ12_checkFromToIndex_1 : decode cJ12_checkFromToIndex 1 = .ok (.ifCond .lt 13, 3) := dk_155 0 13 (dk_at dksJ12_checkFromToIndex_0 1 rfl rfl)
theorem dJ12_checkFromToIndex_4 : decode cJ12_checkFromToIndex 4 = .ok (.iload_n 0, 1) := dk_26 (dk_at dksJ12_checkFromToIndex_0 4 rfl rfl)
theorem dJ12_checkFromToIndex_5 : decode cJ12_checkFromToIndex 5 = .ok (.iload_n 1, 1) := dk_27 (dk_at dksJ12_checkFromToIndex_0 5 rfl rfl)
theorem dJ12_checkFromToIndex_6 : decode cJ12_checkFromToIndex 6 = .ok (.if_icmp .gt 8, 3) := dk_163 0 8 (dk_at dksJ12_checkFromToIndex_0 6 rfl rfl)
theorem dJ12_checkFromToIndex_9 : decode cJ12_checkFromToIndex 9 = .ok (.iload_n 1, 1) := dk_27 (dk_at dksJ12_checkFromToIndex_0 9 rfl rfl)
theorem dJ12_checkFromToIndex_10 : decode cJ12_checkFromToIndex 10 = .ok (.iload_n 2, 1) := dk_28 (dk_at dksJ12_checkFromToIndex_0 10 rfl rfl)
theorem dJ12_checkFromToIndex_11 : decode cJ12_checkFromToIndex 11 = .ok (.if_icmp .le 11, 3) := dk_164 0 11 (dk_at dksJ12_checkFromToIndex_0 11 rfl rfl)
theorem dJ12_checkFromToIndex_14 : decode cJ12_checkFromToIndex 14 = .ok (.aload_n 3, 1) := dk_45 (dk_at dksJ12_checkFromToIndex_0 14 rfl rfl)
theorem dJ12_checkFromToIndex_15 : decode cJ12_checkFromToIndex 15 = .ok (.iload_n 0, 1) := dk_26 (dk_at dksJ12_checkFromToIndex_0 15 rfl rfl)
theorem dJ12_checkFromToIndex_16 : decode cJ12_checkFromToIndex 16 = .ok (.iload_n 1, 1) := dk_27 (dk_at dksJ12_checkFromToIndex_0 16 rfl rfl)
theorem dJ12_checkFromToIndex_17 : decode cJ12_checkFromToIndex 17 = .ok (.iload_n 2, 1) := dk_28 (dk_at dksJ12_checkFromToIndex_0 17 rfl rfl)
theorem dJ12_checkFromToIndex_18 : decode cJ12_checkFromToIndex 18 = .ok (.invokestatic 99, 3) := dk_184 0 99 (dk_at dksJ12_checkFromToIndex_0 18 rfl rfl)
theorem dJ12_checkFromToIndex_21 : decode cJ12_checkFromToIndex 21 = .ok (.athrow, 1) := dk_191 (dk_at dksJ12_checkFromToIndex_0 21 rfl rfl)
theorem dJ12_checkFromToIndex_22 : decode cJ12_checkFromToIndex 22 = .ok (.iload_n 0, 1) := dk_26 (dk_at dksJ12_checkFromToIndex_0 22 rfl rfl)
theorem dJ12_checkFromToIndex_23 : decode cJ12_checkFromToIndex 23 = .ok (.ireturn, 1) := dk_172 (dk_at dksJ12_checkFromToIndex_0 23 rfl rfl)
abbrev cJ12_checkFromIndexSize : ByteArray := prog_89_method_13_code
def yJ12_checkFromIndexSize : MethodName := ⟨RJ12, "checkFromIndexSize", "(IIILjava/util/function/BiFunction;)I"⟩
def dkwJ12_checkFromIndexSize_1 : List UInt8 := [172]
abbrev dktJ12_checkFromIndexSize_1 : List UInt8 := dkwJ12_checkFromIndexSize_1 ++ []
def dkwJ12_checkFromIndexSize_0 : List UInt8 := [28, 26, 128, 27, 128, 155, 0, 10, 27, 28, 26, 100, 164, 0, 11, 45, 26, 27, 28, 184, 0, 103, 191, 26]
abbrev dktJ12_checkFromIndexSize_0 : List UInt8 := dkwJ12_checkFromIndexSize_0 ++ dktJ12_checkFromIndexSize_1
theorem dksJ12_checkFromIndexSize_0 : cJ12_checkFromIndexSize.data.toList.drop 0 = dktJ12_checkFromIndexSize_0 := by decide +kernel
theorem dksJ12_checkFromIndexSize_1 : cJ12_checkFromIndexSize.data.toList.drop 24 = dktJ12_checkFromIndexSize_1 := dk_seg dksJ12_checkFromIndexSize_0 24 rfl rfl
theorem dJ12_checkFromIndexSize_0 : decode cJ12_checkFromIndexSize 0 = .ok (.iload_n 2, 1) := dk_28 (dk_at dksJ12_checkFromIndexSize_0 0 rfl rfl)
theorem dJ12_checkFromIndexSize_1 : decode cJ12_checkFromIndexSize 1 = .ok (.iload_n 0, 1) := dk_26 (dk_at dksJ12_checkFromIndexSize_0 1 rfl rfl)
theorem dJ12_checkFromIndexSize_2 : decode cJ12_checkFromIndexSize 2 = .ok (.ior, 1) := dk_128 (dk_at dksJ12_checkFromIndexSize_0 2 rfl rfl)
theorem dJ12_checkFromIndexSize_3 : decode cJ12_checkFromIndexSize 3 = .ok (.iload_n 1, 1) := dk_27 (dk_at dksJ12_checkFromIndexSize_0 3 rfl rfl)
theorem dJ12_checkFromIndexSize_4 : decode cJ12_checkFromIndexSize 4 = .ok (.ior, 1) := dk_128 (dk_at dksJ12_checkFromIndexSize_0 4 rfl rfl)
theorem dJ12_checkFromIndexSize_5 : decode cJ12_checkFromIndexSize 5 = .ok (.ifCond .lt 10, 3) := dk_155 0 10 (dk_at dksJ12_checkFromIndexSize_0 5 rfl rfl)
theorem dJ12_checkFromIndexSize_8 : decode cJ12_checkFromIndexSize 8 = .ok (.iload_n 1, 1) := dk_27 (dk_at dksJ12_checkFromIndexSize_0 8 rfl rfl)
theorem dJ12_checkFromIndexSize_9 : decode cJ12_checkFromIndexSize 9 = .ok (.iload_n 2, 1) := dk_28 (dk_at dksJ12_checkFromIndexSize_0 9 rfl rfl)
theorem dJ12_checkFromIndexSize_10 : decode cJ12_checkFromIndexSize 10 = .ok (.iload_n 0, 1) := dk_26 (dk_at dksJ12_checkFromIndexSize_0 10 rfl rfl)
theorem dJ12_checkFromIndexSize_11 : decode cJ12_checkFromIndexSize 11 = .ok (.isub, 1) := dk_100 (dk_at dksJ12_checkFromIndexSize_0 11 rfl rfl)
theorem dJ12_checkFromIndexSize_12 : decode cJ12_checkFromIndexSize 12 = .ok (.if_icmp .le 11, 3) := dk_164 0 11 (dk_at dksJ12_checkFromIndexSize_0 12 rfl rfl)
theorem dJ12_checkFromIndexSize_15 : decode cJ12_checkFromIndexSize 15 = .ok (.aload_n 3, 1) := dk_45 (dk_at dksJ12_checkFromIndexSize_0 15 rfl rfl)
theorem dJ12_checkFromIndexSize_16 : decode cJ12_checkFromIndexSize 16 = .ok (.iload_n 0, 1) := dk_26 (dk_at dksJ12_checkFromIndexSize_0 16 rfl rfl)
theorem dJ12_checkFromIndexSize_17 : decode cJ12_checkFromIndexSize 17 = .ok (.iload_n 1, 1) := dk_27 (dk_at dksJ12_checkFromIndexSize_0 17 rfl rfl)
theorem dJ12_checkFromIndexSize_18 : decode cJ12_checkFromIndexSize 18 = .ok (.iload_n 2, 1) := dk_28 (dk_at dksJ12_checkFromIndexSize_0 18 rfl rfl)
theorem dJ12_checkFromIndexSize_19 : decode cJ12_checkFromIndexSize 19 = .ok (.invokestatic 103, 3) := dk_184 0 103 (dk_at dksJ12_checkFromIndexSize_0 19 rfl rfl)
theorem dJ12_checkFromIndexSize_22 : decode cJ12_checkFromIndexSize 22 = .ok (.athrow, 1) := dk_191 (dk_at dksJ12_checkFromIndexSize_0 22 rfl rfl)
theorem dJ12_checkFromIndexSize_23 : decode cJ12_checkFromIndexSize 23 = .ok (.iload_n 0, 1) := dk_26 (dk_at dksJ12_checkFromIndexSize_0 23 rfl rfl)
theorem dJ12_checkFromIndexSize_24 : decode cJ12_checkFromIndexSize 24 = .ok (.ireturn, 1) := dk_172 (dk_at dksJ12_checkFromIndexSize_1 0 rfl rfl)
abbrev cJ12_checkIndex : ByteArray := prog_89_method_11_code
def yJ12_checkIndex : MethodName := ⟨RJ12, "checkIndex", "(IILjava/util/function/BiFunction;)I"⟩
def dkwJ12_checkIndex_0 : List UInt8 := [26, 155, 0, 8, 26, 27, 161, 0, 10, 44, 26, 27, 184, 0, 95, 191, 26, 172]
abbrev dktJ12_checkIndex_0 : List UInt8 := dkwJ12_checkIndex_0 ++ []
theorem dksJ12_checkIndex_0 : cJ12_checkIndex.data.toList.drop 0 = dktJ12_checkIndex_0 := by decide +kernel
theorem dJ12_checkIndex_0 : decode cJ12_checkIndex 0 = .ok (.iload_n 0, 1) := dk_26 (dk_at dksJ12_checkIndex_0 0 rfl rfl)
theorem dJ12_checkIndex_1 : decode cJ12_checkIndex 1 = .ok (.ifCond .lt 8, 3) := dk_155 0 8 (dk_at dksJ12_checkIndex_0 1 rfl rfl)
theorem dJ12_checkIndex_4 : decode cJ12_checkIndex 4 = .ok (.iload_n 0, 1) := dk_26 (dk_at dksJ12_checkIndex_0 4 rfl rfl)
theorem dJ12_checkIndex_5 : decode cJ12_checkIndex 5 = .ok (.iload_n 1, 1) := dk_27 (dk_at dksJ12_checkIndex_0 5 rfl rfl)
theorem dJ12_checkIndex_6 : decode cJ12_checkIndex 6 = .ok (.if_icmp .lt 10, 3) := dk_161 0 10 (dk_at dksJ12_checkIndex_0 6 rfl rfl)
theorem dJ12_checkIndex_9 : decode cJ12_checkIndex 9 = .ok (.aload_n 2, 1) := dk_44 (dk_at dksJ12_checkIndex_0 9 rfl rfl)
theorem dJ12_checkIndex_10 : decode cJ12_checkIndex 10 = .ok (.iload_n 0, 1) := dk_26 (dk_at dksJ12_checkIndex_0 10 rfl rfl)
theorem dJ12_checkIndex_11 : decode cJ12_checkIndex 11 = .ok (.iload_n 1, 1) := dk_27 (dk_at dksJ12_checkIndex_0 11 rfl rfl)
theorem dJ12_checkIndex_12 : decode cJ12_checkIndex 12 = .ok (.invokestatic 95, 3) := dk_184 0 95 (dk_at dksJ12_checkIndex_0 12 rfl rfl)
theorem dJ12_checkIndex_15 : decode cJ12_checkIndex 15 = .ok (.athrow, 1) := dk_191 (dk_at dksJ12_checkIndex_0 15 rfl rfl)
theorem dJ12_checkIndex_16 : decode cJ12_checkIndex 16 = .ok (.iload_n 0, 1) := dk_26 (dk_at dksJ12_checkIndex_0 16 rfl rfl)
theorem dJ12_checkIndex_17 : decode cJ12_checkIndex 17 = .ok (.ireturn, 1) := dk_172 (dk_at dksJ12_checkIndex_0 17 rfl rfl)
theorem q146 : (Jvm.Cond.initialized "jdk/internal/util/Preconditions") ∈ lw_all := lw_g (lw_at lw_m1 16 rfl) rfl
theorem q451 : (Jvm.Cond.laysStatic "jdk/internal/util/Preconditions" "SIOOBE_FORMATTER" "Ljava/util/function/BiFunction;") ∈ lw_tbl := lw_at lw_m2 81 rfl
theorem q453 : (Jvm.Cond.static ({ cls := "jdk/internal/util/Preconditions", name := "checkFromToIndex", desc := "(IIILjava/util/function/BiFunction;)I" } : Jvm.MethodName)) ∈ lw_all := lw_g (lw_at lw_m2 83 rfl) rfl
theorem q454 : (Jvm.Cond.code ({ cls := "jdk/internal/util/Preconditions", name := "checkFromToIndex", desc := "(IIILjava/util/function/BiFunction;)I" } : Jvm.MethodName) prog_89_method_12_code (4 : Nat) (Option.some Jvm.ClassFile.FieldType.int)) ∈ lw_all := lw_g (lw_at lw_m2 84 rfl) rfl
theorem q499 : (Jvm.Cond.static ({ cls := "jdk/internal/util/Preconditions", name := "checkFromIndexSize", desc := "(IIILjava/util/function/BiFunction;)I" } : Jvm.MethodName)) ∈ lw_all := lw_g (lw_at lw_m2 129 rfl) rfl
theorem q500 : (Jvm.Cond.code ({ cls := "jdk/internal/util/Preconditions", name := "checkFromIndexSize", desc := "(IIILjava/util/function/BiFunction;)I" } : Jvm.MethodName) prog_89_method_13_code (4 : Nat) (Option.some Jvm.ClassFile.FieldType.int)) ∈ lw_all := lw_g (lw_at lw_m2 130 rfl) rfl
theorem q1433 : (Jvm.Cond.static ({ cls := "jdk/internal/util/Preconditions", name := "checkIndex", desc := "(IILjava/util/function/BiFunction;)I" } : Jvm.MethodName)) ∈ lw_all := lw_g (lw_at lw_m6 103 rfl) rfl
theorem q1434 : (Jvm.Cond.code ({ cls := "jdk/internal/util/Preconditions", name := "checkIndex", desc := "(IILjava/util/function/BiFunction;)I" } : Jvm.MethodName) prog_89_method_11_code (3 : Nat) (Option.some Jvm.ClassFile.FieldType.int)) ∈ lw_all := lw_g (lw_at lw_m6 104 rfl) rfl
/-! java/lang/StringLatin1 -/
set_option maxRecDepth 100000
def RJ13 : String := "java/lang/StringLatin1"
abbrev cJ13_inflate : ByteArray := prog_59_method_50_code
def yJ13_inflate : MethodName := ⟨RJ13, "inflate", "([BI[BII)V"⟩
def dkwJ13_inflate_0 : List UInt8 := [42, 27, 44, 29, 21, 4, 184, 0, 240, 177]
abbrev dktJ13_inflate_0 : List UInt8 := dkwJ13_inflate_0 ++ []
theorem dksJ13_inflate_0 : cJ13_inflate.data.toList.drop 0 = dktJ13_inflate_0 := by decide +kernel
theorem dJ13_inflate_0 : decode cJ13_inflate 0 = .ok (.aload_n 0, 1) := dk_42 (dk_at dksJ13_inflate_0 0 rfl rfl)
theorem dJ13_inflate_1 : decode cJ13_inflate 1 = .ok (.iload_n 1, 1) := dk_27 (dk_at dksJ13_inflate_0 1 rfl rfl)
theorem dJ13_inflate_2 : decode cJ13_inflate 2 = .ok (.aload_n 2, 1) := dk_44 (dk_at dksJ13_inflate_0 2 rfl rfl)
theorem dJ13_inflate_3 : decode cJ13_inflate 3 = .ok (.iload_n 3, 1) := dk_29 (dk_at dksJ13_inflate_0 3 rfl rfl)
theorem dJ13_inflate_4 : decode cJ13_inflate 4 = .ok (.iload 4, 2) := dk_21 4 (dk_at dksJ13_inflate_0 4 rfl rfl)
theorem dJ13_inflate_6 : decode cJ13_inflate 6 = .ok (.invokestatic 240, 3) := dk_184 0 240 (dk_at dksJ13_inflate_0 6 rfl rfl)
theorem dJ13_inflate_9 : decode cJ13_inflate 9 = .ok (.return_, 1) := dk_177 (dk_at dksJ13_inflate_0 9 rfl rfl)
abbrev cJ13_equals : ByteArray := prog_59_method_13_code
def yJ13_equals : MethodName := ⟨RJ13, "equals", "([B[B)Z"⟩
def dkwJ13_equals_1 : List UInt8 := [3, 172, 132, 2, 1, 167, 255, 236, 4, 172, 3, 172]
abbrev dktJ13_equals_1 : List UInt8 := dkwJ13_equals_1 ++ []
def dkwJ13_equals_0 : List UInt8 := [42, 190, 43, 190, 160, 0, 30, 3, 61, 28, 42, 190, 162, 0, 20, 42, 28, 51, 43, 28, 51, 159, 0, 5]
abbrev dktJ13_equals_0 : List UInt8 := dkwJ13_equals_0 ++ dktJ13_equals_1
theorem dksJ13_equals_0 : cJ13_equals.data.toList.drop 0 = dktJ13_equals_0 := by decide +kernel
theorem dksJ13_equals_1 : cJ13_equals.data.toList.drop 24 = dktJ13_equals_1 := dk_seg dksJ13_equals_0 24 rfl rfl
theorem dJ13_equals_0 : decode cJ13_equals 0 = .ok (.aload_n 0, 1) := dk_42 (dk_at dksJ13_equals_0 0 rfl rfl)
theorem dJ13_equals_1 : decode cJ13_equals 1 = .ok (.arraylength, 1) := dk_190 (dk_at dksJ13_equals_0 1 rfl rfl)
theorem dJ13_equals_2 : decode cJ13_equals 2 = .ok (.aload_n 1, 1) := dk_43 (dk_at dksJ13_equals_0 2 rfl rfl)
theorem dJ13_equals_3 : decode cJ13_equals 3 = .ok (.arraylength, 1) := dk_190 (dk_at dksJ13_equals_0 3 rfl rfl)
theorem dJ13_equals_4 : decode cJ13_equals 4 = .ok (.if_icmp .ne 30, 3) := dk_160 0 30 (dk_at dksJ13_equals_0 4 rfl rfl)
theorem dJ13_equals_7 : decode cJ13_equals 7 = .ok (.iconst 0, 1) := dk_3 (dk_at dksJ13_equals_0 7 rfl rfl)
theorem dJ13_equals_8 : decode cJ13_equals 8 = .ok (.istore_n 2, 1) := dk_61 (dk_at dksJ13_equals_0 8 rfl rfl)
theorem dJ13_equals_9 : decode cJ13_equals 9 = .ok (.iload_n 2, 1) := dk_28 (dk_at dksJ13_equals_0 9 rfl rfl)
theorem dJ13_equals_10 : decode cJ13_equals 10 = .ok (.aload_n 0, 1) := dk_42 (dk_at dksJ13_equals_0 10 rfl rfl)
theorem dJ13_equals_11 : decode cJ13_equals 11 = .ok (.arraylength, 1) := dk_190 (dk_at dksJ13_equals_0 11 rfl rfl)
theorem dJ13_equals_12 : decode cJ13_equals 12 = .ok (.if_icmp .ge 20, 3) := dk_162 0 20 (dk_at dksJ13_equals_0 12 rfl rfl)
theorem dJ13_equals_15 : decode cJ13_equals 15 = .ok (.aload_n 0, 1) := dk_42 (dk_at dksJ13_equals_0 15 rfl rfl)
theorem dJ13_equals_16 : decode cJ13_equals 16 = .ok (.iload_n 2, 1) := dk_28 (dk_at dksJ13_equals_0 16 rfl rfl)
theorem dJ13_equals_17 : decode cJ13_equals 17 = .ok (.baload, 1) := dk_51 (dk_at dksJ13_equals_0 17 rfl rfl)
theorem dJ13_equals_18 : decode cJ13_equals 18 = .ok (.aload_n 1, 1) := dk_43 (dk_at dksJ13_equals_0 18 rfl rfl)
theorem dJ13_equals_19 : decode cJ13_equals 19 = .ok (.iload_n 2, 1) := dk_28 (dk_at dksJ13_equals_0 19 rfl rfl)
theorem dJ13_equals_20 : decode cJ13_equals 20 = .ok (.baload, 1) := dk_51 (dk_at dksJ13_equals_0 20 rfl rfl)
theorem dJ13_equals_21 : decode cJ13_equals 21 = .ok (.if_icmp .eq 5, 3) := dk_159 0 5 (dk_at dksJ13_equals_0 21 rfl rfl)
theorem dJ13_equals_24 : decode cJ13_equals 24 = .ok (.iconst 0, 1) := dk_3 (dk_at dksJ13_equals_1 0 rfl rfl)
theorem dJ13_equals_25 : decode cJ13_equals 25 = .ok (.ireturn, 1) := dk_172 (dk_at dksJ13_equals_1 1 rfl rfl)
theorem dJ13_equals_26 : decode cJ13_equals 26 = .ok (.iinc 2 1, 3) := dk_132 2 1 (dk_at dksJ13_equals_1 2 rfl rfl)
theorem dJ13_equals_29 : decode cJ13_equals 29 = .ok (.goto (-20), 3) := dk_167 255 236 (dk_at dksJ13_equals_1 5 rfl rfl)
theorem dJ13_equals_32 : decode cJ13_equals 32 = .ok (.iconst 1, 1) := dk_4 (dk_at dksJ13_equals_1 8 rfl rfl)
theorem dJ13_equals_33 : decode cJ13_equals 33 = .ok (.ireturn, 1) := dk_172 (dk_at dksJ13_equals_1 9 rfl rfl)
theorem dJ13_equals_34 : decode cJ13_equals 34 = .ok (.iconst 0, 1) := dk_3 (dk_at dksJ13_equals_1 10 rfl rfl)
theorem dJ13_equals_35 : decode cJ13_equals 35 = .ok (.ireturn, 1) := dk_172 (dk_at dksJ13_equals_1 11 rfl rfl)
abbrev cJ13_canEncode : ByteArray := prog_59_method_3_code
def yJ13_canEncode : MethodName := ⟨RJ13, "canEncode", "(C)Z"⟩
def dkwJ13_canEncode_0 : List UInt8 := [26, 17, 0, 255, 163, 0, 7, 4, 167, 0, 4, 3, 172]
abbrev dktJ13_canEncode_0 : List UInt8 := dkwJ13_canEncode_0 ++ []
theorem dksJ13_canEncode_0 : cJ13_canEncode.data.toList.drop 0 = dktJ13_canEncode_0 := by decide +kernel
theorem dJ13_canEncode_0 : decode cJ13_canEncode 0 = .ok (.iload_n 0, 1) := dk_26 (dk_at dksJ13_canEncode_0 0 rfl rfl)
theorem dJ13_canEncode_1 : decode cJ13_canEncode 1 = .ok (.sipush 255, 3) := dk_17 0 255 (dk_at dksJ13_canEncode_0 1 rfl rfl)
theorem dJ13_canEncode_4 : decode cJ13_canEncode 4 = .ok (.if_icmp .gt 7, 3) := dk_163 0 7 (dk_at dksJ13_canEncode_0 4 rfl rfl)
theorem dJ13_canEncode_7 : decode cJ13_canEncode 7 = .ok (.iconst 1, 1) := dk_4 (dk_at dksJ13_canEncode_0 7 rfl rfl)
theorem dJ13_canEncode_8 : decode cJ13_canEncode 8 = .ok (.goto 4, 3) := dk_167 0 4 (dk_at dksJ13_canEncode_0 8 rfl rfl)
theorem dJ13_canEncode_11 : decode cJ13_canEncode 11 = .ok (.iconst 0, 1) := dk_3 (dk_at dksJ13_canEncode_0 11 rfl rfl)
theorem dJ13_canEncode_12 : decode cJ13_canEncode 12 = .ok (.ireturn, 1) := dk_172 (dk_at dksJ13_canEncode_0 12 rfl rfl)
abbrev cJ13_indexOf : ByteArray := prog_59_method_22_code
def yJ13_indexOf : MethodName := ⟨RJ13, "indexOf", "([BIII)I"⟩
def dkwJ13_indexOf_1 : List UInt8 := [161, 0, 5, 2, 172, 42, 27, 28, 29, 184, 0, 95, 172]
abbrev dktJ13_indexOf_1 : List UInt8 := dkwJ13_indexOf_1 ++ []
def dkwJ13_indexOf_0 : List UInt8 := [27, 184, 0, 88, 154, 0, 5, 2, 172, 28, 3, 184, 0, 92, 61, 29, 42, 190, 184, 0, 38, 62, 28, 29]
abbrev dktJ13_indexOf_0 : List UInt8 := dkwJ13_indexOf_0 ++ dktJ13_indexOf_1
theorem dksJ13_indexOf_0 : cJ13_indexOf.data.toList.drop 0 = dktJ13_indexOf_0 := by decide +kernel
theorem dksJ13_indexOf_1 : cJ13_indexOf.data.toList.drop 24 = dktJ13_indexOf_1 := dk_seg dksJ13_indexOf_0 24 rfl rfl
theorem dJ13_indexOf_0 : decode cJ13_indexOf 0 = .ok (.iload_n 1, 1) := dk_27 (dk_at dksJ13_indexOf_0 0 rfl rfl)
theorem dJ13_indexOf_1 : decode cJ13_indexOf 1 = .ok (.invokestatic 88, 3) := dk_184 0 88 (dk_at dksJ13_indexOf_0 1 rfl rfl)
theorem dJ13_indexOf_4 : decode cJ13_indexOf 4 = .ok (.ifCond .ne 5, 3) := dk_154 0 5 (dk_at dksJ13_indexOf_0 4 rfl rfl)
theorem dJ13_indexOf_7 : decode cJ13_indexOf 7 = .ok (.iconst (-1), 1) := dk_2 (dk_at dksJ13_indexOf_0 7 rfl rfl)
theorem dJ13_indexOf_8 : decode cJ13_indexOf 8 = .ok (.ireturn, 1) := dk_172 (dk_at dksJ13_indexOf_0 8 rfl rfl)
theorem dJ13_indexOf_9 : decode cJ13_indexOf 9 = .ok (.iload_n 2, 1) := dk_28 (dk_at dksJ13_indexOf_0 9 rfl rfl)
theorem dJ13_indexOf_10 : decode cJ13_indexOf 10 = .ok (.iconst 0, 1) := dk_3 (dk_at dksJ13_indexOf_0 10 rfl rfl)
theorem dJ13_indexOf_11 : decode cJ13_indexOf 11 = .ok (.invokestatic 92, 3) := dk_184 0 92 (dk_at dksJ13_indexOf_0 11 rfl rfl)
theorem dJ13_indexOf_14 : decode cJ13_indexOf 14 = .ok (.istore_n 2, 1) := dk_61 (dk_at dksJ13_indexOf_0 14 rfl rfl)
theorem dJ13_indexOf_15 : decode cJ13_indexOf 15 = .ok (.iload_n 3, 1) := dk_29 (dk_at dksJ13_indexOf_0 15 rfl rfl)
theorem dJ13_indexOf_16 : decode cJ13_indexOf 16 = .ok (.aload_n 0, 1) := dk_42 (dk_at dksJ13_indexOf_0 16 rfl rfl)
theorem dJ13_indexOf_17 : decode cJ13_indexOf 17 = .ok (.arraylength, 1) := dk_190 (dk_at dksJ13_indexOf_0 17 rfl rfl)
theorem dJ13_indexOf_18 : decode cJ13_indexOf 18 = .ok (.invokestatic 38, 3) := dk_184 0 38 (dk_at dksJ13_indexOf_0 18 rfl rfl)
theorem dJ13_indexOf_21 : decode cJ13_indexOf 21 = .ok (.istore_n 3, 1) := dk_62 (dk_at dksJ13_indexOf_0 21 rfl rfl)
theorem dJ13_indexOf_22 : decode cJ13_indexOf 22 = .ok (.iload_n 2, 1) := dk_28 (dk_at dksJ13_indexOf_0 22 rfl rfl)
theorem dJ13_indexOf_23 : decode cJ13_indexOf 23 = .ok (.iload_n 3, 1) := dk_29 (dk_at dksJ13_indexOf_0 23 rfl rfl)
theorem dJ13_indexOf_24 : decode cJ13_indexOf 24 = .ok (.if_icmp .lt 5, 3) := dk_161 0 5 (dk_at dksJ13_indexOf_1 0 rfl rfl)
theorem dJ13_indexOf_27 : decode cJ13_indexOf 27 = .ok (.iconst (-1), 1) := dk_2 (dk_at dksJ13_indexOf_1 3 rfl rfl)
theorem dJ13_indexOf_28 : decode cJ13_indexOf 28 = .ok (.ireturn, 1) := dk_172 (dk_at dksJ13_indexOf_1 4 rfl rfl)
theorem dJ13_indexOf_29 : decode cJ13_indexOf 29 = .ok (.aload_n 0, 1) := dk_42 (dk_at dksJ13_indexOf_1 5 rfl rfl)
theorem dJ13_indexOf_30 : decode cJ13_indexOf 30 = .ok (.iload_n 1, 1) := dk_27 (dk_at dksJ13_indexOf_1 6 rfl rfl)
theorem dJ13_indexOf_31 : decode cJ13_indexOf 31 = .ok (.iload_n 2, 1) := dk_28 (dk_at dksJ13_indexOf_1 7 rfl rfl)
theorem dJ13_indexOf_32 : decode cJ13_indexOf 32 = .ok (.iload_n 3, 1) := dk_29 (dk_at dksJ13_indexOf_1 8 rfl rfl)
theorem dJ13_indexOf_33 : decode cJ13_indexOf 33 = .ok (.invokestatic 95, 3) := dk_184 0 95 (dk_at dksJ13_indexOf_1 9 rfl rfl)
theorem dJ13_indexOf_36 : decode cJ13_indexOf 36 = .ok (.ireturn, 1) := dk_172 (dk_at dksJ13_indexOf_1 12 rfl rfl)
abbrev cJ13_canEncode_2 : ByteArray := prog_59_method_4_code
def yJ13_canEncode_2 : MethodName := ⟨RJ13, "canEncode", "(I)Z"⟩
def dkwJ13_canEncode_2_0 : List UInt8 := [26, 155, 0, 14, 26, 17, 0, 255, 163, 0, 7, 4, 167, 0, 4, 3, 172]
abbrev dktJ13_canEncode_2_0 : List UInt8 := dkwJ13_canEncode_2_0 ++ []
theorem dksJ13_canEncode_2_0 : cJ13_canEncode_2.data.toList.drop 0 = dktJ13_canEncode_2_0 := by decide +kernel
theorem dJ13_canEncode_2_0 : decode cJ13_canEncode_2 0 = .ok (.iload_n 0, 1) := dk_26 (dk_at dksJ13_canEncode_2_0 0 rfl rfl)
theorem dJ13_canEncode_2_1 : decode cJ13_canEncode_2 1 = .ok (.ifCond .lt 14, 3) := dk_155 0 14 (dk_at dksJ13_canEncode_2_0 1 rfl rfl)
theorem dJ13_canEncode_2_4 : decode cJ13_canEncode_2 4 = .ok (.iload_n 0, 1) := dk_26 (dk_at dksJ13_canEncode_2_0 4 rfl rfl)
theorem dJ13_canEncode_2_5 : decode cJ13_canEncode_2 5 = .ok (.sipush 255, 3) := dk_17 0 255 (dk_at dksJ13_canEncode_2_0 5 rfl rfl)
theorem dJ13_canEncode_2_8 : decode cJ13_canEncode_2 8 = .ok (.if_icmp .gt 7, 3) := dk_163 0 7 (dk_at dksJ13_canEncode_2_0 8 rfl rfl)
theorem dJ13_canEncode_2_11 : decode cJ13_canEncode_2 11 = .ok (.iconst 1, 1) := dk_4 (dk_at dksJ13_canEncode_2_0 11 rfl rfl)
theorem dJ13_canEncode_2_12 : decode cJ13_canEncode_2 12 = .ok (.goto 4, 3) := dk_167 0 4 (dk_at dksJ13_canEncode_2_0 12 rfl rfl)
theorem dJ13_canEncode_2_15 : decode cJ13_canEncode_2 15 = .ok (.iconst 0, 1) := dk_3 (dk_at dksJ13_canEncode_2_0 15 rfl rfl)
theorem dJ13_canEncode_2_16 : decode cJ13_canEncode_2 16 = .ok (.ireturn, 1) := dk_172 (dk_at dksJ13_canEncode_2_0 16 rfl rfl)
abbrev cJ13_indexOfChar : ByteArray := prog_59_method_23_code
def yJ13_indexOfChar : MethodName := ⟨RJ13, "indexOfChar", "([BIII)I"⟩
def dkwJ13_indexOfChar_1 : List UInt8 := [172, 132, 5, 1, 167, 255, 235, 2, 172]
abbrev dktJ13_indexOfChar_1 : List UInt8 := dkwJ13_indexOfChar_1 ++ []
def dkwJ13_indexOfChar_0 : List UInt8 := [27, 145, 54, 4, 28, 54, 5, 21, 5, 29, 162, 0, 21, 42, 21, 5, 51, 21, 4, 160, 0, 6, 21, 5]
abbrev dktJ13_indexOfChar_0 : List UInt8 := dkwJ13_indexOfChar_0 ++ dktJ13_indexOfChar_1
theorem dksJ13_indexOfChar_0 : cJ13_indexOfChar.data.toList.drop 0 = dktJ13_indexOfChar_0 := by decide +kernel
theorem dksJ13_indexOfChar_1 : cJ13_indexOfChar.data.toList.drop 24 = dktJ13_indexOfChar_1 := dk_seg dksJ13_indexOfChar_0 24 rfl rfl
theorem dJ13_indexOfChar_0 : decode cJ13_indexOfChar 0 = .ok (.iload_n 1, 1) := dk_27 (dk_at dksJ13_indexOfChar_0 0 rfl rfl)
theorem dJ13_indexOfChar_1 : decode cJ13_indexOfChar 1 = .ok (.i2b, 1) := dk_145 (dk_at dksJ13_indexOfChar_0 1 rfl rfl)
theorem dJ13_indexOfChar_2 : decode cJ13_indexOfChar 2 = .ok (.istore 4, 2) := dk_54 4 (dk_at dksJ13_indexOfChar_0 2 rfl rfl)
theorem dJ13_indexOfChar_4 : decode cJ13_indexOfChar 4 = .ok (.iload_n 2, 1) := dk_28 (dk_at dksJ13_indexOfChar_0 4 rfl rfl)
theorem dJ13_indexOfChar_5 : decode cJ13_indexOfChar 5 = .ok (.istore 5, 2) := dk_54 5 (dk_at dksJ13_indexOfChar_0 5 rfl rfl)
theorem dJ13_indexOfChar_7 : decode cJ13_indexOfChar 7 = .ok (.iload 5, 2) := dk_21 5 (dk_at dksJ13_indexOfChar_0 7 rfl rfl)
theorem dJ13_indexOfChar_9 : decode cJ13_indexOfChar 9 = .ok (.iload_n 3, 1) := dk_29 (dk_at dksJ13_indexOfChar_0 9 rfl rfl)
theorem dJ13_indexOfChar_10 : decode cJ13_indexOfChar 10 = .ok (.if_icmp .ge 21, 3) := dk_162 0 21 (dk_at dksJ13_indexOfChar_0 10 rfl rfl)
theorem dJ13_indexOfChar_13 : decode cJ13_indexOfChar 13 = .ok (.aload_n 0, 1) := dk_42 (dk_at dksJ13_indexOfChar_0 13 rfl rfl)
theorem dJ13_indexOfChar_14 : decode cJ13_indexOfChar 14 = .ok (.iload 5, 2) := dk_21 5 (dk_at dksJ13_indexOfChar_0 14 rfl rfl)
theorem dJ13_indexOfChar_16 : decode cJ13_indexOfChar 16 = .ok (.baload, 1) := dk_51 (dk_at dksJ13_indexOfChar_0 16 rfl rfl)
theorem dJ13_indexOfChar_17 : decode cJ13_indexOfChar 17 = .ok (.iload 4, 2) := dk_21 4 (dk_at dksJ13_indexOfChar_0 17 rfl rfl)
theorem dJ13_indexOfChar_19 : decode cJ13_indexOfChar 19 = .ok (.if_icmp .ne 6, 3) := dk_160 0 6 (dk_at dksJ13_indexOfChar_0 19 rfl rfl)
theorem dJ13_indexOfChar_22 : decode cJ13_indexOfChar 22 = .ok (.iload 5, 2) := dk_21 5 (dk_at dksJ13_indexOfChar_0 22 rfl rfl)
theorem dJ13_indexOfChar_24 : decode cJ13_indexOfChar 24 = .ok (.ireturn, 1) := dk_172 (dk_at dksJ13_indexOfChar_1 0 rfl rfl)
theorem dJ13_indexOfChar_25 : decode cJ13_indexOfChar 25 = .ok (.iinc 5 1, 3) := dk_132 5 1 (dk_at dksJ13_indexOfChar_1 1 rfl rfl)
theorem dJ13_indexOfChar_28 : decode cJ13_indexOfChar 28 = .ok (.goto (-21), 3) := dk_167 255 235 (dk_at dksJ13_indexOfChar_1 4 rfl rfl)
theorem dJ13_indexOfChar_31 : decode cJ13_indexOfChar 31 = .ok (.iconst (-1), 1) := dk_2 (dk_at dksJ13_indexOfChar_1 7 rfl rfl)
theorem dJ13_indexOfChar_32 : decode cJ13_indexOfChar 32 = .ok (.ireturn, 1) := dk_172 (dk_at dksJ13_indexOfChar_1 8 rfl rfl)
abbrev cJ13_hashCode : ByteArray := prog_59_method_21_code
def yJ13_hashCode : MethodName := ⟨RJ13, "hashCode", "([B)I"⟩
def dkwJ13_hashCode_2 : List UInt8 := [3, 167, 0, 22, 42, 3, 51, 17, 0, 255, 126, 167, 0, 12, 42, 3, 42, 190, 3, 7, 184, 0, 84, 172]
abbrev dktJ13_hashCode_2 : List UInt8 := dkwJ13_hashCode_2 ++ []
def dkwJ13_hashCode_1 : List UInt8 := [171, 0, 0, 0, 0, 40, 0, 0, 0, 2, 0, 0, 0, 0, 0, 0, 0, 26, 0, 0, 0, 1, 0, 0, 0, 30]
abbrev dktJ13_hashCode_1 : List UInt8 := dkwJ13_hashCode_1 ++ dktJ13_hashCode_2
def dkwJ13_hashCode_0 : List UInt8 := [42, 190]
abbrev dktJ13_hashCode_0 : List UInt8 := dkwJ13_hashCode_0 ++ dktJ13_hashCode_1
theorem dksJ13_hashCode_0 : cJ13_hashCode.data.toList.drop 0 = dktJ13_hashCode_0 := by decide +kernel
theorem dksJ13_hashCode_1 : cJ13_hashCode.data.toList.drop 2 = dktJ13_hashCode_1 := dk_seg dksJ13_hashCode_0 2 rfl rfl
theorem dksJ13_hashCode_2 : cJ13_hashCode.data.toList.drop 28 = dktJ13_hashCode_2 := dk_seg dksJ13_hashCode_1 26 rfl rfl
theorem dJ13_hashCode_0 : decode cJ13_hashCode 0 = .ok (.aload_n 0, 1) := dk_42 (dk_at dksJ13_hashCode_0 0 rfl rfl)
theorem dJ13_hashCode_1 : decode cJ13_hashCode 1 = .ok (.arraylength, 1) := dk_190 (dk_at dksJ13_hashCode_0 1 rfl rfl)
theorem dJ13_hashCode_2 : decode cJ13_hashCode 2 = .ok (.lookupswitch 40 #[(0, 26), (1, 30)], 26) := by decide +kernel
theorem dJ13_hashCode_28 : decode cJ13_hashCode 28 = .ok (.iconst 0, 1) := dk_3 (dk_at dksJ13_hashCode_2 0 rfl rfl)
theorem dJ13_hashCode_29 : decode cJ13_hashCode 29 = .ok (.goto 22, 3) := dk_167 0 22 (dk_at dksJ13_hashCode_2 1 rfl rfl)
theorem dJ13_hashCode_32 : decode cJ13_hashCode 32 = .ok (.aload_n 0, 1) := dk_42 (dk_at dksJ13_hashCode_2 4 rfl rfl)
theorem dJ13_hashCode_33 : decode cJ13_hashCode 33 = .ok (.iconst 0, 1) := dk_3 (dk_at dksJ13_hashCode_2 5 rfl rfl)
theorem dJ13_hashCode_34 : decode cJ13_hashCode 34 = .ok (.baload, 1) := dk_51 (dk_at dksJ13_hashCode_2 6 rfl rfl)
theorem dJ13_hashCode_35 : decode cJ13_hashCode 35 = .ok (.sipush 255, 3) := dk_17 0 255 (dk_at dksJ13_hashCode_2 7 rfl rfl)
theorem dJ13_hashCode_38 : decode cJ13_hashCode 38 = .ok (.iand, 1) := dk_126 (dk_at dksJ13_hashCode_2 10 rfl rfl)
theorem dJ13_hashCode_39 : decode cJ13_hashCode 39 = .ok (.goto 12, 3) := dk_167 0 12 (dk_at dksJ13_hashCode_2 11 rfl rfl)
theorem dJ13_hashCode_42 : decode cJ13_hashCode 42 = .ok (.aload_n 0, 1) := dk_42 (dk_at dksJ13_hashCode_2 14 rfl rfl)
theorem dJ13_hashCode_43 : decode cJ13_hashCode 43 = .ok (.iconst 0, 1) := dk_3 (dk_at dksJ13_hashCode_2 15 rfl rfl)
theorem dJ13_hashCode_44 : decode cJ13_hashCode 44 = .ok (.aload_n 0, 1) := dk_42 (dk_at dksJ13_hashCode_2 16 rfl rfl)
theorem dJ13_hashCode_45 : decode cJ13_hashCode 45 = .ok (.arraylength, 1) := dk_190 (dk_at dksJ13_hashCode_2 17 rfl rfl)
theorem dJ13_hashCode_46 : decode cJ13_hashCode 46 = .ok (.iconst 0, 1) := dk_3 (dk_at dksJ13_hashCode_2 18 rfl rfl)
theorem dJ13_hashCode_47 : decode cJ13_hashCode 47 = .ok (.iconst 4, 1) := dk_7 (dk_at dksJ13_hashCode_2 19 rfl rfl)
theorem dJ13_hashCode_48 : decode cJ13_hashCode 48 = .ok (.invokestatic 84, 3) := dk_184 0 84 (dk_at dksJ13_hashCode_2 20 rfl rfl)
theorem dJ13_hashCode_51 : decode cJ13_hashCode 51 = .ok (.ireturn, 1) := dk_172 (dk_at dksJ13_hashCode_2 23 rfl rfl)
abbrev cJ13_charAt : ByteArray := prog_59_method_2_code
def yJ13_charAt : MethodName := ⟨RJ13, "charAt", "([BI)C"⟩
def dkwJ13_charAt_0 : List UInt8 := [27, 42, 190, 184, 0, 9, 42, 27, 51, 17, 0, 255, 126, 146, 172]
abbrev dktJ13_charAt_0 : List UInt8 := dkwJ13_charAt_0 ++ []
theorem dksJ13_charAt_0 : cJ13_charAt.data.toList.drop 0 = dktJ13_charAt_0 := by decide +kernel
theorem dJ13_charAt_0 : decode cJ13_charAt 0 = .ok (.iload_n 1, 1) := dk_27 (dk_at dksJ13_charAt_0 0 rfl rfl)
theorem dJ13_charAt_1 : decode cJ13_charAt 1 = .ok (.aload_n 0, 1) := dk_42 (dk_at dksJ13_charAt_0 1 rfl rfl)
theorem dJ13_charAt_2 : decode cJ13_charAt 2 = .ok (.arraylength, 1) := dk_190 (dk_at dksJ13_charAt_0 2 rfl rfl)
theorem dJ13_charAt_3 : decode cJ13_charAt 3 = .ok (.invokestatic 9, 3) := dk_184 0 9 (dk_at dksJ13_charAt_0 3 rfl rfl)
theorem dJ13_charAt_6 : decode cJ13_charAt 6 = .ok (.aload_n 0, 1) := dk_42 (dk_at dksJ13_charAt_0 6 rfl rfl)
theorem dJ13_charAt_7 : decode cJ13_charAt 7 = .ok (.iload_n 1, 1) := dk_27 (dk_at dksJ13_charAt_0 7 rfl rfl)
theorem dJ13_charAt_8 : decode cJ13_charAt 8 = .ok (.baload, 1) := dk_51 (dk_at dksJ13_charAt_0 8 rfl rfl)
theorem dJ13_charAt_9 : decode cJ13_charAt 9 = .ok (.sipush 255, 3) := dk_17 0 255 (dk_at dksJ13_charAt_0 9 rfl rfl)
theorem dJ13_charAt_12 : decode cJ13_charAt 12 = .ok (.iand, 1) := dk_126 (dk_at dksJ13_charAt_0 12 rfl rfl)
theorem dJ13_charAt_13 : decode cJ13_charAt 13 = .ok (.i2c, 1) := dk_146 (dk_at dksJ13_charAt_0 13 rfl rfl)
theorem dJ13_charAt_14 : decode cJ13_charAt 14 = .ok (.ireturn, 1) := dk_172 (dk_at dksJ13_charAt_0 14 rfl rfl)
theorem q147 : (Jvm.Cond.initialized "java/lang/StringLatin1") ∈ lw_all := lw_g (lw_at lw_m1 17 rfl) rfl
theorem q487 : (Jvm.Cond.static ({ cls := "java/lang/StringLatin1", name := "inflate", desc := "([BI[BII)V" } : Jvm.MethodName)) ∈ lw_all := lw_g (lw_at lw_m2 117 rfl) rfl
theorem q488 : (Jvm.Cond.code ({ cls := "java/lang/StringLatin1", name := "inflate", desc := "([BI[BII)V" } : Jvm.MethodName) prog_59_method_50_code (5 : Nat) (Option.none : Option Jvm.ClassFile.FieldType)) ∈ lw_all := lw_g (lw_at lw_m2 118 rfl) rfl
theorem q489 : (Jvm.Cond.methodLink "java/lang/StringLatin1" (240 : Nat) ({ cls := "java/lang/StringUTF16", name := "inflate", desc := "([BI[BII)V" } : Jvm.MethodName)) ∈ lw_all := lw_g (lw_at lw_m2 119 rfl) rfl
theorem q815 : (Jvm.Cond.static ({ cls := "java/lang/StringLatin1", name := "equals", desc := "([B[B)Z" } : Jvm.MethodName)) ∈ lw_all := lw_g (lw_at lw_m3 205 rfl) rfl
theorem q816 : (Jvm.Cond.code ({ cls := "java/lang/StringLatin1", name := "equals", desc := "([B[B)Z" } : Jvm.MethodName) prog_59_method_13_code (3 : Nat) (Option.some Jvm.ClassFile.FieldType.boolean)) ∈ lw_all := lw_g (lw_at lw_m3 206 rfl) rfl
theorem q1421 : (Jvm.Cond.static ({ cls := "java/lang/StringLatin1", name := "canEncode", desc := "(C)Z" } : Jvm.MethodName)) ∈ lw_all := lw_g (lw_at lw_m6 91 rfl) rfl
theorem q1422 : (Jvm.Cond.code ({ cls := "java/lang/StringLatin1", name := "canEncode", desc := "(C)Z" } : Jvm.MethodName) prog_59_method_3_code (1 : Nat) (Option.some Jvm.ClassFile.FieldType.boolean)) ∈ lw_all := lw_g (lw_at lw_m6 92 rfl) rfl
theorem q1487 : (Jvm.Cond.static ({ cls := "java/lang/StringLatin1", name := "indexOf", desc := "([BIII)I" } : Jvm.MethodName)) ∈ lw_all := lw_g (lw_at lw_m6 157 rfl) rfl
theorem q1488 : (Jvm.Cond.code ({ cls := "java/lang/StringLatin1", name := "indexOf", desc := "([BIII)I" } : Jvm.MethodName) prog_59_method_22_code (4 : Nat) (Option.some Jvm.ClassFile.FieldType.int)) ∈ lw_all := lw_g (lw_at lw_m6 158 rfl) rfl
theorem q1489 : (Jvm.Cond.methodLink "java/lang/StringLatin1" (88 : Nat) ({ cls := "java/lang/StringLatin1", name := "canEncode", desc := "(I)Z" } : Jvm.MethodName)) ∈ lw_all := lw_g (lw_at lw_m6 159 rfl) rfl
theorem q1490 : (Jvm.Cond.static ({ cls := "java/lang/StringLatin1", name := "canEncode", desc := "(I)Z" } : Jvm.MethodName)) ∈ lw_all := lw_g (lw_at lw_m6 160 rfl) rfl
theorem q1491 : (Jvm.Cond.code ({ cls := "java/lang/StringLatin1", name := "canEncode", desc := "(I)Z" } : Jvm.MethodName) prog_59_method_4_code (1 : Nat) (Option.some Jvm.ClassFile.FieldType.boolean)) ∈ lw_all := lw_g (lw_at lw_m6 161 rfl) rfl
theorem q1492 : (Jvm.Cond.methodLink "java/lang/StringLatin1" (92 : Nat) ({ cls := "java/lang/Math", name := "max", desc := "(II)I" } : Jvm.MethodName)) ∈ lw_all := lw_g (lw_at lw_m6 162 rfl) rfl
theorem q1493 : (Jvm.Cond.methodLink "java/lang/StringLatin1" (38 : Nat) ({ cls := "java/lang/Math", name := "min", desc := "(II)I" } : Jvm.MethodName)) ∈ lw_all := lw_g (lw_at lw_m6 163 rfl) rfl
theorem q1494 : (Jvm.Cond.methodLink "java/lang/StringLatin1" (95 : Nat) ({ cls := "java/lang/StringLatin1", name := "indexOfChar", desc := "([BIII)I" } : Jvm.MethodName)) ∈ lw_all := lw_g (lw_at lw_m6 164 rfl) rfl
theorem q1495 : (Jvm.Cond.static ({ cls := "java/lang/StringLatin1", name := "indexOfChar", desc := "([BIII)I" } : Jvm.MethodName)) ∈ lw_all := lw_g (lw_at lw_m6 165 rfl) rfl
theorem q1496 : (Jvm.Cond.code ({ cls := "java/lang/StringLatin1", name := "indexOfChar", desc := "([BIII)I" } : Jvm.MethodName) prog_59_method_23_code (6 : Nat) (Option.some Jvm.ClassFile.FieldType.int)) ∈ lw_all := lw_g (lw_at lw_m6 166 rfl) rfl
theorem q1682 : (Jvm.Cond.static ({ cls := "java/lang/StringLatin1", name := "hashCode", desc := "([B)I" } : Jvm.MethodName)) ∈ lw_all := lw_g (lw_at lw_m7 112 rfl) rfl
theorem q1683 : (Jvm.Cond.code ({ cls := "java/lang/StringLatin1", name := "hashCode", desc := "([B)I" } : Jvm.MethodName) prog_59_method_21_code (1 : Nat) (Option.some Jvm.ClassFile.FieldType.int)) ∈ lw_all := lw_g (lw_at lw_m7 113 rfl) rfl
theorem q1684 : (Jvm.Cond.methodLink "java/lang/StringLatin1" (84 : Nat) ({ cls := "jdk/internal/util/ArraysSupport", name := "vectorizedHashCode", desc := "(Ljava/lang/Object;IIII)I" } : Jvm.MethodName)) ∈ lw_all := lw_g (lw_at lw_m7 114 rfl) rfl
theorem q1807 : (Jvm.Cond.static ({ cls := "java/lang/StringLatin1", name := "charAt", desc := "([BI)C" } : Jvm.MethodName)) ∈ lw_all := lw_g (lw_at lw_m7 237 rfl) rfl
theorem q1808 : (Jvm.Cond.code ({ cls := "java/lang/StringLatin1", name := "charAt", desc := "([BI)C" } : Jvm.MethodName) prog_59_method_2_code (2 : Nat) (Option.some Jvm.ClassFile.FieldType.char)) ∈ lw_all := lw_g (lw_at lw_m7 238 rfl) rfl
theorem q1809 : (Jvm.Cond.methodLink "java/lang/StringLatin1" (9 : Nat) ({ cls := "java/lang/String", name := "checkIndex", desc := "(II)V" } : Jvm.MethodName)) ∈ lw_all := lw_g (lw_at lw_m7 239 rfl) rfl
/-! java/lang/Number -/
set_option maxRecDepth 100000
def RJ14 : String := "java/lang/Number"
abbrev cJ14_init : ByteArray := prog_55_method_1_code
def yJ14_init : MethodName := ⟨RJ14, "<init>", "()V"⟩
theorem dJ14_init_0 : decode cJ14_init 0 = .ok (.aload_n 0, 1) := by decide +kernel
theorem dJ14_init_1 : decode cJ14_init 1 = .ok (.invokespecial 1, 3) := by decide +kernel
theorem dJ14_init_4 : decode cJ14_init 4 = .ok (.return_, 1) := by decide +kernel
theorem q148 : (Jvm.Cond.initialized "java/lang/Number") ∈ lw_all := lw_g (lw_at lw_m1 18 rfl) rfl
theorem q747 : (Jvm.Cond.instanceMethod ({ cls := "java/lang/Number", name := "<init>", desc := "()V" } : Jvm.MethodName)) ∈ lw_all := lw_g (lw_at lw_m3 137 rfl) rfl
theorem q748 : (Jvm.Cond.code ({ cls := "java/lang/Number", name := "<init>", desc := "()V" } : Jvm.MethodName) prog_55_method_1_code (1 : Nat) (Option.none : Option Jvm.ClassFile.FieldType)) ∈ lw_all := lw_g (lw_at lw_m3 138 rfl) rfl
theorem q749 : (Jvm.Cond.methodLink "java/lang/Number" (1 : Nat) ({ cls := "java/lang/Object", name := "<init>", desc := "()V" } : Jvm.MethodName)) ∈ lw_all := lw_g (lw_at lw_m3 139 rfl) rfl
/-! java/lang/Integer -/
set_option maxRecDepth 100000
def RJ15 : String := "java/lang/Integer"
def TJ15 : u_T := fun k => match k with
  | _ => ("java/lang/Integer", "value", "I", true)
def tyJ15 : Nat → FieldType := fun k => match k with
  | _ => .int
abbrev wsJ150 : List Cond := u_ws RJ15 TJ15 1
theorem nmJ15 : ∀ a, a < 1 → ∀ b, b < 1 → a ≠ b → (TJ15 a).2.1 ≠ (TJ15 b).2.1 := by decide +kernel
theorem tyJ15_ok : ∀ k, k < 1 → parseFieldDescriptor (TJ15 k).2.2.1 = some (tyJ15 k) := by decide +kernel
abbrev cJ15_stringSize : ByteArray := prog_49_method_13_code
def yJ15_stringSize : MethodName := ⟨RJ15, "stringSize", "(I)I"⟩
def dkwJ15_stringSize_1 : List UInt8 := [164, 0, 7, 29, 27, 96, 172, 16, 10, 28, 104, 61, 132, 3, 1, 167, 255, 233, 16, 10, 27, 96, 172]
abbrev dktJ15_stringSize_1 : List UInt8 := dkwJ15_stringSize_1 ++ []
def dkwJ15_stringSize_0 : List UInt8 := [4, 60, 26, 155, 0, 8, 3, 60, 26, 116, 59, 16, 246, 61, 4, 62, 29, 16, 10, 162, 0, 23, 26, 28]
abbrev dktJ15_stringSize_0 : List UInt8 := dkwJ15_stringSize_0 ++ dktJ15_stringSize_1
theorem dksJ15_stringSize_0 : cJ15_stringSize.data.toList.drop 0 = dktJ15_stringSize_0 := by decide +kernel
theorem dksJ15_stringSize_1 : cJ15_stringSize.data.toList.drop 24 = dktJ15_stringSize_1 := dk_seg dksJ15_stringSize_0 24 rfl rfl
theorem dJ15_stringSize_0 : decode cJ15_stringSize 0 = .ok (.iconst 1, 1) := dk_4 (dk_at dksJ15_stringSize_0 0 rfl rfl)
theorem dJ15_stringSize_1 : decode cJ15_stringSize 1 = .ok (.istore_n 1, 1) := dk_60 (dk_at dksJ15_stringSize_0 1 rfl rfl)
theorem dJ15_stringSize_2 : decode cJ15_stringSize 2 = .ok (.iload_n 0, 1) := dk_26 (dk_at dksJ15_stringSize_0 2 rfl rfl)
theorem dJ15_stringSize_3 : decode cJ15_stringSize 3 = .ok (.ifCond .lt 8, 3) := dk_155 0 8 (dk_at dksJ15_stringSize_0 3 rfl rfl)
theorem dJ15_stringSize_6 : decode cJ15_stringSize 6 = .ok (.iconst 0, 1) := dk_3 (dk_at dksJ15_stringSize_0 6 rfl rfl)
theorem dJ15_stringSize_7 : decode cJ15_stringSize 7 = .ok (.istore_n 1, 1) := dk_60 (dk_at dksJ15_stringSize_0 7 rfl rfl)
theorem dJ15_stringSize_8 : decode cJ15_stringSize 8 = .ok (.iload_n 0, 1) := dk_26 (dk_at dksJ15_stringSize_0 8 rfl rfl)
theorem dJ15_stringSize_9 : decode cJ15_stringSize 9 = .ok (.ineg, 1) := dk_116 (dk_at dksJ15_stringSize_0 9 rfl rfl)
theorem dJ15_stringSize_10 : decode cJ15_stringSize 10 = .ok (.istore_n 0, 1) := dk_59 (dk_at dksJ15_stringSize_0 10 rfl rfl)
theorem dJ15_stringSize_11 : decode cJ15_stringSize 11 = .ok (.bipush (-10), 2) := dk_16 246 (dk_at dksJ15_stringSize_0 11 rfl rfl)
theorem dJ15_stringSize_13 : decode cJ15_stringSize 13 = .ok (.istore_n 2, 1) := dk_61 (dk_at dksJ15_stringSize_0 13 rfl rfl)
theorem dJ15_stringSize_14 : decode cJ15_stringSize 14 = .ok (.iconst 1, 1) := dk_4 (dk_at dksJ15_stringSize_0 14 rfl rfl)
theorem dJ15_stringSize_15 : decode cJ15_stringSize 15 = .ok (.istore_n 3, 1) := dk_62 (dk_at dksJ15_stringSize_0 15 rfl rfl)
theorem dJ15_stringSize_16 : decode cJ15_stringSize 16 = .ok (.iload_n 3, 1) := dk_29 (dk_at dksJ15_stringSize_0 16 rfl rfl)
theorem dJ15_stringSize_17 : decode cJ15_stringSize 17 = .ok (.bipush 10, 2) := dk_16 10 (dk_at dksJ15_stringSize_0 17 rfl rfl)
theorem dJ15_stringSize_19 : decode cJ15_stringSize 19 = .ok (.if_icmp .ge 23, 3) := dk_162 0 23 (dk_at dksJ15_stringSize_0 19 rfl rfl)
theorem dJ15_stringSize_22 : decode cJ15_stringSize 22 = .ok (.iload_n 0, 1) := dk_26 (dk_at dksJ15_stringSize_0 22 rfl rfl)
theorem dJ15_stringSize_23 : decode cJ15_stringSize 23 = .ok (.iload_n 2, 1) := dk_28 (dk_at dksJ15_stringSize_0 23 rfl rfl)
theorem dJ15_stringSize_24 : decode cJ15_stringSize 24 = .ok (.if_icmp .le 7, 3) := dk_164 0 7 (dk_at dksJ15_stringSize_1 0 rfl rfl)
theorem dJ15_stringSize_27 : decode cJ15_stringSize 27 = .ok (.iload_n 3, 1) := dk_29 (dk_at dksJ15_stringSize_1 3 rfl rfl)
theorem dJ15_stringSize_28 : decode cJ15_stringSize 28 = .ok (.iload_n 1, 1) := dk_27 (dk_at dksJ15_stringSize_1 4 rfl rfl)
theorem dJ15_stringSize_29 : decode cJ15_stringSize 29 = .ok (.iadd, 1) := dk_96 (dk_at dksJ15_stringSize_1 5 rfl rfl)
theorem dJ15_stringSize_30 : decode cJ15_stringSize 30 = .ok (.ireturn, 1) := dk_172 (dk_at dksJ15_stringSize_1 6 rfl rfl)
theorem dJ15_stringSize_31 : decode cJ15_stringSize 31 = .ok (.bipush 10, 2) := dk_16 10 (dk_at dksJ15_stringSize_1 7 rfl rfl)
theorem dJ15_stringSize_33 : decode cJ15_stringSize 33 = .ok (.iload_n 2, 1) := dk_28 (dk_at dksJ15_stringSize_1 9 rfl rfl)
theorem dJ15_stringSize_34 : decode cJ15_stringSize 34 = .ok (.imul, 1) := dk_104 (dk_at dksJ15_stringSize_1 10 rfl rfl)
theorem dJ15_stringSize_35 : decode cJ15_stringSize 35 = .ok (.istore_n 2, 1) := dk_61 (dk_at dksJ15_stringSize_1 11 rfl rfl)
theorem dJ15_stringSize_36 : decode cJ15_stringSize 36 = .ok (.iinc 3 1, 3) := dk_132 3 1 (dk_at dksJ15_stringSize_1 12 rfl rfl)
theorem dJ15_stringSize_39 : decode cJ15_stringSize 39 = .ok (.goto (-23), 3) := dk_167 255 233 (dk_at dksJ15_stringSize_1 15 rfl rfl)
theorem dJ15_stringSize_42 : decode cJ15_stringSize 42 = .ok (.bipush 10, 2) := dk_16 10 (dk_at dksJ15_stringSize_1 18 rfl rfl)
theorem dJ15_stringSize_44 : decode cJ15_stringSize 44 = .ok (.iload_n 1, 1) := dk_27 (dk_at dksJ15_stringSize_1 20 rfl rfl)
theorem dJ15_stringSize_45 : decode cJ15_stringSize 45 = .ok (.iadd, 1) := dk_96 (dk_at dksJ15_stringSize_1 21 rfl rfl)
theorem dJ15_stringSize_46 : decode cJ15_stringSize 46 = .ok (.ireturn, 1) := dk_172 (dk_at dksJ15_stringSize_1 22 rfl rfl)
abbrev cJ15_getChars : ByteArray := prog_49_method_12_code
def yJ15_getChars : MethodName := ⟨RJ15, "getChars", "(II[B)I"⟩
def dkwJ15_getChars_5 : List UInt8 := [16, 45, 84, 21, 5, 172]
abbrev dktJ15_getChars_5 : List UInt8 := dkwJ15_getChars_5 ++ []
def dkwJ15_getChars_4 : List UInt8 := [132, 5, 255, 21, 5, 178, 0, 87, 26, 116, 51, 84, 21, 6, 153, 0, 12, 44, 132, 5, 255, 21, 5]
abbrev dktJ15_getChars_4 : List UInt8 := dkwJ15_getChars_4 ++ dktJ15_getChars_5
def dkwJ15_getChars_3 : List UInt8 := [167, 255, 209, 44, 132, 5, 255, 21, 5, 178, 0, 83, 26, 116, 51, 84, 26, 16, 247, 162, 0, 16, 44]
abbrev dktJ15_getChars_3 : List UInt8 := dkwJ15_getChars_3 ++ dktJ15_getChars_4
def dkwJ15_getChars_2 : List UInt8 := [21, 5, 178, 0, 83, 21, 4, 51, 84, 44, 132, 5, 255, 21, 5, 178, 0, 87, 21, 4, 51, 84]
abbrev dktJ15_getChars_2 : List UInt8 := dkwJ15_getChars_2 ++ dktJ15_getChars_3
def dkwJ15_getChars_1 : List UInt8 := [16, 156, 163, 0, 47, 26, 16, 100, 108, 62, 29, 16, 100, 104, 26, 100, 54, 4, 29, 59, 44, 132, 5, 255]
abbrev dktJ15_getChars_1 : List UInt8 := dkwJ15_getChars_1 ++ dktJ15_getChars_2
def dkwJ15_getChars_0 : List UInt8 := [27, 54, 5, 26, 156, 0, 7, 4, 167, 0, 4, 3, 54, 6, 21, 6, 154, 0, 6, 26, 116, 59, 26]
abbrev dktJ15_getChars_0 : List UInt8 := dkwJ15_getChars_0 ++ dktJ15_getChars_1
theorem dksJ15_getChars_0 : cJ15_getChars.data.toList.drop 0 = dktJ15_getChars_0 := by decide +kernel
theorem dksJ15_getChars_1 : cJ15_getChars.data.toList.drop 23 = dktJ15_getChars_1 := dk_seg dksJ15_getChars_0 23 rfl rfl
theorem dksJ15_getChars_2 : cJ15_getChars.data.toList.drop 47 = dktJ15_getChars_2 := dk_seg dksJ15_getChars_1 24 rfl rfl
theorem dksJ15_getChars_3 : cJ15_getChars.data.toList.drop 69 = dktJ15_getChars_3 := dk_seg dksJ15_getChars_2 22 rfl rfl
theorem dksJ15_getChars_4 : cJ15_getChars.data.toList.drop 92 = dktJ15_getChars_4 := dk_seg dksJ15_getChars_3 23 rfl rfl
theorem dksJ15_getChars_5 : cJ15_getChars.data.toList.drop 115 = dktJ15_getChars_5 := dk_seg dksJ15_getChars_4 23 rfl rfl
theorem dJ15_getChars_0 : decode cJ15_getChars 0 = .ok (.iload_n 1, 1) := dk_27 (dk_at dksJ15_getChars_0 0 rfl rfl)
theorem dJ15_getChars_1 : decode cJ15_getChars 1 = .ok (.istore 5, 2) := dk_54 5 (dk_at dksJ15_getChars_0 1 rfl rfl)
theorem dJ15_getChars_3 : decode cJ15_getChars 3 = .ok (.iload_n 0, 1) := dk_26 (dk_at dksJ15_getChars_0 3 rfl rfl)
theorem dJ15_getChars_4 : decode cJ15_getChars 4 = .ok (.ifCond .ge 7, 3) := dk_156 0 7 (dk_at dksJ15_getChars_0 4 rfl rfl)
theorem dJ15_getChars_7 : decode cJ15_getChars 7 = .ok (.iconst 1, 1) := dk_4 (dk_at dksJ15_getChars_0 7 rfl rfl)
theorem dJ15_getChars_8 : decode cJ15_getChars 8 = .ok (.goto 4, 3) := dk_167 0 4 (dk_at dksJ15_getChars_0 8 rfl rfl)
theorem dJ15_getChars_11 : decode cJ15_getChars 11 = .ok (.iconst 0, 1) := dk_3 (dk_at dksJ15_getChars_0 11 rfl rfl)
theorem dJ15_getChars_12 : decode cJ15_getChars 12 = .ok (.istore 6, 2) := dk_54 6 (dk_at dksJ15_getChars_0 12 rfl rfl)
theorem dJ15_getChars_14 : decode cJ15_getChars 14 = .ok (.iload 6, 2) := dk_21 6 (dk_at dksJ15_getChars_0 14 rfl rfl)
theorem dJ15_getChars_16 : decode cJ15_getChars 16 = .ok (.ifCond .ne 6, 3) := dk_154 0 6 (dk_at dksJ15_getChars_0 16 rfl rfl)
theorem dJ15_getChars_19 : decode cJ15_getChars 19 = .ok (.iload_n 0, 1) := dk_26 (dk_at dksJ15_getChars_0 19 rfl rfl)
theorem dJ15_getChars_20 : decode cJ15_getChars 20 = .ok (.ineg, 1) := dk_116 (dk_at dksJ15_getChars_0 20 rfl rfl)
theorem dJ15_getChars_21 : decode cJ15_getChars 21 = .ok (.istore_n 0, 1) := dk_59 (dk_at dksJ15_getChars_0 21 rfl rfl)
theorem dJ15_getChars_22 : decode cJ15_getChars 22 = .ok (.iload_n 0, 1) := dk_26 (dk_at dksJ15_getChars_0 22 rfl rfl)
theorem dJ15_getChars_23 : decode cJ15_getChars 23 = .ok (.bipush (-100), 2) := dk_16 156 (dk_at dksJ15_getChars_1 0 rfl rfl)
theorem dJ15_getChars_25 : decode cJ15_getChars 25 = .ok (.if_icmp .gt 47, 3) := dk_163 0 47 (dk_at dksJ15_getChars_1 2 rfl rfl)
theorem dJ15_getChars_28 : decode cJ15_getChars 28 = .ok (.iload_n 0, 1) := dk_26 (dk_at dksJ15_getChars_1 5 rfl rfl)
theorem dJ15_getChars_29 : decode cJ15_getChars 29 = .ok (.bipush 100, 2) := dk_16 100 (dk_at dksJ15_getChars_1 6 rfl rfl)
theorem dJ15_getChars_31 : decode cJ15_getChars 31 = .ok (.idiv, 1) := dk_108 (dk_at dksJ15_getChars_1 8 rfl rfl)
theorem dJ15_getChars_32 : decode cJ15_getChars 32 = .ok (.istore_n 3, 1) := dk_62 (dk_at dksJ15_getChars_1 9 rfl rfl)
theorem dJ15_getChars_33 : decode cJ15_getChars 33 = .ok (.iload_n 3, 1) := dk_29 (dk_at dksJ15_getChars_1 10 rfl rfl)
theorem dJ15_getChars_34 : decode cJ15_getChars 34 = .ok (.bipush 100, 2) := dk_16 100 (dk_at dksJ15_getChars_1 11 rfl rfl)
theorem dJ15_getChars_36 : decode cJ15_getChars 36 = .ok (.imul, 1) := dk_104 (dk_at dksJ15_getChars_1 13 rfl rfl)
theorem dJ15_getChars_37 : decode cJ15_getChars 37 = .ok (.iload_n 0, 1) := dk_26 (dk_at dksJ15_getChars_1 14 rfl rfl)
theorem dJ15_getChars_38 : decode cJ15_getChars 38 = .ok (.isub, 1) := dk_100 (dk_at dksJ15_getChars_1 15 rfl rfl)
theorem dJ15_getChars_39 : decode cJ15_getChars 39 = .ok (.istore 4, 2) := dk_54 4 (dk_at dksJ15_getChars_1 16 rfl rfl)
theorem dJ15_getChars_41 : decode cJ15_getChars 41 = .ok (.iload_n 3, 1) := dk_29 (dk_at dksJ15_getChars_1 18 rfl rfl)
theorem dJ15_getChars_42 : decode cJ15_getChars 42 = .ok (.istore_n 0, 1) := dk_59 (dk_at dksJ15_getChars_1 19 rfl rfl)
theorem dJ15_getChars_43 : decode cJ15_getChars 43 = .ok (.aload_n 2, 1) := dk_44 (dk_at dksJ15_getChars_1 20 rfl rfl)
theorem dJ15_getChars_44 : decode cJ15_getChars 44 = .ok (.iinc 5 (-1), 3) := dk_132 5 255 (dk_at dksJ15_getChars_1 21 rfl rfl)
theorem dJ15_getChars_47 : decode cJ15_getChars 47 = .ok (.iload 5, 2) := dk_21 5 (dk_at dksJ15_getChars_2 0 rfl rfl)
theorem dJ15_getChars_49 : decode cJ15_getChars 49 = .ok (.getstatic 83, 3) := dk_178 0 83 (dk_at dksJ15_getChars_2 2 rfl rfl)
theorem dJ15_getChars_52 : decode cJ15_getChars 52 = .ok (.iload 4, 2) := dk_21 4 (dk_at dksJ15_getChars_2 5 rfl rfl)
theorem dJ15_getChars_54 : decode cJ15_getChars 54 = .ok (.baload, 1) := dk_51 (dk_at dksJ15_getChars_2 7 rfl rfl)
theorem dJ15_getChars_55 : decode cJ15_getChars 55 = .ok (.bastore, 1) := dk_84 (dk_at dksJ15_getChars_2 8 rfl rfl)
theorem dJ15_getChars_56 : decode cJ15_getChars 56 = .ok (.aload_n 2, 1) := dk_44 (dk_at dksJ15_getChars_2 9 rfl rfl)
theorem dJ15_getChars_57 : decode cJ15_getChars 57 = .ok (.iinc 5 (-1), 3) := dk_132 5 255 (dk_at dksJ15_getChars_2 10 rfl rfl)
theorem dJ15_getChars_60 : decode cJ15_getChars 60 = .ok (.iload 5, 2) := dk_21 5 (dk_at dksJ15_getChars_2 13 rfl rfl)
theorem dJ15_getChars_62 : decode cJ15_getChars 62 = .ok (.getstatic 87, 3) := dk_178 0 87 (dk_at dksJ15_getChars_2 15 rfl rfl)
theorem dJ15_getChars_65 : decode cJ15_getChars 65 = .ok (.iload 4, 2) := dk_21 4 (dk_at dksJ15_getChars_2 18 rfl rfl)
theorem dJ15_getChars_67 : decode cJ15_getChars 67 = .ok (.baload, 1) := dk_51 (dk_at dksJ15_getChars_2 20 rfl rfl)
theorem dJ15_getChars_68 : decode cJ15_getChars 68 = .ok (.bastore, 1) := dk_84 (dk_at dksJ15_getChars_2 21 rfl rfl)
theorem dJ15_getChars_69 : decode cJ15_getChars 69 = .ok (.goto (-47), 3) := dk_167 255 209 (dk_at dksJ15_getChars_3 0 rfl rfl)
theorem dJ15_getChars_72 : decode cJ15_getChars 72 = .ok (.aload_n 2, 1) := dk_44 (dk_at dksJ15_getChars_3 3 rfl rfl)
theorem dJ15_getChars_73 : decode cJ15_getChars 73 = .ok (.iinc 5 (-1), 3) := dk_132 5 255 (dk_at dksJ15_getChars_3 4 rfl rfl)
theorem dJ15_getChars_76 : decode cJ15_getChars 76 = .ok (.iload 5, 2) := dk_21 5 (dk_at dksJ15_getChars_3 7 rfl rfl)
theorem dJ15_getChars_78 : decode cJ15_getChars 78 = .ok (.getstatic 83, 3) := dk_178 0 83 (dk_at dksJ15_getChars_3 9 rfl rfl)
theorem dJ15_getChars_81 : decode cJ15_getChars 81 = .ok (.iload_n 0, 1) := dk_26 (dk_at dksJ15_getChars_3 12 rfl rfl)
theorem dJ15_getChars_82 : decode cJ15_getChars 82 = .ok (.ineg, 1) := dk_116 (dk_at dksJ15_getChars_3 13 rfl rfl)
theorem dJ15_getChars_83 : decode cJ15_getChars 83 = .ok (.baload, 1) := dk_51 (dk_at dksJ15_getChars_3 14 rfl rfl)
theorem dJ15_getChars_84 : decode cJ15_getChars 84 = .ok (.bastore, 1) := dk_84 (dk_at dksJ15_getChars_3 15 rfl rfl)
theorem dJ15_getChars_85 : decode cJ15_getChars 85 = .ok (.iload_n 0, 1) := dk_26 (dk_at dksJ15_getChars_3 16 rfl rfl)
theorem dJ15_getChars_86 : decode cJ15_getChars 86 = .ok (.bipush (-9), 2) := dk_16 247 (dk_at dksJ15_getChars_3 17 rfl rfl)
theorem dJ15_getChars_88 : decode cJ15_getChars 88 = .ok (.if_icmp .ge 16, 3) := dk_162 0 16 (dk_at dksJ15_getChars_3 19 rfl rfl)
theorem dJ15_getChars_91 : decode cJ15_getChars 91 = .ok (.aload_n 2, 1) := dk_44 (dk_at dksJ15_getChars_3 22 rfl rfl)
theorem dJ15_getChars_92 : decode cJ15_getChars 92 = .ok (.iinc 5 (-1), 3) := dk_132 5 255 (dk_at dksJ15_getChars_4 0 rfl rfl)
theorem dJ15_getChars_95 : decode cJ15_getChars 95 = .ok (.iload 5, 2) := dk_21 5 (dk_at dksJ15_getChars_4 3 rfl rfl)
theorem dJ15_getChars_97 : decode cJ15_getChars 97 = .ok (.getstatic 87, 3) := dk_178 0 87 (dk_at dksJ15_getChars_4 5 rfl rfl)
theorem dJ15_getChars_100 : decode cJ15_getChars 100 = .ok (.iload_n 0, 1) := dk_26 (dk_at dksJ15_getChars_4 8 rfl rfl)
theorem dJ15_getChars_101 : decode cJ15_getChars 101 = .ok (.ineg, 1) := dk_116 (dk_at dksJ15_getChars_4 9 rfl rfl)
theorem dJ15_getChars_102 : decode cJ15_getChars 102 = .ok (.baload, 1) := dk_51 (dk_at dksJ15_getChars_4 10 rfl rfl)
theorem dJ15_getChars_103 : decode cJ15_getChars 103 = .ok (.bastore, 1) := dk_84 (dk_at dksJ15_getChars_4 11 rfl rfl)
theorem dJ15_getChars_104 : decode cJ15_getChars 104 = .ok (.iload 6, 2) := dk_21 6 (dk_at dksJ15_getChars_4 12 rfl rfl)
theorem dJ15_getChars_106 : decode cJ15_getChars 106 = .ok (.ifCond .eq 12, 3) := dk_153 0 12 (dk_at dksJ15_getChars_4 14 rfl rfl)
theorem dJ15_getChars_109 : decode cJ15_getChars 109 = .ok (.aload_n 2, 1) := dk_44 (dk_at dksJ15_getChars_4 17 rfl rfl)
theorem dJ15_getChars_110 : decode cJ15_getChars 110 = .ok (.iinc 5 (-1), 3) := dk_132 5 255 (dk_at dksJ15_getChars_4 18 rfl rfl)
theorem dJ15_getChars_113 : decode cJ15_getChars 113 = .ok (.iload 5, 2) := dk_21 5 (dk_at dksJ15_getChars_4 21 rfl rfl)
theorem dJ15_getChars_115 : decode cJ15_getChars 115 = .ok (.bipush 45, 2) := dk_16 45 (dk_at dksJ15_getChars_5 0 rfl rfl)
theorem dJ15_getChars_117 : decode cJ15_getChars 117 = .ok (.bastore, 1) := dk_84 (dk_at dksJ15_getChars_5 2 rfl rfl)
theorem dJ15_getChars_118 : decode cJ15_getChars 118 = .ok (.iload 5, 2) := dk_21 5 (dk_at dksJ15_getChars_5 3 rfl rfl)
theorem dJ15_getChars_120 : decode cJ15_getChars 120 = .ok (.ireturn, 1) := dk_172 (dk_at dksJ15_getChars_5 5 rfl rfl)
abbrev cJ15_valueOf : ByteArray := prog_49_method_22_code
def yJ15_valueOf : MethodName := ⟨RJ15, "valueOf", "(I)Ljava/lang/Integer;"⟩
def dkwJ15_valueOf_1 : List UInt8 := [187, 0, 1, 89, 26, 183, 0, 199, 176]
abbrev dktJ15_valueOf_1 : List UInt8 := dkwJ15_valueOf_1 ++ []
def dkwJ15_valueOf_0 : List UInt8 := [26, 16, 128, 161, 0, 20, 26, 178, 0, 191, 163, 0, 13, 178, 0, 195, 26, 17, 0, 128, 96, 50, 176]
abbrev dktJ15_valueOf_0 : List UInt8 := dkwJ15_valueOf_0 ++ dktJ15_valueOf_1
theorem dksJ15_valueOf_0 : cJ15_valueOf.data.toList.drop 0 = dktJ15_valueOf_0 := by decide +kernel
theorem dksJ15_valueOf_1 : cJ15_valueOf.data.toList.drop 23 = dktJ15_valueOf_1 := dk_seg dksJ15_valueOf_0 23 rfl rfl
theorem dJ15_valueOf_0 : decode cJ15_valueOf 0 = .ok (.iload_n 0, 1) := dk_26 (dk_at dksJ15_valueOf_0 0 rfl rfl)
theorem dJ15_valueOf_1 : decode cJ15_valueOf 1 = .ok (.bipush (-128), 2) := dk_16 128 (dk_at dksJ15_valueOf_0 1 rfl rfl)
theorem dJ15_valueOf_3 : decode cJ15_valueOf 3 = .ok (.if_icmp .lt 20, 3) := dk_161 0 20 (dk_at dksJ15_valueOf_0 3 rfl rfl)
theorem dJ15_valueOf_6 : decode cJ15_valueOf 6 = .ok (.iload_n 0, 1) := dk_26 (dk_at dksJ15_valueOf_0 6 rfl rfl)
theorem dJ15_valueOf_7 : decode cJ15_valueOf 7 = .ok (.getstatic 191, 3) := dk_178 0 191 (dk_at dksJ15_valueOf_0 7 rfl rfl)
theorem dJ15_valueOf_10 : decode cJ15_valueOf 10 = .ok (.if_icmp .gt 13, 3) := dk_163 0 13 (dk_at dksJ15_valueOf_0 10 rfl rfl)
theorem dJ15_valueOf_13 : decode cJ15_valueOf 13 = .ok (.getstatic 195, 3) := dk_178 0 195 (dk_at dksJ15_valueOf_0 13 rfl rfl)
theorem dJ15_valueOf_16 : decode cJ15_valueOf 16 = .ok (.iload_n 0, 1) := dk_26 (dk_at dksJ15_valueOf_0 16 rfl rfl)
theorem dJ15_valueOf_17 : decode cJ15_valueOf 17 = .ok (.sipush 128, 3) := dk_17 0 128 (dk_at dksJ15_valueOf_0 17 rfl rfl)
theorem dJ15_valueOf_20 : decode cJ15_valueOf 20 = .ok (.iadd, 1) := dk_96 (dk_at dksJ15_valueOf_0 20 rfl rfl)
theorem dJ15_valueOf_21 : decode cJ15_valueOf 21 = .ok (.aaload, 1) := dk_50 (dk_at dksJ15_valueOf_0 21 rfl rfl)
theorem dJ15_valueOf_22 : decode cJ15_valueOf 22 = .ok (.areturn, 1) := dk_176 (dk_at dksJ15_valueOf_0 22 rfl rfl)
theorem dJ15_valueOf_23 : decode cJ15_valueOf 23 = .ok (.new 1, 3) := dk_187 0 1 (dk_at dksJ15_valueOf_1 0 rfl rfl)
theorem dJ15_valueOf_26 : decode cJ15_valueOf 26 = .ok (.dup, 1) := dk_89 (dk_at dksJ15_valueOf_1 3 rfl rfl)
theorem dJ15_valueOf_27 : decode cJ15_valueOf 27 = .ok (.iload_n 0, 1) := dk_26 (dk_at dksJ15_valueOf_1 4 rfl rfl)
theorem dJ15_valueOf_28 : decode cJ15_valueOf 28 = .ok (.invokespecial 199, 3) := dk_183 0 199 (dk_at dksJ15_valueOf_1 5 rfl rfl)
theorem dJ15_valueOf_31 : decode cJ15_valueOf 31 = .ok (.areturn, 1) := dk_176 (dk_at dksJ15_valueOf_1 8 rfl rfl)
abbrev cJ15_init : ByteArray := prog_49_method_23_code
def yJ15_init : MethodName := ⟨RJ15, "<init>", "(I)V"⟩
def dkwJ15_init_0 : List UInt8 := [42, 183, 0, 202, 42, 27, 181, 0, 205, 177]
abbrev dktJ15_init_0 : List UInt8 := dkwJ15_init_0 ++ []
theorem dksJ15_init_0 : cJ15_init.data.toList.drop 0 = dktJ15_init_0 := by decide +kernel
theorem dJ15_init_0 : decode cJ15_init 0 = .ok (.aload_n 0, 1) := dk_42 (dk_at dksJ15_init_0 0 rfl rfl)
theorem dJ15_init_1 : decode cJ15_init 1 = .ok (.invokespecial 202, 3) := dk_183 0 202 (dk_at dksJ15_init_0 1 rfl rfl)
theorem dJ15_init_4 : decode cJ15_init 4 = .ok (.aload_n 0, 1) := dk_42 (dk_at dksJ15_init_0 4 rfl rfl)
theorem dJ15_init_5 : decode cJ15_init 5 = .ok (.iload_n 1, 1) := dk_27 (dk_at dksJ15_init_0 5 rfl rfl)
theorem dJ15_init_6 : decode cJ15_init 6 = .ok (.putfield 205, 3) := dk_181 0 205 (dk_at dksJ15_init_0 6 rfl rfl)
theorem dJ15_init_9 : decode cJ15_init 9 = .ok (.return_, 1) := dk_177 (dk_at dksJ15_init_0 9 rfl rfl)
abbrev cJ15_equals : ByteArray := prog_49_method_34_code
def yJ15_equals : MethodName := ⟨RJ15, "equals", "(Ljava/lang/Object;)Z"⟩
def dkwJ15_equals_1 : List UInt8 := [167, 0, 4, 3, 172, 3, 172]
abbrev dktJ15_equals_1 : List UInt8 := dkwJ15_equals_1 ++ []
def dkwJ15_equals_0 : List UInt8 := [43, 193, 0, 1, 153, 0, 23, 42, 180, 0, 205, 43, 192, 0, 1, 182, 0, 211, 160, 0, 7, 4]
abbrev dktJ15_equals_0 : List UInt8 := dkwJ15_equals_0 ++ dktJ15_equals_1
theorem dksJ15_equals_0 : cJ15_equals.data.toList.drop 0 = dktJ15_equals_0 := by decide +kernel
theorem dksJ15_equals_1 : cJ15_equals.data.toList.drop 22 = dktJ15_equals_1 := dk_seg dksJ15_equals_0 22 rfl rfl
theorem dJ15_equals_0 : decode cJ15_equals 0 = .ok (.aload_n 1, 1) := dk_43 (dk_at dksJ15_equals_0 0 rfl rfl)
theorem dJ15_equals_1 : decode cJ15_equals 1 = .ok (.instanceof 1, 3) := dk_193 0 1 (dk_at dksJ15_equals_0 1 rfl rfl)
theorem dJ15_equals_4 : decode cJ15_equals 4 = .ok (.ifCond .eq 23, 3) := dk_153 0 23 (dk_at dksJ15_equals_0 4 rfl rfl)
theorem dJ15_equals_7 : decode cJ15_equals 7 = .ok (.aload_n 0, 1) := dk_42 (dk_at dksJ15_equals_0 7 rfl rfl)
theorem dJ15_equals_8 : decode cJ15_equals 8 = .ok (.getfield 205, 3) := dk_180 0 205 (dk_at dksJ15_equals_0 8 rfl rfl)
theorem dJ15_equals_11 : decode cJ15_equals 11 = .ok (.aload_n 1, 1) := dk_43 (dk_at dksJ15_equals_0 11 rfl rfl)
theorem dJ15_equals_12 : decode cJ15_equals 12 = .ok (.checkcast 1, 3) := dk_192 0 1 (dk_at dksJ15_equals_0 12 rfl rfl)
theorem dJ15_equals_15 : decode cJ15_equals 15 = .ok (.invokevirtual 211, 3) := dk_182 0 211 (dk_at dksJ15_equals_0 15 rfl rfl)
theorem dJ15_equals_18 : decode cJ15_equals 18 = .ok (.if_icmp .ne 7, 3) := dk_160 0 7 (dk_at dksJ15_equals_0 18 rfl rfl)
theorem dJ15_equals_21 : decode cJ15_equals 21 = .ok (.iconst 1, 1) := dk_4 (dk_at dksJ15_equals_0 21 rfl rfl)
theorem dJ15_equals_22 : decode cJ15_equals 22 = .ok (.goto 4, 3) := dk_167 0 4 (dk_at dksJ15_equals_1 0 rfl rfl)
theorem dJ15_equals_25 : decode cJ15_equals 25 = .ok (.iconst 0, 1) := dk_3 (dk_at dksJ15_equals_1 3 rfl rfl)
theorem dJ15_equals_26 : decode cJ15_equals 26 = .ok (.ireturn, 1) := dk_172 (dk_at dksJ15_equals_1 4 rfl rfl)
theorem dJ15_equals_27 : decode cJ15_equals 27 = .ok (.iconst 0, 1) := dk_3 (dk_at dksJ15_equals_1 5 rfl rfl)
theorem dJ15_equals_28 : decode cJ15_equals 28 = .ok (.ireturn, 1) := dk_172 (dk_at dksJ15_equals_1 6 rfl rfl)
abbrev cJ15_intValue : ByteArray := prog_49_method_27_code
def yJ15_intValue : MethodName := ⟨RJ15, "intValue", "()I"⟩
theorem dJ15_intValue_0 : decode cJ15_intValue 0 = .ok (.aload_n 0, 1) := by decide +kernel
theorem dJ15_intValue_1 : decode cJ15_intValue 1 = .ok (.getfield 205, 3) := by decide +kernel
theorem dJ15_intValue_4 : decode cJ15_intValue 4 = .ok (.ireturn, 1) := by decide +kernel
abbrev cJ15_numberOfTrailingZeros : ByteArray := prog_49_method_48_code
def yJ15_numberOfTrailingZeros : MethodName := ⟨RJ15, "numberOfTrailingZeros", "(I)I"⟩
def dkwJ15_numberOfTrailingZeros_3 : List UInt8 := [5, 124, 59, 27, 26, 4, 124, 96, 172]
abbrev dktJ15_numberOfTrailingZeros_3 : List UInt8 := dkwJ15_numberOfTrailingZeros_3 ++ []
def dkwJ15_numberOfTrailingZeros_2 : List UInt8 := [124, 59, 26, 16, 16, 164, 0, 10, 132, 1, 4, 26, 7, 124, 59, 26, 7, 164, 0, 10, 132, 1, 2, 26]
abbrev dktJ15_numberOfTrailingZeros_2 : List UInt8 := dkwJ15_numberOfTrailingZeros_2 ++ dktJ15_numberOfTrailingZeros_3
def dkwJ15_numberOfTrailingZeros_1 : List UInt8 := [164, 0, 11, 132, 1, 16, 26, 16, 16, 124, 59, 26, 17, 1, 0, 164, 0, 11, 132, 1, 8, 26, 16, 8]
abbrev dktJ15_numberOfTrailingZeros_1 : List UInt8 := dkwJ15_numberOfTrailingZeros_1 ++ dktJ15_numberOfTrailingZeros_2
def dkwJ15_numberOfTrailingZeros_0 : List UInt8 := [26, 2, 130, 26, 4, 100, 126, 59, 26, 157, 0, 8, 26, 16, 32, 126, 172, 4, 60, 26, 19, 1, 8]
abbrev dktJ15_numberOfTrailingZeros_0 : List UInt8 := dkwJ15_numberOfTrailingZeros_0 ++ dktJ15_numberOfTrailingZeros_1
theorem dksJ15_numberOfTrailingZeros_0 : cJ15_numberOfTrailingZeros.data.toList.drop 0 = dktJ15_numberOfTrailingZeros_0 := by decide +kernel
theorem dksJ15_numberOfTrailingZeros_1 : cJ15_numberOfTrailingZeros.data.toList.drop 23 = dktJ15_numberOfTrailingZeros_1 := dk_seg dksJ15_numberOfTrailingZeros_0 23 rfl rfl
theorem dksJ15_numberOfTrailingZeros_2 : cJ15_numberOfTrailingZeros.data.toList.drop 47 = dktJ15_numberOfTrailingZeros_2 := dk_seg dksJ15_numberOfTrailingZeros_1 24 rfl rfl
theorem dksJ15_numberOfTrailingZeros_3 : cJ15_numberOfTrailingZeros.data.toList.drop 71 = dktJ15_numberOfTrailingZeros_3 := dk_seg dksJ15_numberOfTrailingZeros_2 24 rfl rfl
theorem dJ15_numberOfTrailingZeros_0 : decode cJ15_numberOfTrailingZeros 0 = .ok (.iload_n 0, 1) := dk_26 (dk_at dksJ15_numberOfTrailingZeros_0 0 rfl rfl)
theorem dJ15_numberOfTrailingZeros_1 : decode cJ15_numberOfTrailingZeros 1 = .ok (.iconst (-1), 1) := dk_2 (dk_at dksJ15_numberOfTrailingZeros_0 1 rfl rfl)
theorem dJ15_numberOfTrailingZeros_2 : decode cJ15_numberOfTrailingZeros 2 = .ok (.ixor, 1) := dk_130 (dk_at dksJ15_numberOfTrailingZeros_0 2 rfl rfl)
theorem dJ15_numberOfTrailingZeros_3 : decode cJ15_numberOfTrailingZeros 3 = .ok (.iload_n 0, 1) := dk_26 (dk_at dksJ15_numberOfTrailingZeros_0 3 rfl rfl)
theorem dJ15_numberOfTrailingZeros_4 : decode cJ15_numberOfTrailingZeros 4 = .ok (.iconst 1, 1) := dk_4 (dk_at dksJ15_numberOfTrailingZeros_0 4 rfl rfl)
theorem dJ15_numberOfTrailingZeros_5 : decode cJ15_numberOfTrailingZeros 5 = .ok (.isub, 1) := dk_100 (dk_at dksJ15_numberOfTrailingZeros_0 5 rfl rfl)
theorem dJ15_numberOfTrailingZeros_6 : decode cJ15_numberOfTrailingZeros 6 = .ok (.iand, 1) := dk_126 (dk_at dksJ15_numberOfTrailingZeros_0 6 rfl rfl)
theorem dJ15_numberOfTrailingZeros_7 : decode cJ15_numberOfTrailingZeros 7 = .ok (.istore_n 0, 1) := dk_59 (dk_at dksJ15_numberOfTrailingZeros_0 7 rfl rfl)
theorem dJ15_numberOfTrailingZeros_8 : decode cJ15_numberOfTrailingZeros 8 = .ok (.iload_n 0, 1) := dk_26 (dk_at dksJ15_numberOfTrailingZeros_0 8 rfl rfl)
theorem dJ15_numberOfTrailingZeros_9 : decode cJ15_numberOfTrailingZeros 9 = .ok (.ifCond .gt 8, 3) := dk_157 0 8 (dk_at dksJ15_numberOfTrailingZeros_0 9 rfl rfl)
theorem dJ15_numberOfTrailingZeros_12 : decode cJ15_numberOfTrailingZeros 12 = .ok (.iload_n 0, 1) := dk_26 (dk_at dksJ15_numberOfTrailingZeros_0 12 rfl rfl)
theorem dJ15_numberOfTrailingZeros_13 : decode cJ15_numberOfTrailingZeros 13 = .ok (.bipush 32, 2) := dk_16 32 (dk_at dksJ15_numberOfTrailingZeros_0 13 rfl rfl)
theorem dJ15_numberOfTrailingZeros_15 : decode cJ15_numberOfTrailingZeros 15 = .ok (.iand, 1) := dk_126 (dk_at dksJ15_numberOfTrailingZeros_0 15 rfl rfl)
theorem dJ15_numberOfTrailingZeros_16 : decode cJ15_numberOfTrailingZeros 16 = .ok (.ireturn, 1) := dk_172 (dk_at dksJ15_numberOfTrailingZeros_0 16 rfl rfl)
theorem dJ15_numberOfTrailingZeros_17 : decode cJ15_numberOfTrailingZeros 17 = .ok (.iconst 1, 1) := dk_4 (dk_at dksJ15_numberOfTrailingZeros_0 17 rfl rfl)
theorem dJ15_numberOfTrailingZeros_18 : decode cJ15_numberOfTrailingZeros 18 = .ok (.istore_n 1, 1) := dk_60 (dk_at dksJ15_numberOfTrailingZeros_0 18 rfl rfl)
theorem dJ15_numberOfTrailingZeros_19 : decode cJ15_numberOfTrailingZeros 19 = .ok (.iload_n 0, 1) := dk_26 (dk_at dksJ15_numberOfTrailingZeros_0 19 rfl rfl)
theorem dJ15_numberOfTrailingZeros_20 : decode cJ15_numberOfTrailingZeros 20 = .ok (.ldc_w 264, 3) := dk_19 1 8 (dk_at dksJ15_numberOfTrailingZeros_0 20 rfl rfl)
theorem dJ15_numberOfTrailingZeros_23 : decode cJ15_numberOfTrailingZeros 23 = .ok (.if_icmp .le 11, 3) := dk_164 0 11 (dk_at dksJ15_numberOfTrailingZeros_1 0 rfl rfl)
theorem dJ15_numberOfTrailingZeros_26 : decode cJ15_numberOfTrailingZeros 26 = .ok (.iinc 1 16, 3) := dk_132 1 16 (dk_at dksJ15_numberOfTrailingZeros_1 3 rfl rfl)
theorem dJ15_numberOfTrailingZeros_29 : decode cJ15_numberOfTrailingZeros 29 = .ok (.iload_n 0, 1) := dk_26 (dk_at dksJ15_numberOfTrailingZeros_1 6 rfl rfl)
theorem dJ15_numberOfTrailingZeros_30 : decode cJ15_numberOfTrailingZeros 30 = .ok (.bipush 16, 2) := dk_16 16 (dk_at dksJ15_numberOfTrailingZeros_1 7 rfl rfl)
theorem dJ15_numberOfTrailingZeros_32 : decode cJ15_numberOfTrailingZeros 32 = .ok (.iushr, 1) := dk_124 (dk_at dksJ15_numberOfTrailingZeros_1 9 rfl rfl)
theorem dJ15_numberOfTrailingZeros_33 : decode cJ15_numberOfTrailingZeros 33 = .ok (.istore_n 0, 1) := dk_59 (dk_at dksJ15_numberOfTrailingZeros_1 10 rfl rfl)
theorem dJ15_numberOfTrailingZeros_34 : decode cJ15_numberOfTrailingZeros 34 = .ok (.iload_n 0, 1) := dk_26 (dk_at dksJ15_numberOfTrailingZeros_1 11 rfl rfl)
theorem dJ15_numberOfTrailingZeros_35 : decode cJ15_numberOfTrailingZeros 35 = .ok (.sipush 256, 3) := dk_17 1 0 (dk_at dksJ15_numberOfTrailingZeros_1 12 rfl rfl)
theorem dJ15_numberOfTrailingZeros_38 : decode cJ15_numberOfTrailingZeros 38 = .ok (.if_icmp .le 11, 3) := dk_164 0 11 (dk_at dksJ15_numberOfTrailingZeros_1 15 rfl rfl)
theorem dJ15_numberOfTrailingZeros_41 : decode cJ15_numberOfTrailingZeros 41 = .ok (.iinc 1 8, 3) := dk_132 1 8 (dk_at dksJ15_numberOfTrailingZeros_1 18 rfl rfl)
theorem dJ15_numberOfTrailingZeros_44 : decode cJ15_numberOfTrailingZeros 44 = .ok (.iload_n 0, 1) := dk_26 (dk_at dksJ15_numberOfTrailingZeros_1 21 rfl rfl)
theorem dJ15_numberOfTrailingZeros_45 : decode cJ15_numberOfTrailingZeros 45 = .ok (.bipush 8, 2) := dk_16 8 (dk_at dksJ15_numberOfTrailingZeros_1 22 rfl rfl)
theorem dJ15_numberOfTrailingZeros_47 : decode cJ15_numberOfTrailingZeros 47 = .ok (.iushr, 1) := dk_124 (dk_at dksJ15_numberOfTrailingZeros_2 0 rfl rfl)
theorem dJ15_numberOfTrailingZeros_48 : decode cJ15_numberOfTrailingZeros 48 = .ok (.istore_n 0, 1) := dk_59 (dk_at dksJ15_numberOfTrailingZeros_2 1 rfl rfl)
theorem dJ15_numberOfTrailingZeros_49 : decode cJ15_numberOfTrailingZeros 49 = .ok (.iload_n 0, 1) := dk_26 (dk_at dksJ15_numberOfTrailingZeros_2 2 rfl rfl)
theorem dJ15_numberOfTrailingZeros_50 : decode cJ15_numberOfTrailingZeros 50 = .ok (.bipush 16, 2) := dk_16 16 (dk_at dksJ15_numberOfTrailingZeros_2 3 rfl rfl)
theorem dJ15_numberOfTrailingZeros_52 : decode cJ15_numberOfTrailingZeros 52 = .ok (.if_icmp .le 10, 3) := dk_164 0 10 (dk_at dksJ15_numberOfTrailingZeros_2 5 rfl rfl)
theorem dJ15_numberOfTrailingZeros_55 : decode cJ15_numberOfTrailingZeros 55 = .ok (.iinc 1 4, 3) := dk_132 1 4 (dk_at dksJ15_numberOfTrailingZeros_2 8 rfl rfl)
theorem dJ15_numberOfTrailingZeros_58 : decode cJ15_numberOfTrailingZeros 58 = .ok (.iload_n 0, 1) := dk_26 (dk_at dksJ15_numberOfTrailingZeros_2 11 rfl rfl)
theorem dJ15_numberOfTrailingZeros_59 : decode cJ15_numberOfTrailingZeros 59 = .ok (.iconst 4, 1) := dk_7 (dk_at dksJ15_numberOfTrailingZeros_2 12 rfl rfl)
theorem dJ15_numberOfTrailingZeros_60 : decode cJ15_numberOfTrailingZeros 60 = .ok (.iushr, 1) := dk_124 (dk_at dksJ15_numberOfTrailingZeros_2 13 rfl rfl)
theorem dJ15_numberOfTrailingZeros_61 : decode cJ15_numberOfTrailingZeros 61 = .ok (.istore_n 0, 1) := dk_59 (dk_at dksJ15_numberOfTrailingZeros_2 14 rfl rfl)
theorem dJ15_numberOfTrailingZeros_62 : decode cJ15_numberOfTrailingZeros 62 = .ok (.iload_n 0, 1) := dk_26 (dk_at dksJ15_numberOfTrailingZeros_2 15 rfl rfl)
theorem dJ15_numberOfTrailingZeros_63 : decode cJ15_numberOfTrailingZeros 63 = .ok (.iconst 4, 1) := dk_7 (dk_at dksJ15_numberOfTrailingZeros_2 16 rfl rfl)
theorem dJ15_numberOfTrailingZeros_64 : decode cJ15_numberOfTrailingZeros 64 = .ok (.if_icmp .le 10, 3) := dk_164 0 10 (dk_at dksJ15_numberOfTrailingZeros_2 17 rfl rfl)
theorem dJ15_numberOfTrailingZeros_67 : decode cJ15_numberOfTrailingZeros 67 = .ok (.iinc 1 2, 3) := dk_132 1 2 (dk_at dksJ15_numberOfTrailingZeros_2 20 rfl rfl)
theorem dJ15_numberOfTrailingZeros_70 : decode cJ15_numberOfTrailingZeros 70 = .ok (.iload_n 0, 1) := dk_26 (dk_at dksJ15_numberOfTrailingZeros_2 23 rfl rfl)
theorem dJ15_numberOfTrailingZeros_71 : decode cJ15_numberOfTrailingZeros 71 = .ok (.iconst 2, 1) := dk_5 (dk_at dksJ15_numberOfTrailingZeros_3 0 rfl rfl)
theorem dJ15_numberOfTrailingZeros_72 : decode cJ15_numberOfTrailingZeros 72 = .ok (.iushr, 1) := dk_124 (dk_at dksJ15_numberOfTrailingZeros_3 1 rfl rfl)
theorem dJ15_numberOfTrailingZeros_73 : decode cJ15_numberOfTrailingZeros 73 = .ok (.istore_n 0, 1) := dk_59 (dk_at dksJ15_numberOfTrailingZeros_3 2 rfl rfl)
theorem dJ15_numberOfTrailingZeros_74 : decode cJ15_numberOfTrailingZeros 74 = .ok (.iload_n 1, 1) := dk_27 (dk_at dksJ15_numberOfTrailingZeros_3 3 rfl rfl)
theorem dJ15_numberOfTrailingZeros_75 : decode cJ15_numberOfTrailingZeros 75 = .ok (.iload_n 0, 1) := dk_26 (dk_at dksJ15_numberOfTrailingZeros_3 4 rfl rfl)
theorem dJ15_numberOfTrailingZeros_76 : decode cJ15_numberOfTrailingZeros 76 = .ok (.iconst 1, 1) := dk_4 (dk_at dksJ15_numberOfTrailingZeros_3 5 rfl rfl)
theorem dJ15_numberOfTrailingZeros_77 : decode cJ15_numberOfTrailingZeros 77 = .ok (.iushr, 1) := dk_124 (dk_at dksJ15_numberOfTrailingZeros_3 6 rfl rfl)
theorem dJ15_numberOfTrailingZeros_78 : decode cJ15_numberOfTrailingZeros 78 = .ok (.iadd, 1) := dk_96 (dk_at dksJ15_numberOfTrailingZeros_3 7 rfl rfl)
theorem dJ15_numberOfTrailingZeros_79 : decode cJ15_numberOfTrailingZeros 79 = .ok (.ireturn, 1) := dk_172 (dk_at dksJ15_numberOfTrailingZeros_3 8 rfl rfl)
theorem q149 : (Jvm.Cond.initialized "java/lang/Integer") ∈ lw_all := lw_g (lw_at lw_m1 19 rfl) rfl
theorem q515 : (Jvm.Cond.static ({ cls := "java/lang/Integer", name := "stringSize", desc := "(I)I" } : Jvm.MethodName)) ∈ lw_all := lw_g (lw_at lw_m2 145 rfl) rfl
theorem q516 : (Jvm.Cond.code ({ cls := "java/lang/Integer", name := "stringSize", desc := "(I)I" } : Jvm.MethodName) prog_49_method_13_code (4 : Nat) (Option.some Jvm.ClassFile.FieldType.int)) ∈ lw_all := lw_g (lw_at lw_m2 146 rfl) rfl
theorem q518 : (Jvm.Cond.static ({ cls := "java/lang/Integer", name := "getChars", desc := "(II[B)I" } : Jvm.MethodName)) ∈ lw_all := lw_g (lw_at lw_m2 148 rfl) rfl
theorem q519 : (Jvm.Cond.code ({ cls := "java/lang/Integer", name := "getChars", desc := "(II[B)I" } : Jvm.MethodName) prog_49_method_12_code (7 : Nat) (Option.some Jvm.ClassFile.FieldType.int)) ∈ lw_all := lw_g (lw_at lw_m2 149 rfl) rfl
theorem q520 : (Jvm.Cond.fieldLink "java/lang/Integer" (83 : Nat) "java/lang/Integer" "DigitOnes" "[B") ∈ lw_all := lw_g (lw_at lw_m2 150 rfl) rfl
theorem q521 : (Jvm.Cond.laysStatic "java/lang/Integer" "DigitOnes" "[B") ∈ lw_tbl := lw_at lw_m2 151 rfl
theorem q522 : (Jvm.Cond.fieldLink "java/lang/Integer" (87 : Nat) "java/lang/Integer" "DigitTens" "[B") ∈ lw_all := lw_g (lw_at lw_m2 152 rfl) rfl
theorem q523 : (Jvm.Cond.laysStatic "java/lang/Integer" "DigitTens" "[B") ∈ lw_tbl := lw_at lw_m2 153 rfl
theorem q735 : (Jvm.Cond.static ({ cls := "java/lang/Integer", name := "valueOf", desc := "(I)Ljava/lang/Integer;" } : Jvm.MethodName)) ∈ lw_all := lw_g (lw_at lw_m3 125 rfl) rfl
theorem q736 : (Jvm.Cond.code ({ cls := "java/lang/Integer", name := "valueOf", desc := "(I)Ljava/lang/Integer;" } : Jvm.MethodName) prog_49_method_22_code (1 : Nat) (Option.some (Jvm.ClassFile.FieldType.object "java/lang/Integer"))) ∈ lw_all := lw_g (lw_at lw_m3 126 rfl) rfl
theorem q737 : (Jvm.Cond.fieldLink "java/lang/Integer" (191 : Nat) "java/lang/Integer$IntegerCache" "high" "I") ∈ lw_all := lw_g (lw_at lw_m3 127 rfl) rfl
theorem q739 : (Jvm.Cond.fieldLink "java/lang/Integer" (195 : Nat) "java/lang/Integer$IntegerCache" "cache" "[Ljava/lang/Integer;") ∈ lw_all := lw_g (lw_at lw_m3 129 rfl) rfl
theorem q741 : (Jvm.Cond.classLink "java/lang/Integer" (1 : Nat) "java/lang/Integer") ∈ lw_all := lw_g (lw_at lw_m3 131 rfl) rfl
theorem q742 : (Jvm.Cond.instantiable "java/lang/Integer" (1 : Nat)) ∈ lw_all := lw_g (lw_at lw_m3 132 rfl) rfl
theorem q743 : (Jvm.Cond.methodLink "java/lang/Integer" (199 : Nat) ({ cls := "java/lang/Integer", name := "<init>", desc := "(I)V" } : Jvm.MethodName)) ∈ lw_all := lw_g (lw_at lw_m3 133 rfl) rfl
theorem q744 : (Jvm.Cond.instanceMethod ({ cls := "java/lang/Integer", name := "<init>", desc := "(I)V" } : Jvm.MethodName)) ∈ lw_all := lw_g (lw_at lw_m3 134 rfl) rfl
theorem q745 : (Jvm.Cond.code ({ cls := "java/lang/Integer", name := "<init>", desc := "(I)V" } : Jvm.MethodName) prog_49_method_23_code (2 : Nat) (Option.none : Option Jvm.ClassFile.FieldType)) ∈ lw_all := lw_g (lw_at lw_m3 135 rfl) rfl
theorem q746 : (Jvm.Cond.methodLink "java/lang/Integer" (202 : Nat) ({ cls := "java/lang/Number", name := "<init>", desc := "()V" } : Jvm.MethodName)) ∈ lw_all := lw_g (lw_at lw_m3 136 rfl) rfl
theorem q750 : (Jvm.Cond.fieldLink "java/lang/Integer" (205 : Nat) "java/lang/Integer" "value" "I") ∈ lw_all := lw_g (lw_at lw_m3 140 rfl) rfl
theorem q751 : (Jvm.Cond.laysFinal "java/lang/Integer" "java/lang/Integer" "value" "I") ∈ lw_all := lw_g (lw_at lw_m3 141 rfl) rfl
theorem q752 : (Jvm.Cond.soleField "java/lang/Integer" "value") ∈ lw_all := lw_g (lw_at lw_m3 142 rfl) rfl
theorem q753 : (Jvm.Cond.superclass "java/lang/Integer" "java/lang/Number") ∈ lw_all := lw_g (lw_at lw_m3 143 rfl) rfl
theorem q802 : (Jvm.Cond.selects "java/lang/Integer" ({ cls := "java/lang/Object", name := "equals", desc := "(Ljava/lang/Object;)Z" } : Jvm.MethodName) ({ cls := "java/lang/Integer", name := "equals", desc := "(Ljava/lang/Object;)Z" } : Jvm.MethodName)) ∈ lw_all := lw_g (lw_at lw_m3 192 rfl) rfl
theorem q803 : (Jvm.Cond.instanceMethod ({ cls := "java/lang/Integer", name := "equals", desc := "(Ljava/lang/Object;)Z" } : Jvm.MethodName)) ∈ lw_all := lw_g (lw_at lw_m3 193 rfl) rfl
theorem q804 : (Jvm.Cond.code ({ cls := "java/lang/Integer", name := "equals", desc := "(Ljava/lang/Object;)Z" } : Jvm.MethodName) prog_49_method_34_code (2 : Nat) (Option.some Jvm.ClassFile.FieldType.boolean)) ∈ lw_all := lw_g (lw_at lw_m3 194 rfl) rfl
theorem q805 : (Jvm.Cond.methodLink "java/lang/Integer" (211 : Nat) ({ cls := "java/lang/Integer", name := "intValue", desc := "()I" } : Jvm.MethodName)) ∈ lw_all := lw_g (lw_at lw_m3 195 rfl) rfl
theorem q806 : (Jvm.Cond.instanceMethod ({ cls := "java/lang/Integer", name := "intValue", desc := "()I" } : Jvm.MethodName)) ∈ lw_all := lw_g (lw_at lw_m3 196 rfl) rfl
theorem q807 : (Jvm.Cond.selects "java/lang/Integer" ({ cls := "java/lang/Integer", name := "intValue", desc := "()I" } : Jvm.MethodName) ({ cls := "java/lang/Integer", name := "intValue", desc := "()I" } : Jvm.MethodName)) ∈ lw_all := lw_g (lw_at lw_m3 197 rfl) rfl
theorem q808 : (Jvm.Cond.code ({ cls := "java/lang/Integer", name := "intValue", desc := "()I" } : Jvm.MethodName) prog_49_method_27_code (1 : Nat) (Option.some Jvm.ClassFile.FieldType.int)) ∈ lw_all := lw_g (lw_at lw_m3 198 rfl) rfl
theorem q879 : (Jvm.Cond.selects "java/lang/Integer" ({ cls := "java/lang/Object", name := "getClass", desc := "()Ljava/lang/Class;" } : Jvm.MethodName) ({ cls := "java/lang/Object", name := "getClass", desc := "()Ljava/lang/Class;" } : Jvm.MethodName)) ∈ lw_all := lw_g (lw_at lw_m4 29 rfl) rfl
theorem q954 : (Jvm.Cond.static ({ cls := "java/lang/Integer", name := "numberOfTrailingZeros", desc := "(I)I" } : Jvm.MethodName)) ∈ lw_all := lw_g (lw_at lw_m4 104 rfl) rfl
theorem q955 : (Jvm.Cond.code ({ cls := "java/lang/Integer", name := "numberOfTrailingZeros", desc := "(I)I" } : Jvm.MethodName) prog_49_method_48_code (2 : Nat) (Option.some Jvm.ClassFile.FieldType.int)) ∈ lw_all := lw_g (lw_at lw_m4 105 rfl) rfl
theorem q956 : (Jvm.Cond.constant "java/lang/Integer" (264 : Nat) (65536 : Int32)) ∈ lw_all := lw_g (lw_at lw_m4 106 rfl) rfl
theorem q3403 : (Jvm.Cond.castable "java/lang/Integer" "java/lang/Object") ∈ lw_tbl := lw_at lw_m14 153 rfl
theorem in_J15 : ∀ w ∈ wsJ150, w ∈ lw_all := lw_in wsJ150 [751] (by decide +kernel) (by decide +kernel)
/-! java/util/AbstractCollection -/
set_option maxRecDepth 100000
def RJ16 : String := "java/util/AbstractCollection"
abbrev cJ16_init : ByteArray := prog_66_method_1_code
def yJ16_init : MethodName := ⟨RJ16, "<init>", "()V"⟩
theorem dJ16_init_0 : decode cJ16_init 0 = .ok (.aload_n 0, 1) := by decide +kernel
theorem dJ16_init_1 : decode cJ16_init 1 = .ok (.invokespecial 1, 3) := by decide +kernel
theorem dJ16_init_4 : decode cJ16_init 4 = .ok (.return_, 1) := by decide +kernel
theorem q150 : (Jvm.Cond.initialized "java/util/AbstractCollection") ∈ lw_all := lw_g (lw_at lw_m1 20 rfl) rfl
theorem q630 : (Jvm.Cond.instanceMethod ({ cls := "java/util/AbstractCollection", name := "<init>", desc := "()V" } : Jvm.MethodName)) ∈ lw_all := lw_g (lw_at lw_m3 20 rfl) rfl
theorem q631 : (Jvm.Cond.code ({ cls := "java/util/AbstractCollection", name := "<init>", desc := "()V" } : Jvm.MethodName) prog_66_method_1_code (1 : Nat) (Option.none : Option Jvm.ClassFile.FieldType)) ∈ lw_all := lw_g (lw_at lw_m3 21 rfl) rfl
theorem q632 : (Jvm.Cond.methodLink "java/util/AbstractCollection" (1 : Nat) ({ cls := "java/lang/Object", name := "<init>", desc := "()V" } : Jvm.MethodName)) ∈ lw_all := lw_g (lw_at lw_m3 22 rfl) rfl
theorem q1042 : (Jvm.Cond.declares ({ cls := "java/util/AbstractCollection", name := "size", desc := "()I" } : Jvm.MethodName)) ∈ lw_tbl := lw_at lw_m4 192 rfl
/-! java/util/ArrayDeque -/
set_option maxRecDepth 100000
def RJ17 : String := "java/util/ArrayDeque"
def TJ17 : u_T := fun k => match k with
  | 0 => ("java/util/ArrayDeque", "elements", "[Ljava/lang/Object;", false)
  | 1 => ("java/util/ArrayDeque", "head", "I", false)
  | _ => ("java/util/ArrayDeque", "tail", "I", false)
def tyJ17 : Nat → FieldType := fun k => match k with
  | 0 => .array (.object "java/lang/Object")
  | 1 => .int
  | _ => .int
abbrev wsJ170 : List Cond := u_ws RJ17 TJ17 3
theorem nmJ17 : ∀ a, a < 3 → ∀ b, b < 3 → a ≠ b → (TJ17 a).2.1 ≠ (TJ17 b).2.1 := by decide +kernel
theorem tyJ17_ok : ∀ k, k < 3 → parseFieldDescriptor (TJ17 k).2.2.1 = some (tyJ17 k) := by decide +kernel
abbrev cJ17_init : ByteArray := prog_71_method_4_code
def yJ17_init : MethodName := ⟨RJ17, "<init>", "(I)V"⟩
def dkwJ17_init_1 : List UInt8 := [167, 0, 6, 27, 4, 96, 189, 0, 47, 181, 0, 3, 177]
abbrev dktJ17_init_1 : List UInt8 := dkwJ17_init_1 ++ []
def dkwJ17_init_0 : List UInt8 := [42, 183, 0, 42, 42, 27, 4, 162, 0, 7, 4, 167, 0, 17, 27, 18, 41, 160, 0, 8, 18, 41]
abbrev dktJ17_init_0 : List UInt8 := dkwJ17_init_0 ++ dktJ17_init_1
theorem dksJ17_init_0 : cJ17_init.data.toList.drop 0 = dktJ17_init_0 := by decide +kernel
theorem dksJ17_init_1 : cJ17_init.data.toList.drop 22 = dktJ17_init_1 := dk_seg dksJ17_init_0 22 rfl rfl
theorem dJ17_init_0 : decode cJ17_init 0 = .ok (.aload_n 0, 1) := dk_42 (dk_at dksJ17_init_0 0 rfl rfl)
theorem dJ17_init_1 : decode cJ17_init 1 = .ok (.invokespecial 42, 3) := dk_183 0 42 (dk_at dksJ17_init_0 1 rfl rfl)
theorem dJ17_init_4 : decode cJ17_init 4 = .ok (.aload_n 0, 1) := dk_42 (dk_at dksJ17_init_0 4 rfl rfl)
theorem dJ17_init_5 : decode cJ17_init 5 = .ok (.iload_n 1, 1) := dk_27 (dk_at dksJ17_init_0 5 rfl rfl)
theorem dJ17_init_6 : decode cJ17_init 6 = .ok (.iconst 1, 1) := dk_4 (dk_at dksJ17_init_0 6 rfl rfl)
theorem dJ17_init_7 : decode cJ17_init 7 = .ok (.if_icmp .ge 7, 3) := dk_162 0 7 (dk_at dksJ17_init_0 7 rfl rfl)
theorem dJ17_init_10 : decode cJ17_init 10 = .ok (.iconst 1, 1) := dk_4 (dk_at dksJ17_init_0 10 rfl rfl)
theorem dJ17_init_11 : decode cJ17_init 11 = .ok (.goto 17, 3) := dk_167 0 17 (dk_at dksJ17_init_0 11 rfl rfl)
theorem dJ17_init_14 : decode cJ17_init 14 = .ok (.iload_n 1, 1) := dk_27 (dk_at dksJ17_init_0 14 rfl rfl)
theorem dJ17_init_15 : decode cJ17_init 15 = .ok (.ldc 41, 2) := dk_18 41 (dk_at dksJ17_init_0 15 rfl rfl)
theorem dJ17_init_17 : decode cJ17_init 17 = .ok (.if_icmp .ne 8, 3) := dk_160 0 8 (dk_at dksJ17_init_0 17 rfl rfl)
theorem dJ17_init_20 : decode cJ17_init 20 = .ok (.ldc 41, 2) := dk_18 41 (dk_at dksJ17_init_0 20 rfl rfl)
theorem dJ17_init_22 : decode cJ17_init 22 = .ok (.goto 6, 3) := dk_167 0 6 (dk_at dksJ17_init_1 0 rfl rfl)
theorem dJ17_init_25 : decode cJ17_init 25 = .ok (.iload_n 1, 1) := dk_27 (dk_at dksJ17_init_1 3 rfl rfl)
theorem dJ17_init_26 : decode cJ17_init 26 = .ok (.iconst 1, 1) := dk_4 (dk_at dksJ17_init_1 4 rfl rfl)
theorem dJ17_init_27 : decode cJ17_init 27 = .ok (.iadd, 1) := dk_96 (dk_at dksJ17_init_1 5 rfl rfl)
theorem dJ17_init_28 : decode cJ17_init 28 = .ok (.anewarray 47, 3) := dk_189 0 47 (dk_at dksJ17_init_1 6 rfl rfl)
theorem dJ17_init_31 : decode cJ17_init 31 = .ok (.putfield 3, 3) := dk_181 0 3 (dk_at dksJ17_init_1 9 rfl rfl)
theorem dJ17_init_34 : decode cJ17_init 34 = .ok (.return_, 1) := dk_177 (dk_at dksJ17_init_1 12 rfl rfl)
abbrev cJ17_clear : ByteArray := prog_71_method_53_code
def yJ17_clear : MethodName := ⟨RJ17, "clear", "()V"⟩
def dkwJ17_clear_1 : List UInt8 := [181, 0, 24, 177]
abbrev dktJ17_clear_1 : List UInt8 := dkwJ17_clear_1 ++ []
def dkwJ17_clear_0 : List UInt8 := [42, 180, 0, 3, 42, 180, 0, 24, 42, 180, 0, 20, 184, 0, 181, 42, 42, 3, 90, 181, 0, 20]
abbrev dktJ17_clear_0 : List UInt8 := dkwJ17_clear_0 ++ dktJ17_clear_1
theorem dksJ17_clear_0 : cJ17_clear.data.toList.drop 0 = dktJ17_clear_0 := by decide +kernel
theorem dksJ17_clear_1 : cJ17_clear.data.toList.drop 22 = dktJ17_clear_1 := dk_seg dksJ17_clear_0 22 rfl rfl
theorem dJ17_clear_0 : decode cJ17_clear 0 = .ok (.aload_n 0, 1) := dk_42 (dk_at dksJ17_clear_0 0 rfl rfl)
theorem dJ17_clear_1 : decode cJ17_clear 1 = .ok (.getfield 3, 3) := dk_180 0 3 (dk_at dksJ17_clear_0 1 rfl rfl)
theorem dJ17_clear_4 : decode cJ17_clear 4 = .ok (.aload_n 0, 1) := dk_42 (dk_at dksJ17_clear_0 4 rfl rfl)
theorem dJ17_clear_5 : decode cJ17_clear 5 = .ok (.getfield 24, 3) := dk_180 0 24 (dk_at dksJ17_clear_0 5 rfl rfl)
theorem dJ17_clear_8 : decode cJ17_clear 8 = .ok (.aload_n 0, 1) := dk_42 (dk_at dksJ17_clear_0 8 rfl rfl)
theorem dJ17_clear_9 : decode cJ17_clear 9 = .ok (.getfield 20, 3) := dk_180 0 20 (dk_at dksJ17_clear_0 9 rfl rfl)
theorem dJ17_clear_12 : decode cJ17_clear 12 = .ok (.invokestatic 181, 3) := dk_184 0 181 (dk_at dksJ17_clear_0 12 rfl rfl)
theorem dJ17_clear_15 : decode cJ17_clear 15 = .ok (.aload_n 0, 1) := dk_42 (dk_at dksJ17_clear_0 15 rfl rfl)
theorem dJ17_clear_16 : decode cJ17_clear 16 = .ok (.aload_n 0, 1) := dk_42 (dk_at dksJ17_clear_0 16 rfl rfl)
theorem dJ17_clear_17 : decode cJ17_clear 17 = .ok (.iconst 0, 1) := dk_3 (dk_at dksJ17_clear_0 17 rfl rfl)
theorem dJ17_clear_18 : decode cJ17_clear 18 = .ok (.dup_x1, 1) := dk_90 (dk_at dksJ17_clear_0 18 rfl rfl)
theorem dJ17_clear_19 : decode cJ17_clear 19 = .ok (.putfield 20, 3) := dk_181 0 20 (dk_at dksJ17_clear_0 19 rfl rfl)
theorem dJ17_clear_22 : decode cJ17_clear 22 = .ok (.putfield 24, 3) := dk_181 0 24 (dk_at dksJ17_clear_1 0 rfl rfl)
theorem dJ17_clear_25 : decode cJ17_clear 25 = .ok (.return_, 1) := dk_177 (dk_at dksJ17_clear_1 3 rfl rfl)
abbrev cJ17_circularClear : ByteArray := prog_71_method_54_code
def yJ17_circularClear : MethodName := ⟨RJ17, "circularClear", "([Ljava/lang/Object;II)V"⟩
def dkwJ17_circularClear_1 : List UInt8 := [167, 255, 244, 29, 28, 160, 0, 6, 167, 0, 10, 3, 60, 28, 62, 167, 255, 229, 177]
abbrev dktJ17_circularClear_1 : List UInt8 := dkwJ17_circularClear_1 ++ []
def dkwJ17_circularClear_0 : List UInt8 := [27, 28, 163, 0, 7, 28, 167, 0, 5, 42, 190, 62, 27, 29, 162, 0, 13, 42, 27, 1, 83, 132, 1, 1]
abbrev dktJ17_circularClear_0 : List UInt8 := dkwJ17_circularClear_0 ++ dktJ17_circularClear_1
theorem dksJ17_circularClear_0 : cJ17_circularClear.data.toList.drop 0 = dktJ17_circularClear_0 := by decide +kernel
theorem dksJ17_circularClear_1 : cJ17_circularClear.data.toList.drop 24 = dktJ17_circularClear_1 := dk_seg dksJ17_circularClear_0 24 rfl rfl
theorem dJ17_circularClear_0 : decode cJ17_circularClear 0 = .ok (.iload_n 1, 1) := dk_27 (dk_at dksJ17_circularClear_0 0 rfl rfl)
theorem dJ17_circularClear_1 : decode cJ17_circularClear 1 = .ok (.iload_n 2, 1) := dk_28 (dk_at dksJ17_circularClear_0 1 rfl rfl)
theorem dJ17_circularClear_2 : decode cJ17_circularClear 2 = .ok (.if_icmp .gt 7, 3) := dk_163 0 7 (dk_at dksJ17_circularClear_0 2 rfl rfl)
theorem dJ17_circularClear_5 : decode cJ17_circularClear 5 = .ok (.iload_n 2, 1) := dk_28 (dk_at dksJ17_circularClear_0 5 rfl rfl)
theorem dJ17_circularClear_6 : decode cJ17_circularClear 6 = .ok (.goto 5, 3) := dk_167 0 5 (dk_at dksJ17_circularClear_0 6 rfl rfl)
theorem dJ17_circularClear_9 : decode cJ17_circularClear 9 = .ok (.aload_n 0, 1) := dk_42 (dk_at dksJ17_circularClear_0 9 rfl rfl)
theorem dJ17_circularClear_10 : decode cJ17_circularClear 10 = .ok (.arraylength, 1) := dk_190 (dk_at dksJ17_circularClear_0 10 rfl rfl)
theorem dJ17_circularClear_11 : decode cJ17_circularClear 11 = .ok (.istore_n 3, 1) := dk_62 (dk_at dksJ17_circularClear_0 11 rfl rfl)
theorem dJ17_circularClear_12 : decode cJ17_circularClear 12 = .ok (.iload_n 1, 1) := dk_27 (dk_at dksJ17_circularClear_0 12 rfl rfl)
theorem dJ17_circularClear_13 : decode cJ17_circularClear 13 = .ok (.iload_n 3, 1) := dk_29 (dk_at dksJ17_circularClear_0 13 rfl rfl)
theorem dJ17_circularClear_14 : decode cJ17_circularClear 14 = .ok (.if_icmp .ge 13, 3) := dk_162 0 13 (dk_at dksJ17_circularClear_0 14 rfl rfl)
theorem dJ17_circularClear_17 : decode cJ17_circularClear 17 = .ok (.aload_n 0, 1) := dk_42 (dk_at dksJ17_circularClear_0 17 rfl rfl)
theorem dJ17_circularClear_18 : decode cJ17_circularClear 18 = .ok (.iload_n 1, 1) := dk_27 (dk_at dksJ17_circularClear_0 18 rfl rfl)
theorem dJ17_circularClear_19 : decode cJ17_circularClear 19 = .ok (.aconst_null, 1) := dk_1 (dk_at dksJ17_circularClear_0 19 rfl rfl)
theorem dJ17_circularClear_20 : decode cJ17_circularClear 20 = .ok (.aastore, 1) := dk_83 (dk_at dksJ17_circularClear_0 20 rfl rfl)
theorem dJ17_circularClear_21 : decode cJ17_circularClear 21 = .ok (.iinc 1 1, 3) := dk_132 1 1 (dk_at dksJ17_circularClear_0 21 rfl rfl)
theorem dJ17_circularClear_24 : decode cJ17_circularClear 24 = .ok (.goto (-12), 3) := dk_167 255 244 (dk_at dksJ17_circularClear_1 0 rfl rfl)
theorem dJ17_circularClear_27 : decode cJ17_circularClear 27 = .ok (.iload_n 3, 1) := dk_29 (dk_at dksJ17_circularClear_1 3 rfl rfl)
theorem dJ17_circularClear_28 : decode cJ17_circularClear 28 = .ok (.iload_n 2, 1) := dk_28 (dk_at dksJ17_circularClear_1 4 rfl rfl)
theorem dJ17_circularClear_29 : decode cJ17_circularClear 29 = .ok (.if_icmp .ne 6, 3) := dk_160 0 6 (dk_at dksJ17_circularClear_1 5 rfl rfl)
theorem dJ17_circularClear_32 : decode cJ17_circularClear 32 = .ok (.goto 10, 3) := dk_167 0 10 (dk_at dksJ17_circularClear_1 8 rfl rfl)
theorem dJ17_circularClear_35 : decode cJ17_circularClear 35 = .ok (.iconst 0, 1) := dk_3 (dk_at dksJ17_circularClear_1 11 rfl rfl)
theorem dJ17_circularClear_36 : decode cJ17_circularClear 36 = .ok (.istore_n 1, 1) := dk_60 (dk_at dksJ17_circularClear_1 12 rfl rfl)
theorem dJ17_circularClear_37 : decode cJ17_circularClear 37 = .ok (.iload_n 2, 1) := dk_28 (dk_at dksJ17_circularClear_1 13 rfl rfl)
theorem dJ17_circularClear_38 : decode cJ17_circularClear 38 = .ok (.istore_n 3, 1) := dk_62 (dk_at dksJ17_circularClear_1 14 rfl rfl)
theorem dJ17_circularClear_39 : decode cJ17_circularClear 39 = .ok (.goto (-27), 3) := dk_167 255 229 (dk_at dksJ17_circularClear_1 15 rfl rfl)
theorem dJ17_circularClear_42 : decode cJ17_circularClear 42 = .ok (.return_, 1) := dk_177 (dk_at dksJ17_circularClear_1 18 rfl rfl)
abbrev cJ17_addLast : ByteArray := prog_71_method_13_code
def yJ17_addLast : MethodName := ⟨RJ17, "addLast", "(Ljava/lang/Object;)V"⟩
def dkwJ17_addLast_2 : List UInt8 := [182, 0, 71, 177]
abbrev dktJ17_addLast_2 : List UInt8 := dkwJ17_addLast_2 ++ []
def dkwJ17_addLast_1 : List UInt8 := [42, 180, 0, 24, 42, 42, 180, 0, 20, 44, 190, 184, 0, 74, 90, 181, 0, 20, 160, 0, 8, 42, 4]
abbrev dktJ17_addLast_1 : List UInt8 := dkwJ17_addLast_1 ++ dktJ17_addLast_2
def dkwJ17_addLast_0 : List UInt8 := [43, 199, 0, 11, 187, 0, 65, 89, 183, 0, 67, 191, 42, 180, 0, 3, 77, 44, 42, 180, 0, 20, 43, 83]
abbrev dktJ17_addLast_0 : List UInt8 := dkwJ17_addLast_0 ++ dktJ17_addLast_1
theorem dksJ17_addLast_0 : cJ17_addLast.data.toList.drop 0 = dktJ17_addLast_0 := by decide +kernel
theorem dksJ17_addLast_1 : cJ17_addLast.data.toList.drop 24 = dktJ17_addLast_1 := dk_seg dksJ17_addLast_0 24 rfl rfl
theorem dksJ17_addLast_2 : cJ17_addLast.data.toList.drop 47 = dktJ17_addLast_2 := dk_seg dksJ17_addLast_1 23 rfl rfl
theorem dJ17_addLast_0 : decode cJ17_addLast 0 = .ok (.aload_n 1, 1) := dk_43 (dk_at dksJ17_addLast_0 0 rfl rfl)
theorem dJ17_addLast_1 : decode cJ17_addLast 1 = .ok (.ifnonnull 11, 3) := dk_199 0 11 (dk_at dksJ17_addLast_0 1 rfl rfl)
theorem dJ17_addLast_4 : decode cJ17_addLast 4 = .ok (.new 65, 3) := dk_187 0 65 (dk_at dksJ17_addLast_0 4 rfl rfl)
theorem dJ17_addLast_7 : decode cJ17_addLast 7 = .ok (.dup, 1) := dk_89 (dk_at dksJ17_addLast_0 7 rfl rfl)
theorem dJ17_addLast_8 : decode cJ17_addLast 8 = .ok (.invokespecial 67, 3) := dk_183 0 67 (dk_at dksJ17_addLast_0 8 rfl rfl)
theorem dJ17_addLast_11 : decode cJ17_addLast 11 = .ok (.athrow, 1) := dk_191 (dk_at dksJ17_addLast_0 11 rfl rfl)
theorem dJ17_addLast_12 : decode cJ17_addLast 12 = .ok (.aload_n 0, 1) := dk_42 (dk_at dksJ17_addLast_0 12 rfl rfl)
theorem dJ17_addLast_13 : decode cJ17_addLast 13 = .ok (.getfield 3, 3) := dk_180 0 3 (dk_at dksJ17_addLast_0 13 rfl rfl)
theorem dJ17_addLast_16 : decode cJ17_addLast 16 = .ok (.astore_n 2, 1) := dk_77 (dk_at dksJ17_addLast_0 16 rfl rfl)
theorem dJ17_addLast_17 : decode cJ17_addLast 17 = .ok (.aload_n 2, 1) := dk_44 (dk_at dksJ17_addLast_0 17 rfl rfl)
theorem dJ17_addLast_18 : decode cJ17_addLast 18 = .ok (.aload_n 0, 1) := dk_42 (dk_at dksJ17_addLast_0 18 rfl rfl)
theorem dJ17_addLast_19 : decode cJ17_addLast 19 = .ok (.getfield 20, 3) := dk_180 0 20 (dk_at dksJ17_addLast_0 19 rfl rfl)
theorem dJ17_addLast_22 : decode cJ17_addLast 22 = .ok (.aload_n 1, 1) := dk_43 (dk_at dksJ17_addLast_0 22 rfl rfl)
theorem dJ17_addLast_23 : decode cJ17_addLast 23 = .ok (.aastore, 1) := dk_83 (dk_at dksJ17_addLast_0 23 rfl rfl)
theorem dJ17_addLast_24 : decode cJ17_addLast 24 = .ok (.aload_n 0, 1) := dk_42 (dk_at dksJ17_addLast_1 0 rfl rfl)
theorem dJ17_addLast_25 : decode cJ17_addLast 25 = .ok (.getfield 24, 3) := dk_180 0 24 (dk_at dksJ17_addLast_1 1 rfl rfl)
theorem dJ17_addLast_28 : decode cJ17_addLast 28 = .ok (.aload_n 0, 1) := dk_42 (dk_at dksJ17_addLast_1 4 rfl rfl)
theorem dJ17_addLast_29 : decode cJ17_addLast 29 = .ok (.aload_n 0, 1) := dk_42 (dk_at dksJ17_addLast_1 5 rfl rfl)
theorem dJ17_addLast_30 : decode cJ17_addLast 30 = .ok (.getfield 20, 3) := dk_180 0 20 (dk_at dksJ17_addLast_1 6 rfl rfl)
theorem dJ17_addLast_33 : decode cJ17_addLast 33 = .ok (.aload_n 2, 1) := dk_44 (dk_at dksJ17_addLast_1 9 rfl rfl)
theorem dJ17_addLast_34 : decode cJ17_addLast 34 = .ok (.arraylength, 1) := dk_190 (dk_at dksJ17_addLast_1 10 rfl rfl)
theorem dJ17_addLast_35 : decode cJ17_addLast 35 = .ok (.invokestatic 74, 3) := dk_184 0 74 (dk_at dksJ17_addLast_1 11 rfl rfl)
theorem dJ17_addLast_38 : decode cJ17_addLast 38 = .ok (.dup_x1, 1) := dk_90 (dk_at dksJ17_addLast_1 14 rfl rfl)
theorem dJ17_addLast_39 : decode cJ17_addLast 39 = .ok (.putfield 20, 3) := dk_181 0 20 (dk_at dksJ17_addLast_1 15 rfl rfl)
theorem dJ17_addLast_42 : decode cJ17_addLast 42 = .ok (.if_icmp .ne 8, 3) := dk_160 0 8 (dk_at dksJ17_addLast_1 18 rfl rfl)
theorem dJ17_addLast_45 : decode cJ17_addLast 45 = .ok (.aload_n 0, 1) := dk_42 (dk_at dksJ17_addLast_1 21 rfl rfl)
theorem dJ17_addLast_46 : decode cJ17_addLast 46 = .ok (.iconst 1, 1) := dk_4 (dk_at dksJ17_addLast_1 22 rfl rfl)
theorem dJ17_addLast_47 : decode cJ17_addLast 47 = .ok (.invokevirtual 71, 3) := dk_182 0 71 (dk_at dksJ17_addLast_2 0 rfl rfl)
theorem dJ17_addLast_50 : decode cJ17_addLast 50 = .ok (.return_, 1) := dk_177 (dk_at dksJ17_addLast_2 3 rfl rfl)
abbrev cJ17_inc : ByteArray := prog_71_method_6_code
def yJ17_inc : MethodName := ⟨RJ17, "inc", "(II)I"⟩
def dkwJ17_inc_0 : List UInt8 := [132, 0, 1, 26, 27, 161, 0, 5, 3, 59, 26, 172]
abbrev dktJ17_inc_0 : List UInt8 := dkwJ17_inc_0 ++ []
theorem dksJ17_inc_0 : cJ17_inc.data.toList.drop 0 = dktJ17_inc_0 := by decide +kernel
theorem dJ17_inc_0 : decode cJ17_inc 0 = .ok (.iinc 0 1, 3) := dk_132 0 1 (dk_at dksJ17_inc_0 0 rfl rfl)
theorem dJ17_inc_3 : decode cJ17_inc 3 = .ok (.iload_n 0, 1) := dk_26 (dk_at dksJ17_inc_0 3 rfl rfl)
theorem dJ17_inc_4 : decode cJ17_inc 4 = .ok (.iload_n 1, 1) := dk_27 (dk_at dksJ17_inc_0 4 rfl rfl)
theorem dJ17_inc_5 : decode cJ17_inc 5 = .ok (.if_icmp .lt 5, 3) := dk_161 0 5 (dk_at dksJ17_inc_0 5 rfl rfl)
theorem dJ17_inc_8 : decode cJ17_inc 8 = .ok (.iconst 0, 1) := dk_3 (dk_at dksJ17_inc_0 8 rfl rfl)
theorem dJ17_inc_9 : decode cJ17_inc 9 = .ok (.istore_n 0, 1) := dk_59 (dk_at dksJ17_inc_0 9 rfl rfl)
theorem dJ17_inc_10 : decode cJ17_inc 10 = .ok (.iload_n 0, 1) := dk_26 (dk_at dksJ17_inc_0 10 rfl rfl)
theorem dJ17_inc_11 : decode cJ17_inc 11 = .ok (.ireturn, 1) := dk_172 (dk_at dksJ17_inc_0 11 rfl rfl)
abbrev cJ17_grow : ByteArray := prog_71_method_1_code
def yJ17_grow : MethodName := ⟨RJ17, "grow", "(I)V"⟩
def dkwJ17_grow_7 : List UInt8 := [177]
abbrev dktJ17_grow_7 : List UInt8 := dkwJ17_grow_7 ++ []
def dkwJ17_grow_6 : List UInt8 := [181, 0, 24, 54, 8, 21, 7, 21, 8, 162, 0, 15, 25, 5, 21, 7, 1, 83, 132, 7, 1, 167, 255, 240]
abbrev dktJ17_grow_6 : List UInt8 := dkwJ17_grow_6 ++ dktJ17_grow_7
def dkwJ17_grow_5 : List UInt8 := [42, 180, 0, 24, 100, 184, 0, 27, 42, 180, 0, 24, 54, 7, 42, 89, 180, 0, 24, 21, 6, 96, 90]
abbrev dktJ17_grow_5 : List UInt8 := dkwJ17_grow_5 ++ dktJ17_grow_6
def dkwJ17_grow_4 : List UInt8 := [198, 0, 71, 29, 28, 100, 54, 6, 25, 5, 42, 180, 0, 24, 25, 5, 42, 180, 0, 24, 21, 6, 96, 28]
abbrev dktJ17_grow_4 : List UInt8 := dkwJ17_grow_4 ++ dktJ17_grow_5
def dkwJ17_grow_3 : List UInt8 := [180, 0, 24, 161, 0, 24, 42, 180, 0, 20, 42, 180, 0, 24, 160, 0, 81, 25, 5, 42, 180, 0, 24, 50]
abbrev dktJ17_grow_3 : List UInt8 := dkwJ17_grow_3 ++ dktJ17_grow_4
def dkwJ17_grow_2 : List UInt8 := [182, 0, 10, 62, 42, 42, 180, 0, 3, 29, 184, 0, 14, 90, 181, 0, 3, 58, 5, 42, 180, 0, 20, 42]
abbrev dktJ17_grow_2 : List UInt8 := dkwJ17_grow_2 ++ dktJ17_grow_3
def dkwJ17_grow_1 : List UInt8 := [21, 4, 27, 161, 0, 15, 28, 21, 4, 96, 89, 62, 18, 9, 100, 158, 0, 11, 42, 27, 21, 4]
abbrev dktJ17_grow_1 : List UInt8 := dkwJ17_grow_1 ++ dktJ17_grow_2
def dkwJ17_grow_0 : List UInt8 := [42, 180, 0, 3, 190, 61, 28, 16, 64, 162, 0, 9, 28, 5, 96, 167, 0, 6, 28, 4, 122, 54, 4]
abbrev dktJ17_grow_0 : List UInt8 := dkwJ17_grow_0 ++ dktJ17_grow_1
theorem dksJ17_grow_0 : cJ17_grow.data.toList.drop 0 = dktJ17_grow_0 := by decide +kernel
theorem dksJ17_grow_1 : cJ17_grow.data.toList.drop 23 = dktJ17_grow_1 := dk_seg dksJ17_grow_0 23 rfl rfl
theorem dksJ17_grow_2 : cJ17_grow.data.toList.drop 45 = dktJ17_grow_2 := dk_seg dksJ17_grow_1 22 rfl rfl
theorem dksJ17_grow_3 : cJ17_grow.data.toList.drop 69 = dktJ17_grow_3 := dk_seg dksJ17_grow_2 24 rfl rfl
theorem dksJ17_grow_4 : cJ17_grow.data.toList.drop 93 = dktJ17_grow_4 := dk_seg dksJ17_grow_3 24 rfl rfl
theorem dksJ17_grow_5 : cJ17_grow.data.toList.drop 117 = dktJ17_grow_5 := dk_seg dksJ17_grow_4 24 rfl rfl
theorem dksJ17_grow_6 : cJ17_grow.data.toList.drop 140 = dktJ17_grow_6 := dk_seg dksJ17_grow_5 23 rfl rfl
theorem dksJ17_grow_7 : cJ17_grow.data.toList.drop 164 = dktJ17_grow_7 := dk_seg dksJ17_grow_6 24 rfl rfl
theorem dJ17_grow_0 : decode cJ17_grow 0 = .ok (.aload_n 0, 1) := dk_42 (dk_at dksJ17_grow_0 0 rfl rfl)
theorem dJ17_grow_1 : decode cJ17_grow 1 = .ok (.getfield 3, 3) := dk_180 0 3 (dk_at dksJ17_grow_0 1 rfl rfl)
theorem dJ17_grow_4 : decode cJ17_grow 4 = .ok (.arraylength, 1) := dk_190 (dk_at dksJ17_grow_0 4 rfl rfl)
theorem dJ17_grow_5 : decode cJ17_grow 5 = .ok (.istore_n 2, 1) := dk_61 (dk_at dksJ17_grow_0 5 rfl rfl)
theorem dJ17_grow_6 : decode cJ17_grow 6 = .ok (.iload_n 2, 1) := dk_28 (dk_at dksJ17_grow_0 6 rfl rfl)
theorem dJ17_grow_7 : decode cJ17_grow 7 = .ok (.bipush 64, 2) := dk_16 64 (dk_at dksJ17_grow_0 7 rfl rfl)
theorem dJ17_grow_9 : decode cJ17_grow 9 = .ok (.if_icmp .ge 9, 3) := dk_162 0 9 (dk_at dksJ17_grow_0 9 rfl rfl)
theorem dJ17_grow_12 : decode cJ17_grow 12 = .ok (.iload_n 2, 1) := dk_28 (dk_at dksJ17_grow_0 12 rfl rfl)
theorem dJ17_grow_13 : decode cJ17_grow 13 = .ok (.iconst 2, 1) := dk_5 (dk_at dksJ17_grow_0 13 rfl rfl)
theorem dJ17_grow_14 : decode cJ17_grow 14 = .ok (.iadd, 1) := dk_96 (dk_at dksJ17_grow_0 14 rfl rfl)
theorem dJ17_grow_15 : decode cJ17_grow 15 = .ok (.goto 6, 3) := dk_167 0 6 (dk_at dksJ17_grow_0 15 rfl rfl)
theorem dJ17_grow_18 : decode cJ17_grow 18 = .ok (.iload_n 2, 1) := dk_28 (dk_at dksJ17_grow_0 18 rfl rfl)
theorem dJ17_grow_19 : decode cJ17_grow 19 = .ok (.iconst 1, 1) := dk_4 (dk_at dksJ17_grow_0 19 rfl rfl)
theorem dJ17_grow_20 : decode cJ17_grow 20 = .ok (.ishr, 1) := dk_122 (dk_at dksJ17_grow_0 20 rfl rfl)
theorem dJ17_grow_21 : decode cJ17_grow 21 = .ok (.istore 4, 2) := dk_54 4 (dk_at dksJ17_grow_0 21 rfl rfl)
theorem dJ17_grow_23 : decode cJ17_grow 23 = .ok (.iload 4, 2) := dk_21 4 (dk_at dksJ17_grow_1 0 rfl rfl)
theorem dJ17_grow_25 : decode cJ17_grow 25 = .ok (.iload_n 1, 1) := dk_27 (dk_at dksJ17_grow_1 2 rfl rfl)
theorem dJ17_grow_26 : decode cJ17_grow 26 = .ok (.if_icmp .lt 15, 3) := dk_161 0 15 (dk_at dksJ17_grow_1 3 rfl rfl)
theorem dJ17_grow_29 : decode cJ17_grow 29 = .ok (.iload_n 2, 1) := dk_28 (dk_at dksJ17_grow_1 6 rfl rfl)
theorem dJ17_grow_30 : decode cJ17_grow 30 = .ok (.iload 4, 2) := dk_21 4 (dk_at dksJ17_grow_1 7 rfl rfl)
theorem dJ17_grow_32 : decode cJ17_grow 32 = .ok (.iadd, 1) := dk_96 (dk_at dksJ17_grow_1 9 rfl rfl)
theorem dJ17_grow_33 : decode cJ17_grow 33 = .ok (.dup, 1) := dk_89 (dk_at dksJ17_grow_1 10 rfl rfl)
theorem dJ17_grow_34 : decode cJ17_grow 34 = .ok (.istore_n 3, 1) := dk_62 (dk_at dksJ17_grow_1 11 rfl rfl)
theorem dJ17_grow_35 : decode cJ17_grow 35 = .ok (.ldc 9, 2) := dk_18 9 (dk_at dksJ17_grow_1 12 rfl rfl)
theorem dJ17_grow_37 : decode cJ17_grow 37 = .ok (.isub, 1) := dk_100 (dk_at dksJ17_grow_1 14 rfl rfl)
theorem dJ17_grow_38 : decode cJ17_grow 38 = .ok (.ifCond .le 11, 3) := dk_158 0 11 (dk_at dksJ17_grow_1 15 rfl rfl)
theorem dJ17_grow_41 : decode cJ17_grow 41 = .ok (.aload_n 0, 1) := dk_42 (dk_at dksJ17_grow_1 18 rfl rfl)
theorem dJ17_grow_42 : decode cJ17_grow 42 = .ok (.iload_n 1, 1) := dk_27 (dk_at dksJ17_grow_1 19 rfl rfl)
theorem dJ17_grow_43 : decode cJ17_grow 43 = .ok (.iload 4, 2) := dk_21 4 (dk_at dksJ17_grow_1 20 rfl rfl)
theorem dJ17_grow_45 : decode cJ17_grow 45 = .ok (.invokevirtual 10, 3) := dk_182 0 10 (dk_at dksJ17_grow_2 0 rfl rfl)
theorem dJ17_grow_48 : decode cJ17_grow 48 = .ok (.istore_n 3, 1) := dk_62 (dk_at dksJ17_grow_2 3 rfl rfl)
theorem dJ17_grow_49 : decode cJ17_grow 49 = .ok (.aload_n 0, 1) := dk_42 (dk_at dksJ17_grow_2 4 rfl rfl)
theorem dJ17_grow_50 : decode cJ17_grow 50 = .ok (.aload_n 0, 1) := dk_42 (dk_at dksJ17_grow_2 5 rfl rfl)
theorem dJ17_grow_51 : decode cJ17_grow 51 = .ok (.getfield 3, 3) := dk_180 0 3 (dk_at dksJ17_grow_2 6 rfl rfl)
theorem dJ17_grow_54 : decode cJ17_grow 54 = .ok (.iload_n 3, 1) := dk_29 (dk_at dksJ17_grow_2 9 rfl rfl)
theorem dJ17_grow_55 : decode cJ17_grow 55 = .ok (.invokestatic 14, 3) := dk_184 0 14 (dk_at dksJ17_grow_2 10 rfl rfl)
theorem dJ17_grow_58 : decode cJ17_grow 58 = .ok (.dup_x1, 1) := dk_90 (dk_at dksJ17_grow_2 13 rfl rfl)
theorem dJ17_grow_59 : decode cJ17_grow 59 = .ok (.putfield 3, 3) := dk_181 0 3 (dk_at dksJ17_grow_2 14 rfl rfl)
theorem dJ17_grow_62 : decode cJ17_grow 62 = .ok (.astore 5, 2) := dk_58 5 (dk_at dksJ17_grow_2 17 rfl rfl)
theorem dJ17_grow_64 : decode cJ17_grow 64 = .ok (.aload_n 0, 1) := dk_42 (dk_at dksJ17_grow_2 19 rfl rfl)
theorem dJ17_grow_65 : decode cJ17_grow 65 = .ok (.getfield 20, 3) := dk_180 0 20 (dk_at dksJ17_grow_2 20 rfl rfl)
theorem dJ17_grow_68 : decode cJ17_grow 68 = .ok (.aload_n 0, 1) := dk_42 (dk_at dksJ17_grow_2 23 rfl rfl)
theorem dJ17_grow_69 : decode cJ17_grow 69 = .ok (.getfield 24, 3) := dk_180 0 24 (dk_at dksJ17_grow_3 0 rfl rfl)
theorem dJ17_grow_72 : decode cJ17_grow 72 = .ok (.if_icmp .lt 24, 3) := dk_161 0 24 (dk_at dksJ17_grow_3 3 rfl rfl)
theorem dJ17_grow_75 : decode cJ17_grow 75 = .ok (.aload_n 0, 1) := dk_42 (dk_at dksJ17_grow_3 6 rfl rfl)
theorem dJ17_grow_76 : decode cJ17_grow 76 = .ok (.getfield 20, 3) := dk_180 0 20 (dk_at dksJ17_grow_3 7 rfl rfl)
theorem dJ17_grow_79 : decode cJ17_grow 79 = .ok (.aload_n 0, 1) := dk_42 (dk_at dksJ17_grow_3 10 rfl rfl)
theorem dJ17_grow_80 : decode cJ17_grow 80 = .ok (.getfield 24, 3) := dk_180 0 24 (dk_at dksJ17_grow_3 11 rfl rfl)
theorem dJ17_grow_83 : decode cJ17_grow 83 = .ok (.if_icmp .ne 81, 3) := dk_160 0 81 (dk_at dksJ17_grow_3 14 rfl rfl)
theorem dJ17_grow_86 : decode cJ17_grow 86 = .ok (.aload 5, 2) := dk_25 5 (dk_at dksJ17_grow_3 17 rfl rfl)
theorem dJ17_grow_88 : decode cJ17_grow 88 = .ok (.aload_n 0, 1) := dk_42 (dk_at dksJ17_grow_3 19 rfl rfl)
theorem dJ17_grow_89 : decode cJ17_grow 89 = .ok (.getfield 24, 3) := dk_180 0 24 (dk_at dksJ17_grow_3 20 rfl rfl)
theorem dJ17_grow_92 : decode cJ17_grow 92 = .ok (.aaload, 1) := dk_50 (dk_at dksJ17_grow_3 23 rfl rfl)
theorem dJ17_grow_93 : decode cJ17_grow 93 = .ok (.ifnull 71, 3) := dk_198 0 71 (dk_at dksJ17_grow_4 0 rfl rfl)
theorem dJ17_grow_96 : decode cJ17_grow 96 = .ok (.iload_n 3, 1) := dk_29 (dk_at dksJ17_grow_4 3 rfl rfl)
theorem dJ17_grow_97 : decode cJ17_grow 97 = .ok (.iload_n 2, 1) := dk_28 (dk_at dksJ17_grow_4 4 rfl rfl)
theorem dJ17_grow_98 : decode cJ17_grow 98 = .ok (.isub, 1) := dk_100 (dk_at dksJ17_grow_4 5 rfl rfl)
theorem dJ17_grow_99 : decode cJ17_grow 99 = .ok (.istore 6, 2) := dk_54 6 (dk_at dksJ17_grow_4 6 rfl rfl)
theorem dJ17_grow_101 : decode cJ17_grow 101 = .ok (.aload 5, 2) := dk_25 5 (dk_at dksJ17_grow_4 8 rfl rfl)
theorem dJ17_grow_103 : decode cJ17_grow 103 = .ok (.aload_n 0, 1) := dk_42 (dk_at dksJ17_grow_4 10 rfl rfl)
theorem dJ17_grow_104 : decode cJ17_grow 104 = .ok (.getfield 24, 3) := dk_180 0 24 (dk_at dksJ17_grow_4 11 rfl rfl)
theorem dJ17_grow_107 : decode cJ17_grow 107 = .ok (.aload 5, 2) := dk_25 5 (dk_at dksJ17_grow_4 14 rfl rfl)
theorem dJ17_grow_109 : decode cJ17_grow 109 = .ok (.aload_n 0, 1) := dk_42 (dk_at dksJ17_grow_4 16 rfl rfl)
theorem dJ17_grow_110 : decode cJ17_grow 110 = .ok (.getfield 24, 3) := dk_180 0 24 (dk_at dksJ17_grow_4 17 rfl rfl)
theorem dJ17_grow_113 : decode cJ17_grow 113 = .ok (.iload 6, 2) := dk_21 6 (dk_at dksJ17_grow_4 20 rfl rfl)
theorem dJ17_grow_115 : decode cJ17_grow 115 = .ok (.iadd, 1) := dk_96 (dk_at dksJ17_grow_4 22 rfl rfl)
theorem dJ17_grow_116 : decode cJ17_grow 116 = .ok (.iload_n 2, 1) := dk_28 (dk_at dksJ17_grow_4 23 rfl rfl)
theorem dJ17_grow_117 : decode cJ17_grow 117 = .ok (.aload_n 0, 1) := dk_42 (dk_at dksJ17_grow_5 0 rfl rfl)
theorem dJ17_grow_118 : decode cJ17_grow 118 = .ok (.getfield 24, 3) := dk_180 0 24 (dk_at dksJ17_grow_5 1 rfl rfl)
theorem dJ17_grow_121 : decode cJ17_grow 121 = .ok (.isub, 1) := dk_100 (dk_at dksJ17_grow_5 4 rfl rfl)
theorem dJ17_grow_122 : decode cJ17_grow 122 = .ok (.invokestatic 27, 3) := dk_184 0 27 (dk_at dksJ17_grow_5 5 rfl rfl)
theorem dJ17_grow_125 : decode cJ17_grow 125 = .ok (.aload_n 0, 1) := dk_42 (dk_at dksJ17_grow_5 8 rfl rfl)
theorem dJ17_grow_126 : decode cJ17_grow 126 = .ok (.getfield 24, 3) := dk_180 0 24 (dk_at dksJ17_grow_5 9 rfl rfl)
theorem dJ17_grow_129 : decode cJ17_grow 129 = .ok (.istore 7, 2) := dk_54 7 (dk_at dksJ17_grow_5 12 rfl rfl)
theorem dJ17_grow_131 : decode cJ17_grow 131 = .ok (.aload_n 0, 1) := dk_42 (dk_at dksJ17_grow_5 14 rfl rfl)
theorem dJ17_grow_132 : decode cJ17_grow 132 = .ok (.dup, 1) := dk_89 (dk_at dksJ17_grow_5 15 rfl rfl)
theorem dJ17_grow_133 : decode cJ17_grow 133 = .ok (.getfield 24, 3) := dk_180 0 24 (dk_at dksJ17_grow_5 16 rfl rfl)
theorem dJ17_grow_136 : decode cJ17_grow 136 = .ok (.iload 6, 2) := dk_21 6 (dk_at dksJ17_grow_5 19 rfl rfl)
theorem dJ17_grow_138 : decode cJ17_grow 138 = .ok (.iadd, 1) := dk_96 (dk_at dksJ17_grow_5 21 rfl rfl)
theorem dJ17_grow_139 : decode cJ17_grow 139 = .ok (.dup_x1, 1) := dk_90 (dk_at dksJ17_grow_5 22 rfl rfl)
theorem dJ17_grow_140 : decode cJ17_grow 140 = .ok (.putfield 24, 3) := dk_181 0 24 (dk_at dksJ17_grow_6 0 rfl rfl)
theorem dJ17_grow_143 : decode cJ17_grow 143 = .ok (.istore 8, 2) := dk_54 8 (dk_at dksJ17_grow_6 3 rfl rfl)
theorem dJ17_grow_145 : decode cJ17_grow 145 = .ok (.iload 7, 2) := dk_21 7 (dk_at dksJ17_grow_6 5 rfl rfl)
theorem dJ17_grow_147 : decode cJ17_grow 147 = .ok (.iload 8, 2) := dk_21 8 (dk_at dksJ17_grow_6 7 rfl rfl)
theorem dJ17_grow_149 : decode cJ17_grow 149 = .ok (.if_icmp .ge 15, 3) := dk_162 0 15 (dk_at dksJ17_grow_6 9 rfl rfl)
theorem dJ17_grow_152 : decode cJ17_grow 152 = .ok (.aload 5, 2) := dk_25 5 (dk_at dksJ17_grow_6 12 rfl rfl)
theorem dJ17_grow_154 : decode cJ17_grow 154 = .ok (.iload 7, 2) := dk_21 7 (dk_at dksJ17_grow_6 14 rfl rfl)
theorem dJ17_grow_156 : decode cJ17_grow 156 = .ok (.aconst_null, 1) := dk_1 (dk_at dksJ17_grow_6 16 rfl rfl)
theorem dJ17_grow_157 : decode cJ17_grow 157 = .ok (.aastore, 1) := dk_83 (dk_at dksJ17_grow_6 17 rfl rfl)
theorem dJ17_grow_158 : decode cJ17_grow 158 = .ok (.iinc 7 1, 3) := dk_132 7 1 (dk_at dksJ17_grow_6 18 rfl rfl)
theorem dJ17_grow_161 : decode cJ17_grow 161 = .ok (.goto (-16), 3) := dk_167 255 240 (dk_at dksJ17_grow_6 21 rfl rfl)
theorem dJ17_grow_164 : decode cJ17_grow 164 = .ok (.return_, 1) := dk_177 (dk_at dksJ17_grow_7 0 rfl rfl)
abbrev cJ17_newCapacity : ByteArray := prog_71_method_2_code
def yJ17_newCapacity : MethodName := ⟨RJ17, "newCapacity", "(II)I"⟩
def dkwJ17_newCapacity_2 : List UInt8 := [18, 9, 100, 156, 0, 9, 29, 28, 96, 167, 0, 5, 18, 9, 172]
abbrev dktJ17_newCapacity_2 : List UInt8 := dkwJ17_newCapacity_2 ++ []
def dkwJ17_newCapacity_1 : List UInt8 := [187, 0, 33, 89, 18, 35, 183, 0, 37, 191, 18, 41, 172, 27, 28, 164, 0, 6, 21, 4, 172, 29, 28, 96]
abbrev dktJ17_newCapacity_1 : List UInt8 := dkwJ17_newCapacity_1 ++ dktJ17_newCapacity_2
def dkwJ17_newCapacity_0 : List UInt8 := [42, 180, 0, 3, 190, 62, 29, 27, 96, 89, 54, 4, 18, 9, 100, 158, 0, 21, 21, 4, 156, 0, 13]
abbrev dktJ17_newCapacity_0 : List UInt8 := dkwJ17_newCapacity_0 ++ dktJ17_newCapacity_1
theorem dksJ17_newCapacity_0 : cJ17_newCapacity.data.toList.drop 0 = dktJ17_newCapacity_0 := by decide +kernel
theorem dksJ17_newCapacity_1 : cJ17_newCapacity.data.toList.drop 23 = dktJ17_newCapacity_1 := dk_seg dksJ17_newCapacity_0 23 rfl rfl
theorem dksJ17_newCapacity_2 : cJ17_newCapacity.data.toList.drop 47 = dktJ17_newCapacity_2 := dk_seg dksJ17_newCapacity_1 24 rfl rfl
theorem dJ17_newCapacity_0 : decode cJ17_newCapacity 0 = .ok (.aload_n 0, 1) := dk_42 (dk_at dksJ17_newCapacity_0 0 rfl rfl)
theorem dJ17_newCapacity_1 : decode cJ17_newCapacity 1 = .ok (.getfield 3, 3) := dk_180 0 3 (dk_at dksJ17_newCapacity_0 1 rfl rfl)
theorem dJ17_newCapacity_4 : decode cJ17_newCapacity 4 = .ok (.arraylength, 1) := dk_190 (dk_at dksJ17_newCapacity_0 4 rfl rfl)
theorem dJ17_newCapacity_5 : decode cJ17_newCapacity 5 = .ok (.istore_n 3, 1) := dk_62 (dk_at dksJ17_newCapacity_0 5 rfl rfl)
theorem dJ17_newCapacity_6 : decode cJ17_newCapacity 6 = .ok (.iload_n 3, 1) := dk_29 (dk_at dksJ17_newCapacity_0 6 rfl rfl)
theorem dJ17_newCapacity_7 : decode cJ17_newCapacity 7 = .ok (.iload_n 1, 1) := dk_27 (dk_at dksJ17_newCapacity_0 7 rfl rfl)
theorem dJ17_newCapacity_8 : decode cJ17_newCapacity 8 = .ok (.iadd, 1) := dk_96 (dk_at dksJ17_newCapacity_0 8 rfl rfl)
theorem dJ17_newCapacity_9 : decode cJ17_newCapacity 9 = .ok (.dup, 1) := dk_89 (dk_at dksJ17_newCapacity_0 9 rfl rfl)
theorem dJ17_newCapacity_10 : decode cJ17_newCapacity 10 = .ok (.istore 4, 2) := dk_54 4 (dk_at dksJ17_newCapacity_0 10 rfl rfl)
theorem dJ17_newCapacity_12 : decode cJ17_newCapacity 12 = .ok (.ldc 9, 2) := dk_18 9 (dk_at dksJ17_newCapacity_0 12 rfl rfl)
theorem dJ17_newCapacity_14 : decode cJ17_newCapacity 14 = .ok (.isub, 1) := dk_100 (dk_at dksJ17_newCapacity_0 14 rfl rfl)
theorem dJ17_newCapacity_15 : decode cJ17_newCapacity 15 = .ok (.ifCond .le 21, 3) := dk_158 0 21 (dk_at dksJ17_newCapacity_0 15 rfl rfl)
theorem dJ17_newCapacity_18 : decode cJ17_newCapacity 18 = .ok (.iload 4, 2) := dk_21 4 (dk_at dksJ17_newCapacity_0 18 rfl rfl)
theorem dJ17_newCapacity_20 : decode cJ17_newCapacity 20 = .ok (.ifCond .ge 13, 3) := dk_156 0 13 (dk_at dksJ17_newCapacity_0 20 rfl rfl)
theorem dJ17_newCapacity_23 : decode cJ17_newCapacity 23 = .ok (.new 33, 3) := dk_187 0 33 (dk_at dksJ17_newCapacity_1 0 rfl rfl)
theorem dJ17_newCapacity_26 : decode cJ17_newCapacity 26 = .ok (.dup, 1) := dk_89 (dk_at dksJ17_newCapacity_1 3 rfl rfl)
theorem dJ17_newCapacity_27 : decode cJ17_newCapacity 27 = .ok (.ldc 35, 2) := dk_18 35 (dk_at dksJ17_newCapacity_1 4 rfl rfl)
theorem dJ17_newCapacity_29 : decode cJ17_newCapacity 29 = .ok (.invokespecial 37, 3) := dk_183 0 37 (dk_at dksJ17_newCapacity_1 6 rfl rfl)
theorem dJ17_newCapacity_32 : decode cJ17_newCapacity 32 = .ok (.athrow, 1) := dk_191 (dk_at dksJ17_newCapacity_1 9 rfl rfl)
theorem dJ17_newCapacity_33 : decode cJ17_newCapacity 33 = .ok (.ldc 41, 2) := dk_18 41 (dk_at dksJ17_newCapacity_1 10 rfl rfl)
theorem dJ17_newCapacity_35 : decode cJ17_newCapacity 35 = .ok (.ireturn, 1) := dk_172 (dk_at dksJ17_newCapacity_1 12 rfl rfl)
theorem dJ17_newCapacity_36 : decode cJ17_newCapacity 36 = .ok (.iload_n 1, 1) := dk_27 (dk_at dksJ17_newCapacity_1 13 rfl rfl)
theorem dJ17_newCapacity_37 : decode cJ17_newCapacity 37 = .ok (.iload_n 2, 1) := dk_28 (dk_at dksJ17_newCapacity_1 14 rfl rfl)
theorem dJ17_newCapacity_38 : decode cJ17_newCapacity 38 = .ok (.if_icmp .le 6, 3) := dk_164 0 6 (dk_at dksJ17_newCapacity_1 15 rfl rfl)
theorem dJ17_newCapacity_41 : decode cJ17_newCapacity 41 = .ok (.iload 4, 2) := dk_21 4 (dk_at dksJ17_newCapacity_1 18 rfl rfl)
theorem dJ17_newCapacity_43 : decode cJ17_newCapacity 43 = .ok (.ireturn, 1) := dk_172 (dk_at dksJ17_newCapacity_1 20 rfl rfl)
theorem dJ17_newCapacity_44 : decode cJ17_newCapacity 44 = .ok (.iload_n 3, 1) := dk_29 (dk_at dksJ17_newCapacity_1 21 rfl rfl)
theorem dJ17_newCapacity_45 : decode cJ17_newCapacity 45 = .ok (.iload_n 2, 1) := dk_28 (dk_at dksJ17_newCapacity_1 22 rfl rfl)
theorem dJ17_newCapacity_46 : decode cJ17_newCapacity 46 = .ok (.iadd, 1) := dk_96 (dk_at dksJ17_newCapacity_1 23 rfl rfl)
theorem dJ17_newCapacity_47 : decode cJ17_newCapacity 47 = .ok (.ldc 9, 2) := dk_18 9 (dk_at dksJ17_newCapacity_2 0 rfl rfl)
theorem dJ17_newCapacity_49 : decode cJ17_newCapacity 49 = .ok (.isub, 1) := dk_100 (dk_at dksJ17_newCapacity_2 2 rfl rfl)
theorem dJ17_newCapacity_50 : decode cJ17_newCapacity 50 = .ok (.ifCond .ge 9, 3) := dk_156 0 9 (dk_at dksJ17_newCapacity_2 3 rfl rfl)
theorem dJ17_newCapacity_53 : decode cJ17_newCapacity 53 = .ok (.iload_n 3, 1) := dk_29 (dk_at dksJ17_newCapacity_2 6 rfl rfl)
theorem dJ17_newCapacity_54 : decode cJ17_newCapacity 54 = .ok (.iload_n 2, 1) := dk_28 (dk_at dksJ17_newCapacity_2 7 rfl rfl)
theorem dJ17_newCapacity_55 : decode cJ17_newCapacity 55 = .ok (.iadd, 1) := dk_96 (dk_at dksJ17_newCapacity_2 8 rfl rfl)
theorem dJ17_newCapacity_56 : decode cJ17_newCapacity 56 = .ok (.goto 5, 3) := dk_167 0 5 (dk_at dksJ17_newCapacity_2 9 rfl rfl)
theorem dJ17_newCapacity_59 : decode cJ17_newCapacity 59 = .ok (.ldc 9, 2) := dk_18 9 (dk_at dksJ17_newCapacity_2 12 rfl rfl)
theorem dJ17_newCapacity_61 : decode cJ17_newCapacity 61 = .ok (.ireturn, 1) := dk_172 (dk_at dksJ17_newCapacity_2 14 rfl rfl)
abbrev cJ17_isEmpty : ByteArray := prog_71_method_38_code
def yJ17_isEmpty : MethodName := ⟨RJ17, "isEmpty", "()Z"⟩
def dkwJ17_isEmpty_0 : List UInt8 := [42, 180, 0, 24, 42, 180, 0, 20, 160, 0, 7, 4, 167, 0, 4, 3, 172]
abbrev dktJ17_isEmpty_0 : List UInt8 := dkwJ17_isEmpty_0 ++ []
theorem dksJ17_isEmpty_0 : cJ17_isEmpty.data.toList.drop 0 = dktJ17_isEmpty_0 := by decide +kernel
theorem dJ17_isEmpty_0 : decode cJ17_isEmpty 0 = .ok (.aload_n 0, 1) := dk_42 (dk_at dksJ17_isEmpty_0 0 rfl rfl)
theorem dJ17_isEmpty_1 : decode cJ17_isEmpty 1 = .ok (.getfield 24, 3) := dk_180 0 24 (dk_at dksJ17_isEmpty_0 1 rfl rfl)
theorem dJ17_isEmpty_4 : decode cJ17_isEmpty 4 = .ok (.aload_n 0, 1) := dk_42 (dk_at dksJ17_isEmpty_0 4 rfl rfl)
theorem dJ17_isEmpty_5 : decode cJ17_isEmpty 5 = .ok (.getfield 20, 3) := dk_180 0 20 (dk_at dksJ17_isEmpty_0 5 rfl rfl)
theorem dJ17_isEmpty_8 : decode cJ17_isEmpty 8 = .ok (.if_icmp .ne 7, 3) := dk_160 0 7 (dk_at dksJ17_isEmpty_0 8 rfl rfl)
theorem dJ17_isEmpty_11 : decode cJ17_isEmpty 11 = .ok (.iconst 1, 1) := dk_4 (dk_at dksJ17_isEmpty_0 11 rfl rfl)
theorem dJ17_isEmpty_12 : decode cJ17_isEmpty 12 = .ok (.goto 4, 3) := dk_167 0 4 (dk_at dksJ17_isEmpty_0 12 rfl rfl)
theorem dJ17_isEmpty_15 : decode cJ17_isEmpty 15 = .ok (.iconst 0, 1) := dk_3 (dk_at dksJ17_isEmpty_0 15 rfl rfl)
theorem dJ17_isEmpty_16 : decode cJ17_isEmpty 16 = .ok (.ireturn, 1) := dk_172 (dk_at dksJ17_isEmpty_0 16 rfl rfl)
abbrev cJ17_pollFirst : ByteArray := prog_71_method_20_code
def yJ17_pollFirst : MethodName := ⟨RJ17, "pollFirst", "()Ljava/lang/Object;"⟩
def dkwJ17_pollFirst_1 : List UInt8 := [42, 28, 43, 190, 184, 0, 74, 181, 0, 24, 45, 176]
abbrev dktJ17_pollFirst_1 : List UInt8 := dkwJ17_pollFirst_1 ++ []
def dkwJ17_pollFirst_0 : List UInt8 := [42, 180, 0, 3, 89, 76, 42, 180, 0, 24, 89, 61, 184, 0, 103, 78, 45, 198, 0, 17, 43, 28, 1, 83]
abbrev dktJ17_pollFirst_0 : List UInt8 := dkwJ17_pollFirst_0 ++ dktJ17_pollFirst_1
theorem dksJ17_pollFirst_0 : cJ17_pollFirst.data.toList.drop 0 = dktJ17_pollFirst_0 := by decide +kernel
theorem dksJ17_pollFirst_1 : cJ17_pollFirst.data.toList.drop 24 = dktJ17_pollFirst_1 := dk_seg dksJ17_pollFirst_0 24 rfl rfl
theorem dJ17_pollFirst_0 : decode cJ17_pollFirst 0 = .ok (.aload_n 0, 1) := dk_42 (dk_at dksJ17_pollFirst_0 0 rfl rfl)
theorem dJ17_pollFirst_1 : decode cJ17_pollFirst 1 = .ok (.getfield 3, 3) := dk_180 0 3 (dk_at dksJ17_pollFirst_0 1 rfl rfl)
theorem dJ17_pollFirst_4 : decode cJ17_pollFirst 4 = .ok (.dup, 1) := dk_89 (dk_at dksJ17_pollFirst_0 4 rfl rfl)
theorem dJ17_pollFirst_5 : decode cJ17_pollFirst 5 = .ok (.astore_n 1, 1) := dk_76 (dk_at dksJ17_pollFirst_0 5 rfl rfl)
theorem dJ17_pollFirst_6 : decode cJ17_pollFirst 6 = .ok (.aload_n 0, 1) := dk_42 (dk_at dksJ17_pollFirst_0 6 rfl rfl)
theorem dJ17_pollFirst_7 : decode cJ17_pollFirst 7 = .ok (.getfield 24, 3) := dk_180 0 24 (dk_at dksJ17_pollFirst_0 7 rfl rfl)
theorem dJ17_pollFirst_10 : decode cJ17_pollFirst 10 = .ok (.dup, 1) := dk_89 (dk_at dksJ17_pollFirst_0 10 rfl rfl)
theorem dJ17_pollFirst_11 : decode cJ17_pollFirst 11 = .ok (.istore_n 2, 1) := dk_61 (dk_at dksJ17_pollFirst_0 11 rfl rfl)
theorem dJ17_pollFirst_12 : decode cJ17_pollFirst 12 = .ok (.invokestatic 103, 3) := dk_184 0 103 (dk_at dksJ17_pollFirst_0 12 rfl rfl)
theorem dJ17_pollFirst_15 : decode cJ17_pollFirst 15 = .ok (.astore_n 3, 1) := dk_78 (dk_at dksJ17_pollFirst_0 15 rfl rfl)
theorem dJ17_pollFirst_16 : decode cJ17_pollFirst 16 = .ok (.aload_n 3, 1) := dk_45 (dk_at dksJ17_pollFirst_0 16 rfl rfl)
theorem dJ17_pollFirst_17 : decode cJ17_pollFirst 17 = .ok (.ifnull 17, 3) := dk_198 0 17 (dk_at dksJ17_pollFirst_0 17 rfl rfl)
theorem dJ17_pollFirst_20 : decode cJ17_pollFirst 20 = .ok (.aload_n 1, 1) := dk_43 (dk_at dksJ17_pollFirst_0 20 rfl rfl)
theorem dJ17_pollFirst_21 : decode cJ17_pollFirst 21 = .ok (.iload_n 2, 1) := dk_28 (dk_at dksJ17_pollFirst_0 21 rfl rfl)
theorem dJ17_pollFirst_22 : decode cJ17_pollFirst 22 = .ok (.aconst_null, 1) := dk_1 (dk_at dksJ17_pollFirst_0 22 rfl rfl)
theorem dJ17_pollFirst_23 : decode cJ17_pollFirst 23 = .ok (.aastore, 1) := dk_83 (dk_at dksJ17_pollFirst_0 23 rfl rfl)
theorem dJ17_pollFirst_24 : decode cJ17_pollFirst 24 = .ok (.aload_n 0, 1) := dk_42 (dk_at dksJ17_pollFirst_1 0 rfl rfl)
theorem dJ17_pollFirst_25 : decode cJ17_pollFirst 25 = .ok (.iload_n 2, 1) := dk_28 (dk_at dksJ17_pollFirst_1 1 rfl rfl)
theorem dJ17_pollFirst_26 : decode cJ17_pollFirst 26 = .ok (.aload_n 1, 1) := dk_43 (dk_at dksJ17_pollFirst_1 2 rfl rfl)
theorem dJ17_pollFirst_27 : decode cJ17_pollFirst 27 = .ok (.arraylength, 1) := dk_190 (dk_at dksJ17_pollFirst_1 3 rfl rfl)
theorem dJ17_pollFirst_28 : decode cJ17_pollFirst 28 = .ok (.invokestatic 74, 3) := dk_184 0 74 (dk_at dksJ17_pollFirst_1 4 rfl rfl)
theorem dJ17_pollFirst_31 : decode cJ17_pollFirst 31 = .ok (.putfield 24, 3) := dk_181 0 24 (dk_at dksJ17_pollFirst_1 7 rfl rfl)
theorem dJ17_pollFirst_34 : decode cJ17_pollFirst 34 = .ok (.aload_n 3, 1) := dk_45 (dk_at dksJ17_pollFirst_1 10 rfl rfl)
theorem dJ17_pollFirst_35 : decode cJ17_pollFirst 35 = .ok (.areturn, 1) := dk_176 (dk_at dksJ17_pollFirst_1 11 rfl rfl)
abbrev cJ17_elementAt : ByteArray := prog_71_method_10_code
def yJ17_elementAt : MethodName := ⟨RJ17, "elementAt", "([Ljava/lang/Object;I)Ljava/lang/Object;"⟩
def dkwJ17_elementAt_0 : List UInt8 := [42, 27, 50, 176]
abbrev dktJ17_elementAt_0 : List UInt8 := dkwJ17_elementAt_0 ++ []
theorem dksJ17_elementAt_0 : cJ17_elementAt.data.toList.drop 0 = dktJ17_elementAt_0 := by decide +kernel
theorem dJ17_elementAt_0 : decode cJ17_elementAt 0 = .ok (.aload_n 0, 1) := dk_42 (dk_at dksJ17_elementAt_0 0 rfl rfl)
theorem dJ17_elementAt_1 : decode cJ17_elementAt 1 = .ok (.iload_n 1, 1) := dk_27 (dk_at dksJ17_elementAt_0 1 rfl rfl)
theorem dJ17_elementAt_2 : decode cJ17_elementAt 2 = .ok (.aaload, 1) := dk_50 (dk_at dksJ17_elementAt_0 2 rfl rfl)
theorem dJ17_elementAt_3 : decode cJ17_elementAt 3 = .ok (.areturn, 1) := dk_176 (dk_at dksJ17_elementAt_0 3 rfl rfl)
theorem q151 : (Jvm.Cond.initialized "java/util/ArrayDeque") ∈ lw_all := lw_g (lw_at lw_m1 21 rfl) rfl
theorem q625 : (Jvm.Cond.instantiable "java/util/ArrayDeque" (3 : Nat)) ∈ lw_all := lw_g (lw_at lw_m3 15 rfl) rfl
theorem q627 : (Jvm.Cond.instanceMethod ({ cls := "java/util/ArrayDeque", name := "<init>", desc := "(I)V" } : Jvm.MethodName)) ∈ lw_all := lw_g (lw_at lw_m3 17 rfl) rfl
theorem q628 : (Jvm.Cond.code ({ cls := "java/util/ArrayDeque", name := "<init>", desc := "(I)V" } : Jvm.MethodName) prog_71_method_4_code (2 : Nat) (Option.none : Option Jvm.ClassFile.FieldType)) ∈ lw_all := lw_g (lw_at lw_m3 18 rfl) rfl
theorem q629 : (Jvm.Cond.methodLink "java/util/ArrayDeque" (42 : Nat) ({ cls := "java/util/AbstractCollection", name := "<init>", desc := "()V" } : Jvm.MethodName)) ∈ lw_all := lw_g (lw_at lw_m3 19 rfl) rfl
theorem q633 : (Jvm.Cond.constant "java/util/ArrayDeque" (41 : Nat) (2147483647 : Int32)) ∈ lw_all := lw_g (lw_at lw_m3 23 rfl) rfl
theorem q634 : (Jvm.Cond.classLink "java/util/ArrayDeque" (47 : Nat) "java/lang/Object") ∈ lw_all := lw_g (lw_at lw_m3 24 rfl) rfl
theorem q636 : (Jvm.Cond.fieldLink "java/util/ArrayDeque" (3 : Nat) "java/util/ArrayDeque" "elements" "[Ljava/lang/Object;") ∈ lw_all := lw_g (lw_at lw_m3 26 rfl) rfl
theorem q637 : (Jvm.Cond.fieldLink "java/util/ArrayDeque" (24 : Nat) "java/util/ArrayDeque" "head" "I") ∈ lw_all := lw_g (lw_at lw_m3 27 rfl) rfl
theorem q638 : (Jvm.Cond.fieldLink "java/util/ArrayDeque" (20 : Nat) "java/util/ArrayDeque" "tail" "I") ∈ lw_all := lw_g (lw_at lw_m3 28 rfl) rfl
theorem q639 : (Jvm.Cond.lays "java/util/ArrayDeque" "java/util/ArrayDeque" "elements" "[Ljava/lang/Object;") ∈ lw_all := lw_g (lw_at lw_m3 29 rfl) rfl
theorem q640 : (Jvm.Cond.soleField "java/util/ArrayDeque" "elements") ∈ lw_all := lw_g (lw_at lw_m3 30 rfl) rfl
theorem q641 : (Jvm.Cond.lays "java/util/ArrayDeque" "java/util/ArrayDeque" "head" "I") ∈ lw_all := lw_g (lw_at lw_m3 31 rfl) rfl
theorem q642 : (Jvm.Cond.soleField "java/util/ArrayDeque" "head") ∈ lw_all := lw_g (lw_at lw_m3 32 rfl) rfl
theorem q643 : (Jvm.Cond.lays "java/util/ArrayDeque" "java/util/ArrayDeque" "tail" "I") ∈ lw_all := lw_g (lw_at lw_m3 33 rfl) rfl
theorem q644 : (Jvm.Cond.soleField "java/util/ArrayDeque" "tail") ∈ lw_all := lw_g (lw_at lw_m3 34 rfl) rfl
theorem q645 : (Jvm.Cond.superclass "java/util/ArrayDeque" "java/util/AbstractCollection") ∈ lw_all := lw_g (lw_at lw_m3 35 rfl) rfl
theorem q690 : (Jvm.Cond.instanceMethod ({ cls := "java/util/ArrayDeque", name := "clear", desc := "()V" } : Jvm.MethodName)) ∈ lw_all := lw_g (lw_at lw_m3 80 rfl) rfl
theorem q691 : (Jvm.Cond.selects "java/util/ArrayDeque" ({ cls := "java/util/ArrayDeque", name := "clear", desc := "()V" } : Jvm.MethodName) ({ cls := "java/util/ArrayDeque", name := "clear", desc := "()V" } : Jvm.MethodName)) ∈ lw_all := lw_g (lw_at lw_m3 81 rfl) rfl
theorem q692 : (Jvm.Cond.code ({ cls := "java/util/ArrayDeque", name := "clear", desc := "()V" } : Jvm.MethodName) prog_71_method_53_code (1 : Nat) (Option.none : Option Jvm.ClassFile.FieldType)) ∈ lw_all := lw_g (lw_at lw_m3 82 rfl) rfl
theorem q693 : (Jvm.Cond.methodLink "java/util/ArrayDeque" (181 : Nat) ({ cls := "java/util/ArrayDeque", name := "circularClear", desc := "([Ljava/lang/Object;II)V" } : Jvm.MethodName)) ∈ lw_all := lw_g (lw_at lw_m3 83 rfl) rfl
theorem q694 : (Jvm.Cond.static ({ cls := "java/util/ArrayDeque", name := "circularClear", desc := "([Ljava/lang/Object;II)V" } : Jvm.MethodName)) ∈ lw_all := lw_g (lw_at lw_m3 84 rfl) rfl
theorem q695 : (Jvm.Cond.code ({ cls := "java/util/ArrayDeque", name := "circularClear", desc := "([Ljava/lang/Object;II)V" } : Jvm.MethodName) prog_71_method_54_code (4 : Nat) (Option.none : Option Jvm.ClassFile.FieldType)) ∈ lw_all := lw_g (lw_at lw_m3 85 rfl) rfl
theorem q822 : (Jvm.Cond.instanceMethod ({ cls := "java/util/ArrayDeque", name := "addLast", desc := "(Ljava/lang/Object;)V" } : Jvm.MethodName)) ∈ lw_all := lw_g (lw_at lw_m3 212 rfl) rfl
theorem q823 : (Jvm.Cond.selects "java/util/ArrayDeque" ({ cls := "java/util/ArrayDeque", name := "addLast", desc := "(Ljava/lang/Object;)V" } : Jvm.MethodName) ({ cls := "java/util/ArrayDeque", name := "addLast", desc := "(Ljava/lang/Object;)V" } : Jvm.MethodName)) ∈ lw_all := lw_g (lw_at lw_m3 213 rfl) rfl
theorem q824 : (Jvm.Cond.code ({ cls := "java/util/ArrayDeque", name := "addLast", desc := "(Ljava/lang/Object;)V" } : Jvm.MethodName) prog_71_method_13_code (3 : Nat) (Option.none : Option Jvm.ClassFile.FieldType)) ∈ lw_all := lw_g (lw_at lw_m3 214 rfl) rfl
theorem q825 : (Jvm.Cond.methodLink "java/util/ArrayDeque" (74 : Nat) ({ cls := "java/util/ArrayDeque", name := "inc", desc := "(II)I" } : Jvm.MethodName)) ∈ lw_all := lw_g (lw_at lw_m3 215 rfl) rfl
theorem q826 : (Jvm.Cond.static ({ cls := "java/util/ArrayDeque", name := "inc", desc := "(II)I" } : Jvm.MethodName)) ∈ lw_all := lw_g (lw_at lw_m3 216 rfl) rfl
theorem q827 : (Jvm.Cond.code ({ cls := "java/util/ArrayDeque", name := "inc", desc := "(II)I" } : Jvm.MethodName) prog_71_method_6_code (2 : Nat) (Option.some Jvm.ClassFile.FieldType.int)) ∈ lw_all := lw_g (lw_at lw_m3 217 rfl) rfl
theorem q828 : (Jvm.Cond.methodLink "java/util/ArrayDeque" (71 : Nat) ({ cls := "java/util/ArrayDeque", name := "grow", desc := "(I)V" } : Jvm.MethodName)) ∈ lw_all := lw_g (lw_at lw_m3 218 rfl) rfl
theorem q829 : (Jvm.Cond.privateMethod ({ cls := "java/util/ArrayDeque", name := "grow", desc := "(I)V" } : Jvm.MethodName)) ∈ lw_tbl := lw_at lw_m3 219 rfl
theorem q830 : (Jvm.Cond.instanceMethod ({ cls := "java/util/ArrayDeque", name := "grow", desc := "(I)V" } : Jvm.MethodName)) ∈ lw_all := lw_g (lw_at lw_m3 220 rfl) rfl
theorem q831 : (Jvm.Cond.code ({ cls := "java/util/ArrayDeque", name := "grow", desc := "(I)V" } : Jvm.MethodName) prog_71_method_1_code (9 : Nat) (Option.none : Option Jvm.ClassFile.FieldType)) ∈ lw_all := lw_g (lw_at lw_m3 221 rfl) rfl
theorem q832 : (Jvm.Cond.constant "java/util/ArrayDeque" (9 : Nat) (2147483639 : Int32)) ∈ lw_all := lw_g (lw_at lw_m3 222 rfl) rfl
theorem q833 : (Jvm.Cond.methodLink "java/util/ArrayDeque" (10 : Nat) ({ cls := "java/util/ArrayDeque", name := "newCapacity", desc := "(II)I" } : Jvm.MethodName)) ∈ lw_all := lw_g (lw_at lw_m3 223 rfl) rfl
theorem q834 : (Jvm.Cond.privateMethod ({ cls := "java/util/ArrayDeque", name := "newCapacity", desc := "(II)I" } : Jvm.MethodName)) ∈ lw_tbl := lw_at lw_m3 224 rfl
theorem q835 : (Jvm.Cond.instanceMethod ({ cls := "java/util/ArrayDeque", name := "newCapacity", desc := "(II)I" } : Jvm.MethodName)) ∈ lw_all := lw_g (lw_at lw_m3 225 rfl) rfl
theorem q836 : (Jvm.Cond.code ({ cls := "java/util/ArrayDeque", name := "newCapacity", desc := "(II)I" } : Jvm.MethodName) prog_71_method_2_code (5 : Nat) (Option.some Jvm.ClassFile.FieldType.int)) ∈ lw_all := lw_g (lw_at lw_m3 226 rfl) rfl
theorem q837 : (Jvm.Cond.methodLink "java/util/ArrayDeque" (14 : Nat) ({ cls := "java/util/Arrays", name := "copyOf", desc := "([Ljava/lang/Object;I)[Ljava/lang/Object;" } : Jvm.MethodName)) ∈ lw_all := lw_g (lw_at lw_m3 227 rfl) rfl
theorem q885 : (Jvm.Cond.selects "java/util/ArrayDeque" ({ cls := "java/lang/Object", name := "getClass", desc := "()Ljava/lang/Class;" } : Jvm.MethodName) ({ cls := "java/lang/Object", name := "getClass", desc := "()Ljava/lang/Class;" } : Jvm.MethodName)) ∈ lw_all := lw_g (lw_at lw_m4 35 rfl) rfl
theorem q897 : (Jvm.Cond.methodLink "java/util/ArrayDeque" (27 : Nat) ({ cls := "java/lang/System", name := "arraycopy", desc := "(Ljava/lang/Object;ILjava/lang/Object;II)V" } : Jvm.MethodName)) ∈ lw_all := lw_g (lw_at lw_m4 47 rfl) rfl
theorem q899 : (Jvm.Cond.instanceMethod ({ cls := "java/util/ArrayDeque", name := "isEmpty", desc := "()Z" } : Jvm.MethodName)) ∈ lw_all := lw_g (lw_at lw_m4 49 rfl) rfl
theorem q900 : (Jvm.Cond.selects "java/util/ArrayDeque" ({ cls := "java/util/ArrayDeque", name := "isEmpty", desc := "()Z" } : Jvm.MethodName) ({ cls := "java/util/ArrayDeque", name := "isEmpty", desc := "()Z" } : Jvm.MethodName)) ∈ lw_all := lw_g (lw_at lw_m4 50 rfl) rfl
theorem q901 : (Jvm.Cond.code ({ cls := "java/util/ArrayDeque", name := "isEmpty", desc := "()Z" } : Jvm.MethodName) prog_71_method_38_code (1 : Nat) (Option.some Jvm.ClassFile.FieldType.boolean)) ∈ lw_all := lw_g (lw_at lw_m4 51 rfl) rfl
theorem q903 : (Jvm.Cond.instanceMethod ({ cls := "java/util/ArrayDeque", name := "pollFirst", desc := "()Ljava/lang/Object;" } : Jvm.MethodName)) ∈ lw_all := lw_g (lw_at lw_m4 53 rfl) rfl
theorem q904 : (Jvm.Cond.selects "java/util/ArrayDeque" ({ cls := "java/util/ArrayDeque", name := "pollFirst", desc := "()Ljava/lang/Object;" } : Jvm.MethodName) ({ cls := "java/util/ArrayDeque", name := "pollFirst", desc := "()Ljava/lang/Object;" } : Jvm.MethodName)) ∈ lw_all := lw_g (lw_at lw_m4 54 rfl) rfl
theorem q905 : (Jvm.Cond.code ({ cls := "java/util/ArrayDeque", name := "pollFirst", desc := "()Ljava/lang/Object;" } : Jvm.MethodName) prog_71_method_20_code (4 : Nat) (Option.some (Jvm.ClassFile.FieldType.object "java/lang/Object"))) ∈ lw_all := lw_g (lw_at lw_m4 55 rfl) rfl
theorem q906 : (Jvm.Cond.methodLink "java/util/ArrayDeque" (103 : Nat) ({ cls := "java/util/ArrayDeque", name := "elementAt", desc := "([Ljava/lang/Object;I)Ljava/lang/Object;" } : Jvm.MethodName)) ∈ lw_all := lw_g (lw_at lw_m4 56 rfl) rfl
theorem q907 : (Jvm.Cond.static ({ cls := "java/util/ArrayDeque", name := "elementAt", desc := "([Ljava/lang/Object;I)Ljava/lang/Object;" } : Jvm.MethodName)) ∈ lw_all := lw_g (lw_at lw_m4 57 rfl) rfl
theorem q908 : (Jvm.Cond.code ({ cls := "java/util/ArrayDeque", name := "elementAt", desc := "([Ljava/lang/Object;I)Ljava/lang/Object;" } : Jvm.MethodName) prog_71_method_10_code (2 : Nat) (Option.some (Jvm.ClassFile.FieldType.object "java/lang/Object"))) ∈ lw_all := lw_g (lw_at lw_m4 58 rfl) rfl
theorem q3401 : (Jvm.Cond.castable "java/util/ArrayDeque" "java/lang/Object") ∈ lw_tbl := lw_at lw_m14 151 rfl
theorem in_J17 : ∀ w ∈ wsJ170, w ∈ lw_all := lw_in wsJ170 [639, 641, 643] (by decide +kernel) (by decide +kernel)
/-! java/lang/IndexOutOfBoundsException -/
set_option maxRecDepth 100000
def RJ18 : String := "java/lang/IndexOutOfBoundsException"
def TJ18 : u_T := fun k => match k with
  | 0 => ("java/lang/Throwable", "cause", "Ljava/lang/Throwable;", false)
  | 1 => ("java/lang/Throwable", "stackTrace", "[Ljava/lang/StackTraceElement;", false)
  | 2 => ("java/lang/Throwable", "suppressedExceptions", "Ljava/util/List;", false)
  | 3 => ("java/lang/Throwable", "detailMessage", "Ljava/lang/String;", false)
  | 4 => ("java/lang/Throwable", "backtrace", "Ljava/lang/Object;", false)
  | _ => ("java/lang/Throwable", "depth", "I", false)
def tyJ18 : Nat → FieldType := fun k => match k with
  | 0 => .object "java/lang/Throwable"
  | 1 => .array (.object "java/lang/StackTraceElement")
  | 2 => .object "java/util/List"
  | 3 => .object "java/lang/String"
  | 4 => .object "java/lang/Object"
  | _ => .int
abbrev wsJ180 : List Cond := u_ws RJ18 TJ18 6
theorem nmJ18 : ∀ a, a < 6 → ∀ b, b < 6 → a ≠ b → (TJ18 a).2.1 ≠ (TJ18 b).2.1 := by decide +kernel
theorem tyJ18_ok : ∀ k, k < 6 → parseFieldDescriptor (TJ18 k).2.2.1 = some (tyJ18 k) := by decide +kernel
abbrev cJ18_init : ByteArray := prog_48_method_2_code
def yJ18_init : MethodName := ⟨RJ18, "<init>", "(Ljava/lang/String;)V"⟩
def dkwJ18_init_0 : List UInt8 := [42, 43, 183, 0, 7, 177]
abbrev dktJ18_init_0 : List UInt8 := dkwJ18_init_0 ++ []
theorem dksJ18_init_0 : cJ18_init.data.toList.drop 0 = dktJ18_init_0 := by decide +kernel
theorem dJ18_init_0 : decode cJ18_init 0 = .ok (.aload_n 0, 1) := dk_42 (dk_at dksJ18_init_0 0 rfl rfl)
theorem dJ18_init_1 : decode cJ18_init 1 = .ok (.aload_n 1, 1) := dk_43 (dk_at dksJ18_init_0 1 rfl rfl)
theorem dJ18_init_2 : decode cJ18_init 2 = .ok (.invokespecial 7, 3) := dk_183 0 7 (dk_at dksJ18_init_0 2 rfl rfl)
theorem dJ18_init_5 : decode cJ18_init 5 = .ok (.return_, 1) := dk_177 (dk_at dksJ18_init_0 5 rfl rfl)
theorem q154 : (Jvm.Cond.initialized "java/lang/IndexOutOfBoundsException") ∈ lw_all := lw_g (lw_at lw_m1 24 rfl) rfl
theorem q323 : (Jvm.Cond.selects "java/lang/IndexOutOfBoundsException" ({ cls := "java/lang/Throwable", name := "fillInStackTrace", desc := "()Ljava/lang/Throwable;" } : Jvm.MethodName) ({ cls := "java/lang/Throwable", name := "fillInStackTrace", desc := "()Ljava/lang/Throwable;" } : Jvm.MethodName)) ∈ lw_all := lw_g (lw_at lw_m1 193 rfl) rfl
theorem q709 : (Jvm.Cond.instantiable "java/lang/IndexOutOfBoundsException" (6 : Nat)) ∈ lw_all := lw_g (lw_at lw_m3 99 rfl) rfl
theorem q710 : (Jvm.Cond.castable "java/lang/IndexOutOfBoundsException" "java/lang/IndexOutOfBoundsException") ∈ lw_tbl := lw_at lw_m3 100 rfl
theorem q711 : (Jvm.Cond.selects "java/lang/IndexOutOfBoundsException" ({ cls := "java/lang/Throwable", name := "fillInStackTrace", desc := "(I)Ljava/lang/Throwable;" } : Jvm.MethodName) ({ cls := "java/lang/Throwable", name := "fillInStackTrace", desc := "(I)Ljava/lang/Throwable;" } : Jvm.MethodName)) ∈ lw_all := lw_g (lw_at lw_m3 101 rfl) rfl
theorem q712 : (Jvm.Cond.lays "java/lang/IndexOutOfBoundsException" "java/lang/Throwable" "cause" "Ljava/lang/Throwable;") ∈ lw_all := lw_g (lw_at lw_m3 102 rfl) rfl
theorem q713 : (Jvm.Cond.lays "java/lang/IndexOutOfBoundsException" "java/lang/Throwable" "stackTrace" "[Ljava/lang/StackTraceElement;") ∈ lw_all := lw_g (lw_at lw_m3 103 rfl) rfl
theorem q714 : (Jvm.Cond.lays "java/lang/IndexOutOfBoundsException" "java/lang/Throwable" "suppressedExceptions" "Ljava/util/List;") ∈ lw_all := lw_g (lw_at lw_m3 104 rfl) rfl
theorem q715 : (Jvm.Cond.lays "java/lang/IndexOutOfBoundsException" "java/lang/Throwable" "detailMessage" "Ljava/lang/String;") ∈ lw_all := lw_g (lw_at lw_m3 105 rfl) rfl
theorem q716 : (Jvm.Cond.lays "java/lang/IndexOutOfBoundsException" "java/lang/Throwable" "backtrace" "Ljava/lang/Object;") ∈ lw_all := lw_g (lw_at lw_m3 106 rfl) rfl
theorem q719 : (Jvm.Cond.instanceMethod ({ cls := "java/lang/IndexOutOfBoundsException", name := "<init>", desc := "(Ljava/lang/String;)V" } : Jvm.MethodName)) ∈ lw_all := lw_g (lw_at lw_m3 109 rfl) rfl
theorem q720 : (Jvm.Cond.code ({ cls := "java/lang/IndexOutOfBoundsException", name := "<init>", desc := "(Ljava/lang/String;)V" } : Jvm.MethodName) prog_48_method_2_code (2 : Nat) (Option.none : Option Jvm.ClassFile.FieldType)) ∈ lw_all := lw_g (lw_at lw_m3 110 rfl) rfl
theorem q721 : (Jvm.Cond.methodLink "java/lang/IndexOutOfBoundsException" (7 : Nat) ({ cls := "java/lang/RuntimeException", name := "<init>", desc := "(Ljava/lang/String;)V" } : Jvm.MethodName)) ∈ lw_all := lw_g (lw_at lw_m3 111 rfl) rfl
theorem q722 : (Jvm.Cond.lays "java/lang/IndexOutOfBoundsException" "java/lang/Throwable" "depth" "I") ∈ lw_all := lw_g (lw_at lw_m3 112 rfl) rfl
theorem q723 : (Jvm.Cond.superclass "java/lang/IndexOutOfBoundsException" "java/lang/RuntimeException") ∈ lw_all := lw_g (lw_at lw_m3 113 rfl) rfl
theorem q801 : (Jvm.Cond.selects "java/lang/IndexOutOfBoundsException" ({ cls := "java/lang/Object", name := "equals", desc := "(Ljava/lang/Object;)Z" } : Jvm.MethodName) ({ cls := "java/lang/Object", name := "equals", desc := "(Ljava/lang/Object;)Z" } : Jvm.MethodName)) ∈ lw_all := lw_g (lw_at lw_m3 191 rfl) rfl
theorem q878 : (Jvm.Cond.selects "java/lang/IndexOutOfBoundsException" ({ cls := "java/lang/Object", name := "getClass", desc := "()Ljava/lang/Class;" } : Jvm.MethodName) ({ cls := "java/lang/Object", name := "getClass", desc := "()Ljava/lang/Class;" } : Jvm.MethodName)) ∈ lw_all := lw_g (lw_at lw_m4 28 rfl) rfl
theorem q1110 : (Jvm.Cond.selects "java/lang/IndexOutOfBoundsException" ({ cls := "java/lang/Throwable", name := "toString", desc := "()Ljava/lang/String;" } : Jvm.MethodName) ({ cls := "java/lang/Throwable", name := "toString", desc := "()Ljava/lang/String;" } : Jvm.MethodName)) ∈ lw_all := lw_g (lw_at lw_m5 20 rfl) rfl
theorem q1123 : (Jvm.Cond.selects "java/lang/IndexOutOfBoundsException" ({ cls := "java/lang/Throwable", name := "getLocalizedMessage", desc := "()Ljava/lang/String;" } : Jvm.MethodName) ({ cls := "java/lang/Throwable", name := "getLocalizedMessage", desc := "()Ljava/lang/String;" } : Jvm.MethodName)) ∈ lw_all := lw_g (lw_at lw_m5 33 rfl) rfl
theorem q1135 : (Jvm.Cond.selects "java/lang/IndexOutOfBoundsException" ({ cls := "java/lang/Throwable", name := "getMessage", desc := "()Ljava/lang/String;" } : Jvm.MethodName) ({ cls := "java/lang/Throwable", name := "getMessage", desc := "()Ljava/lang/String;" } : Jvm.MethodName)) ∈ lw_all := lw_g (lw_at lw_m5 45 rfl) rfl
theorem q2422 : (Jvm.Cond.declares ({ cls := "java/lang/IndexOutOfBoundsException", name := "<init>", desc := "()V" } : Jvm.MethodName)) ∈ lw_tbl := lw_at lw_m10 132 rfl
theorem q2423 : (Jvm.Cond.declares ({ cls := "java/lang/IndexOutOfBoundsException", name := "<init>", desc := "(Ljava/lang/String;)V" } : Jvm.MethodName)) ∈ lw_tbl := lw_at lw_m10 133 rfl
theorem q3402 : (Jvm.Cond.castable "java/lang/IndexOutOfBoundsException" "java/lang/Object") ∈ lw_tbl := lw_at lw_m14 152 rfl
theorem in_J18 : ∀ w ∈ wsJ180, w ∈ lw_all := lw_in wsJ180 [712, 713, 714, 715, 716, 722] (by decide +kernel) (by decide +kernel)
/-! java/lang/Long -/
set_option maxRecDepth 100000
def RJ19 : String := "java/lang/Long"
abbrev cJ19_numberOfTrailingZeros : ByteArray := prog_52_method_49_code
def yJ19_numberOfTrailingZeros : MethodName := ⟨RJ19, "numberOfTrailingZeros", "(J)I"⟩
def dkwJ19_numberOfTrailingZeros_1 : List UInt8 := [184, 1, 55, 172]
abbrev dktJ19_numberOfTrailingZeros_1 : List UInt8 := dkwJ19_numberOfTrailingZeros_1 ++ []
def dkwJ19_numberOfTrailingZeros_0 : List UInt8 := [30, 136, 61, 28, 154, 0, 17, 16, 32, 30, 16, 32, 125, 136, 184, 1, 55, 96, 167, 0, 7, 28]
abbrev dktJ19_numberOfTrailingZeros_0 : List UInt8 := dkwJ19_numberOfTrailingZeros_0 ++ dktJ19_numberOfTrailingZeros_1
theorem dksJ19_numberOfTrailingZeros_0 : cJ19_numberOfTrailingZeros.data.toList.drop 0 = dktJ19_numberOfTrailingZeros_0 := by decide +kernel
theorem dksJ19_numberOfTrailingZeros_1 : cJ19_numberOfTrailingZeros.data.toList.drop 22 = dktJ19_numberOfTrailingZeros_1 := dk_seg dksJ19_numberOfTrailingZeros_0 22 rfl rfl
theorem dJ19_numberOfTrailingZeros_0 : decode cJ19_numberOfTrailingZeros 0 = .ok (.lload_n 0, 1) := dk_30 (dk_at dksJ19_numberOfTrailingZeros_0 0 rfl rfl)
theorem dJ19_numberOfTrailingZeros_1 : decode cJ19_numberOfTrailingZeros 1 = .ok (.l2i, 1) := dk_136 (dk_at dksJ19_numberOfTrailingZeros_0 1 rfl rfl)
theorem dJ19_numberOfTrailingZeros_2 : decode cJ19_numberOfTrailingZeros 2 = .ok (.istore_n 2, 1) := dk_61 (dk_at dksJ19_numberOfTrailingZeros_0 2 rfl rfl)
theorem dJ19_numberOfTrailingZeros_3 : decode cJ19_numberOfTrailingZeros 3 = .ok (.iload_n 2, 1) := dk_28 (dk_at dksJ19_numberOfTrailingZeros_0 3 rfl rfl)
theorem dJ19_numberOfTrailingZeros_4 : decode cJ19_numberOfTrailingZeros 4 = .ok (.ifCond .ne 17, 3) := dk_154 0 17 (dk_at dksJ19_numberOfTrailingZeros_0 4 rfl rfl)
theorem dJ19_numberOfTrailingZeros_7 : decode cJ19_numberOfTrailingZeros 7 = .ok (.bipush 32, 2) := dk_16 32 (dk_at dksJ19_numberOfTrailingZeros_0 7 rfl rfl)
theorem dJ19_numberOfTrailingZeros_9 : decode cJ19_numberOfTrailingZeros 9 = .ok (.lload_n 0, 1) := dk_30 (dk_at dksJ19_numberOfTrailingZeros_0 9 rfl rfl)
theorem dJ19_numberOfTrailingZeros_10 : decode cJ19_numberOfTrailingZeros 10 = .ok (.bipush 32, 2) := dk_16 32 (dk_at dksJ19_numberOfTrailingZeros_0 10 rfl rfl)
theorem dJ19_numberOfTrailingZeros_12 : decode cJ19_numberOfTrailingZeros 12 = .ok (.lushr, 1) := dk_125 (dk_at dksJ19_numberOfTrailingZeros_0 12 rfl rfl)
theorem dJ19_numberOfTrailingZeros_13 : decode cJ19_numberOfTrailingZeros 13 = .ok (.l2i, 1) := dk_136 (dk_at dksJ19_numberOfTrailingZeros_0 13 rfl rfl)
theorem dJ19_numberOfTrailingZeros_14 : decode cJ19_numberOfTrailingZeros 14 = .ok (.invokestatic 311, 3) := dk_184 1 55 (dk_at dksJ19_numberOfTrailingZeros_0 14 rfl rfl)
theorem dJ19_numberOfTrailingZeros_17 : decode cJ19_numberOfTrailingZeros 17 = .ok (.iadd, 1) := dk_96 (dk_at dksJ19_numberOfTrailingZeros_0 17 rfl rfl)
theorem dJ19_numberOfTrailingZeros_18 : decode cJ19_numberOfTrailingZeros 18 = .ok (.goto 7, 3) := dk_167 0 7 (dk_at dksJ19_numberOfTrailingZeros_0 18 rfl rfl)
theorem dJ19_numberOfTrailingZeros_21 : decode cJ19_numberOfTrailingZeros 21 = .ok (.iload_n 2, 1) := dk_28 (dk_at dksJ19_numberOfTrailingZeros_0 21 rfl rfl)
theorem dJ19_numberOfTrailingZeros_22 : decode cJ19_numberOfTrailingZeros 22 = .ok (.invokestatic 311, 3) := dk_184 1 55 (dk_at dksJ19_numberOfTrailingZeros_1 0 rfl rfl)
theorem dJ19_numberOfTrailingZeros_25 : decode cJ19_numberOfTrailingZeros 25 = .ok (.ireturn, 1) := dk_172 (dk_at dksJ19_numberOfTrailingZeros_1 3 rfl rfl)
theorem q156 : (Jvm.Cond.initialized "java/lang/Long") ∈ lw_all := lw_g (lw_at lw_m1 26 rfl) rfl
theorem q951 : (Jvm.Cond.static ({ cls := "java/lang/Long", name := "numberOfTrailingZeros", desc := "(J)I" } : Jvm.MethodName)) ∈ lw_all := lw_g (lw_at lw_m4 101 rfl) rfl
theorem q952 : (Jvm.Cond.code ({ cls := "java/lang/Long", name := "numberOfTrailingZeros", desc := "(J)I" } : Jvm.MethodName) prog_52_method_49_code (3 : Nat) (Option.some Jvm.ClassFile.FieldType.int)) ∈ lw_all := lw_g (lw_at lw_m4 102 rfl) rfl
theorem q953 : (Jvm.Cond.methodLink "java/lang/Long" (311 : Nat) ({ cls := "java/lang/Integer", name := "numberOfTrailingZeros", desc := "(I)I" } : Jvm.MethodName)) ∈ lw_all := lw_g (lw_at lw_m4 103 rfl) rfl
/-! java/lang/Exception -/
set_option maxRecDepth 100000
def RJ2 : String := "java/lang/Exception"
abbrev cJ2_init : ByteArray := prog_47_method_1_code
def yJ2_init : MethodName := ⟨RJ2, "<init>", "()V"⟩
theorem dJ2_init_0 : decode cJ2_init 0 = .ok (.aload_n 0, 1) := by decide +kernel
theorem dJ2_init_1 : decode cJ2_init 1 = .ok (.invokespecial 1, 3) := by decide +kernel
theorem dJ2_init_4 : decode cJ2_init 4 = .ok (.return_, 1) := by decide +kernel
abbrev cJ2_init_2 : ByteArray := prog_47_method_2_code
def yJ2_init_2 : MethodName := ⟨RJ2, "<init>", "(Ljava/lang/String;)V"⟩
def dkwJ2_init_2_0 : List UInt8 := [42, 43, 183, 0, 7, 177]
abbrev dktJ2_init_2_0 : List UInt8 := dkwJ2_init_2_0 ++ []
theorem dksJ2_init_2_0 : cJ2_init_2.data.toList.drop 0 = dktJ2_init_2_0 := by decide +kernel
theorem dJ2_init_2_0 : decode cJ2_init_2 0 = .ok (.aload_n 0, 1) := dk_42 (dk_at dksJ2_init_2_0 0 rfl rfl)
theorem dJ2_init_2_1 : decode cJ2_init_2 1 = .ok (.aload_n 1, 1) := dk_43 (dk_at dksJ2_init_2_0 1 rfl rfl)
theorem dJ2_init_2_2 : decode cJ2_init_2 2 = .ok (.invokespecial 7, 3) := dk_183 0 7 (dk_at dksJ2_init_2_0 2 rfl rfl)
theorem dJ2_init_2_5 : decode cJ2_init_2 5 = .ok (.return_, 1) := dk_177 (dk_at dksJ2_init_2_0 5 rfl rfl)
abbrev cJ2_init_3 : ByteArray := prog_47_method_4_code
def yJ2_init_3 : MethodName := ⟨RJ2, "<init>", "(Ljava/lang/Throwable;)V"⟩
def dkwJ2_init_3_0 : List UInt8 := [42, 43, 183, 0, 13, 177]
abbrev dktJ2_init_3_0 : List UInt8 := dkwJ2_init_3_0 ++ []
theorem dksJ2_init_3_0 : cJ2_init_3.data.toList.drop 0 = dktJ2_init_3_0 := by decide +kernel
theorem dJ2_init_3_0 : decode cJ2_init_3 0 = .ok (.aload_n 0, 1) := dk_42 (dk_at dksJ2_init_3_0 0 rfl rfl)
theorem dJ2_init_3_1 : decode cJ2_init_3 1 = .ok (.aload_n 1, 1) := dk_43 (dk_at dksJ2_init_3_0 1 rfl rfl)
theorem dJ2_init_3_2 : decode cJ2_init_3 2 = .ok (.invokespecial 13, 3) := dk_183 0 13 (dk_at dksJ2_init_3_0 2 rfl rfl)
theorem dJ2_init_3_5 : decode cJ2_init_3 5 = .ok (.return_, 1) := dk_177 (dk_at dksJ2_init_3_0 5 rfl rfl)
abbrev cJ2_init_4 : ByteArray := prog_47_method_5_code
def yJ2_init_4 : MethodName := ⟨RJ2, "<init>", "(Ljava/lang/String;Ljava/lang/Throwable;ZZ)V"⟩
def dkwJ2_init_4_0 : List UInt8 := [42, 43, 44, 29, 21, 4, 183, 0, 16, 177]
abbrev dktJ2_init_4_0 : List UInt8 := dkwJ2_init_4_0 ++ []
theorem dksJ2_init_4_0 : cJ2_init_4.data.toList.drop 0 = dktJ2_init_4_0 := by decide +kernel
theorem dJ2_init_4_0 : decode cJ2_init_4 0 = .ok (.aload_n 0, 1) := dk_42 (dk_at dksJ2_init_4_0 0 rfl rfl)
theorem dJ2_init_4_1 : decode cJ2_init_4 1 = .ok (.aload_n 1, 1) := dk_43 (dk_at dksJ2_init_4_0 1 rfl rfl)
theorem dJ2_init_4_2 : decode cJ2_init_4 2 = .ok (.aload_n 2, 1) := dk_44 (dk_at dksJ2_init_4_0 2 rfl rfl)
theorem dJ2_init_4_3 : decode cJ2_init_4 3 = .ok (.iload_n 3, 1) := dk_29 (dk_at dksJ2_init_4_0 3 rfl rfl)
theorem dJ2_init_4_4 : decode cJ2_init_4 4 = .ok (.iload 4, 2) := dk_21 4 (dk_at dksJ2_init_4_0 4 rfl rfl)
theorem dJ2_init_4_6 : decode cJ2_init_4 6 = .ok (.invokespecial 16, 3) := dk_183 0 16 (dk_at dksJ2_init_4_0 6 rfl rfl)
theorem dJ2_init_4_9 : decode cJ2_init_4 9 = .ok (.return_, 1) := dk_177 (dk_at dksJ2_init_4_0 9 rfl rfl)
theorem q135 : (Jvm.Cond.initialized "java/lang/Exception") ∈ lw_all := lw_g (lw_at lw_m1 5 rfl) rfl
theorem q290 : (Jvm.Cond.declares ({ cls := "java/lang/Exception", name := "<init>", desc := "()V" } : Jvm.MethodName)) ∈ lw_tbl := lw_at lw_m1 160 rfl
theorem q291 : (Jvm.Cond.declares ({ cls := "java/lang/Exception", name := "<init>", desc := "(Ljava/lang/String;)V" } : Jvm.MethodName)) ∈ lw_tbl := lw_at lw_m1 161 rfl
theorem q356 : (Jvm.Cond.instanceMethod ({ cls := "java/lang/Exception", name := "<init>", desc := "()V" } : Jvm.MethodName)) ∈ lw_all := lw_g (lw_at lw_m1 226 rfl) rfl
theorem q357 : (Jvm.Cond.code ({ cls := "java/lang/Exception", name := "<init>", desc := "()V" } : Jvm.MethodName) prog_47_method_1_code (1 : Nat) (Option.none : Option Jvm.ClassFile.FieldType)) ∈ lw_all := lw_g (lw_at lw_m1 227 rfl) rfl
theorem q358 : (Jvm.Cond.methodLink "java/lang/Exception" (1 : Nat) ({ cls := "java/lang/Throwable", name := "<init>", desc := "()V" } : Jvm.MethodName)) ∈ lw_all := lw_g (lw_at lw_m1 228 rfl) rfl
theorem q601 : (Jvm.Cond.instanceMethod ({ cls := "java/lang/Exception", name := "<init>", desc := "(Ljava/lang/String;)V" } : Jvm.MethodName)) ∈ lw_all := lw_g (lw_at lw_m2 231 rfl) rfl
theorem q602 : (Jvm.Cond.code ({ cls := "java/lang/Exception", name := "<init>", desc := "(Ljava/lang/String;)V" } : Jvm.MethodName) prog_47_method_2_code (2 : Nat) (Option.none : Option Jvm.ClassFile.FieldType)) ∈ lw_all := lw_g (lw_at lw_m2 232 rfl) rfl
theorem q603 : (Jvm.Cond.methodLink "java/lang/Exception" (7 : Nat) ({ cls := "java/lang/Throwable", name := "<init>", desc := "(Ljava/lang/String;)V" } : Jvm.MethodName)) ∈ lw_all := lw_g (lw_at lw_m2 233 rfl) rfl
theorem q1097 : (Jvm.Cond.instanceMethod ({ cls := "java/lang/Exception", name := "<init>", desc := "(Ljava/lang/Throwable;)V" } : Jvm.MethodName)) ∈ lw_all := lw_g (lw_at lw_m5 7 rfl) rfl
theorem q1098 : (Jvm.Cond.code ({ cls := "java/lang/Exception", name := "<init>", desc := "(Ljava/lang/Throwable;)V" } : Jvm.MethodName) prog_47_method_4_code (2 : Nat) (Option.none : Option Jvm.ClassFile.FieldType)) ∈ lw_all := lw_g (lw_at lw_m5 8 rfl) rfl
theorem q1099 : (Jvm.Cond.methodLink "java/lang/Exception" (13 : Nat) ({ cls := "java/lang/Throwable", name := "<init>", desc := "(Ljava/lang/Throwable;)V" } : Jvm.MethodName)) ∈ lw_all := lw_g (lw_at lw_m5 9 rfl) rfl
theorem q1192 : (Jvm.Cond.instanceMethod ({ cls := "java/lang/Exception", name := "<init>", desc := "(Ljava/lang/String;Ljava/lang/Throwable;ZZ)V" } : Jvm.MethodName)) ∈ lw_all := lw_g (lw_at lw_m5 102 rfl) rfl
theorem q1193 : (Jvm.Cond.code ({ cls := "java/lang/Exception", name := "<init>", desc := "(Ljava/lang/String;Ljava/lang/Throwable;ZZ)V" } : Jvm.MethodName) prog_47_method_5_code (5 : Nat) (Option.none : Option Jvm.ClassFile.FieldType)) ∈ lw_all := lw_g (lw_at lw_m5 103 rfl) rfl
theorem q1194 : (Jvm.Cond.methodLink "java/lang/Exception" (16 : Nat) ({ cls := "java/lang/Throwable", name := "<init>", desc := "(Ljava/lang/String;Ljava/lang/Throwable;ZZ)V" } : Jvm.MethodName)) ∈ lw_all := lw_g (lw_at lw_m5 104 rfl) rfl
/-! java/util/AbstractList$Itr -/
set_option maxRecDepth 100000
def RJ20 : String := "java/util/AbstractList$Itr"
abbrev cJ20_hasNext : ByteArray := prog_68_method_2_code
def yJ20_hasNext : MethodName := ⟨RJ20, "hasNext", "()Z"⟩
def dkwJ20_hasNext_0 : List UInt8 := [42, 180, 0, 13, 42, 180, 0, 1, 182, 0, 28, 159, 0, 7, 4, 167, 0, 4, 3, 172]
abbrev dktJ20_hasNext_0 : List UInt8 := dkwJ20_hasNext_0 ++ []
theorem dksJ20_hasNext_0 : cJ20_hasNext.data.toList.drop 0 = dktJ20_hasNext_0 := by decide +kernel
theorem dJ20_hasNext_0 : decode cJ20_hasNext 0 = .ok (.aload_n 0, 1) := dk_42 (dk_at dksJ20_hasNext_0 0 rfl rfl)
theorem dJ20_hasNext_1 : decode cJ20_hasNext 1 = .ok (.getfield 13, 3) := dk_180 0 13 (dk_at dksJ20_hasNext_0 1 rfl rfl)
theorem dJ20_hasNext_4 : decode cJ20_hasNext 4 = .ok (.aload_n 0, 1) := dk_42 (dk_at dksJ20_hasNext_0 4 rfl rfl)
theorem dJ20_hasNext_5 : decode cJ20_hasNext 5 = .ok (.getfield 1, 3) := dk_180 0 1 (dk_at dksJ20_hasNext_0 5 rfl rfl)
theorem dJ20_hasNext_8 : decode cJ20_hasNext 8 = .ok (.invokevirtual 28, 3) := dk_182 0 28 (dk_at dksJ20_hasNext_0 8 rfl rfl)
theorem dJ20_hasNext_11 : decode cJ20_hasNext 11 = .ok (.if_icmp .eq 7, 3) := dk_159 0 7 (dk_at dksJ20_hasNext_0 11 rfl rfl)
theorem dJ20_hasNext_14 : decode cJ20_hasNext 14 = .ok (.iconst 1, 1) := dk_4 (dk_at dksJ20_hasNext_0 14 rfl rfl)
theorem dJ20_hasNext_15 : decode cJ20_hasNext 15 = .ok (.goto 4, 3) := dk_167 0 4 (dk_at dksJ20_hasNext_0 15 rfl rfl)
theorem dJ20_hasNext_18 : decode cJ20_hasNext 18 = .ok (.iconst 0, 1) := dk_3 (dk_at dksJ20_hasNext_0 18 rfl rfl)
theorem dJ20_hasNext_19 : decode cJ20_hasNext 19 = .ok (.ireturn, 1) := dk_172 (dk_at dksJ20_hasNext_0 19 rfl rfl)
abbrev cJ20_next : ByteArray := prog_68_method_3_code
def yJ20_next : MethodName := ⟨RJ20, "next", "()Ljava/lang/Object;"⟩
def dkwJ20_next_1 : List UInt8 := [27, 4, 96, 181, 0, 13, 44, 176, 76, 42, 182, 0, 32, 187, 0, 41, 89, 43, 183, 0, 43, 191]
abbrev dktJ20_next_1 : List UInt8 := dkwJ20_next_1 ++ []
def dkwJ20_next_0 : List UInt8 := [42, 182, 0, 32, 42, 180, 0, 13, 60, 42, 180, 0, 1, 27, 182, 0, 35, 77, 42, 27, 181, 0, 17, 42]
abbrev dktJ20_next_0 : List UInt8 := dkwJ20_next_0 ++ dktJ20_next_1
theorem dksJ20_next_0 : cJ20_next.data.toList.drop 0 = dktJ20_next_0 := by decide +kernel
theorem dksJ20_next_1 : cJ20_next.data.toList.drop 24 = dktJ20_next_1 := dk_seg dksJ20_next_0 24 rfl rfl
theorem dJ20_next_0 : decode cJ20_next 0 = .ok (.aload_n 0, 1) := dk_42 (dk_at dksJ20_next_0 0 rfl rfl)
theorem dJ20_next_1 : decode cJ20_next 1 = .ok (.invokevirtual 32, 3) := dk_182 0 32 (dk_at dksJ20_next_0 1 rfl rfl)
theorem dJ20_next_4 : decode cJ20_next 4 = .ok (.aload_n 0, 1) := dk_42 (dk_at dksJ20_next_0 4 rfl rfl)
theorem dJ20_next_5 : decode cJ20_next 5 = .ok (.getfield 13, 3) := dk_180 0 13 (dk_at dksJ20_next_0 5 rfl rfl)
theorem dJ20_next_8 : decode cJ20_next 8 = .ok (.istore_n 1, 1) := dk_60 (dk_at dksJ20_next_0 8 rfl rfl)
theorem dJ20_next_9 : decode cJ20_next 9 = .ok (.aload_n 0, 1) := dk_42 (dk_at dksJ20_next_0 9 rfl rfl)
theorem dJ20_next_10 : decode cJ20_next 10 = .ok (.getfield 1, 3) := dk_180 0 1 (dk_at dksJ20_next_0 10 rfl rfl)
theorem dJ20_next_13 : decode cJ20_next 13 = .ok (.iload_n 1, 1) := dk_27 (dk_at dksJ20_next_0 13 rfl rfl)
theorem dJ20_next_14 : decode cJ20_next 14 = .ok (.invokevirtual 35, 3) := dk_182 0 35 (dk_at dksJ20_next_0 14 rfl rfl)
theorem dJ20_next_17 : decode cJ20_next 17 = .ok (.astore_n 2, 1) := dk_77 (dk_at dksJ20_next_0 17 rfl rfl)
theorem dJ20_next_18 : decode cJ20_next 18 = .ok (.aload_n 0, 1) := dk_42 (dk_at dksJ20_next_0 18 rfl rfl)
theorem dJ20_next_19 : decode cJ20_next 19 = .ok (.iload_n 1, 1) := dk_27 (dk_at dksJ20_next_0 19 rfl rfl)
theorem dJ20_next_20 : decode cJ20_next 20 = .ok (.putfield 17, 3) := dk_181 0 17 (dk_at dksJ20_next_0 20 rfl rfl)
theorem dJ20_next_23 : decode cJ20_next 23 = .ok (.aload_n 0, 1) := dk_42 (dk_at dksJ20_next_0 23 rfl rfl)
theorem dJ20_next_24 : decode cJ20_next 24 = .ok (.iload_n 1, 1) := dk_27 (dk_at dksJ20_next_1 0 rfl rfl)
theorem dJ20_next_25 : decode cJ20_next 25 = .ok (.iconst 1, 1) := dk_4 (dk_at dksJ20_next_1 1 rfl rfl)
theorem dJ20_next_26 : decode cJ20_next 26 = .ok (.iadd, 1) := dk_96 (dk_at dksJ20_next_1 2 rfl rfl)
theorem dJ20_next_27 : decode cJ20_next 27 = .ok (.putfield 13, 3) := dk_181 0 13 (dk_at dksJ20_next_1 3 rfl rfl)
theorem dJ20_next_30 : decode cJ20_next 30 = .ok (.aload_n 2, 1) := dk_44 (dk_at dksJ20_next_1 6 rfl rfl)
theorem dJ20_next_31 : decode cJ20_next 31 = .ok (.areturn, 1) := dk_176 (dk_at dksJ20_next_1 7 rfl rfl)
theorem dJ20_next_32 : decode cJ20_next 32 = .ok (.astore_n 1, 1) := dk_76 (dk_at dksJ20_next_1 8 rfl rfl)
theorem dJ20_next_33 : decode cJ20_next 33 = .ok (.aload_n 0, 1) := dk_42 (dk_at dksJ20_next_1 9 rfl rfl)
theorem dJ20_next_34 : decode cJ20_next 34 = .ok (.invokevirtual 32, 3) := dk_182 0 32 (dk_at dksJ20_next_1 10 rfl rfl)
theorem dJ20_next_37 : decode cJ20_next 37 = .ok (.new 41, 3) := dk_187 0 41 (dk_at dksJ20_next_1 13 rfl rfl)
theorem dJ20_next_40 : decode cJ20_next 40 = .ok (.dup, 1) := dk_89 (dk_at dksJ20_next_1 16 rfl rfl)
theorem dJ20_next_41 : decode cJ20_next 41 = .ok (.aload_n 1, 1) := dk_43 (dk_at dksJ20_next_1 17 rfl rfl)
theorem dJ20_next_42 : decode cJ20_next 42 = .ok (.invokespecial 43, 3) := dk_183 0 43 (dk_at dksJ20_next_1 18 rfl rfl)
theorem dJ20_next_45 : decode cJ20_next 45 = .ok (.athrow, 1) := dk_191 (dk_at dksJ20_next_1 21 rfl rfl)
abbrev cJ20_checkForComodification : ByteArray := prog_68_method_5_code
def yJ20_checkForComodification : MethodName := ⟨RJ20, "checkForComodification", "()V"⟩
def dkwJ20_checkForComodification_0 : List UInt8 := [42, 180, 0, 1, 180, 0, 20, 42, 180, 0, 25, 159, 0, 11, 187, 0, 52, 89, 183, 0, 54, 191, 177]
abbrev dktJ20_checkForComodification_0 : List UInt8 := dkwJ20_checkForComodification_0 ++ []
theorem dksJ20_checkForComodification_0 : cJ20_checkForComodification.data.toList.drop 0 = dktJ20_checkForComodification_0 := by decide +kernel
theorem dJ20_checkForComodification_0 : decode cJ20_checkForComodification 0 = .ok (.aload_n 0, 1) := dk_42 (dk_at dksJ20_checkForComodification_0 0 rfl rfl)
theorem dJ20_checkForComodification_1 : decode cJ20_checkForComodification 1 = .ok (.getfield 1, 3) := dk_180 0 1 (dk_at dksJ20_checkForComodification_0 1 rfl rfl)
theorem dJ20_checkForComodification_4 : decode cJ20_checkForComodification 4 = .ok (.getfield 20, 3) := dk_180 0 20 (dk_at dksJ20_checkForComodification_0 4 rfl rfl)
theorem dJ20_checkForComodification_7 : decode cJ20_checkForComodification 7 = .ok (.aload_n 0, 1) := dk_42 (dk_at dksJ20_checkForComodification_0 7 rfl rfl)
theorem dJ20_checkForComodification_8 : decode cJ20_checkForComodification 8 = .ok (.getfield 25, 3) := dk_180 0 25 (dk_at dksJ20_checkForComodification_0 8 rfl rfl)
theorem dJ20_checkForComodification_11 : decode cJ20_checkForComodification 11 = .ok (.if_icmp .eq 11, 3) := dk_159 0 11 (dk_at dksJ20_checkForComodification_0 11 rfl rfl)
theorem dJ20_checkForComodification_14 : decode cJ20_checkForComodification 14 = .ok (.new 52, 3) := dk_187 0 52 (dk_at dksJ20_checkForComodification_0 14 rfl rfl)
theorem dJ20_checkForComodification_17 : decode cJ20_checkForComodification 17 = .ok (.dup, 1) := dk_89 (dk_at dksJ20_checkForComodification_0 17 rfl rfl)
theorem dJ20_checkForComodification_18 : decode cJ20_checkForComodification 18 = .ok (.invokespecial 54, 3) := dk_183 0 54 (dk_at dksJ20_checkForComodification_0 18 rfl rfl)
theorem dJ20_checkForComodification_21 : decode cJ20_checkForComodification 21 = .ok (.athrow, 1) := dk_191 (dk_at dksJ20_checkForComodification_0 21 rfl rfl)
theorem dJ20_checkForComodification_22 : decode cJ20_checkForComodification 22 = .ok (.return_, 1) := dk_177 (dk_at dksJ20_checkForComodification_0 22 rfl rfl)
theorem q157 : (Jvm.Cond.initialized "java/util/AbstractList$Itr") ∈ lw_all := lw_g (lw_at lw_m1 27 rfl) rfl
theorem q1037 : (Jvm.Cond.instanceMethod ({ cls := "java/util/AbstractList$Itr", name := "hasNext", desc := "()Z" } : Jvm.MethodName)) ∈ lw_all := lw_g (lw_at lw_m4 187 rfl) rfl
theorem q1038 : (Jvm.Cond.publicMethod ({ cls := "java/util/AbstractList$Itr", name := "hasNext", desc := "()Z" } : Jvm.MethodName)) ∈ lw_tbl := lw_at lw_m4 188 rfl
theorem q1039 : (Jvm.Cond.code ({ cls := "java/util/AbstractList$Itr", name := "hasNext", desc := "()Z" } : Jvm.MethodName) prog_68_method_2_code (1 : Nat) (Option.some Jvm.ClassFile.FieldType.boolean)) ∈ lw_all := lw_g (lw_at lw_m4 189 rfl) rfl
theorem q1040 : (Jvm.Cond.methodLink "java/util/AbstractList$Itr" (28 : Nat) ({ cls := "java/util/AbstractList", name := "size", desc := "()I" } : Jvm.MethodName)) ∈ lw_all := lw_g (lw_at lw_m4 190 rfl) rfl
theorem q1058 : (Jvm.Cond.instanceMethod ({ cls := "java/util/AbstractList$Itr", name := "next", desc := "()Ljava/lang/Object;" } : Jvm.MethodName)) ∈ lw_all := lw_g (lw_at lw_m4 208 rfl) rfl
theorem q1059 : (Jvm.Cond.publicMethod ({ cls := "java/util/AbstractList$Itr", name := "next", desc := "()Ljava/lang/Object;" } : Jvm.MethodName)) ∈ lw_tbl := lw_at lw_m4 209 rfl
theorem q1060 : (Jvm.Cond.codeWith ({ cls := "java/util/AbstractList$Itr", name := "next", desc := "()Ljava/lang/Object;" } : Jvm.MethodName) prog_68_method_3_code (3 : Nat) (Option.some (Jvm.ClassFile.FieldType.object "java/lang/Object")) [((4 : Nat), (31 : Nat), (32 : Nat), (39 : Nat))]) ∈ lw_all := lw_g (lw_at lw_m4 210 rfl) rfl
theorem q1061 : (Jvm.Cond.methodLink "java/util/AbstractList$Itr" (32 : Nat) ({ cls := "java/util/AbstractList$Itr", name := "checkForComodification", desc := "()V" } : Jvm.MethodName)) ∈ lw_all := lw_g (lw_at lw_m4 211 rfl) rfl
theorem q1062 : (Jvm.Cond.instanceMethod ({ cls := "java/util/AbstractList$Itr", name := "checkForComodification", desc := "()V" } : Jvm.MethodName)) ∈ lw_all := lw_g (lw_at lw_m4 212 rfl) rfl
theorem q1063 : (Jvm.Cond.sameMethod "java/util/AbstractList$Itr" "java/util/AbstractList$Itr" "checkForComodification" "()V") ∈ lw_all := lw_g (lw_at lw_m4 213 rfl) rfl
theorem q1065 : (Jvm.Cond.code ({ cls := "java/util/AbstractList$Itr", name := "checkForComodification", desc := "()V" } : Jvm.MethodName) prog_68_method_5_code (1 : Nat) (Option.none : Option Jvm.ClassFile.FieldType)) ∈ lw_all := lw_g (lw_at lw_m4 215 rfl) rfl
theorem q1066 : (Jvm.Cond.methodLink "java/util/AbstractList$Itr" (35 : Nat) ({ cls := "java/util/AbstractList", name := "get", desc := "(I)Ljava/lang/Object;" } : Jvm.MethodName)) ∈ lw_all := lw_g (lw_at lw_m4 216 rfl) rfl
theorem q1081 : (Jvm.Cond.classLink "java/util/AbstractList$Itr" (41 : Nat) "java/util/NoSuchElementException") ∈ lw_all := lw_g (lw_at lw_m4 231 rfl) rfl
theorem q1090 : (Jvm.Cond.methodLink "java/util/AbstractList$Itr" (43 : Nat) ({ cls := "java/util/NoSuchElementException", name := "<init>", desc := "(Ljava/lang/Throwable;)V" } : Jvm.MethodName)) ∈ lw_all := lw_g (lw_at lw_m5 0 rfl) rfl
theorem q1347 : (Jvm.Cond.fieldLink "java/util/AbstractList$Itr" (20 : Nat) "java/util/AbstractList" "modCount" "I") ∈ lw_all := lw_g (lw_at lw_m6 17 rfl) rfl
theorem q3462 : (Jvm.Cond.fieldLink "java/util/AbstractList$Itr" (1 : Nat) "java/util/AbstractList$Itr" "this$0" "Ljava/util/AbstractList;") ∈ lw_all := lw_g (lw_at lw_m14 212 rfl) rfl
theorem q3463 : (Jvm.Cond.fieldLink "java/util/AbstractList$Itr" (13 : Nat) "java/util/AbstractList$Itr" "cursor" "I") ∈ lw_all := lw_g (lw_at lw_m14 213 rfl) rfl
theorem q3464 : (Jvm.Cond.fieldLink "java/util/AbstractList$Itr" (17 : Nat) "java/util/AbstractList$Itr" "lastRet" "I") ∈ lw_all := lw_g (lw_at lw_m14 214 rfl) rfl
theorem q3465 : (Jvm.Cond.fieldLink "java/util/AbstractList$Itr" (25 : Nat) "java/util/AbstractList$Itr" "expectedModCount" "I") ∈ lw_all := lw_g (lw_at lw_m14 215 rfl) rfl
/-! java/util/LinkedList$ListItr -/
set_option maxRecDepth 100000
def RJ21 : String := "java/util/LinkedList$ListItr"
def TJ21 : u_T := fun k => match k with
  | 0 => ("java/util/LinkedList$ListItr", "lastReturned", "Ljava/util/LinkedList$Node;", false)
  | 1 => ("java/util/LinkedList$ListItr", "next", "Ljava/util/LinkedList$Node;", false)
  | 2 => ("java/util/LinkedList$ListItr", "nextIndex", "I", false)
  | 3 => ("java/util/LinkedList$ListItr", "expectedModCount", "I", false)
  | _ => ("java/util/LinkedList$ListItr", "this$0", "Ljava/util/LinkedList;", true)
def tyJ21 : Nat → FieldType := fun k => match k with
  | 0 => .object "java/util/LinkedList$Node"
  | 1 => .object "java/util/LinkedList$Node"
  | 2 => .int
  | 3 => .int
  | _ => .object "java/util/LinkedList"
abbrev wsJ210 : List Cond := u_ws RJ21 TJ21 5
theorem nmJ21 : ∀ a, a < 5 → ∀ b, b < 5 → a ≠ b → (TJ21 a).2.1 ≠ (TJ21 b).2.1 := by decide +kernel
theorem tyJ21_ok : ∀ k, k < 5 → parseFieldDescriptor (TJ21 k).2.2.1 = some (tyJ21 k) := by decide +kernel
abbrev cJ21_init : ByteArray := prog_79_method_1_code
def yJ21_init : MethodName := ⟨RJ21, "<init>", "(Ljava/util/LinkedList;I)V"⟩
def dkwJ21_init_1 : List UInt8 := [180, 0, 22, 160, 0, 7, 1, 167, 0, 8, 43, 28, 182, 0, 25, 181, 0, 29, 42, 28, 181, 0, 33, 177]
abbrev dktJ21_init_1 : List UInt8 := dkwJ21_init_1 ++ []
def dkwJ21_init_0 : List UInt8 := [42, 43, 181, 0, 1, 42, 183, 0, 7, 42, 42, 180, 0, 1, 180, 0, 13, 181, 0, 19, 42, 28, 43]
abbrev dktJ21_init_0 : List UInt8 := dkwJ21_init_0 ++ dktJ21_init_1
theorem dksJ21_init_0 : cJ21_init.data.toList.drop 0 = dktJ21_init_0 := by decide +kernel
theorem dksJ21_init_1 : cJ21_init.data.toList.drop 23 = dktJ21_init_1 := dk_seg dksJ21_init_0 23 rfl rfl
theorem dJ21_init_0 : decode cJ21_init 0 = .ok (.aload_n 0, 1) := dk_42 (dk_at dksJ21_init_0 0 rfl rfl)
theorem dJ21_init_1 : decode cJ21_init 1 = .ok (.aload_n 1, 1) := dk_43 (dk_at dksJ21_init_0 1 rfl rfl)
theorem dJ21_init_2 : decode cJ21_init 2 = .ok (.putfield 1, 3) := dk_181 0 1 (dk_at dksJ21_init_0 2 rfl rfl)
theorem dJ21_init_5 : decode cJ21_init 5 = .ok (.aload_n 0, 1) := dk_42 (dk_at dksJ21_init_0 5 rfl rfl)
theorem dJ21_init_6 : decode cJ21_init 6 = .ok (.invokespecial 7, 3) := dk_183 0 7 (dk_at dksJ21_init_0 6 rfl rfl)
theorem dJ21_init_9 : decode cJ21_init 9 = .ok (.aload_n 0, 1) := dk_42 (dk_at dksJ21_init_0 9 rfl rfl)
theorem dJ21_init_10 : decode cJ21_init 10 = .ok (.aload_n 0, 1) := dk_42 (dk_at dksJ21_init_0 10 rfl rfl)
theorem dJ21_init_11 : decode cJ21_init 11 = .ok (.getfield 1, 3) := dk_180 0 1 (dk_at dksJ21_init_0 11 rfl rfl)
theorem dJ21_init_14 : decode cJ21_init 14 = .ok (.getfield 13, 3) := dk_180 0 13 (dk_at dksJ21_init_0 14 rfl rfl)
theorem dJ21_init_17 : decode cJ21_init 17 = .ok (.putfield 19, 3) := dk_181 0 19 (dk_at dksJ21_init_0 17 rfl rfl)
theorem dJ21_init_20 : decode cJ21_init 20 = .ok (.aload_n 0, 1) := dk_42 (dk_at dksJ21_init_0 20 rfl rfl)
theorem dJ21_init_21 : decode cJ21_init 21 = .ok (.iload_n 2, 1) := dk_28 (dk_at dksJ21_init_0 21 rfl rfl)
theorem dJ21_init_22 : decode cJ21_init 22 = .ok (.aload_n 1, 1) := dk_43 (dk_at dksJ21_init_0 22 rfl rfl)
theorem dJ21_init_23 : decode cJ21_init 23 = .ok (.getfield 22, 3) := dk_180 0 22 (dk_at dksJ21_init_1 0 rfl rfl)
theorem dJ21_init_26 : decode cJ21_init 26 = .ok (.if_icmp .ne 7, 3) := dk_160 0 7 (dk_at dksJ21_init_1 3 rfl rfl)
theorem dJ21_init_29 : decode cJ21_init 29 = .ok (.aconst_null, 1) := dk_1 (dk_at dksJ21_init_1 6 rfl rfl)
theorem dJ21_init_30 : decode cJ21_init 30 = .ok (.goto 8, 3) := dk_167 0 8 (dk_at dksJ21_init_1 7 rfl rfl)
theorem dJ21_init_33 : decode cJ21_init 33 = .ok (.aload_n 1, 1) := dk_43 (dk_at dksJ21_init_1 10 rfl rfl)
theorem dJ21_init_34 : decode cJ21_init 34 = .ok (.iload_n 2, 1) := dk_28 (dk_at dksJ21_init_1 11 rfl rfl)
theorem dJ21_init_35 : decode cJ21_init 35 = .ok (.invokevirtual 25, 3) := dk_182 0 25 (dk_at dksJ21_init_1 12 rfl rfl)
theorem dJ21_init_38 : decode cJ21_init 38 = .ok (.putfield 29, 3) := dk_181 0 29 (dk_at dksJ21_init_1 15 rfl rfl)
theorem dJ21_init_41 : decode cJ21_init 41 = .ok (.aload_n 0, 1) := dk_42 (dk_at dksJ21_init_1 18 rfl rfl)
theorem dJ21_init_42 : decode cJ21_init 42 = .ok (.iload_n 2, 1) := dk_28 (dk_at dksJ21_init_1 19 rfl rfl)
theorem dJ21_init_43 : decode cJ21_init 43 = .ok (.putfield 33, 3) := dk_181 0 33 (dk_at dksJ21_init_1 20 rfl rfl)
theorem dJ21_init_46 : decode cJ21_init 46 = .ok (.return_, 1) := dk_177 (dk_at dksJ21_init_1 23 rfl rfl)
abbrev cJ21_hasNext : ByteArray := prog_79_method_2_code
def yJ21_hasNext : MethodName := ⟨RJ21, "hasNext", "()Z"⟩
def dkwJ21_hasNext_0 : List UInt8 := [42, 180, 0, 33, 42, 180, 0, 1, 180, 0, 22, 162, 0, 7, 4, 167, 0, 4, 3, 172]
abbrev dktJ21_hasNext_0 : List UInt8 := dkwJ21_hasNext_0 ++ []
theorem dksJ21_hasNext_0 : cJ21_hasNext.data.toList.drop 0 = dktJ21_hasNext_0 := by decide +kernel
theorem dJ21_hasNext_0 : decode cJ21_hasNext 0 = .ok (.aload_n 0, 1) := dk_42 (dk_at dksJ21_hasNext_0 0 rfl rfl)
theorem dJ21_hasNext_1 : decode cJ21_hasNext 1 = .ok (.getfield 33, 3) := dk_180 0 33 (dk_at dksJ21_hasNext_0 1 rfl rfl)
theorem dJ21_hasNext_4 : decode cJ21_hasNext 4 = .ok (.aload_n 0, 1) := dk_42 (dk_at dksJ21_hasNext_0 4 rfl rfl)
theorem dJ21_hasNext_5 : decode cJ21_hasNext 5 = .ok (.getfield 1, 3) := dk_180 0 1 (dk_at dksJ21_hasNext_0 5 rfl rfl)
theorem dJ21_hasNext_8 : decode cJ21_hasNext 8 = .ok (.getfield 22, 3) := dk_180 0 22 (dk_at dksJ21_hasNext_0 8 rfl rfl)
theorem dJ21_hasNext_11 : decode cJ21_hasNext 11 = .ok (.if_icmp .ge 7, 3) := dk_162 0 7 (dk_at dksJ21_hasNext_0 11 rfl rfl)
theorem dJ21_hasNext_14 : decode cJ21_hasNext 14 = .ok (.iconst 1, 1) := dk_4 (dk_at dksJ21_hasNext_0 14 rfl rfl)
theorem dJ21_hasNext_15 : decode cJ21_hasNext 15 = .ok (.goto 4, 3) := dk_167 0 4 (dk_at dksJ21_hasNext_0 15 rfl rfl)
theorem dJ21_hasNext_18 : decode cJ21_hasNext 18 = .ok (.iconst 0, 1) := dk_3 (dk_at dksJ21_hasNext_0 18 rfl rfl)
theorem dJ21_hasNext_19 : decode cJ21_hasNext 19 = .ok (.ireturn, 1) := dk_172 (dk_at dksJ21_hasNext_0 19 rfl rfl)
abbrev cJ21_next : ByteArray := prog_79_method_3_code
def yJ21_next : MethodName := ⟨RJ21, "next", "()Ljava/lang/Object;"⟩
def dkwJ21_next_2 : List UInt8 := [42, 180, 0, 46, 180, 0, 52, 176]
abbrev dktJ21_next_2 : List UInt8 := dkwJ21_next_2 ++ []
def dkwJ21_next_1 : List UInt8 := [181, 0, 46, 42, 42, 180, 0, 29, 180, 0, 49, 181, 0, 29, 42, 89, 180, 0, 33, 4, 96, 181, 0, 33]
abbrev dktJ21_next_1 : List UInt8 := dkwJ21_next_1 ++ dktJ21_next_2
def dkwJ21_next_0 : List UInt8 := [42, 182, 0, 36, 42, 182, 0, 39, 154, 0, 11, 187, 0, 43, 89, 183, 0, 45, 191, 42, 42, 180, 0, 29]
abbrev dktJ21_next_0 : List UInt8 := dkwJ21_next_0 ++ dktJ21_next_1
theorem dksJ21_next_0 : cJ21_next.data.toList.drop 0 = dktJ21_next_0 := by decide +kernel
theorem dksJ21_next_1 : cJ21_next.data.toList.drop 24 = dktJ21_next_1 := dk_seg dksJ21_next_0 24 rfl rfl
theorem dksJ21_next_2 : cJ21_next.data.toList.drop 48 = dktJ21_next_2 := dk_seg dksJ21_next_1 24 rfl rfl
theorem dJ21_next_0 : decode cJ21_next 0 = .ok (.aload_n 0, 1) := dk_42 (dk_at dksJ21_next_0 0 rfl rfl)
theorem dJ21_next_1 : decode cJ21_next 1 = .ok (.invokevirtual 36, 3) := dk_182 0 36 (dk_at dksJ21_next_0 1 rfl rfl)
theorem dJ21_next_4 : decode cJ21_next 4 = .ok (.aload_n 0, 1) := dk_42 (dk_at dksJ21_next_0 4 rfl rfl)
theorem dJ21_next_5 : decode cJ21_next 5 = .ok (.invokevirtual 39, 3) := dk_182 0 39 (dk_at dksJ21_next_0 5 rfl rfl)
theorem dJ21_next_8 : decode cJ21_next 8 = .ok (.ifCond .ne 11, 3) := dk_154 0 11 (dk_at dksJ21_next_0 8 rfl rfl)
theorem dJ21_next_11 : decode cJ21_next 11 = .ok (.new 43, 3) := dk_187 0 43 (dk_at dksJ21_next_0 11 rfl rfl)
theorem dJ21_next_14 : decode cJ21_next 14 = .ok (.dup, 1) := dk_89 (dk_at dksJ21_next_0 14 rfl rfl)
theorem dJ21_next_15 : decode cJ21_next 15 = .ok (.invokespecial 45, 3) := dk_183 0 45 (dk_at dksJ21_next_0 15 rfl rfl)
theorem dJ21_next_18 : decode cJ21_next 18 = .ok (.athrow, 1) := dk_191 (dk_at dksJ21_next_0 18 rfl rfl)
theorem dJ21_next_19 : decode cJ21_next 19 = .ok (.aload_n 0, 1) := dk_42 (dk_at dksJ21_next_0 19 rfl rfl)
theorem dJ21_next_20 : decode cJ21_next 20 = .ok (.aload_n 0, 1) := dk_42 (dk_at dksJ21_next_0 20 rfl rfl)
theorem dJ21_next_21 : decode cJ21_next 21 = .ok (.getfield 29, 3) := dk_180 0 29 (dk_at dksJ21_next_0 21 rfl rfl)
theorem dJ21_next_24 : decode cJ21_next 24 = .ok (.putfield 46, 3) := dk_181 0 46 (dk_at dksJ21_next_1 0 rfl rfl)
theorem dJ21_next_27 : decode cJ21_next 27 = .ok (.aload_n 0, 1) := dk_42 (dk_at dksJ21_next_1 3 rfl rfl)
theorem dJ21_next_28 : decode cJ21_next 28 = .ok (.aload_n 0, 1) := dk_42 (dk_at dksJ21_next_1 4 rfl rfl)
theorem dJ21_next_29 : decode cJ21_next 29 = .ok (.getfield 29, 3) := dk_180 0 29 (dk_at dksJ21_next_1 5 rfl rfl)
theorem dJ21_next_32 : decode cJ21_next 32 = .ok (.getfield 49, 3) := dk_180 0 49 (dk_at dksJ21_next_1 8 rfl rfl)
theorem dJ21_next_35 : decode cJ21_next 35 = .ok (.putfield 29, 3) := dk_181 0 29 (dk_at dksJ21_next_1 11 rfl rfl)
theorem dJ21_next_38 : decode cJ21_next 38 = .ok (.aload_n 0, 1) := dk_42 (dk_at dksJ21_next_1 14 rfl rfl)
theorem dJ21_next_39 : decode cJ21_next 39 = .ok (.dup, 1) := dk_89 (dk_at dksJ21_next_1 15 rfl rfl)
theorem dJ21_next_40 : decode cJ21_next 40 = .ok (.getfield 33, 3) := dk_180 0 33 (dk_at dksJ21_next_1 16 rfl rfl)
theorem dJ21_next_43 : decode cJ21_next 43 = .ok (.iconst 1, 1) := dk_4 (dk_at dksJ21_next_1 19 rfl rfl)
theorem dJ21_next_44 : decode cJ21_next 44 = .ok (.iadd, 1) := dk_96 (dk_at dksJ21_next_1 20 rfl rfl)
theorem dJ21_next_45 : decode cJ21_next 45 = .ok (.putfield 33, 3) := dk_181 0 33 (dk_at dksJ21_next_1 21 rfl rfl)
theorem dJ21_next_48 : decode cJ21_next 48 = .ok (.aload_n 0, 1) := dk_42 (dk_at dksJ21_next_2 0 rfl rfl)
theorem dJ21_next_49 : decode cJ21_next 49 = .ok (.getfield 46, 3) := dk_180 0 46 (dk_at dksJ21_next_2 1 rfl rfl)
theorem dJ21_next_52 : decode cJ21_next 52 = .ok (.getfield 52, 3) := dk_180 0 52 (dk_at dksJ21_next_2 4 rfl rfl)
theorem dJ21_next_55 : decode cJ21_next 55 = .ok (.areturn, 1) := dk_176 (dk_at dksJ21_next_2 7 rfl rfl)
abbrev cJ21_checkForComodification : ByteArray := prog_79_method_12_code
def yJ21_checkForComodification : MethodName := ⟨RJ21, "checkForComodification", "()V"⟩
def dkwJ21_checkForComodification_0 : List UInt8 := [42, 180, 0, 1, 180, 0, 13, 42, 180, 0, 19, 159, 0, 11, 187, 0, 91, 89, 183, 0, 93, 191, 177]
abbrev dktJ21_checkForComodification_0 : List UInt8 := dkwJ21_checkForComodification_0 ++ []
theorem dksJ21_checkForComodification_0 : cJ21_checkForComodification.data.toList.drop 0 = dktJ21_checkForComodification_0 := by decide +kernel
theorem dJ21_checkForComodification_0 : decode cJ21_checkForComodification 0 = .ok (.aload_n 0, 1) := dk_42 (dk_at dksJ21_checkForComodification_0 0 rfl rfl)
theorem dJ21_checkForComodification_1 : decode cJ21_checkForComodification 1 = .ok (.getfield 1, 3) := dk_180 0 1 (dk_at dksJ21_checkForComodification_0 1 rfl rfl)
theorem dJ21_checkForComodification_4 : decode cJ21_checkForComodification 4 = .ok (.getfield 13, 3) := dk_180 0 13 (dk_at dksJ21_checkForComodification_0 4 rfl rfl)
theorem dJ21_checkForComodification_7 : decode cJ21_checkForComodification 7 = .ok (.aload_n 0, 1) := dk_42 (dk_at dksJ21_checkForComodification_0 7 rfl rfl)
theorem dJ21_checkForComodification_8 : decode cJ21_checkForComodification 8 = .ok (.getfield 19, 3) := dk_180 0 19 (dk_at dksJ21_checkForComodification_0 8 rfl rfl)
theorem dJ21_checkForComodification_11 : decode cJ21_checkForComodification 11 = .ok (.if_icmp .eq 11, 3) := dk_159 0 11 (dk_at dksJ21_checkForComodification_0 11 rfl rfl)
theorem dJ21_checkForComodification_14 : decode cJ21_checkForComodification 14 = .ok (.new 91, 3) := dk_187 0 91 (dk_at dksJ21_checkForComodification_0 14 rfl rfl)
theorem dJ21_checkForComodification_17 : decode cJ21_checkForComodification 17 = .ok (.dup, 1) := dk_89 (dk_at dksJ21_checkForComodification_0 17 rfl rfl)
theorem dJ21_checkForComodification_18 : decode cJ21_checkForComodification 18 = .ok (.invokespecial 93, 3) := dk_183 0 93 (dk_at dksJ21_checkForComodification_0 18 rfl rfl)
theorem dJ21_checkForComodification_21 : decode cJ21_checkForComodification 21 = .ok (.athrow, 1) := dk_191 (dk_at dksJ21_checkForComodification_0 21 rfl rfl)
theorem dJ21_checkForComodification_22 : decode cJ21_checkForComodification 22 = .ok (.return_, 1) := dk_177 (dk_at dksJ21_checkForComodification_0 22 rfl rfl)
theorem q159 : (Jvm.Cond.initialized "java/util/LinkedList$ListItr") ∈ lw_all := lw_g (lw_at lw_m1 29 rfl) rfl
theorem q888 : (Jvm.Cond.selects "java/util/LinkedList$ListItr" ({ cls := "java/lang/Object", name := "getClass", desc := "()Ljava/lang/Class;" } : Jvm.MethodName) ({ cls := "java/lang/Object", name := "getClass", desc := "()Ljava/lang/Class;" } : Jvm.MethodName)) ∈ lw_all := lw_g (lw_at lw_m4 38 rfl) rfl
theorem q1004 : (Jvm.Cond.instantiable "java/util/LinkedList$ListItr" (5 : Nat)) ∈ lw_all := lw_g (lw_at lw_m4 154 rfl) rfl
theorem q1006 : (Jvm.Cond.instanceMethod ({ cls := "java/util/LinkedList$ListItr", name := "<init>", desc := "(Ljava/util/LinkedList;I)V" } : Jvm.MethodName)) ∈ lw_all := lw_g (lw_at lw_m4 156 rfl) rfl
theorem q1007 : (Jvm.Cond.code ({ cls := "java/util/LinkedList$ListItr", name := "<init>", desc := "(Ljava/util/LinkedList;I)V" } : Jvm.MethodName) prog_79_method_1_code (3 : Nat) (Option.none : Option Jvm.ClassFile.FieldType)) ∈ lw_all := lw_g (lw_at lw_m4 157 rfl) rfl
theorem q1008 : (Jvm.Cond.methodLink "java/util/LinkedList$ListItr" (7 : Nat) ({ cls := "java/lang/Object", name := "<init>", desc := "()V" } : Jvm.MethodName)) ∈ lw_all := lw_g (lw_at lw_m4 158 rfl) rfl
theorem q1009 : (Jvm.Cond.methodLink "java/util/LinkedList$ListItr" (25 : Nat) ({ cls := "java/util/LinkedList", name := "node", desc := "(I)Ljava/util/LinkedList$Node;" } : Jvm.MethodName)) ∈ lw_all := lw_g (lw_at lw_m4 159 rfl) rfl
theorem q1013 : (Jvm.Cond.fieldLink "java/util/LinkedList$ListItr" (46 : Nat) "java/util/LinkedList$ListItr" "lastReturned" "Ljava/util/LinkedList$Node;") ∈ lw_all := lw_g (lw_at lw_m4 163 rfl) rfl
theorem q1014 : (Jvm.Cond.fieldLink "java/util/LinkedList$ListItr" (29 : Nat) "java/util/LinkedList$ListItr" "next" "Ljava/util/LinkedList$Node;") ∈ lw_all := lw_g (lw_at lw_m4 164 rfl) rfl
theorem q1015 : (Jvm.Cond.fieldLink "java/util/LinkedList$ListItr" (33 : Nat) "java/util/LinkedList$ListItr" "nextIndex" "I") ∈ lw_all := lw_g (lw_at lw_m4 165 rfl) rfl
theorem q1016 : (Jvm.Cond.fieldLink "java/util/LinkedList$ListItr" (19 : Nat) "java/util/LinkedList$ListItr" "expectedModCount" "I") ∈ lw_all := lw_g (lw_at lw_m4 166 rfl) rfl
theorem q1017 : (Jvm.Cond.fieldLink "java/util/LinkedList$ListItr" (1 : Nat) "java/util/LinkedList$ListItr" "this$0" "Ljava/util/LinkedList;") ∈ lw_all := lw_g (lw_at lw_m4 167 rfl) rfl
theorem q1018 : (Jvm.Cond.lays "java/util/LinkedList$ListItr" "java/util/LinkedList$ListItr" "lastReturned" "Ljava/util/LinkedList$Node;") ∈ lw_all := lw_g (lw_at lw_m4 168 rfl) rfl
theorem q1019 : (Jvm.Cond.soleField "java/util/LinkedList$ListItr" "lastReturned") ∈ lw_all := lw_g (lw_at lw_m4 169 rfl) rfl
theorem q1020 : (Jvm.Cond.lays "java/util/LinkedList$ListItr" "java/util/LinkedList$ListItr" "next" "Ljava/util/LinkedList$Node;") ∈ lw_all := lw_g (lw_at lw_m4 170 rfl) rfl
theorem q1021 : (Jvm.Cond.soleField "java/util/LinkedList$ListItr" "next") ∈ lw_all := lw_g (lw_at lw_m4 171 rfl) rfl
theorem q1022 : (Jvm.Cond.lays "java/util/LinkedList$ListItr" "java/util/LinkedList$ListItr" "nextIndex" "I") ∈ lw_all := lw_g (lw_at lw_m4 172 rfl) rfl
theorem q1023 : (Jvm.Cond.soleField "java/util/LinkedList$ListItr" "nextIndex") ∈ lw_all := lw_g (lw_at lw_m4 173 rfl) rfl
theorem q1024 : (Jvm.Cond.lays "java/util/LinkedList$ListItr" "java/util/LinkedList$ListItr" "expectedModCount" "I") ∈ lw_all := lw_g (lw_at lw_m4 174 rfl) rfl
theorem q1025 : (Jvm.Cond.soleField "java/util/LinkedList$ListItr" "expectedModCount") ∈ lw_all := lw_g (lw_at lw_m4 175 rfl) rfl
theorem q1026 : (Jvm.Cond.laysFinal "java/util/LinkedList$ListItr" "java/util/LinkedList$ListItr" "this$0" "Ljava/util/LinkedList;") ∈ lw_all := lw_g (lw_at lw_m4 176 rfl) rfl
theorem q1027 : (Jvm.Cond.soleField "java/util/LinkedList$ListItr" "this$0") ∈ lw_all := lw_g (lw_at lw_m4 177 rfl) rfl
theorem q1028 : (Jvm.Cond.superclass "java/util/LinkedList$ListItr" "java/lang/Object") ∈ lw_all := lw_g (lw_at lw_m4 178 rfl) rfl
theorem q1046 : (Jvm.Cond.castable "java/util/LinkedList$ListItr" "java/util/Iterator") ∈ lw_tbl := lw_at lw_m4 196 rfl
theorem q1047 : (Jvm.Cond.selects "java/util/LinkedList$ListItr" ({ cls := "java/util/Iterator", name := "hasNext", desc := "()Z" } : Jvm.MethodName) ({ cls := "java/util/LinkedList$ListItr", name := "hasNext", desc := "()Z" } : Jvm.MethodName)) ∈ lw_all := lw_g (lw_at lw_m4 197 rfl) rfl
theorem q1048 : (Jvm.Cond.unhidden "java/util/LinkedList$ListItr" "hasNext" "()Z") ∈ lw_tbl := lw_at lw_m4 198 rfl
theorem q1049 : (Jvm.Cond.instanceMethod ({ cls := "java/util/LinkedList$ListItr", name := "hasNext", desc := "()Z" } : Jvm.MethodName)) ∈ lw_all := lw_g (lw_at lw_m4 199 rfl) rfl
theorem q1050 : (Jvm.Cond.publicMethod ({ cls := "java/util/LinkedList$ListItr", name := "hasNext", desc := "()Z" } : Jvm.MethodName)) ∈ lw_tbl := lw_at lw_m4 200 rfl
theorem q1051 : (Jvm.Cond.code ({ cls := "java/util/LinkedList$ListItr", name := "hasNext", desc := "()Z" } : Jvm.MethodName) prog_79_method_2_code (1 : Nat) (Option.some Jvm.ClassFile.FieldType.boolean)) ∈ lw_all := lw_g (lw_at lw_m4 201 rfl) rfl
theorem q1146 : (Jvm.Cond.selects "java/util/LinkedList$ListItr" ({ cls := "java/util/Iterator", name := "next", desc := "()Ljava/lang/Object;" } : Jvm.MethodName) ({ cls := "java/util/LinkedList$ListItr", name := "next", desc := "()Ljava/lang/Object;" } : Jvm.MethodName)) ∈ lw_all := lw_g (lw_at lw_m5 56 rfl) rfl
theorem q1147 : (Jvm.Cond.unhidden "java/util/LinkedList$ListItr" "next" "()Ljava/lang/Object;") ∈ lw_tbl := lw_at lw_m5 57 rfl
theorem q1148 : (Jvm.Cond.instanceMethod ({ cls := "java/util/LinkedList$ListItr", name := "next", desc := "()Ljava/lang/Object;" } : Jvm.MethodName)) ∈ lw_all := lw_g (lw_at lw_m5 58 rfl) rfl
theorem q1149 : (Jvm.Cond.publicMethod ({ cls := "java/util/LinkedList$ListItr", name := "next", desc := "()Ljava/lang/Object;" } : Jvm.MethodName)) ∈ lw_tbl := lw_at lw_m5 59 rfl
theorem q1150 : (Jvm.Cond.code ({ cls := "java/util/LinkedList$ListItr", name := "next", desc := "()Ljava/lang/Object;" } : Jvm.MethodName) prog_79_method_3_code (1 : Nat) (Option.some (Jvm.ClassFile.FieldType.object "java/lang/Object"))) ∈ lw_all := lw_g (lw_at lw_m5 60 rfl) rfl
theorem q1151 : (Jvm.Cond.methodLink "java/util/LinkedList$ListItr" (36 : Nat) ({ cls := "java/util/LinkedList$ListItr", name := "checkForComodification", desc := "()V" } : Jvm.MethodName)) ∈ lw_all := lw_g (lw_at lw_m5 61 rfl) rfl
theorem q1152 : (Jvm.Cond.instanceMethod ({ cls := "java/util/LinkedList$ListItr", name := "checkForComodification", desc := "()V" } : Jvm.MethodName)) ∈ lw_all := lw_g (lw_at lw_m5 62 rfl) rfl
theorem q1153 : (Jvm.Cond.selects "java/util/LinkedList$ListItr" ({ cls := "java/util/LinkedList$ListItr", name := "checkForComodification", desc := "()V" } : Jvm.MethodName) ({ cls := "java/util/LinkedList$ListItr", name := "checkForComodification", desc := "()V" } : Jvm.MethodName)) ∈ lw_all := lw_g (lw_at lw_m5 63 rfl) rfl
theorem q1154 : (Jvm.Cond.code ({ cls := "java/util/LinkedList$ListItr", name := "checkForComodification", desc := "()V" } : Jvm.MethodName) prog_79_method_12_code (1 : Nat) (Option.none : Option Jvm.ClassFile.FieldType)) ∈ lw_all := lw_g (lw_at lw_m5 64 rfl) rfl
theorem q1155 : (Jvm.Cond.methodLink "java/util/LinkedList$ListItr" (39 : Nat) ({ cls := "java/util/LinkedList$ListItr", name := "hasNext", desc := "()Z" } : Jvm.MethodName)) ∈ lw_all := lw_g (lw_at lw_m5 65 rfl) rfl
theorem q1341 : (Jvm.Cond.fieldLink "java/util/LinkedList$ListItr" (22 : Nat) "java/util/LinkedList" "size" "I") ∈ lw_all := lw_g (lw_at lw_m6 11 rfl) rfl
theorem q1345 : (Jvm.Cond.fieldLink "java/util/LinkedList$ListItr" (13 : Nat) "java/util/LinkedList" "modCount" "I") ∈ lw_all := lw_g (lw_at lw_m6 15 rfl) rfl
theorem q1663 : (Jvm.Cond.fieldLink "java/util/LinkedList$ListItr" (52 : Nat) "java/util/LinkedList$Node" "item" "Ljava/lang/Object;") ∈ lw_all := lw_g (lw_at lw_m7 93 rfl) rfl
theorem q1666 : (Jvm.Cond.fieldLink "java/util/LinkedList$ListItr" (49 : Nat) "java/util/LinkedList$Node" "next" "Ljava/util/LinkedList$Node;") ∈ lw_all := lw_g (lw_at lw_m7 96 rfl) rfl
theorem q3355 : (Jvm.Cond.selects "java/util/LinkedList$ListItr" ({ cls := "java/util/LinkedList$ListItr", name := "hasNext", desc := "()Z" } : Jvm.MethodName) ({ cls := "java/util/LinkedList$ListItr", name := "hasNext", desc := "()Z" } : Jvm.MethodName)) ∈ lw_all := lw_g (lw_at lw_m14 105 rfl) rfl
theorem q3434 : (Jvm.Cond.castable "java/util/LinkedList$ListItr" "java/lang/Object") ∈ lw_tbl := lw_at lw_m14 184 rfl
theorem in_J21 : ∀ w ∈ wsJ210, w ∈ lw_all := lw_in wsJ210 [1018, 1020, 1022, 1024, 1026] (by decide +kernel) (by decide +kernel)
/-! java/util/NoSuchElementException -/
set_option maxRecDepth 100000
def RJ22 : String := "java/util/NoSuchElementException"
def TJ22 : u_T := fun k => match k with
  | 0 => ("java/lang/Throwable", "cause", "Ljava/lang/Throwable;", false)
  | 1 => ("java/lang/Throwable", "stackTrace", "[Ljava/lang/StackTraceElement;", false)
  | 2 => ("java/lang/Throwable", "suppressedExceptions", "Ljava/util/List;", false)
  | 3 => ("java/lang/Throwable", "detailMessage", "Ljava/lang/String;", false)
  | 4 => ("java/lang/Throwable", "backtrace", "Ljava/lang/Object;", false)
  | _ => ("java/lang/Throwable", "depth", "I", false)
def tyJ22 : Nat → FieldType := fun k => match k with
  | 0 => .object "java/lang/Throwable"
  | 1 => .array (.object "java/lang/StackTraceElement")
  | 2 => .object "java/util/List"
  | 3 => .object "java/lang/String"
  | 4 => .object "java/lang/Object"
  | _ => .int
abbrev wsJ220 : List Cond := u_ws RJ22 TJ22 6
theorem nmJ22 : ∀ a, a < 6 → ∀ b, b < 6 → a ≠ b → (TJ22 a).2.1 ≠ (TJ22 b).2.1 := by decide +kernel
theorem tyJ22_ok : ∀ k, k < 6 → parseFieldDescriptor (TJ22 k).2.2.1 = some (tyJ22 k) := by decide +kernel
abbrev cJ22_init : ByteArray := prog_83_method_3_code
def yJ22_init : MethodName := ⟨RJ22, "<init>", "(Ljava/lang/Throwable;)V"⟩
def dkwJ22_init_0 : List UInt8 := [42, 43, 183, 0, 10, 177]
abbrev dktJ22_init_0 : List UInt8 := dkwJ22_init_0 ++ []
theorem dksJ22_init_0 : cJ22_init.data.toList.drop 0 = dktJ22_init_0 := by decide +kernel
theorem dJ22_init_0 : decode cJ22_init 0 = .ok (.aload_n 0, 1) := dk_42 (dk_at dksJ22_init_0 0 rfl rfl)
theorem dJ22_init_1 : decode cJ22_init 1 = .ok (.aload_n 1, 1) := dk_43 (dk_at dksJ22_init_0 1 rfl rfl)
theorem dJ22_init_2 : decode cJ22_init 2 = .ok (.invokespecial 10, 3) := dk_183 0 10 (dk_at dksJ22_init_0 2 rfl rfl)
theorem dJ22_init_5 : decode cJ22_init 5 = .ok (.return_, 1) := dk_177 (dk_at dksJ22_init_0 5 rfl rfl)
theorem q160 : (Jvm.Cond.initialized "java/util/NoSuchElementException") ∈ lw_all := lw_g (lw_at lw_m1 30 rfl) rfl
theorem q324 : (Jvm.Cond.selects "java/util/NoSuchElementException" ({ cls := "java/lang/Throwable", name := "fillInStackTrace", desc := "()Ljava/lang/Throwable;" } : Jvm.MethodName) ({ cls := "java/lang/Throwable", name := "fillInStackTrace", desc := "()Ljava/lang/Throwable;" } : Jvm.MethodName)) ∈ lw_all := lw_g (lw_at lw_m1 194 rfl) rfl
theorem q890 : (Jvm.Cond.selects "java/util/NoSuchElementException" ({ cls := "java/lang/Object", name := "getClass", desc := "()Ljava/lang/Class;" } : Jvm.MethodName) ({ cls := "java/lang/Object", name := "getClass", desc := "()Ljava/lang/Class;" } : Jvm.MethodName)) ∈ lw_all := lw_g (lw_at lw_m4 40 rfl) rfl
theorem q1082 : (Jvm.Cond.instantiable "java/util/NoSuchElementException" (6 : Nat)) ∈ lw_all := lw_g (lw_at lw_m4 232 rfl) rfl
theorem q1083 : (Jvm.Cond.castable "java/util/NoSuchElementException" "java/util/NoSuchElementException") ∈ lw_tbl := lw_at lw_m4 233 rfl
theorem q1084 : (Jvm.Cond.selects "java/util/NoSuchElementException" ({ cls := "java/lang/Throwable", name := "fillInStackTrace", desc := "(I)Ljava/lang/Throwable;" } : Jvm.MethodName) ({ cls := "java/lang/Throwable", name := "fillInStackTrace", desc := "(I)Ljava/lang/Throwable;" } : Jvm.MethodName)) ∈ lw_all := lw_g (lw_at lw_m4 234 rfl) rfl
theorem q1085 : (Jvm.Cond.lays "java/util/NoSuchElementException" "java/lang/Throwable" "cause" "Ljava/lang/Throwable;") ∈ lw_all := lw_g (lw_at lw_m4 235 rfl) rfl
theorem q1086 : (Jvm.Cond.lays "java/util/NoSuchElementException" "java/lang/Throwable" "stackTrace" "[Ljava/lang/StackTraceElement;") ∈ lw_all := lw_g (lw_at lw_m4 236 rfl) rfl
theorem q1087 : (Jvm.Cond.lays "java/util/NoSuchElementException" "java/lang/Throwable" "suppressedExceptions" "Ljava/util/List;") ∈ lw_all := lw_g (lw_at lw_m4 237 rfl) rfl
theorem q1088 : (Jvm.Cond.lays "java/util/NoSuchElementException" "java/lang/Throwable" "detailMessage" "Ljava/lang/String;") ∈ lw_all := lw_g (lw_at lw_m4 238 rfl) rfl
theorem q1089 : (Jvm.Cond.lays "java/util/NoSuchElementException" "java/lang/Throwable" "backtrace" "Ljava/lang/Object;") ∈ lw_all := lw_g (lw_at lw_m4 239 rfl) rfl
theorem q1091 : (Jvm.Cond.instanceMethod ({ cls := "java/util/NoSuchElementException", name := "<init>", desc := "(Ljava/lang/Throwable;)V" } : Jvm.MethodName)) ∈ lw_all := lw_g (lw_at lw_m5 1 rfl) rfl
theorem q1092 : (Jvm.Cond.code ({ cls := "java/util/NoSuchElementException", name := "<init>", desc := "(Ljava/lang/Throwable;)V" } : Jvm.MethodName) prog_83_method_3_code (2 : Nat) (Option.none : Option Jvm.ClassFile.FieldType)) ∈ lw_all := lw_g (lw_at lw_m5 2 rfl) rfl
theorem q1093 : (Jvm.Cond.methodLink "java/util/NoSuchElementException" (10 : Nat) ({ cls := "java/lang/RuntimeException", name := "<init>", desc := "(Ljava/lang/Throwable;)V" } : Jvm.MethodName)) ∈ lw_all := lw_g (lw_at lw_m5 3 rfl) rfl
theorem q1112 : (Jvm.Cond.selects "java/util/NoSuchElementException" ({ cls := "java/lang/Throwable", name := "toString", desc := "()Ljava/lang/String;" } : Jvm.MethodName) ({ cls := "java/lang/Throwable", name := "toString", desc := "()Ljava/lang/String;" } : Jvm.MethodName)) ∈ lw_all := lw_g (lw_at lw_m5 22 rfl) rfl
theorem q1125 : (Jvm.Cond.selects "java/util/NoSuchElementException" ({ cls := "java/lang/Throwable", name := "getLocalizedMessage", desc := "()Ljava/lang/String;" } : Jvm.MethodName) ({ cls := "java/lang/Throwable", name := "getLocalizedMessage", desc := "()Ljava/lang/String;" } : Jvm.MethodName)) ∈ lw_all := lw_g (lw_at lw_m5 35 rfl) rfl
theorem q1137 : (Jvm.Cond.selects "java/util/NoSuchElementException" ({ cls := "java/lang/Throwable", name := "getMessage", desc := "()Ljava/lang/String;" } : Jvm.MethodName) ({ cls := "java/lang/Throwable", name := "getMessage", desc := "()Ljava/lang/String;" } : Jvm.MethodName)) ∈ lw_all := lw_g (lw_at lw_m5 47 rfl) rfl
theorem q1144 : (Jvm.Cond.lays "java/util/NoSuchElementException" "java/lang/Throwable" "depth" "I") ∈ lw_all := lw_g (lw_at lw_m5 54 rfl) rfl
theorem q1145 : (Jvm.Cond.superclass "java/util/NoSuchElementException" "java/lang/RuntimeException") ∈ lw_all := lw_g (lw_at lw_m5 55 rfl) rfl
theorem q3405 : (Jvm.Cond.castable "java/util/NoSuchElementException" "java/lang/Object") ∈ lw_tbl := lw_at lw_m14 155 rfl
theorem in_J22 : ∀ w ∈ wsJ220, w ∈ lw_all := lw_in wsJ220 [1085, 1086, 1087, 1088, 1089, 1144] (by decide +kernel) (by decide +kernel)
/-! java/lang/Double -/
set_option maxRecDepth 100000
def RJ23 : String := "java/lang/Double"
abbrev cJ23_doubleToLongBits : ByteArray := prog_46_method_23_code
def yJ23_doubleToLongBits : MethodName := ⟨RJ23, "doubleToLongBits", "(D)J"⟩
def dkwJ23_doubleToLongBits_0 : List UInt8 := [38, 184, 0, 122, 154, 0, 8, 38, 184, 0, 134, 173, 20, 0, 137, 173]
abbrev dktJ23_doubleToLongBits_0 : List UInt8 := dkwJ23_doubleToLongBits_0 ++ []
theorem dksJ23_doubleToLongBits_0 : cJ23_doubleToLongBits.data.toList.drop 0 = dktJ23_doubleToLongBits_0 := by decide +kernel
theorem dJ23_doubleToLongBits_0 : decode cJ23_doubleToLongBits 0 = .ok (.dload_n 0, 1) := dk_38 (dk_at dksJ23_doubleToLongBits_0 0 rfl rfl)
theorem dJ23_doubleToLongBits_1 : decode cJ23_doubleToLongBits 1 = .ok (.invokestatic 122, 3) := dk_184 0 122 (dk_at dksJ23_doubleToLongBits_0 1 rfl rfl)
theorem dJ23_doubleToLongBits_4 : decode cJ23_doubleToLongBits 4 = .ok (.ifCond .ne 8, 3) := dk_154 0 8 (dk_at dksJ23_doubleToLongBits_0 4 rfl rfl)
theorem dJ23_doubleToLongBits_7 : decode cJ23_doubleToLongBits 7 = .ok (.dload_n 0, 1) := dk_38 (dk_at dksJ23_doubleToLongBits_0 7 rfl rfl)
theorem dJ23_doubleToLongBits_8 : decode cJ23_doubleToLongBits 8 = .ok (.invokestatic 134, 3) := dk_184 0 134 (dk_at dksJ23_doubleToLongBits_0 8 rfl rfl)
theorem dJ23_doubleToLongBits_11 : decode cJ23_doubleToLongBits 11 = .ok (.lreturn, 1) := dk_173 (dk_at dksJ23_doubleToLongBits_0 11 rfl rfl)
theorem dJ23_doubleToLongBits_12 : decode cJ23_doubleToLongBits 12 = .ok (.ldc2_w 137, 3) := dk_20 0 137 (dk_at dksJ23_doubleToLongBits_0 12 rfl rfl)
theorem dJ23_doubleToLongBits_15 : decode cJ23_doubleToLongBits 15 = .ok (.lreturn, 1) := dk_173 (dk_at dksJ23_doubleToLongBits_0 15 rfl rfl)
abbrev cJ23_isNaN : ByteArray := prog_46_method_6_code
def yJ23_isNaN : MethodName := ⟨RJ23, "isNaN", "(D)Z"⟩
def dkwJ23_isNaN_0 : List UInt8 := [38, 38, 151, 153, 0, 7, 4, 167, 0, 4, 3, 172]
abbrev dktJ23_isNaN_0 : List UInt8 := dkwJ23_isNaN_0 ++ []
theorem dksJ23_isNaN_0 : cJ23_isNaN.data.toList.drop 0 = dktJ23_isNaN_0 := by decide +kernel
theorem dJ23_isNaN_0 : decode cJ23_isNaN 0 = .ok (.dload_n 0, 1) := dk_38 (dk_at dksJ23_isNaN_0 0 rfl rfl)
theorem dJ23_isNaN_1 : decode cJ23_isNaN 1 = .ok (.dload_n 0, 1) := dk_38 (dk_at dksJ23_isNaN_0 1 rfl rfl)
theorem dJ23_isNaN_2 : decode cJ23_isNaN 2 = .ok (.dcmp .l, 1) := dk_151 (dk_at dksJ23_isNaN_0 2 rfl rfl)
theorem dJ23_isNaN_3 : decode cJ23_isNaN 3 = .ok (.ifCond .eq 7, 3) := dk_153 0 7 (dk_at dksJ23_isNaN_0 3 rfl rfl)
theorem dJ23_isNaN_6 : decode cJ23_isNaN 6 = .ok (.iconst 1, 1) := dk_4 (dk_at dksJ23_isNaN_0 6 rfl rfl)
theorem dJ23_isNaN_7 : decode cJ23_isNaN 7 = .ok (.goto 4, 3) := dk_167 0 4 (dk_at dksJ23_isNaN_0 7 rfl rfl)
theorem dJ23_isNaN_10 : decode cJ23_isNaN 10 = .ok (.iconst 0, 1) := dk_3 (dk_at dksJ23_isNaN_0 10 rfl rfl)
theorem dJ23_isNaN_11 : decode cJ23_isNaN 11 = .ok (.ireturn, 1) := dk_172 (dk_at dksJ23_isNaN_0 11 rfl rfl)
theorem q168 : (Jvm.Cond.initialized "java/lang/Double") ∈ lw_all := lw_g (lw_at lw_m1 38 rfl) rfl
theorem q2301 : (Jvm.Cond.static ({ cls := "java/lang/Double", name := "doubleToLongBits", desc := "(D)J" } : Jvm.MethodName)) ∈ lw_all := lw_g (lw_at lw_m10 11 rfl) rfl
theorem q2302 : (Jvm.Cond.code ({ cls := "java/lang/Double", name := "doubleToLongBits", desc := "(D)J" } : Jvm.MethodName) prog_46_method_23_code (2 : Nat) (Option.some Jvm.ClassFile.FieldType.long)) ∈ lw_all := lw_g (lw_at lw_m10 12 rfl) rfl
theorem q2303 : (Jvm.Cond.methodLink "java/lang/Double" (122 : Nat) ({ cls := "java/lang/Double", name := "isNaN", desc := "(D)Z" } : Jvm.MethodName)) ∈ lw_all := lw_g (lw_at lw_m10 13 rfl) rfl
theorem q2304 : (Jvm.Cond.static ({ cls := "java/lang/Double", name := "isNaN", desc := "(D)Z" } : Jvm.MethodName)) ∈ lw_all := lw_g (lw_at lw_m10 14 rfl) rfl
theorem q2305 : (Jvm.Cond.code ({ cls := "java/lang/Double", name := "isNaN", desc := "(D)Z" } : Jvm.MethodName) prog_46_method_6_code (2 : Nat) (Option.some Jvm.ClassFile.FieldType.boolean)) ∈ lw_all := lw_g (lw_at lw_m10 15 rfl) rfl
theorem q2306 : (Jvm.Cond.methodLink "java/lang/Double" (134 : Nat) ({ cls := "java/lang/Double", name := "doubleToRawLongBits", desc := "(D)J" } : Jvm.MethodName)) ∈ lw_all := lw_g (lw_at lw_m10 16 rfl) rfl
theorem q2307 : (Jvm.Cond.static ({ cls := "java/lang/Double", name := "doubleToRawLongBits", desc := "(D)J" } : Jvm.MethodName)) ∈ lw_all := lw_g (lw_at lw_m10 17 rfl) rfl
theorem q2308 : (Jvm.Cond.native ({ cls := "java/lang/Double", name := "doubleToRawLongBits", desc := "(D)J" } : Jvm.MethodName)) ∈ lw_all := lw_g (lw_at lw_m10 18 rfl) rfl
theorem q2309 : (Jvm.Cond.constantLong "java/lang/Double" (137 : Nat) (9221120237041090560 : Int64)) ∈ lw_all := lw_g (lw_at lw_m10 19 rfl) rfl
theorem q3271 : (Jvm.Cond.static ({ cls := "java/lang/Double", name := "longBitsToDouble", desc := "(J)D" } : Jvm.MethodName)) ∈ lw_all := lw_g (lw_at lw_m14 21 rfl) rfl
theorem q3272 : (Jvm.Cond.native ({ cls := "java/lang/Double", name := "longBitsToDouble", desc := "(J)D" } : Jvm.MethodName)) ∈ lw_all := lw_g (lw_at lw_m14 22 rfl) rfl
/-! java/lang/ClassCastException -/
set_option maxRecDepth 100000
def RJ24 : String := "java/lang/ClassCastException"
def TJ24 : u_T := fun k => match k with
  | 0 => ("java/lang/Throwable", "backtrace", "Ljava/lang/Object;", false)
  | 1 => ("java/lang/Throwable", "detailMessage", "Ljava/lang/String;", false)
  | 2 => ("java/lang/Throwable", "cause", "Ljava/lang/Throwable;", false)
  | 3 => ("java/lang/Throwable", "stackTrace", "[Ljava/lang/StackTraceElement;", false)
  | 4 => ("java/lang/Throwable", "depth", "I", false)
  | _ => ("java/lang/Throwable", "suppressedExceptions", "Ljava/util/List;", false)
def tyJ24 : Nat → FieldType := fun k => match k with
  | 0 => .object "java/lang/Object"
  | 1 => .object "java/lang/String"
  | 2 => .object "java/lang/Throwable"
  | 3 => .array (.object "java/lang/StackTraceElement")
  | 4 => .int
  | _ => .object "java/util/List"
abbrev wsJ240 : List Cond := u_ws RJ24 TJ24 6
theorem nmJ24 : ∀ a, a < 6 → ∀ b, b < 6 → a ≠ b → (TJ24 a).2.1 ≠ (TJ24 b).2.1 := by decide +kernel
theorem tyJ24_ok : ∀ k, k < 6 → parseFieldDescriptor (TJ24 k).2.2.1 = some (tyJ24 k) := by decide +kernel
abbrev cJ24_init : ByteArray := prog_43_method_2_code
def yJ24_init : MethodName := ⟨RJ24, "<init>", "(Ljava/lang/String;)V"⟩
def dkwJ24_init_0 : List UInt8 := [42, 43, 183, 0, 7, 177]
abbrev dktJ24_init_0 : List UInt8 := dkwJ24_init_0 ++ []
theorem dksJ24_init_0 : cJ24_init.data.toList.drop 0 = dktJ24_init_0 := by decide +kernel
theorem dJ24_init_0 : decode cJ24_init 0 = .ok (.aload_n 0, 1) := dk_42 (dk_at dksJ24_init_0 0 rfl rfl)
theorem dJ24_init_1 : decode cJ24_init 1 = .ok (.aload_n 1, 1) := dk_43 (dk_at dksJ24_init_0 1 rfl rfl)
theorem dJ24_init_2 : decode cJ24_init 2 = .ok (.invokespecial 7, 3) := dk_183 0 7 (dk_at dksJ24_init_0 2 rfl rfl)
theorem dJ24_init_5 : decode cJ24_init 5 = .ok (.return_, 1) := dk_177 (dk_at dksJ24_init_0 5 rfl rfl)
theorem q169 : (Jvm.Cond.initialized "java/lang/ClassCastException") ∈ lw_all := lw_g (lw_at lw_m1 39 rfl) rfl
theorem q322 : (Jvm.Cond.selects "java/lang/ClassCastException" ({ cls := "java/lang/Throwable", name := "fillInStackTrace", desc := "()Ljava/lang/Throwable;" } : Jvm.MethodName) ({ cls := "java/lang/Throwable", name := "fillInStackTrace", desc := "()Ljava/lang/Throwable;" } : Jvm.MethodName)) ∈ lw_all := lw_g (lw_at lw_m1 192 rfl) rfl
theorem q800 : (Jvm.Cond.selects "java/lang/ClassCastException" ({ cls := "java/lang/Object", name := "equals", desc := "(Ljava/lang/Object;)Z" } : Jvm.MethodName) ({ cls := "java/lang/Object", name := "equals", desc := "(Ljava/lang/Object;)Z" } : Jvm.MethodName)) ∈ lw_all := lw_g (lw_at lw_m3 190 rfl) rfl
theorem q877 : (Jvm.Cond.selects "java/lang/ClassCastException" ({ cls := "java/lang/Object", name := "getClass", desc := "()Ljava/lang/Class;" } : Jvm.MethodName) ({ cls := "java/lang/Object", name := "getClass", desc := "()Ljava/lang/Class;" } : Jvm.MethodName)) ∈ lw_all := lw_g (lw_at lw_m4 27 rfl) rfl
theorem q1109 : (Jvm.Cond.selects "java/lang/ClassCastException" ({ cls := "java/lang/Throwable", name := "toString", desc := "()Ljava/lang/String;" } : Jvm.MethodName) ({ cls := "java/lang/Throwable", name := "toString", desc := "()Ljava/lang/String;" } : Jvm.MethodName)) ∈ lw_all := lw_g (lw_at lw_m5 19 rfl) rfl
theorem q1122 : (Jvm.Cond.selects "java/lang/ClassCastException" ({ cls := "java/lang/Throwable", name := "getLocalizedMessage", desc := "()Ljava/lang/String;" } : Jvm.MethodName) ({ cls := "java/lang/Throwable", name := "getLocalizedMessage", desc := "()Ljava/lang/String;" } : Jvm.MethodName)) ∈ lw_all := lw_g (lw_at lw_m5 32 rfl) rfl
theorem q1134 : (Jvm.Cond.selects "java/lang/ClassCastException" ({ cls := "java/lang/Throwable", name := "getMessage", desc := "()Ljava/lang/String;" } : Jvm.MethodName) ({ cls := "java/lang/Throwable", name := "getMessage", desc := "()Ljava/lang/String;" } : Jvm.MethodName)) ∈ lw_all := lw_g (lw_at lw_m5 44 rfl) rfl
theorem q2321 : (Jvm.Cond.instantiable "java/lang/ClassCastException" (6 : Nat)) ∈ lw_all := lw_g (lw_at lw_m10 31 rfl) rfl
theorem q2322 : (Jvm.Cond.instanceMethod ({ cls := "java/lang/ClassCastException", name := "<init>", desc := "(Ljava/lang/String;)V" } : Jvm.MethodName)) ∈ lw_all := lw_g (lw_at lw_m10 32 rfl) rfl
theorem q2323 : (Jvm.Cond.code ({ cls := "java/lang/ClassCastException", name := "<init>", desc := "(Ljava/lang/String;)V" } : Jvm.MethodName) prog_43_method_2_code (2 : Nat) (Option.none : Option Jvm.ClassFile.FieldType)) ∈ lw_all := lw_g (lw_at lw_m10 33 rfl) rfl
theorem q2324 : (Jvm.Cond.methodLink "java/lang/ClassCastException" (7 : Nat) ({ cls := "java/lang/RuntimeException", name := "<init>", desc := "(Ljava/lang/String;)V" } : Jvm.MethodName)) ∈ lw_all := lw_g (lw_at lw_m10 34 rfl) rfl
theorem q2325 : (Jvm.Cond.lays "java/lang/ClassCastException" "java/lang/Throwable" "backtrace" "Ljava/lang/Object;") ∈ lw_all := lw_g (lw_at lw_m10 35 rfl) rfl
theorem q2326 : (Jvm.Cond.lays "java/lang/ClassCastException" "java/lang/Throwable" "detailMessage" "Ljava/lang/String;") ∈ lw_all := lw_g (lw_at lw_m10 36 rfl) rfl
theorem q2327 : (Jvm.Cond.lays "java/lang/ClassCastException" "java/lang/Throwable" "cause" "Ljava/lang/Throwable;") ∈ lw_all := lw_g (lw_at lw_m10 37 rfl) rfl
theorem q2328 : (Jvm.Cond.lays "java/lang/ClassCastException" "java/lang/Throwable" "stackTrace" "[Ljava/lang/StackTraceElement;") ∈ lw_all := lw_g (lw_at lw_m10 38 rfl) rfl
theorem q2329 : (Jvm.Cond.lays "java/lang/ClassCastException" "java/lang/Throwable" "depth" "I") ∈ lw_all := lw_g (lw_at lw_m10 39 rfl) rfl
theorem q2330 : (Jvm.Cond.lays "java/lang/ClassCastException" "java/lang/Throwable" "suppressedExceptions" "Ljava/util/List;") ∈ lw_all := lw_g (lw_at lw_m10 40 rfl) rfl
theorem q2331 : (Jvm.Cond.superclass "java/lang/ClassCastException" "java/lang/RuntimeException") ∈ lw_all := lw_g (lw_at lw_m10 41 rfl) rfl
theorem q2332 : (Jvm.Cond.castable "java/lang/ClassCastException" "java/lang/ClassCastException") ∈ lw_tbl := lw_at lw_m10 42 rfl
theorem q2333 : (Jvm.Cond.selects "java/lang/ClassCastException" ({ cls := "java/lang/Throwable", name := "fillInStackTrace", desc := "(I)Ljava/lang/Throwable;" } : Jvm.MethodName) ({ cls := "java/lang/Throwable", name := "fillInStackTrace", desc := "(I)Ljava/lang/Throwable;" } : Jvm.MethodName)) ∈ lw_all := lw_g (lw_at lw_m10 43 rfl) rfl
theorem q3413 : (Jvm.Cond.castable "java/lang/ClassCastException" "java/lang/Object") ∈ lw_tbl := lw_at lw_m14 163 rfl
theorem in_J24 : ∀ w ∈ wsJ240, w ∈ lw_all := lw_in wsJ240 [2325, 2326, 2327, 2328, 2329, 2330] (by decide +kernel) (by decide +kernel)
/-! java/util/AbstractList -/
set_option maxRecDepth 100000
def RJ25 : String := "java/util/AbstractList"
abbrev cJ25_listIterator : ByteArray := prog_67_method_12_code
def yJ25_listIterator : MethodName := ⟨RJ25, "listIterator", "()Ljava/util/ListIterator;"⟩
def dkwJ25_listIterator_0 : List UInt8 := [42, 3, 182, 0, 47, 176]
abbrev dktJ25_listIterator_0 : List UInt8 := dkwJ25_listIterator_0 ++ []
theorem dksJ25_listIterator_0 : cJ25_listIterator.data.toList.drop 0 = dktJ25_listIterator_0 := by decide +kernel
theorem dJ25_listIterator_0 : decode cJ25_listIterator 0 = .ok (.aload_n 0, 1) := dk_42 (dk_at dksJ25_listIterator_0 0 rfl rfl)
theorem dJ25_listIterator_1 : decode cJ25_listIterator 1 = .ok (.iconst 0, 1) := dk_3 (dk_at dksJ25_listIterator_0 1 rfl rfl)
theorem dJ25_listIterator_2 : decode cJ25_listIterator 2 = .ok (.invokevirtual 47, 3) := dk_182 0 47 (dk_at dksJ25_listIterator_0 2 rfl rfl)
theorem dJ25_listIterator_5 : decode cJ25_listIterator 5 = .ok (.areturn, 1) := dk_176 (dk_at dksJ25_listIterator_0 5 rfl rfl)
abbrev cJ25_init : ByteArray := prog_67_method_1_code
def yJ25_init : MethodName := ⟨RJ25, "<init>", "()V"⟩
def dkwJ25_init_0 : List UInt8 := [42, 183, 0, 1, 42, 3, 181, 0, 7, 177]
abbrev dktJ25_init_0 : List UInt8 := dkwJ25_init_0 ++ []
theorem dksJ25_init_0 : cJ25_init.data.toList.drop 0 = dktJ25_init_0 := by decide +kernel
theorem dJ25_init_0 : decode cJ25_init 0 = .ok (.aload_n 0, 1) := dk_42 (dk_at dksJ25_init_0 0 rfl rfl)
theorem dJ25_init_1 : decode cJ25_init 1 = .ok (.invokespecial 1, 3) := dk_183 0 1 (dk_at dksJ25_init_0 1 rfl rfl)
theorem dJ25_init_4 : decode cJ25_init 4 = .ok (.aload_n 0, 1) := dk_42 (dk_at dksJ25_init_0 4 rfl rfl)
theorem dJ25_init_5 : decode cJ25_init 5 = .ok (.iconst 0, 1) := dk_3 (dk_at dksJ25_init_0 5 rfl rfl)
theorem dJ25_init_6 : decode cJ25_init 6 = .ok (.putfield 7, 3) := dk_181 0 7 (dk_at dksJ25_init_0 6 rfl rfl)
theorem dJ25_init_9 : decode cJ25_init 9 = .ok (.return_, 1) := dk_177 (dk_at dksJ25_init_0 9 rfl rfl)
theorem q171 : (Jvm.Cond.initialized "java/util/AbstractList") ∈ lw_all := lw_g (lw_at lw_m1 41 rfl) rfl
theorem q971 : (Jvm.Cond.declares ({ cls := "java/util/AbstractList", name := "listIterator", desc := "()Ljava/util/ListIterator;" } : Jvm.MethodName)) ∈ lw_tbl := lw_at lw_m4 121 rfl
theorem q973 : (Jvm.Cond.instanceMethod ({ cls := "java/util/AbstractList", name := "listIterator", desc := "()Ljava/util/ListIterator;" } : Jvm.MethodName)) ∈ lw_all := lw_g (lw_at lw_m4 123 rfl) rfl
theorem q974 : (Jvm.Cond.code ({ cls := "java/util/AbstractList", name := "listIterator", desc := "()Ljava/util/ListIterator;" } : Jvm.MethodName) prog_67_method_12_code (1 : Nat) (Option.some (Jvm.ClassFile.FieldType.object "java/util/ListIterator"))) ∈ lw_all := lw_g (lw_at lw_m4 124 rfl) rfl
theorem q975 : (Jvm.Cond.methodLink "java/util/AbstractList" (47 : Nat) ({ cls := "java/util/AbstractList", name := "listIterator", desc := "(I)Ljava/util/ListIterator;" } : Jvm.MethodName)) ∈ lw_all := lw_g (lw_at lw_m4 125 rfl) rfl
theorem q976 : (Jvm.Cond.instanceMethod ({ cls := "java/util/AbstractList", name := "listIterator", desc := "(I)Ljava/util/ListIterator;" } : Jvm.MethodName)) ∈ lw_all := lw_g (lw_at lw_m4 126 rfl) rfl
theorem q977 : (Jvm.Cond.sameMethod "java/util/AbstractList" "java/util/AbstractList" "listIterator" "(I)Ljava/util/ListIterator;") ∈ lw_all := lw_g (lw_at lw_m4 127 rfl) rfl
theorem q1029 : (Jvm.Cond.declares ({ cls := "java/util/AbstractList", name := "listIterator", desc := "(I)Ljava/util/ListIterator;" } : Jvm.MethodName)) ∈ lw_tbl := lw_at lw_m4 179 rfl
theorem q1041 : (Jvm.Cond.sameMethod "java/util/AbstractList" "java/util/AbstractCollection" "size" "()I") ∈ lw_all := lw_g (lw_at lw_m4 191 rfl) rfl
theorem q1067 : (Jvm.Cond.declares ({ cls := "java/util/AbstractList", name := "get", desc := "(I)Ljava/lang/Object;" } : Jvm.MethodName)) ∈ lw_tbl := lw_at lw_m4 217 rfl
theorem q1068 : (Jvm.Cond.sameMethod "java/util/AbstractList" "java/util/AbstractList" "get" "(I)Ljava/lang/Object;") ∈ lw_all := lw_g (lw_at lw_m4 218 rfl) rfl
theorem q1337 : (Jvm.Cond.instanceMethod ({ cls := "java/util/AbstractList", name := "<init>", desc := "()V" } : Jvm.MethodName)) ∈ lw_all := lw_g (lw_at lw_m6 7 rfl) rfl
theorem q1338 : (Jvm.Cond.code ({ cls := "java/util/AbstractList", name := "<init>", desc := "()V" } : Jvm.MethodName) prog_67_method_1_code (1 : Nat) (Option.none : Option Jvm.ClassFile.FieldType)) ∈ lw_all := lw_g (lw_at lw_m6 8 rfl) rfl
theorem q1339 : (Jvm.Cond.methodLink "java/util/AbstractList" (1 : Nat) ({ cls := "java/util/AbstractCollection", name := "<init>", desc := "()V" } : Jvm.MethodName)) ∈ lw_all := lw_g (lw_at lw_m6 9 rfl) rfl
theorem q1344 : (Jvm.Cond.fieldLink "java/util/AbstractList" (7 : Nat) "java/util/AbstractList" "modCount" "I") ∈ lw_all := lw_g (lw_at lw_m6 14 rfl) rfl
theorem q1356 : (Jvm.Cond.soleField "java/util/AbstractList" "modCount") ∈ lw_all := lw_g (lw_at lw_m6 26 rfl) rfl
/-! java/util/AbstractSequentialList -/
set_option maxRecDepth 100000
def RJ26 : String := "java/util/AbstractSequentialList"
abbrev cJ26_iterator : ByteArray := prog_70_method_7_code
def yJ26_iterator : MethodName := ⟨RJ26, "iterator", "()Ljava/util/Iterator;"⟩
theorem dJ26_iterator_0 : decode cJ26_iterator 0 = .ok (.aload_n 0, 1) := by decide +kernel
theorem dJ26_iterator_1 : decode cJ26_iterator 1 = .ok (.invokevirtual 65, 3) := by decide +kernel
theorem dJ26_iterator_4 : decode cJ26_iterator 4 = .ok (.areturn, 1) := by decide +kernel
abbrev cJ26_init : ByteArray := prog_70_method_1_code
def yJ26_init : MethodName := ⟨RJ26, "<init>", "()V"⟩
theorem dJ26_init_0 : decode cJ26_init 0 = .ok (.aload_n 0, 1) := by decide +kernel
theorem dJ26_init_1 : decode cJ26_init 1 = .ok (.invokespecial 1, 3) := by decide +kernel
theorem dJ26_init_4 : decode cJ26_init 4 = .ok (.return_, 1) := by decide +kernel
theorem q172 : (Jvm.Cond.initialized "java/util/AbstractSequentialList") ∈ lw_all := lw_g (lw_at lw_m1 42 rfl) rfl
theorem q965 : (Jvm.Cond.declares ({ cls := "java/util/AbstractSequentialList", name := "iterator", desc := "()Ljava/util/Iterator;" } : Jvm.MethodName)) ∈ lw_tbl := lw_at lw_m4 115 rfl
theorem q967 : (Jvm.Cond.instanceMethod ({ cls := "java/util/AbstractSequentialList", name := "iterator", desc := "()Ljava/util/Iterator;" } : Jvm.MethodName)) ∈ lw_all := lw_g (lw_at lw_m4 117 rfl) rfl
theorem q968 : (Jvm.Cond.code ({ cls := "java/util/AbstractSequentialList", name := "iterator", desc := "()Ljava/util/Iterator;" } : Jvm.MethodName) prog_70_method_7_code (1 : Nat) (Option.some (Jvm.ClassFile.FieldType.object "java/util/Iterator"))) ∈ lw_all := lw_g (lw_at lw_m4 118 rfl) rfl
theorem q969 : (Jvm.Cond.methodLink "java/util/AbstractSequentialList" (65 : Nat) ({ cls := "java/util/AbstractSequentialList", name := "listIterator", desc := "()Ljava/util/ListIterator;" } : Jvm.MethodName)) ∈ lw_all := lw_g (lw_at lw_m4 119 rfl) rfl
theorem q970 : (Jvm.Cond.sameMethod "java/util/AbstractSequentialList" "java/util/AbstractList" "listIterator" "()Ljava/util/ListIterator;") ∈ lw_all := lw_g (lw_at lw_m4 120 rfl) rfl
theorem q1334 : (Jvm.Cond.instanceMethod ({ cls := "java/util/AbstractSequentialList", name := "<init>", desc := "()V" } : Jvm.MethodName)) ∈ lw_all := lw_g (lw_at lw_m6 4 rfl) rfl
theorem q1335 : (Jvm.Cond.code ({ cls := "java/util/AbstractSequentialList", name := "<init>", desc := "()V" } : Jvm.MethodName) prog_70_method_1_code (1 : Nat) (Option.none : Option Jvm.ClassFile.FieldType)) ∈ lw_all := lw_g (lw_at lw_m6 5 rfl) rfl
theorem q1336 : (Jvm.Cond.methodLink "java/util/AbstractSequentialList" (1 : Nat) ({ cls := "java/util/AbstractList", name := "<init>", desc := "()V" } : Jvm.MethodName)) ∈ lw_all := lw_g (lw_at lw_m6 6 rfl) rfl
/-! java/util/LinkedList -/
set_option maxRecDepth 100000
def RJ27 : String := "java/util/LinkedList"
def TJ27 : u_T := fun k => match k with
  | 0 => ("java/util/AbstractList", "modCount", "I", false)
  | 1 => ("java/util/LinkedList", "size", "I", false)
  | 2 => ("java/util/LinkedList", "first", "Ljava/util/LinkedList$Node;", false)
  | _ => ("java/util/LinkedList", "last", "Ljava/util/LinkedList$Node;", false)
def tyJ27 : Nat → FieldType := fun k => match k with
  | 0 => .int
  | 1 => .int
  | 2 => .object "java/util/LinkedList$Node"
  | _ => .object "java/util/LinkedList$Node"
abbrev wsJ270 : List Cond := u_ws RJ27 TJ27 4
theorem nmJ27 : ∀ a, a < 4 → ∀ b, b < 4 → a ≠ b → (TJ27 a).2.1 ≠ (TJ27 b).2.1 := by decide +kernel
theorem tyJ27_ok : ∀ k, k < 4 → parseFieldDescriptor (TJ27 k).2.2.1 = some (tyJ27 k) := by decide +kernel
abbrev cJ27_contains : ByteArray := prog_78_method_15_code
def yJ27_contains : MethodName := ⟨RJ27, "contains", "(Ljava/lang/Object;)Z"⟩
def dkwJ27_contains_0 : List UInt8 := [42, 43, 182, 0, 60, 155, 0, 7, 4, 167, 0, 4, 3, 172]
abbrev dktJ27_contains_0 : List UInt8 := dkwJ27_contains_0 ++ []
theorem dksJ27_contains_0 : cJ27_contains.data.toList.drop 0 = dktJ27_contains_0 := by decide +kernel
theorem dJ27_contains_0 : decode cJ27_contains 0 = .ok (.aload_n 0, 1) := dk_42 (dk_at dksJ27_contains_0 0 rfl rfl)
theorem dJ27_contains_1 : decode cJ27_contains 1 = .ok (.aload_n 1, 1) := dk_43 (dk_at dksJ27_contains_0 1 rfl rfl)
theorem dJ27_contains_2 : decode cJ27_contains 2 = .ok (.invokevirtual 60, 3) := dk_182 0 60 (dk_at dksJ27_contains_0 2 rfl rfl)
theorem dJ27_contains_5 : decode cJ27_contains 5 = .ok (.ifCond .lt 7, 3) := dk_155 0 7 (dk_at dksJ27_contains_0 5 rfl rfl)
theorem dJ27_contains_8 : decode cJ27_contains 8 = .ok (.iconst 1, 1) := dk_4 (dk_at dksJ27_contains_0 8 rfl rfl)
theorem dJ27_contains_9 : decode cJ27_contains 9 = .ok (.goto 4, 3) := dk_167 0 4 (dk_at dksJ27_contains_0 9 rfl rfl)
theorem dJ27_contains_12 : decode cJ27_contains 12 = .ok (.iconst 0, 1) := dk_3 (dk_at dksJ27_contains_0 12 rfl rfl)
theorem dJ27_contains_13 : decode cJ27_contains 13 = .ok (.ireturn, 1) := dk_172 (dk_at dksJ27_contains_0 13 rfl rfl)
abbrev cJ27_indexOf : ByteArray := prog_78_method_32_code
def yJ27_indexOf : MethodName := ⟨RJ27, "indexOf", "(Ljava/lang/Object;)I"⟩
def dkwJ27_indexOf_3 : List UInt8 := [172]
abbrev dktJ27_indexOf_3 : List UInt8 := dkwJ27_indexOf_3 ++ []
def dkwJ27_indexOf_2 : List UInt8 := [45, 180, 0, 39, 182, 0, 67, 153, 0, 5, 28, 172, 132, 2, 1, 45, 180, 0, 36, 78, 167, 255, 231, 2]
abbrev dktJ27_indexOf_2 : List UInt8 := dkwJ27_indexOf_2 ++ dktJ27_indexOf_3
def dkwJ27_indexOf_1 : List UInt8 := [132, 2, 1, 45, 180, 0, 36, 78, 167, 255, 235, 167, 0, 36, 42, 180, 0, 18, 78, 45, 198, 0, 27, 43]
abbrev dktJ27_indexOf_1 : List UInt8 := dkwJ27_indexOf_1 ++ dktJ27_indexOf_2
def dkwJ27_indexOf_0 : List UInt8 := [3, 61, 43, 199, 0, 35, 42, 180, 0, 18, 78, 45, 198, 0, 23, 45, 180, 0, 39, 199, 0, 5, 28, 172]
abbrev dktJ27_indexOf_0 : List UInt8 := dkwJ27_indexOf_0 ++ dktJ27_indexOf_1
theorem dksJ27_indexOf_0 : cJ27_indexOf.data.toList.drop 0 = dktJ27_indexOf_0 := by decide +kernel
theorem dksJ27_indexOf_1 : cJ27_indexOf.data.toList.drop 24 = dktJ27_indexOf_1 := dk_seg dksJ27_indexOf_0 24 rfl rfl
theorem dksJ27_indexOf_2 : cJ27_indexOf.data.toList.drop 48 = dktJ27_indexOf_2 := dk_seg dksJ27_indexOf_1 24 rfl rfl
theorem dksJ27_indexOf_3 : cJ27_indexOf.data.toList.drop 72 = dktJ27_indexOf_3 := dk_seg dksJ27_indexOf_2 24 rfl rfl
theorem dJ27_indexOf_0 : decode cJ27_indexOf 0 = .ok (.iconst 0, 1) := dk_3 (dk_at dksJ27_indexOf_0 0 rfl rfl)
theorem dJ27_indexOf_1 : decode cJ27_indexOf 1 = .ok (.istore_n 2, 1) := dk_61 (dk_at dksJ27_indexOf_0 1 rfl rfl)
theorem dJ27_indexOf_2 : decode cJ27_indexOf 2 = .ok (.aload_n 1, 1) := dk_43 (dk_at dksJ27_indexOf_0 2 rfl rfl)
theorem dJ27_indexOf_3 : decode cJ27_indexOf 3 = .ok (.ifnonnull 35, 3) := dk_199 0 35 (dk_at dksJ27_indexOf_0 3 rfl rfl)
theorem dJ27_indexOf_6 : decode cJ27_indexOf 6 = .ok (.aload_n 0, 1) := dk_42 (dk_at dksJ27_indexOf_0 6 rfl rfl)
theorem dJ27_indexOf_7 : decode cJ27_indexOf 7 = .ok (.getfield 18, 3) := dk_180 0 18 (dk_at dksJ27_indexOf_0 7 rfl rfl)
theorem dJ27_indexOf_10 : decode cJ27_indexOf 10 = .ok (.astore_n 3, 1) := dk_78 (dk_at dksJ27_indexOf_0 10 rfl rfl)
theorem dJ27_indexOf_11 : decode cJ27_indexOf 11 = .ok (.aload_n 3, 1) := dk_45 (dk_at dksJ27_indexOf_0 11 rfl rfl)
theorem dJ27_indexOf_12 : decode cJ27_indexOf 12 = .ok (.ifnull 23, 3) := dk_198 0 23 (dk_at dksJ27_indexOf_0 12 rfl rfl)
theorem dJ27_indexOf_15 : decode cJ27_indexOf 15 = .ok (.aload_n 3, 1) := dk_45 (dk_at dksJ27_indexOf_0 15 rfl rfl)
theorem dJ27_indexOf_16 : decode cJ27_indexOf 16 = .ok (.getfield 39, 3) := dk_180 0 39 (dk_at dksJ27_indexOf_0 16 rfl rfl)
theorem dJ27_indexOf_19 : decode cJ27_indexOf 19 = .ok (.ifnonnull 5, 3) := dk_199 0 5 (dk_at dksJ27_indexOf_0 19 rfl rfl)
theorem dJ27_indexOf_22 : decode cJ27_indexOf 22 = .ok (.iload_n 2, 1) := dk_28 (dk_at dksJ27_indexOf_0 22 rfl rfl)
theorem dJ27_indexOf_23 : decode cJ27_indexOf 23 = .ok (.ireturn, 1) := dk_172 (dk_at dksJ27_indexOf_0 23 rfl rfl)
theorem dJ27_indexOf_24 : decode cJ27_indexOf 24 = .ok (.iinc 2 1, 3) := dk_132 2 1 (dk_at dksJ27_indexOf_1 0 rfl rfl)
theorem dJ27_indexOf_27 : decode cJ27_indexOf 27 = .ok (.aload_n 3, 1) := dk_45 (dk_at dksJ27_indexOf_1 3 rfl rfl)
theorem dJ27_indexOf_28 : decode cJ27_indexOf 28 = .ok (.getfield 36, 3) := dk_180 0 36 (dk_at dksJ27_indexOf_1 4 rfl rfl)
theorem dJ27_indexOf_31 : decode cJ27_indexOf 31 = .ok (.astore_n 3, 1) := dk_78 (dk_at dksJ27_indexOf_1 7 rfl rfl)
theorem dJ27_indexOf_32 : decode cJ27_indexOf 32 = .ok (.goto (-21), 3) := dk_167 255 235 (dk_at dksJ27_indexOf_1 8 rfl rfl)
theorem dJ27_indexOf_35 : decode cJ27_indexOf 35 = .ok (.goto 36, 3) := dk_167 0 36 (dk_at dksJ27_indexOf_1 11 rfl rfl)
theorem dJ27_indexOf_38 : decode cJ27_indexOf 38 = .ok (.aload_n 0, 1) := dk_42 (dk_at dksJ27_indexOf_1 14 rfl rfl)
theorem dJ27_indexOf_39 : decode cJ27_indexOf 39 = .ok (.getfield 18, 3) := dk_180 0 18 (dk_at dksJ27_indexOf_1 15 rfl rfl)
theorem dJ27_indexOf_42 : decode cJ27_indexOf 42 = .ok (.astore_n 3, 1) := dk_78 (dk_at dksJ27_indexOf_1 18 rfl rfl)
theorem dJ27_indexOf_43 : decode cJ27_indexOf 43 = .ok (.aload_n 3, 1) := dk_45 (dk_at dksJ27_indexOf_1 19 rfl rfl)
theorem dJ27_indexOf_44 : decode cJ27_indexOf 44 = .ok (.ifnull 27, 3) := dk_198 0 27 (dk_at dksJ27_indexOf_1 20 rfl rfl)
theorem dJ27_indexOf_47 : decode cJ27_indexOf 47 = .ok (.aload_n 1, 1) := dk_43 (dk_at dksJ27_indexOf_1 23 rfl rfl)
theorem dJ27_indexOf_48 : decode cJ27_indexOf 48 = .ok (.aload_n 3, 1) := dk_45 (dk_at dksJ27_indexOf_2 0 rfl rfl)
theorem dJ27_indexOf_49 : decode cJ27_indexOf 49 = .ok (.getfield 39, 3) := dk_180 0 39 (dk_at dksJ27_indexOf_2 1 rfl rfl)
theorem dJ27_indexOf_52 : decode cJ27_indexOf 52 = .ok (.invokevirtual 67, 3) := dk_182 0 67 (dk_at dksJ27_indexOf_2 4 rfl rfl)
theorem dJ27_indexOf_55 : decode cJ27_indexOf 55 = .ok (.ifCond .eq 5, 3) := dk_153 0 5 (dk_at dksJ27_indexOf_2 7 rfl rfl)
theorem dJ27_indexOf_58 : decode cJ27_indexOf 58 = .ok (.iload_n 2, 1) := dk_28 (dk_at dksJ27_indexOf_2 10 rfl rfl)
theorem dJ27_indexOf_59 : decode cJ27_indexOf 59 = .ok (.ireturn, 1) := dk_172 (dk_at dksJ27_indexOf_2 11 rfl rfl)
theorem dJ27_indexOf_60 : decode cJ27_indexOf 60 = .ok (.iinc 2 1, 3) := dk_132 2 1 (dk_at dksJ27_indexOf_2 12 rfl rfl)
theorem dJ27_indexOf_63 : decode cJ27_indexOf 63 = .ok (.aload_n 3, 1) := dk_45 (dk_at dksJ27_indexOf_2 15 rfl rfl)
theorem dJ27_indexOf_64 : decode cJ27_indexOf 64 = .ok (.getfield 36, 3) := dk_180 0 36 (dk_at dksJ27_indexOf_2 16 rfl rfl)
theorem dJ27_indexOf_67 : decode cJ27_indexOf 67 = .ok (.astore_n 3, 1) := dk_78 (dk_at dksJ27_indexOf_2 19 rfl rfl)
theorem dJ27_indexOf_68 : decode cJ27_indexOf 68 = .ok (.goto (-25), 3) := dk_167 255 231 (dk_at dksJ27_indexOf_2 20 rfl rfl)
theorem dJ27_indexOf_71 : decode cJ27_indexOf 71 = .ok (.iconst (-1), 1) := dk_2 (dk_at dksJ27_indexOf_2 23 rfl rfl)
theorem dJ27_indexOf_72 : decode cJ27_indexOf 72 = .ok (.ireturn, 1) := dk_172 (dk_at dksJ27_indexOf_3 0 rfl rfl)
abbrev cJ27_listIterator : ByteArray := prog_78_method_49_code
def yJ27_listIterator : MethodName := ⟨RJ27, "listIterator", "(I)Ljava/util/ListIterator;"⟩
def dkwJ27_listIterator_0 : List UInt8 := [42, 27, 182, 0, 76, 187, 0, 150, 89, 42, 27, 183, 0, 152, 176]
abbrev dktJ27_listIterator_0 : List UInt8 := dkwJ27_listIterator_0 ++ []
theorem dksJ27_listIterator_0 : cJ27_listIterator.data.toList.drop 0 = dktJ27_listIterator_0 := by decide +kernel
theorem dJ27_listIterator_0 : decode cJ27_listIterator 0 = .ok (.aload_n 0, 1) := dk_42 (dk_at dksJ27_listIterator_0 0 rfl rfl)
theorem dJ27_listIterator_1 : decode cJ27_listIterator 1 = .ok (.iload_n 1, 1) := dk_27 (dk_at dksJ27_listIterator_0 1 rfl rfl)
theorem dJ27_listIterator_2 : decode cJ27_listIterator 2 = .ok (.invokevirtual 76, 3) := dk_182 0 76 (dk_at dksJ27_listIterator_0 2 rfl rfl)
theorem dJ27_listIterator_5 : decode cJ27_listIterator 5 = .ok (.new 150, 3) := dk_187 0 150 (dk_at dksJ27_listIterator_0 5 rfl rfl)
theorem dJ27_listIterator_8 : decode cJ27_listIterator 8 = .ok (.dup, 1) := dk_89 (dk_at dksJ27_listIterator_0 8 rfl rfl)
theorem dJ27_listIterator_9 : decode cJ27_listIterator 9 = .ok (.aload_n 0, 1) := dk_42 (dk_at dksJ27_listIterator_0 9 rfl rfl)
theorem dJ27_listIterator_10 : decode cJ27_listIterator 10 = .ok (.iload_n 1, 1) := dk_27 (dk_at dksJ27_listIterator_0 10 rfl rfl)
theorem dJ27_listIterator_11 : decode cJ27_listIterator 11 = .ok (.invokespecial 152, 3) := dk_183 0 152 (dk_at dksJ27_listIterator_0 11 rfl rfl)
theorem dJ27_listIterator_14 : decode cJ27_listIterator 14 = .ok (.areturn, 1) := dk_176 (dk_at dksJ27_listIterator_0 14 rfl rfl)
abbrev cJ27_checkPositionIndex : ByteArray := prog_78_method_30_code
def yJ27_checkPositionIndex : MethodName := ⟨RJ27, "checkPositionIndex", "(I)V"⟩
def dkwJ27_checkPositionIndex_0 : List UInt8 := [42, 27, 182, 0, 128, 154, 0, 16, 187, 0, 119, 89, 42, 27, 182, 0, 121, 183, 0, 125, 191, 177]
abbrev dktJ27_checkPositionIndex_0 : List UInt8 := dkwJ27_checkPositionIndex_0 ++ []
theorem dksJ27_checkPositionIndex_0 : cJ27_checkPositionIndex.data.toList.drop 0 = dktJ27_checkPositionIndex_0 := by decide +kernel
theorem dJ27_checkPositionIndex_0 : decode cJ27_checkPositionIndex 0 = .ok (.aload_n 0, 1) := dk_42 (dk_at dksJ27_checkPositionIndex_0 0 rfl rfl)
theorem dJ27_checkPositionIndex_1 : decode cJ27_checkPositionIndex 1 = .ok (.iload_n 1, 1) := dk_27 (dk_at dksJ27_checkPositionIndex_0 1 rfl rfl)
theorem dJ27_checkPositionIndex_2 : decode cJ27_checkPositionIndex 2 = .ok (.invokevirtual 128, 3) := dk_182 0 128 (dk_at dksJ27_checkPositionIndex_0 2 rfl rfl)
theorem dJ27_checkPositionIndex_5 : decode cJ27_checkPositionIndex 5 = .ok (.ifCond .ne 16, 3) := dk_154 0 16 (dk_at dksJ27_checkPositionIndex_0 5 rfl rfl)
theorem dJ27_checkPositionIndex_8 : decode cJ27_checkPositionIndex 8 = .ok (.new 119, 3) := dk_187 0 119 (dk_at dksJ27_checkPositionIndex_0 8 rfl rfl)
theorem dJ27_checkPositionIndex_11 : decode cJ27_checkPositionIndex 11 = .ok (.dup, 1) := dk_89 (dk_at dksJ27_checkPositionIndex_0 11 rfl rfl)
theorem dJ27_checkPositionIndex_12 : decode cJ27_checkPositionIndex 12 = .ok (.aload_n 0, 1) := dk_42 (dk_at dksJ27_checkPositionIndex_0 12 rfl rfl)
theorem dJ27_checkPositionIndex_13 : decode cJ27_checkPositionIndex 13 = .ok (.iload_n 1, 1) := dk_27 (dk_at dksJ27_checkPositionIndex_0 13 rfl rfl)
theorem dJ27_checkPositionIndex_14 : decode cJ27_checkPositionIndex 14 = .ok (.invokevirtual 121, 3) := dk_182 0 121 (dk_at dksJ27_checkPositionIndex_0 14 rfl rfl)
theorem dJ27_checkPositionIndex_17 : decode cJ27_checkPositionIndex 17 = .ok (.invokespecial 125, 3) := dk_183 0 125 (dk_at dksJ27_checkPositionIndex_0 17 rfl rfl)
theorem dJ27_checkPositionIndex_20 : decode cJ27_checkPositionIndex 20 = .ok (.athrow, 1) := dk_191 (dk_at dksJ27_checkPositionIndex_0 20 rfl rfl)
theorem dJ27_checkPositionIndex_21 : decode cJ27_checkPositionIndex 21 = .ok (.return_, 1) := dk_177 (dk_at dksJ27_checkPositionIndex_0 21 rfl rfl)
abbrev cJ27_isPositionIndex : ByteArray := prog_78_method_27_code
def yJ27_isPositionIndex : MethodName := ⟨RJ27, "isPositionIndex", "(I)Z"⟩
def dkwJ27_isPositionIndex_0 : List UInt8 := [27, 155, 0, 15, 27, 42, 180, 0, 7, 163, 0, 7, 4, 167, 0, 4, 3, 172]
abbrev dktJ27_isPositionIndex_0 : List UInt8 := dkwJ27_isPositionIndex_0 ++ []
theorem dksJ27_isPositionIndex_0 : cJ27_isPositionIndex.data.toList.drop 0 = dktJ27_isPositionIndex_0 := by decide +kernel
theorem dJ27_isPositionIndex_0 : decode cJ27_isPositionIndex 0 = .ok (.iload_n 1, 1) := dk_27 (dk_at dksJ27_isPositionIndex_0 0 rfl rfl)
theorem dJ27_isPositionIndex_1 : decode cJ27_isPositionIndex 1 = .ok (.ifCond .lt 15, 3) := dk_155 0 15 (dk_at dksJ27_isPositionIndex_0 1 rfl rfl)
theorem dJ27_isPositionIndex_4 : decode cJ27_isPositionIndex 4 = .ok (.iload_n 1, 1) := dk_27 (dk_at dksJ27_isPositionIndex_0 4 rfl rfl)
theorem dJ27_isPositionIndex_5 : decode cJ27_isPositionIndex 5 = .ok (.aload_n 0, 1) := dk_42 (dk_at dksJ27_isPositionIndex_0 5 rfl rfl)
theorem dJ27_isPositionIndex_6 : decode cJ27_isPositionIndex 6 = .ok (.getfield 7, 3) := dk_180 0 7 (dk_at dksJ27_isPositionIndex_0 6 rfl rfl)
theorem dJ27_isPositionIndex_9 : decode cJ27_isPositionIndex 9 = .ok (.if_icmp .gt 7, 3) := dk_163 0 7 (dk_at dksJ27_isPositionIndex_0 9 rfl rfl)
theorem dJ27_isPositionIndex_12 : decode cJ27_isPositionIndex 12 = .ok (.iconst 1, 1) := dk_4 (dk_at dksJ27_isPositionIndex_0 12 rfl rfl)
theorem dJ27_isPositionIndex_13 : decode cJ27_isPositionIndex 13 = .ok (.goto 4, 3) := dk_167 0 4 (dk_at dksJ27_isPositionIndex_0 13 rfl rfl)
theorem dJ27_isPositionIndex_16 : decode cJ27_isPositionIndex 16 = .ok (.iconst 0, 1) := dk_3 (dk_at dksJ27_isPositionIndex_0 16 rfl rfl)
theorem dJ27_isPositionIndex_17 : decode cJ27_isPositionIndex 17 = .ok (.ireturn, 1) := dk_172 (dk_at dksJ27_isPositionIndex_0 17 rfl rfl)
abbrev cJ27_outOfBoundsMsg : ByteArray := prog_78_method_28_code
def yJ27_outOfBoundsMsg : MethodName := ⟨RJ27, "outOfBoundsMsg", "(I)Ljava/lang/String;"⟩
def dkwJ27_outOfBoundsMsg_1 : List UInt8 := [180, 0, 7, 182, 0, 106, 182, 0, 111, 176]
abbrev dktJ27_outOfBoundsMsg_1 : List UInt8 := dkwJ27_outOfBoundsMsg_1 ++ []
def dkwJ27_outOfBoundsMsg_0 : List UInt8 := [187, 0, 97, 89, 183, 0, 99, 18, 100, 182, 0, 102, 27, 182, 0, 106, 18, 109, 182, 0, 102, 42]
abbrev dktJ27_outOfBoundsMsg_0 : List UInt8 := dkwJ27_outOfBoundsMsg_0 ++ dktJ27_outOfBoundsMsg_1
theorem dksJ27_outOfBoundsMsg_0 : cJ27_outOfBoundsMsg.data.toList.drop 0 = dktJ27_outOfBoundsMsg_0 := by decide +kernel
theorem dksJ27_outOfBoundsMsg_1 : cJ27_outOfBoundsMsg.data.toList.drop 22 = dktJ27_outOfBoundsMsg_1 := dk_seg dksJ27_outOfBoundsMsg_0 22 rfl rfl
theorem dJ27_outOfBoundsMsg_0 : decode cJ27_outOfBoundsMsg 0 = .ok (.new 97, 3) := dk_187 0 97 (dk_at dksJ27_outOfBoundsMsg_0 0 rfl rfl)
theorem dJ27_outOfBoundsMsg_3 : decode cJ27_outOfBoundsMsg 3 = .ok (.dup, 1) := dk_89 (dk_at dksJ27_outOfBoundsMsg_0 3 rfl rfl)
theorem dJ27_outOfBoundsMsg_4 : decode cJ27_outOfBoundsMsg 4 = .ok (.invokespecial 99, 3) := dk_183 0 99 (dk_at dksJ27_outOfBoundsMsg_0 4 rfl rfl)
theorem dJ27_outOfBoundsMsg_7 : decode cJ27_outOfBoundsMsg 7 = .ok (.ldc 100, 2) := dk_18 100 (dk_at dksJ27_outOfBoundsMsg_0 7 rfl rfl)
theorem dJ27_outOfBoundsMsg_9 : decode cJ27_outOfBoundsMsg 9 = .ok (.invokevirtual 102, 3) := dk_182 0 102 (dk_at dksJ27_outOfBoundsMsg_0 9 rfl rfl)
theorem dJ27_outOfBoundsMsg_12 : decode cJ27_outOfBoundsMsg 12 = .ok (.iload_n 1, 1) := dk_27 (dk_at dksJ27_outOfBoundsMsg_0 12 rfl rfl)
theorem dJ27_outOfBoundsMsg_13 : decode cJ27_outOfBoundsMsg 13 = .ok (.invokevirtual 106, 3) := dk_182 0 106 (dk_at dksJ27_outOfBoundsMsg_0 13 rfl rfl)
theorem dJ27_outOfBoundsMsg_16 : decode cJ27_outOfBoundsMsg 16 = .ok (.ldc 109, 2) := dk_18 109 (dk_at dksJ27_outOfBoundsMsg_0 16 rfl rfl)
theorem dJ27_outOfBoundsMsg_18 : decode cJ27_outOfBoundsMsg 18 = .ok (.invokevirtual 102, 3) := dk_182 0 102 (dk_at dksJ27_outOfBoundsMsg_0 18 rfl rfl)
theorem dJ27_outOfBoundsMsg_21 : decode cJ27_outOfBoundsMsg 21 = .ok (.aload_n 0, 1) := dk_42 (dk_at dksJ27_outOfBoundsMsg_0 21 rfl rfl)
theorem dJ27_outOfBoundsMsg_22 : decode cJ27_outOfBoundsMsg 22 = .ok (.getfield 7, 3) := dk_180 0 7 (dk_at dksJ27_outOfBoundsMsg_1 0 rfl rfl)
theorem dJ27_outOfBoundsMsg_25 : decode cJ27_outOfBoundsMsg 25 = .ok (.invokevirtual 106, 3) := dk_182 0 106 (dk_at dksJ27_outOfBoundsMsg_1 3 rfl rfl)
theorem dJ27_outOfBoundsMsg_28 : decode cJ27_outOfBoundsMsg 28 = .ok (.invokevirtual 111, 3) := dk_182 0 111 (dk_at dksJ27_outOfBoundsMsg_1 6 rfl rfl)
theorem dJ27_outOfBoundsMsg_31 : decode cJ27_outOfBoundsMsg 31 = .ok (.areturn, 1) := dk_176 (dk_at dksJ27_outOfBoundsMsg_1 9 rfl rfl)
abbrev cJ27_node : ByteArray := prog_78_method_31_code
def yJ27_node : MethodName := ⟨RJ27, "node", "(I)Ljava/util/LinkedList$Node;"⟩
def dkwJ27_node_2 : List UInt8 := [29, 27, 164, 0, 14, 44, 180, 0, 30, 77, 132, 3, 255, 167, 255, 243, 44, 176]
abbrev dktJ27_node_2 : List UInt8 := dkwJ27_node_2 ++ []
def dkwJ27_node_1 : List UInt8 := [180, 0, 36, 77, 132, 3, 1, 167, 255, 243, 44, 176, 42, 180, 0, 27, 77, 42, 180, 0, 7, 4, 100, 62]
abbrev dktJ27_node_1 : List UInt8 := dkwJ27_node_1 ++ dktJ27_node_2
def dkwJ27_node_0 : List UInt8 := [27, 42, 180, 0, 7, 4, 122, 162, 0, 28, 42, 180, 0, 18, 77, 3, 62, 29, 27, 162, 0, 14, 44]
abbrev dktJ27_node_0 : List UInt8 := dkwJ27_node_0 ++ dktJ27_node_1
theorem dksJ27_node_0 : cJ27_node.data.toList.drop 0 = dktJ27_node_0 := by decide +kernel
theorem dksJ27_node_1 : cJ27_node.data.toList.drop 23 = dktJ27_node_1 := dk_seg dksJ27_node_0 23 rfl rfl
theorem dksJ27_node_2 : cJ27_node.data.toList.drop 47 = dktJ27_node_2 := dk_seg dksJ27_node_1 24 rfl rfl
theorem dJ27_node_0 : decode cJ27_node 0 = .ok (.iload_n 1, 1) := dk_27 (dk_at dksJ27_node_0 0 rfl rfl)
theorem dJ27_node_1 : decode cJ27_node 1 = .ok (.aload_n 0, 1) := dk_42 (dk_at dksJ27_node_0 1 rfl rfl)
theorem dJ27_node_2 : decode cJ27_node 2 = .ok (.getfield 7, 3) := dk_180 0 7 (dk_at dksJ27_node_0 2 rfl rfl)
theorem dJ27_node_5 : decode cJ27_node 5 = .ok (.iconst 1, 1) := dk_4 (dk_at dksJ27_node_0 5 rfl rfl)
theorem dJ27_node_6 : decode cJ27_node 6 = .ok (.ishr, 1) := dk_122 (dk_at dksJ27_node_0 6 rfl rfl)
theorem dJ27_node_7 : decode cJ27_node 7 = .ok (.if_icmp .ge 28, 3) := dk_162 0 28 (dk_at dksJ27_node_0 7 rfl rfl)
theorem dJ27_node_10 : decode cJ27_node 10 = .ok (.aload_n 0, 1) := dk_42 (dk_at dksJ27_node_0 10 rfl rfl)
theorem dJ27_node_11 : decode cJ27_node 11 = .ok (.getfield 18, 3) := dk_180 0 18 (dk_at dksJ27_node_0 11 rfl rfl)
theorem dJ27_node_14 : decode cJ27_node 14 = .ok (.astore_n 2, 1) := dk_77 (dk_at dksJ27_node_0 14 rfl rfl)
theorem dJ27_node_15 : decode cJ27_node 15 = .ok (.iconst 0, 1) := dk_3 (dk_at dksJ27_node_0 15 rfl rfl)
theorem dJ27_node_16 : decode cJ27_node 16 = .ok (.istore_n 3, 1) := dk_62 (dk_at dksJ27_node_0 16 rfl rfl)
theorem dJ27_node_17 : decode cJ27_node 17 = .ok (.iload_n 3, 1) := dk_29 (dk_at dksJ27_node_0 17 rfl rfl)
theorem dJ27_node_18 : decode cJ27_node 18 = .ok (.iload_n 1, 1) := dk_27 (dk_at dksJ27_node_0 18 rfl rfl)
theorem dJ27_node_19 : decode cJ27_node 19 = .ok (.if_icmp .ge 14, 3) := dk_162 0 14 (dk_at dksJ27_node_0 19 rfl rfl)
theorem dJ27_node_22 : decode cJ27_node 22 = .ok (.aload_n 2, 1) := dk_44 (dk_at dksJ27_node_0 22 rfl rfl)
theorem dJ27_node_23 : decode cJ27_node 23 = .ok (.getfield 36, 3) := dk_180 0 36 (dk_at dksJ27_node_1 0 rfl rfl)
theorem dJ27_node_26 : decode cJ27_node 26 = .ok (.astore_n 2, 1) := dk_77 (dk_at dksJ27_node_1 3 rfl rfl)
theorem dJ27_node_27 : decode cJ27_node 27 = .ok (.iinc 3 1, 3) := dk_132 3 1 (dk_at dksJ27_node_1 4 rfl rfl)
theorem dJ27_node_30 : decode cJ27_node 30 = .ok (.goto (-13), 3) := dk_167 255 243 (dk_at dksJ27_node_1 7 rfl rfl)
theorem dJ27_node_33 : decode cJ27_node 33 = .ok (.aload_n 2, 1) := dk_44 (dk_at dksJ27_node_1 10 rfl rfl)
theorem dJ27_node_34 : decode cJ27_node 34 = .ok (.areturn, 1) := dk_176 (dk_at dksJ27_node_1 11 rfl rfl)
theorem dJ27_node_35 : decode cJ27_node 35 = .ok (.aload_n 0, 1) := dk_42 (dk_at dksJ27_node_1 12 rfl rfl)
theorem dJ27_node_36 : decode cJ27_node 36 = .ok (.getfield 27, 3) := dk_180 0 27 (dk_at dksJ27_node_1 13 rfl rfl)
theorem dJ27_node_39 : decode cJ27_node 39 = .ok (.astore_n 2, 1) := dk_77 (dk_at dksJ27_node_1 16 rfl rfl)
theorem dJ27_node_40 : decode cJ27_node 40 = .ok (.aload_n 0, 1) := dk_42 (dk_at dksJ27_node_1 17 rfl rfl)
theorem dJ27_node_41 : decode cJ27_node 41 = .ok (.getfield 7, 3) := dk_180 0 7 (dk_at dksJ27_node_1 18 rfl rfl)
theorem dJ27_node_44 : decode cJ27_node 44 = .ok (.iconst 1, 1) := dk_4 (dk_at dksJ27_node_1 21 rfl rfl)
theorem dJ27_node_45 : decode cJ27_node 45 = .ok (.isub, 1) := dk_100 (dk_at dksJ27_node_1 22 rfl rfl)
theorem dJ27_node_46 : decode cJ27_node 46 = .ok (.istore_n 3, 1) := dk_62 (dk_at dksJ27_node_1 23 rfl rfl)
theorem dJ27_node_47 : decode cJ27_node 47 = .ok (.iload_n 3, 1) := dk_29 (dk_at dksJ27_node_2 0 rfl rfl)
theorem dJ27_node_48 : decode cJ27_node 48 = .ok (.iload_n 1, 1) := dk_27 (dk_at dksJ27_node_2 1 rfl rfl)
theorem dJ27_node_49 : decode cJ27_node 49 = .ok (.if_icmp .le 14, 3) := dk_164 0 14 (dk_at dksJ27_node_2 2 rfl rfl)
theorem dJ27_node_52 : decode cJ27_node 52 = .ok (.aload_n 2, 1) := dk_44 (dk_at dksJ27_node_2 5 rfl rfl)
theorem dJ27_node_53 : decode cJ27_node 53 = .ok (.getfield 30, 3) := dk_180 0 30 (dk_at dksJ27_node_2 6 rfl rfl)
theorem dJ27_node_56 : decode cJ27_node 56 = .ok (.astore_n 2, 1) := dk_77 (dk_at dksJ27_node_2 9 rfl rfl)
theorem dJ27_node_57 : decode cJ27_node 57 = .ok (.iinc 3 (-1), 3) := dk_132 3 255 (dk_at dksJ27_node_2 10 rfl rfl)
theorem dJ27_node_60 : decode cJ27_node 60 = .ok (.goto (-13), 3) := dk_167 255 243 (dk_at dksJ27_node_2 13 rfl rfl)
theorem dJ27_node_63 : decode cJ27_node 63 = .ok (.aload_n 2, 1) := dk_44 (dk_at dksJ27_node_2 16 rfl rfl)
theorem dJ27_node_64 : decode cJ27_node 64 = .ok (.areturn, 1) := dk_176 (dk_at dksJ27_node_2 17 rfl rfl)
abbrev cJ27_size : ByteArray := prog_78_method_16_code
def yJ27_size : MethodName := ⟨RJ27, "size", "()I"⟩
theorem dJ27_size_0 : decode cJ27_size 0 = .ok (.aload_n 0, 1) := by decide +kernel
theorem dJ27_size_1 : decode cJ27_size 1 = .ok (.getfield 7, 3) := by decide +kernel
theorem dJ27_size_4 : decode cJ27_size 4 = .ok (.ireturn, 1) := by decide +kernel
abbrev cJ27_get : ByteArray := prog_78_method_22_code
def yJ27_get : MethodName := ⟨RJ27, "get", "(I)Ljava/lang/Object;"⟩
def dkwJ27_get_0 : List UInt8 := [42, 27, 182, 0, 90, 42, 27, 182, 0, 86, 180, 0, 39, 176]
abbrev dktJ27_get_0 : List UInt8 := dkwJ27_get_0 ++ []
theorem dksJ27_get_0 : cJ27_get.data.toList.drop 0 = dktJ27_get_0 := by decide +kernel
theorem dJ27_get_0 : decode cJ27_get 0 = .ok (.aload_n 0, 1) := dk_42 (dk_at dksJ27_get_0 0 rfl rfl)
theorem dJ27_get_1 : decode cJ27_get 1 = .ok (.iload_n 1, 1) := dk_27 (dk_at dksJ27_get_0 1 rfl rfl)
theorem dJ27_get_2 : decode cJ27_get 2 = .ok (.invokevirtual 90, 3) := dk_182 0 90 (dk_at dksJ27_get_0 2 rfl rfl)
theorem dJ27_get_5 : decode cJ27_get 5 = .ok (.aload_n 0, 1) := dk_42 (dk_at dksJ27_get_0 5 rfl rfl)
theorem dJ27_get_6 : decode cJ27_get 6 = .ok (.iload_n 1, 1) := dk_27 (dk_at dksJ27_get_0 6 rfl rfl)
theorem dJ27_get_7 : decode cJ27_get 7 = .ok (.invokevirtual 86, 3) := dk_182 0 86 (dk_at dksJ27_get_0 7 rfl rfl)
theorem dJ27_get_10 : decode cJ27_get 10 = .ok (.getfield 39, 3) := dk_180 0 39 (dk_at dksJ27_get_0 10 rfl rfl)
theorem dJ27_get_13 : decode cJ27_get 13 = .ok (.areturn, 1) := dk_176 (dk_at dksJ27_get_0 13 rfl rfl)
abbrev cJ27_checkElementIndex : ByteArray := prog_78_method_29_code
def yJ27_checkElementIndex : MethodName := ⟨RJ27, "checkElementIndex", "(I)V"⟩
def dkwJ27_checkElementIndex_0 : List UInt8 := [42, 27, 182, 0, 115, 154, 0, 16, 187, 0, 119, 89, 42, 27, 182, 0, 121, 183, 0, 125, 191, 177]
abbrev dktJ27_checkElementIndex_0 : List UInt8 := dkwJ27_checkElementIndex_0 ++ []
theorem dksJ27_checkElementIndex_0 : cJ27_checkElementIndex.data.toList.drop 0 = dktJ27_checkElementIndex_0 := by decide +kernel
theorem dJ27_checkElementIndex_0 : decode cJ27_checkElementIndex 0 = .ok (.aload_n 0, 1) := dk_42 (dk_at dksJ27_checkElementIndex_0 0 rfl rfl)
theorem dJ27_checkElementIndex_1 : decode cJ27_checkElementIndex 1 = .ok (.iload_n 1, 1) := dk_27 (dk_at dksJ27_checkElementIndex_0 1 rfl rfl)
theorem dJ27_checkElementIndex_2 : decode cJ27_checkElementIndex 2 = .ok (.invokevirtual 115, 3) := dk_182 0 115 (dk_at dksJ27_checkElementIndex_0 2 rfl rfl)
theorem dJ27_checkElementIndex_5 : decode cJ27_checkElementIndex 5 = .ok (.ifCond .ne 16, 3) := dk_154 0 16 (dk_at dksJ27_checkElementIndex_0 5 rfl rfl)
theorem dJ27_checkElementIndex_8 : decode cJ27_checkElementIndex 8 = .ok (.new 119, 3) := dk_187 0 119 (dk_at dksJ27_checkElementIndex_0 8 rfl rfl)
theorem dJ27_checkElementIndex_11 : decode cJ27_checkElementIndex 11 = .ok (.dup, 1) := dk_89 (dk_at dksJ27_checkElementIndex_0 11 rfl rfl)
theorem dJ27_checkElementIndex_12 : decode cJ27_checkElementIndex 12 = .ok (.aload_n 0, 1) := dk_42 (dk_at dksJ27_checkElementIndex_0 12 rfl rfl)
theorem dJ27_checkElementIndex_13 : decode cJ27_checkElementIndex 13 = .ok (.iload_n 1, 1) := dk_27 (dk_at dksJ27_checkElementIndex_0 13 rfl rfl)
theorem dJ27_checkElementIndex_14 : decode cJ27_checkElementIndex 14 = .ok (.invokevirtual 121, 3) := dk_182 0 121 (dk_at dksJ27_checkElementIndex_0 14 rfl rfl)
theorem dJ27_checkElementIndex_17 : decode cJ27_checkElementIndex 17 = .ok (.invokespecial 125, 3) := dk_183 0 125 (dk_at dksJ27_checkElementIndex_0 17 rfl rfl)
theorem dJ27_checkElementIndex_20 : decode cJ27_checkElementIndex 20 = .ok (.athrow, 1) := dk_191 (dk_at dksJ27_checkElementIndex_0 20 rfl rfl)
theorem dJ27_checkElementIndex_21 : decode cJ27_checkElementIndex 21 = .ok (.return_, 1) := dk_177 (dk_at dksJ27_checkElementIndex_0 21 rfl rfl)
abbrev cJ27_isElementIndex : ByteArray := prog_78_method_26_code
def yJ27_isElementIndex : MethodName := ⟨RJ27, "isElementIndex", "(I)Z"⟩
def dkwJ27_isElementIndex_0 : List UInt8 := [27, 155, 0, 15, 27, 42, 180, 0, 7, 162, 0, 7, 4, 167, 0, 4, 3, 172]
abbrev dktJ27_isElementIndex_0 : List UInt8 := dkwJ27_isElementIndex_0 ++ []
theorem dksJ27_isElementIndex_0 : cJ27_isElementIndex.data.toList.drop 0 = dktJ27_isElementIndex_0 := by decide +kernel
theorem dJ27_isElementIndex_0 : decode cJ27_isElementIndex 0 = .ok (.iload_n 1, 1) := dk_27 (dk_at dksJ27_isElementIndex_0 0 rfl rfl)
theorem dJ27_isElementIndex_1 : decode cJ27_isElementIndex 1 = .ok (.ifCond .lt 15, 3) := dk_155 0 15 (dk_at dksJ27_isElementIndex_0 1 rfl rfl)
theorem dJ27_isElementIndex_4 : decode cJ27_isElementIndex 4 = .ok (.iload_n 1, 1) := dk_27 (dk_at dksJ27_isElementIndex_0 4 rfl rfl)
theorem dJ27_isElementIndex_5 : decode cJ27_isElementIndex 5 = .ok (.aload_n 0, 1) := dk_42 (dk_at dksJ27_isElementIndex_0 5 rfl rfl)
theorem dJ27_isElementIndex_6 : decode cJ27_isElementIndex 6 = .ok (.getfield 7, 3) := dk_180 0 7 (dk_at dksJ27_isElementIndex_0 6 rfl rfl)
theorem dJ27_isElementIndex_9 : decode cJ27_isElementIndex 9 = .ok (.if_icmp .ge 7, 3) := dk_162 0 7 (dk_at dksJ27_isElementIndex_0 9 rfl rfl)
theorem dJ27_isElementIndex_12 : decode cJ27_isElementIndex 12 = .ok (.iconst 1, 1) := dk_4 (dk_at dksJ27_isElementIndex_0 12 rfl rfl)
theorem dJ27_isElementIndex_13 : decode cJ27_isElementIndex 13 = .ok (.goto 4, 3) := dk_167 0 4 (dk_at dksJ27_isElementIndex_0 13 rfl rfl)
theorem dJ27_isElementIndex_16 : decode cJ27_isElementIndex 16 = .ok (.iconst 0, 1) := dk_3 (dk_at dksJ27_isElementIndex_0 16 rfl rfl)
theorem dJ27_isElementIndex_17 : decode cJ27_isElementIndex 17 = .ok (.ireturn, 1) := dk_172 (dk_at dksJ27_isElementIndex_0 17 rfl rfl)
abbrev cJ27_init : ByteArray := prog_78_method_1_code
def yJ27_init : MethodName := ⟨RJ27, "<init>", "()V"⟩
def dkwJ27_init_0 : List UInt8 := [42, 183, 0, 1, 42, 3, 181, 0, 7, 177]
abbrev dktJ27_init_0 : List UInt8 := dkwJ27_init_0 ++ []
theorem dksJ27_init_0 : cJ27_init.data.toList.drop 0 = dktJ27_init_0 := by decide +kernel
theorem dJ27_init_0 : decode cJ27_init 0 = .ok (.aload_n 0, 1) := dk_42 (dk_at dksJ27_init_0 0 rfl rfl)
theorem dJ27_init_1 : decode cJ27_init 1 = .ok (.invokespecial 1, 3) := dk_183 0 1 (dk_at dksJ27_init_0 1 rfl rfl)
theorem dJ27_init_4 : decode cJ27_init 4 = .ok (.aload_n 0, 1) := dk_42 (dk_at dksJ27_init_0 4 rfl rfl)
theorem dJ27_init_5 : decode cJ27_init 5 = .ok (.iconst 0, 1) := dk_3 (dk_at dksJ27_init_0 5 rfl rfl)
theorem dJ27_init_6 : decode cJ27_init 6 = .ok (.putfield 7, 3) := dk_181 0 7 (dk_at dksJ27_init_0 6 rfl rfl)
theorem dJ27_init_9 : decode cJ27_init 9 = .ok (.return_, 1) := dk_177 (dk_at dksJ27_init_0 9 rfl rfl)
abbrev cJ27_add : ByteArray := prog_78_method_17_code
def yJ27_add : MethodName := ⟨RJ27, "add", "(Ljava/lang/Object;)Z"⟩
def dkwJ27_add_0 : List UInt8 := [42, 43, 182, 0, 57, 4, 172]
abbrev dktJ27_add_0 : List UInt8 := dkwJ27_add_0 ++ []
theorem dksJ27_add_0 : cJ27_add.data.toList.drop 0 = dktJ27_add_0 := by decide +kernel
theorem dJ27_add_0 : decode cJ27_add 0 = .ok (.aload_n 0, 1) := dk_42 (dk_at dksJ27_add_0 0 rfl rfl)
theorem dJ27_add_1 : decode cJ27_add 1 = .ok (.aload_n 1, 1) := dk_43 (dk_at dksJ27_add_0 1 rfl rfl)
theorem dJ27_add_2 : decode cJ27_add 2 = .ok (.invokevirtual 57, 3) := dk_182 0 57 (dk_at dksJ27_add_0 2 rfl rfl)
theorem dJ27_add_5 : decode cJ27_add 5 = .ok (.iconst 1, 1) := dk_4 (dk_at dksJ27_add_0 5 rfl rfl)
theorem dJ27_add_6 : decode cJ27_add 6 = .ok (.ireturn, 1) := dk_172 (dk_at dksJ27_add_0 6 rfl rfl)
abbrev cJ27_linkLast : ByteArray := prog_78_method_4_code
def yJ27_linkLast : MethodName := ⟨RJ27, "linkLast", "(Ljava/lang/Object;)V"⟩
def dkwJ27_linkLast_2 : List UInt8 := [181, 0, 7, 42, 89, 180, 0, 33, 4, 96, 181, 0, 33, 177]
abbrev dktJ27_linkLast_2 : List UInt8 := dkwJ27_linkLast_2 ++ []
def dkwJ27_linkLast_1 : List UInt8 := [199, 0, 11, 42, 45, 181, 0, 18, 167, 0, 8, 44, 45, 181, 0, 36, 42, 89, 180, 0, 7, 4, 96]
abbrev dktJ27_linkLast_1 : List UInt8 := dkwJ27_linkLast_1 ++ dktJ27_linkLast_2
def dkwJ27_linkLast_0 : List UInt8 := [42, 180, 0, 27, 77, 187, 0, 22, 89, 44, 43, 1, 183, 0, 24, 78, 42, 45, 181, 0, 27, 44]
abbrev dktJ27_linkLast_0 : List UInt8 := dkwJ27_linkLast_0 ++ dktJ27_linkLast_1
theorem dksJ27_linkLast_0 : cJ27_linkLast.data.toList.drop 0 = dktJ27_linkLast_0 := by decide +kernel
theorem dksJ27_linkLast_1 : cJ27_linkLast.data.toList.drop 22 = dktJ27_linkLast_1 := dk_seg dksJ27_linkLast_0 22 rfl rfl
theorem dksJ27_linkLast_2 : cJ27_linkLast.data.toList.drop 45 = dktJ27_linkLast_2 := dk_seg dksJ27_linkLast_1 23 rfl rfl
theorem dJ27_linkLast_0 : decode cJ27_linkLast 0 = .ok (.aload_n 0, 1) := dk_42 (dk_at dksJ27_linkLast_0 0 rfl rfl)
theorem dJ27_linkLast_1 : decode cJ27_linkLast 1 = .ok (.getfield 27, 3) := dk_180 0 27 (dk_at dksJ27_linkLast_0 1 rfl rfl)
theorem dJ27_linkLast_4 : decode cJ27_linkLast 4 = .ok (.astore_n 2, 1) := dk_77 (dk_at dksJ27_linkLast_0 4 rfl rfl)
theorem dJ27_linkLast_5 : decode cJ27_linkLast 5 = .ok (.new 22, 3) := dk_187 0 22 (dk_at dksJ27_linkLast_0 5 rfl rfl)
theorem dJ27_linkLast_8 : decode cJ27_linkLast 8 = .ok (.dup, 1) := dk_89 (dk_at dksJ27_linkLast_0 8 rfl rfl)
theorem dJ27_linkLast_9 : decode cJ27_linkLast 9 = .ok (.aload_n 2, 1) := dk_44 (dk_at dksJ27_linkLast_0 9 rfl rfl)
theorem dJ27_linkLast_10 : decode cJ27_linkLast 10 = .ok (.aload_n 1, 1) := dk_43 (dk_at dksJ27_linkLast_0 10 rfl rfl)
theorem dJ27_linkLast_11 : decode cJ27_linkLast 11 = .ok (.aconst_null, 1) := dk_1 (dk_at dksJ27_linkLast_0 11 rfl rfl)
theorem dJ27_linkLast_12 : decode cJ27_linkLast 12 = .ok (.invokespecial 24, 3) := dk_183 0 24 (dk_at dksJ27_linkLast_0 12 rfl rfl)
theorem dJ27_linkLast_15 : decode cJ27_linkLast 15 = .ok (.astore_n 3, 1) := dk_78 (dk_at dksJ27_linkLast_0 15 rfl rfl)
theorem dJ27_linkLast_16 : decode cJ27_linkLast 16 = .ok (.aload_n 0, 1) := dk_42 (dk_at dksJ27_linkLast_0 16 rfl rfl)
theorem dJ27_linkLast_17 : decode cJ27_linkLast 17 = .ok (.aload_n 3, 1) := dk_45 (dk_at dksJ27_linkLast_0 17 rfl rfl)
theorem dJ27_linkLast_18 : decode cJ27_linkLast 18 = .ok (.putfield 27, 3) := dk_181 0 27 (dk_at dksJ27_linkLast_0 18 rfl rfl)
theorem dJ27_linkLast_21 : decode cJ27_linkLast 21 = .ok (.aload_n 2, 1) := dk_44 (dk_at dksJ27_linkLast_0 21 rfl rfl)
theorem dJ27_linkLast_22 : decode cJ27_linkLast 22 = .ok (.ifnonnull 11, 3) := dk_199 0 11 (dk_at dksJ27_linkLast_1 0 rfl rfl)
theorem dJ27_linkLast_25 : decode cJ27_linkLast 25 = .ok (.aload_n 0, 1) := dk_42 (dk_at dksJ27_linkLast_1 3 rfl rfl)
theorem dJ27_linkLast_26 : decode cJ27_linkLast 26 = .ok (.aload_n 3, 1) := dk_45 (dk_at dksJ27_linkLast_1 4 rfl rfl)
theorem dJ27_linkLast_27 : decode cJ27_linkLast 27 = .ok (.putfield 18, 3) := dk_181 0 18 (dk_at dksJ27_linkLast_1 5 rfl rfl)
theorem dJ27_linkLast_30 : decode cJ27_linkLast 30 = .ok (.goto 8, 3) := dk_167 0 8 (dk_at dksJ27_linkLast_1 8 rfl rfl)
theorem dJ27_linkLast_33 : decode cJ27_linkLast 33 = .ok (.aload_n 2, 1) := dk_44 (dk_at dksJ27_linkLast_1 11 rfl rfl)
theorem dJ27_linkLast_34 : decode cJ27_linkLast 34 = .ok (.aload_n 3, 1) := dk_45 (dk_at dksJ27_linkLast_1 12 rfl rfl)
theorem dJ27_linkLast_35 : decode cJ27_linkLast 35 = .ok (.putfield 36, 3) := dk_181 0 36 (dk_at dksJ27_linkLast_1 13 rfl rfl)
theorem dJ27_linkLast_38 : decode cJ27_linkLast 38 = .ok (.aload_n 0, 1) := dk_42 (dk_at dksJ27_linkLast_1 16 rfl rfl)
theorem dJ27_linkLast_39 : decode cJ27_linkLast 39 = .ok (.dup, 1) := dk_89 (dk_at dksJ27_linkLast_1 17 rfl rfl)
theorem dJ27_linkLast_40 : decode cJ27_linkLast 40 = .ok (.getfield 7, 3) := dk_180 0 7 (dk_at dksJ27_linkLast_1 18 rfl rfl)
theorem dJ27_linkLast_43 : decode cJ27_linkLast 43 = .ok (.iconst 1, 1) := dk_4 (dk_at dksJ27_linkLast_1 21 rfl rfl)
theorem dJ27_linkLast_44 : decode cJ27_linkLast 44 = .ok (.iadd, 1) := dk_96 (dk_at dksJ27_linkLast_1 22 rfl rfl)
theorem dJ27_linkLast_45 : decode cJ27_linkLast 45 = .ok (.putfield 7, 3) := dk_181 0 7 (dk_at dksJ27_linkLast_2 0 rfl rfl)
theorem dJ27_linkLast_48 : decode cJ27_linkLast 48 = .ok (.aload_n 0, 1) := dk_42 (dk_at dksJ27_linkLast_2 3 rfl rfl)
theorem dJ27_linkLast_49 : decode cJ27_linkLast 49 = .ok (.dup, 1) := dk_89 (dk_at dksJ27_linkLast_2 4 rfl rfl)
theorem dJ27_linkLast_50 : decode cJ27_linkLast 50 = .ok (.getfield 33, 3) := dk_180 0 33 (dk_at dksJ27_linkLast_2 5 rfl rfl)
theorem dJ27_linkLast_53 : decode cJ27_linkLast 53 = .ok (.iconst 1, 1) := dk_4 (dk_at dksJ27_linkLast_2 8 rfl rfl)
theorem dJ27_linkLast_54 : decode cJ27_linkLast 54 = .ok (.iadd, 1) := dk_96 (dk_at dksJ27_linkLast_2 9 rfl rfl)
theorem dJ27_linkLast_55 : decode cJ27_linkLast 55 = .ok (.putfield 33, 3) := dk_181 0 33 (dk_at dksJ27_linkLast_2 10 rfl rfl)
theorem dJ27_linkLast_58 : decode cJ27_linkLast 58 = .ok (.return_, 1) := dk_177 (dk_at dksJ27_linkLast_2 13 rfl rfl)
theorem q173 : (Jvm.Cond.initialized "java/util/LinkedList") ∈ lw_all := lw_g (lw_at lw_m1 43 rfl) rfl
theorem q755 : (Jvm.Cond.instanceMethod ({ cls := "java/util/LinkedList", name := "contains", desc := "(Ljava/lang/Object;)Z" } : Jvm.MethodName)) ∈ lw_all := lw_g (lw_at lw_m3 145 rfl) rfl
theorem q756 : (Jvm.Cond.selects "java/util/LinkedList" ({ cls := "java/util/LinkedList", name := "contains", desc := "(Ljava/lang/Object;)Z" } : Jvm.MethodName) ({ cls := "java/util/LinkedList", name := "contains", desc := "(Ljava/lang/Object;)Z" } : Jvm.MethodName)) ∈ lw_all := lw_g (lw_at lw_m3 146 rfl) rfl
theorem q757 : (Jvm.Cond.code ({ cls := "java/util/LinkedList", name := "contains", desc := "(Ljava/lang/Object;)Z" } : Jvm.MethodName) prog_78_method_15_code (2 : Nat) (Option.some Jvm.ClassFile.FieldType.boolean)) ∈ lw_all := lw_g (lw_at lw_m3 147 rfl) rfl
theorem q758 : (Jvm.Cond.methodLink "java/util/LinkedList" (60 : Nat) ({ cls := "java/util/LinkedList", name := "indexOf", desc := "(Ljava/lang/Object;)I" } : Jvm.MethodName)) ∈ lw_all := lw_g (lw_at lw_m3 148 rfl) rfl
theorem q759 : (Jvm.Cond.instanceMethod ({ cls := "java/util/LinkedList", name := "indexOf", desc := "(Ljava/lang/Object;)I" } : Jvm.MethodName)) ∈ lw_all := lw_g (lw_at lw_m3 149 rfl) rfl
theorem q760 : (Jvm.Cond.selects "java/util/LinkedList" ({ cls := "java/util/LinkedList", name := "indexOf", desc := "(Ljava/lang/Object;)I" } : Jvm.MethodName) ({ cls := "java/util/LinkedList", name := "indexOf", desc := "(Ljava/lang/Object;)I" } : Jvm.MethodName)) ∈ lw_all := lw_g (lw_at lw_m3 150 rfl) rfl
theorem q761 : (Jvm.Cond.code ({ cls := "java/util/LinkedList", name := "indexOf", desc := "(Ljava/lang/Object;)I" } : Jvm.MethodName) prog_78_method_32_code (4 : Nat) (Option.some Jvm.ClassFile.FieldType.int)) ∈ lw_all := lw_g (lw_at lw_m3 151 rfl) rfl
theorem q763 : (Jvm.Cond.methodLink "java/util/LinkedList" (67 : Nat) ({ cls := "java/lang/Object", name := "equals", desc := "(Ljava/lang/Object;)Z" } : Jvm.MethodName)) ∈ lw_all := lw_g (lw_at lw_m3 153 rfl) rfl
theorem q887 : (Jvm.Cond.selects "java/util/LinkedList" ({ cls := "java/lang/Object", name := "getClass", desc := "()Ljava/lang/Class;" } : Jvm.MethodName) ({ cls := "java/lang/Object", name := "getClass", desc := "()Ljava/lang/Class;" } : Jvm.MethodName)) ∈ lw_all := lw_g (lw_at lw_m4 37 rfl) rfl
theorem q964 : (Jvm.Cond.sameMethod "java/util/LinkedList" "java/util/AbstractSequentialList" "iterator" "()Ljava/util/Iterator;") ∈ lw_all := lw_g (lw_at lw_m4 114 rfl) rfl
theorem q966 : (Jvm.Cond.selects "java/util/LinkedList" ({ cls := "java/util/LinkedList", name := "iterator", desc := "()Ljava/util/Iterator;" } : Jvm.MethodName) ({ cls := "java/util/AbstractSequentialList", name := "iterator", desc := "()Ljava/util/Iterator;" } : Jvm.MethodName)) ∈ lw_all := lw_g (lw_at lw_m4 116 rfl) rfl
theorem q972 : (Jvm.Cond.selects "java/util/LinkedList" ({ cls := "java/util/AbstractSequentialList", name := "listIterator", desc := "()Ljava/util/ListIterator;" } : Jvm.MethodName) ({ cls := "java/util/AbstractList", name := "listIterator", desc := "()Ljava/util/ListIterator;" } : Jvm.MethodName)) ∈ lw_all := lw_g (lw_at lw_m4 122 rfl) rfl
theorem q978 : (Jvm.Cond.selects "java/util/LinkedList" ({ cls := "java/util/AbstractList", name := "listIterator", desc := "(I)Ljava/util/ListIterator;" } : Jvm.MethodName) ({ cls := "java/util/LinkedList", name := "listIterator", desc := "(I)Ljava/util/ListIterator;" } : Jvm.MethodName)) ∈ lw_all := lw_g (lw_at lw_m4 128 rfl) rfl
theorem q979 : (Jvm.Cond.instanceMethod ({ cls := "java/util/LinkedList", name := "listIterator", desc := "(I)Ljava/util/ListIterator;" } : Jvm.MethodName)) ∈ lw_all := lw_g (lw_at lw_m4 129 rfl) rfl
theorem q980 : (Jvm.Cond.code ({ cls := "java/util/LinkedList", name := "listIterator", desc := "(I)Ljava/util/ListIterator;" } : Jvm.MethodName) prog_78_method_49_code (2 : Nat) (Option.some (Jvm.ClassFile.FieldType.object "java/util/ListIterator"))) ∈ lw_all := lw_g (lw_at lw_m4 130 rfl) rfl
theorem q981 : (Jvm.Cond.methodLink "java/util/LinkedList" (76 : Nat) ({ cls := "java/util/LinkedList", name := "checkPositionIndex", desc := "(I)V" } : Jvm.MethodName)) ∈ lw_all := lw_g (lw_at lw_m4 131 rfl) rfl
theorem q982 : (Jvm.Cond.privateMethod ({ cls := "java/util/LinkedList", name := "checkPositionIndex", desc := "(I)V" } : Jvm.MethodName)) ∈ lw_tbl := lw_at lw_m4 132 rfl
theorem q983 : (Jvm.Cond.instanceMethod ({ cls := "java/util/LinkedList", name := "checkPositionIndex", desc := "(I)V" } : Jvm.MethodName)) ∈ lw_all := lw_g (lw_at lw_m4 133 rfl) rfl
theorem q984 : (Jvm.Cond.instantiable "java/util/LinkedList" (4 : Nat)) ∈ lw_all := lw_g (lw_at lw_m4 134 rfl) rfl
theorem q985 : (Jvm.Cond.code ({ cls := "java/util/LinkedList", name := "checkPositionIndex", desc := "(I)V" } : Jvm.MethodName) prog_78_method_30_code (2 : Nat) (Option.none : Option Jvm.ClassFile.FieldType)) ∈ lw_all := lw_g (lw_at lw_m4 135 rfl) rfl
theorem q986 : (Jvm.Cond.methodLink "java/util/LinkedList" (128 : Nat) ({ cls := "java/util/LinkedList", name := "isPositionIndex", desc := "(I)Z" } : Jvm.MethodName)) ∈ lw_all := lw_g (lw_at lw_m4 136 rfl) rfl
theorem q987 : (Jvm.Cond.privateMethod ({ cls := "java/util/LinkedList", name := "isPositionIndex", desc := "(I)Z" } : Jvm.MethodName)) ∈ lw_tbl := lw_at lw_m4 137 rfl
theorem q988 : (Jvm.Cond.instanceMethod ({ cls := "java/util/LinkedList", name := "isPositionIndex", desc := "(I)Z" } : Jvm.MethodName)) ∈ lw_all := lw_g (lw_at lw_m4 138 rfl) rfl
theorem q989 : (Jvm.Cond.code ({ cls := "java/util/LinkedList", name := "isPositionIndex", desc := "(I)Z" } : Jvm.MethodName) prog_78_method_27_code (2 : Nat) (Option.some Jvm.ClassFile.FieldType.boolean)) ∈ lw_all := lw_g (lw_at lw_m4 139 rfl) rfl
theorem q990 : (Jvm.Cond.classLink "java/util/LinkedList" (119 : Nat) "java/lang/IndexOutOfBoundsException") ∈ lw_all := lw_g (lw_at lw_m4 140 rfl) rfl
theorem q991 : (Jvm.Cond.methodLink "java/util/LinkedList" (121 : Nat) ({ cls := "java/util/LinkedList", name := "outOfBoundsMsg", desc := "(I)Ljava/lang/String;" } : Jvm.MethodName)) ∈ lw_all := lw_g (lw_at lw_m4 141 rfl) rfl
theorem q992 : (Jvm.Cond.privateMethod ({ cls := "java/util/LinkedList", name := "outOfBoundsMsg", desc := "(I)Ljava/lang/String;" } : Jvm.MethodName)) ∈ lw_tbl := lw_at lw_m4 142 rfl
theorem q993 : (Jvm.Cond.instanceMethod ({ cls := "java/util/LinkedList", name := "outOfBoundsMsg", desc := "(I)Ljava/lang/String;" } : Jvm.MethodName)) ∈ lw_all := lw_g (lw_at lw_m4 143 rfl) rfl
theorem q994 : (Jvm.Cond.code ({ cls := "java/util/LinkedList", name := "outOfBoundsMsg", desc := "(I)Ljava/lang/String;" } : Jvm.MethodName) prog_78_method_28_code (2 : Nat) (Option.some (Jvm.ClassFile.FieldType.object "java/lang/String"))) ∈ lw_all := lw_g (lw_at lw_m4 144 rfl) rfl
theorem q995 : (Jvm.Cond.classLink "java/util/LinkedList" (97 : Nat) "java/lang/StringBuilder") ∈ lw_all := lw_g (lw_at lw_m4 145 rfl) rfl
theorem q996 : (Jvm.Cond.methodLink "java/util/LinkedList" (99 : Nat) ({ cls := "java/lang/StringBuilder", name := "<init>", desc := "()V" } : Jvm.MethodName)) ∈ lw_all := lw_g (lw_at lw_m4 146 rfl) rfl
theorem q997 : (Jvm.Cond.stringRef "java/util/LinkedList" (100 : Nat) "Index: ") ∈ lw_tbl := lw_at lw_m4 147 rfl
theorem q998 : (Jvm.Cond.methodLink "java/util/LinkedList" (102 : Nat) ({ cls := "java/lang/StringBuilder", name := "append", desc := "(Ljava/lang/String;)Ljava/lang/StringBuilder;" } : Jvm.MethodName)) ∈ lw_all := lw_g (lw_at lw_m4 148 rfl) rfl
theorem q999 : (Jvm.Cond.methodLink "java/util/LinkedList" (106 : Nat) ({ cls := "java/lang/StringBuilder", name := "append", desc := "(I)Ljava/lang/StringBuilder;" } : Jvm.MethodName)) ∈ lw_all := lw_g (lw_at lw_m4 149 rfl) rfl
theorem q1000 : (Jvm.Cond.stringRef "java/util/LinkedList" (109 : Nat) ", Size: ") ∈ lw_tbl := lw_at lw_m4 150 rfl
theorem q1001 : (Jvm.Cond.methodLink "java/util/LinkedList" (111 : Nat) ({ cls := "java/lang/StringBuilder", name := "toString", desc := "()Ljava/lang/String;" } : Jvm.MethodName)) ∈ lw_all := lw_g (lw_at lw_m4 151 rfl) rfl
theorem q1002 : (Jvm.Cond.methodLink "java/util/LinkedList" (125 : Nat) ({ cls := "java/lang/IndexOutOfBoundsException", name := "<init>", desc := "(Ljava/lang/String;)V" } : Jvm.MethodName)) ∈ lw_all := lw_g (lw_at lw_m4 152 rfl) rfl
theorem q1003 : (Jvm.Cond.classLink "java/util/LinkedList" (150 : Nat) "java/util/LinkedList$ListItr") ∈ lw_all := lw_g (lw_at lw_m4 153 rfl) rfl
theorem q1005 : (Jvm.Cond.methodLink "java/util/LinkedList" (152 : Nat) ({ cls := "java/util/LinkedList$ListItr", name := "<init>", desc := "(Ljava/util/LinkedList;I)V" } : Jvm.MethodName)) ∈ lw_all := lw_g (lw_at lw_m4 155 rfl) rfl
theorem q1010 : (Jvm.Cond.instanceMethod ({ cls := "java/util/LinkedList", name := "node", desc := "(I)Ljava/util/LinkedList$Node;" } : Jvm.MethodName)) ∈ lw_all := lw_g (lw_at lw_m4 160 rfl) rfl
theorem q1011 : (Jvm.Cond.selects "java/util/LinkedList" ({ cls := "java/util/LinkedList", name := "node", desc := "(I)Ljava/util/LinkedList$Node;" } : Jvm.MethodName) ({ cls := "java/util/LinkedList", name := "node", desc := "(I)Ljava/util/LinkedList$Node;" } : Jvm.MethodName)) ∈ lw_all := lw_g (lw_at lw_m4 161 rfl) rfl
theorem q1012 : (Jvm.Cond.code ({ cls := "java/util/LinkedList", name := "node", desc := "(I)Ljava/util/LinkedList$Node;" } : Jvm.MethodName) prog_78_method_31_code (4 : Nat) (Option.some (Jvm.ClassFile.FieldType.object "java/util/LinkedList$Node"))) ∈ lw_all := lw_g (lw_at lw_m4 162 rfl) rfl
theorem q1043 : (Jvm.Cond.selects "java/util/LinkedList" ({ cls := "java/util/AbstractList", name := "size", desc := "()I" } : Jvm.MethodName) ({ cls := "java/util/LinkedList", name := "size", desc := "()I" } : Jvm.MethodName)) ∈ lw_all := lw_g (lw_at lw_m4 193 rfl) rfl
theorem q1044 : (Jvm.Cond.instanceMethod ({ cls := "java/util/LinkedList", name := "size", desc := "()I" } : Jvm.MethodName)) ∈ lw_all := lw_g (lw_at lw_m4 194 rfl) rfl
theorem q1045 : (Jvm.Cond.code ({ cls := "java/util/LinkedList", name := "size", desc := "()I" } : Jvm.MethodName) prog_78_method_16_code (1 : Nat) (Option.some Jvm.ClassFile.FieldType.int)) ∈ lw_all := lw_g (lw_at lw_m4 195 rfl) rfl
theorem q1069 : (Jvm.Cond.selects "java/util/LinkedList" ({ cls := "java/util/AbstractList", name := "get", desc := "(I)Ljava/lang/Object;" } : Jvm.MethodName) ({ cls := "java/util/LinkedList", name := "get", desc := "(I)Ljava/lang/Object;" } : Jvm.MethodName)) ∈ lw_all := lw_g (lw_at lw_m4 219 rfl) rfl
theorem q1070 : (Jvm.Cond.instanceMethod ({ cls := "java/util/LinkedList", name := "get", desc := "(I)Ljava/lang/Object;" } : Jvm.MethodName)) ∈ lw_all := lw_g (lw_at lw_m4 220 rfl) rfl
theorem q1071 : (Jvm.Cond.code ({ cls := "java/util/LinkedList", name := "get", desc := "(I)Ljava/lang/Object;" } : Jvm.MethodName) prog_78_method_22_code (2 : Nat) (Option.some (Jvm.ClassFile.FieldType.object "java/lang/Object"))) ∈ lw_all := lw_g (lw_at lw_m4 221 rfl) rfl
theorem q1072 : (Jvm.Cond.methodLink "java/util/LinkedList" (90 : Nat) ({ cls := "java/util/LinkedList", name := "checkElementIndex", desc := "(I)V" } : Jvm.MethodName)) ∈ lw_all := lw_g (lw_at lw_m4 222 rfl) rfl
theorem q1073 : (Jvm.Cond.privateMethod ({ cls := "java/util/LinkedList", name := "checkElementIndex", desc := "(I)V" } : Jvm.MethodName)) ∈ lw_tbl := lw_at lw_m4 223 rfl
theorem q1074 : (Jvm.Cond.instanceMethod ({ cls := "java/util/LinkedList", name := "checkElementIndex", desc := "(I)V" } : Jvm.MethodName)) ∈ lw_all := lw_g (lw_at lw_m4 224 rfl) rfl
theorem q1075 : (Jvm.Cond.code ({ cls := "java/util/LinkedList", name := "checkElementIndex", desc := "(I)V" } : Jvm.MethodName) prog_78_method_29_code (2 : Nat) (Option.none : Option Jvm.ClassFile.FieldType)) ∈ lw_all := lw_g (lw_at lw_m4 225 rfl) rfl
theorem q1076 : (Jvm.Cond.methodLink "java/util/LinkedList" (115 : Nat) ({ cls := "java/util/LinkedList", name := "isElementIndex", desc := "(I)Z" } : Jvm.MethodName)) ∈ lw_all := lw_g (lw_at lw_m4 226 rfl) rfl
theorem q1077 : (Jvm.Cond.privateMethod ({ cls := "java/util/LinkedList", name := "isElementIndex", desc := "(I)Z" } : Jvm.MethodName)) ∈ lw_tbl := lw_at lw_m4 227 rfl
theorem q1078 : (Jvm.Cond.instanceMethod ({ cls := "java/util/LinkedList", name := "isElementIndex", desc := "(I)Z" } : Jvm.MethodName)) ∈ lw_all := lw_g (lw_at lw_m4 228 rfl) rfl
theorem q1079 : (Jvm.Cond.code ({ cls := "java/util/LinkedList", name := "isElementIndex", desc := "(I)Z" } : Jvm.MethodName) prog_78_method_26_code (2 : Nat) (Option.some Jvm.ClassFile.FieldType.boolean)) ∈ lw_all := lw_g (lw_at lw_m4 229 rfl) rfl
theorem q1080 : (Jvm.Cond.methodLink "java/util/LinkedList" (86 : Nat) ({ cls := "java/util/LinkedList", name := "node", desc := "(I)Ljava/util/LinkedList$Node;" } : Jvm.MethodName)) ∈ lw_all := lw_g (lw_at lw_m4 230 rfl) rfl
theorem q1331 : (Jvm.Cond.instanceMethod ({ cls := "java/util/LinkedList", name := "<init>", desc := "()V" } : Jvm.MethodName)) ∈ lw_all := lw_g (lw_at lw_m6 1 rfl) rfl
theorem q1332 : (Jvm.Cond.code ({ cls := "java/util/LinkedList", name := "<init>", desc := "()V" } : Jvm.MethodName) prog_78_method_1_code (1 : Nat) (Option.none : Option Jvm.ClassFile.FieldType)) ∈ lw_all := lw_g (lw_at lw_m6 2 rfl) rfl
theorem q1333 : (Jvm.Cond.methodLink "java/util/LinkedList" (1 : Nat) ({ cls := "java/util/AbstractSequentialList", name := "<init>", desc := "()V" } : Jvm.MethodName)) ∈ lw_all := lw_g (lw_at lw_m6 3 rfl) rfl
theorem q1340 : (Jvm.Cond.fieldLink "java/util/LinkedList" (7 : Nat) "java/util/LinkedList" "size" "I") ∈ lw_all := lw_g (lw_at lw_m6 10 rfl) rfl
theorem q1342 : (Jvm.Cond.fieldLink "java/util/LinkedList" (18 : Nat) "java/util/LinkedList" "first" "Ljava/util/LinkedList$Node;") ∈ lw_all := lw_g (lw_at lw_m6 12 rfl) rfl
theorem q1343 : (Jvm.Cond.fieldLink "java/util/LinkedList" (27 : Nat) "java/util/LinkedList" "last" "Ljava/util/LinkedList$Node;") ∈ lw_all := lw_g (lw_at lw_m6 13 rfl) rfl
theorem q1346 : (Jvm.Cond.sameField "java/util/LinkedList" "java/util/AbstractList" "modCount" "I") ∈ lw_all := lw_g (lw_at lw_m6 16 rfl) rfl
theorem q1348 : (Jvm.Cond.fieldLink "java/util/LinkedList" (33 : Nat) "java/util/LinkedList" "modCount" "I") ∈ lw_all := lw_g (lw_at lw_m6 18 rfl) rfl
theorem q1349 : (Jvm.Cond.lays "java/util/LinkedList" "java/util/LinkedList" "size" "I") ∈ lw_all := lw_g (lw_at lw_m6 19 rfl) rfl
theorem q1350 : (Jvm.Cond.soleField "java/util/LinkedList" "size") ∈ lw_all := lw_g (lw_at lw_m6 20 rfl) rfl
theorem q1351 : (Jvm.Cond.lays "java/util/LinkedList" "java/util/LinkedList" "first" "Ljava/util/LinkedList$Node;") ∈ lw_all := lw_g (lw_at lw_m6 21 rfl) rfl
theorem q1352 : (Jvm.Cond.soleField "java/util/LinkedList" "first") ∈ lw_all := lw_g (lw_at lw_m6 22 rfl) rfl
theorem q1353 : (Jvm.Cond.lays "java/util/LinkedList" "java/util/LinkedList" "last" "Ljava/util/LinkedList$Node;") ∈ lw_all := lw_g (lw_at lw_m6 23 rfl) rfl
theorem q1354 : (Jvm.Cond.soleField "java/util/LinkedList" "last") ∈ lw_all := lw_g (lw_at lw_m6 24 rfl) rfl
theorem q1355 : (Jvm.Cond.lays "java/util/LinkedList" "java/util/AbstractList" "modCount" "I") ∈ lw_all := lw_g (lw_at lw_m6 25 rfl) rfl
theorem q1357 : (Jvm.Cond.superclass "java/util/LinkedList" "java/util/AbstractSequentialList") ∈ lw_all := lw_g (lw_at lw_m6 27 rfl) rfl
theorem q1649 : (Jvm.Cond.instanceMethod ({ cls := "java/util/LinkedList", name := "add", desc := "(Ljava/lang/Object;)Z" } : Jvm.MethodName)) ∈ lw_all := lw_g (lw_at lw_m7 79 rfl) rfl
theorem q1650 : (Jvm.Cond.selects "java/util/LinkedList" ({ cls := "java/util/LinkedList", name := "add", desc := "(Ljava/lang/Object;)Z" } : Jvm.MethodName) ({ cls := "java/util/LinkedList", name := "add", desc := "(Ljava/lang/Object;)Z" } : Jvm.MethodName)) ∈ lw_all := lw_g (lw_at lw_m7 80 rfl) rfl
theorem q1651 : (Jvm.Cond.code ({ cls := "java/util/LinkedList", name := "add", desc := "(Ljava/lang/Object;)Z" } : Jvm.MethodName) prog_78_method_17_code (2 : Nat) (Option.some Jvm.ClassFile.FieldType.boolean)) ∈ lw_all := lw_g (lw_at lw_m7 81 rfl) rfl
theorem q1652 : (Jvm.Cond.methodLink "java/util/LinkedList" (57 : Nat) ({ cls := "java/util/LinkedList", name := "linkLast", desc := "(Ljava/lang/Object;)V" } : Jvm.MethodName)) ∈ lw_all := lw_g (lw_at lw_m7 82 rfl) rfl
theorem q1653 : (Jvm.Cond.instanceMethod ({ cls := "java/util/LinkedList", name := "linkLast", desc := "(Ljava/lang/Object;)V" } : Jvm.MethodName)) ∈ lw_all := lw_g (lw_at lw_m7 83 rfl) rfl
theorem q1654 : (Jvm.Cond.selects "java/util/LinkedList" ({ cls := "java/util/LinkedList", name := "linkLast", desc := "(Ljava/lang/Object;)V" } : Jvm.MethodName) ({ cls := "java/util/LinkedList", name := "linkLast", desc := "(Ljava/lang/Object;)V" } : Jvm.MethodName)) ∈ lw_all := lw_g (lw_at lw_m7 84 rfl) rfl
theorem q1655 : (Jvm.Cond.code ({ cls := "java/util/LinkedList", name := "linkLast", desc := "(Ljava/lang/Object;)V" } : Jvm.MethodName) prog_78_method_4_code (4 : Nat) (Option.none : Option Jvm.ClassFile.FieldType)) ∈ lw_all := lw_g (lw_at lw_m7 85 rfl) rfl
theorem q1656 : (Jvm.Cond.classLink "java/util/LinkedList" (22 : Nat) "java/util/LinkedList$Node") ∈ lw_all := lw_g (lw_at lw_m7 86 rfl) rfl
theorem q1658 : (Jvm.Cond.methodLink "java/util/LinkedList" (24 : Nat) ({ cls := "java/util/LinkedList$Node", name := "<init>", desc := "(Ljava/util/LinkedList$Node;Ljava/lang/Object;Ljava/util/LinkedList$Node;)V" } : Jvm.MethodName)) ∈ lw_all := lw_g (lw_at lw_m7 88 rfl) rfl
theorem q1664 : (Jvm.Cond.fieldLink "java/util/LinkedList" (39 : Nat) "java/util/LinkedList$Node" "item" "Ljava/lang/Object;") ∈ lw_all := lw_g (lw_at lw_m7 94 rfl) rfl
theorem q1667 : (Jvm.Cond.fieldLink "java/util/LinkedList" (36 : Nat) "java/util/LinkedList$Node" "next" "Ljava/util/LinkedList$Node;") ∈ lw_all := lw_g (lw_at lw_m7 97 rfl) rfl
theorem q1669 : (Jvm.Cond.fieldLink "java/util/LinkedList" (30 : Nat) "java/util/LinkedList$Node" "prev" "Ljava/util/LinkedList$Node;") ∈ lw_all := lw_g (lw_at lw_m7 99 rfl) rfl
theorem q3415 : (Jvm.Cond.castable "java/util/LinkedList" "java/lang/Object") ∈ lw_tbl := lw_at lw_m14 165 rfl
theorem in_J27 : ∀ w ∈ wsJ270, w ∈ lw_all := lw_in wsJ270 [1355, 1349, 1351, 1353] (by decide +kernel) (by decide +kernel)
/-! java/lang/Character -/
set_option maxRecDepth 100000
def RJ28 : String := "java/lang/Character"
abbrev cJ28_isValidCodePoint : ByteArray := prog_42_method_11_code
def yJ28_isValidCodePoint : MethodName := ⟨RJ28, "isValidCodePoint", "(I)Z"⟩
def dkwJ28_isValidCodePoint_0 : List UInt8 := [26, 16, 16, 124, 60, 27, 16, 17, 162, 0, 7, 4, 167, 0, 4, 3, 172]
abbrev dktJ28_isValidCodePoint_0 : List UInt8 := dkwJ28_isValidCodePoint_0 ++ []
theorem dksJ28_isValidCodePoint_0 : cJ28_isValidCodePoint.data.toList.drop 0 = dktJ28_isValidCodePoint_0 := by decide +kernel
theorem dJ28_isValidCodePoint_0 : decode cJ28_isValidCodePoint 0 = .ok (.iload_n 0, 1) := dk_26 (dk_at dksJ28_isValidCodePoint_0 0 rfl rfl)
theorem dJ28_isValidCodePoint_1 : decode cJ28_isValidCodePoint 1 = .ok (.bipush 16, 2) := dk_16 16 (dk_at dksJ28_isValidCodePoint_0 1 rfl rfl)
theorem dJ28_isValidCodePoint_3 : decode cJ28_isValidCodePoint 3 = .ok (.iushr, 1) := dk_124 (dk_at dksJ28_isValidCodePoint_0 3 rfl rfl)
theorem dJ28_isValidCodePoint_4 : decode cJ28_isValidCodePoint 4 = .ok (.istore_n 1, 1) := dk_60 (dk_at dksJ28_isValidCodePoint_0 4 rfl rfl)
theorem dJ28_isValidCodePoint_5 : decode cJ28_isValidCodePoint 5 = .ok (.iload_n 1, 1) := dk_27 (dk_at dksJ28_isValidCodePoint_0 5 rfl rfl)
theorem dJ28_isValidCodePoint_6 : decode cJ28_isValidCodePoint 6 = .ok (.bipush 17, 2) := dk_16 17 (dk_at dksJ28_isValidCodePoint_0 6 rfl rfl)
theorem dJ28_isValidCodePoint_8 : decode cJ28_isValidCodePoint 8 = .ok (.if_icmp .ge 7, 3) := dk_162 0 7 (dk_at dksJ28_isValidCodePoint_0 8 rfl rfl)
theorem dJ28_isValidCodePoint_11 : decode cJ28_isValidCodePoint 11 = .ok (.iconst 1, 1) := dk_4 (dk_at dksJ28_isValidCodePoint_0 11 rfl rfl)
theorem dJ28_isValidCodePoint_12 : decode cJ28_isValidCodePoint 12 = .ok (.goto 4, 3) := dk_167 0 4 (dk_at dksJ28_isValidCodePoint_0 12 rfl rfl)
theorem dJ28_isValidCodePoint_15 : decode cJ28_isValidCodePoint 15 = .ok (.iconst 0, 1) := dk_3 (dk_at dksJ28_isValidCodePoint_0 15 rfl rfl)
theorem dJ28_isValidCodePoint_16 : decode cJ28_isValidCodePoint 16 = .ok (.ireturn, 1) := dk_172 (dk_at dksJ28_isValidCodePoint_0 16 rfl rfl)
abbrev cJ28_highSurrogate : ByteArray := prog_42_method_28_code
def yJ28_highSurrogate : MethodName := ⟨RJ28, "highSurrogate", "(I)C"⟩
def dkwJ28_highSurrogate_0 : List UInt8 := [26, 16, 10, 124, 18, 110, 96, 146, 172]
abbrev dktJ28_highSurrogate_0 : List UInt8 := dkwJ28_highSurrogate_0 ++ []
theorem dksJ28_highSurrogate_0 : cJ28_highSurrogate.data.toList.drop 0 = dktJ28_highSurrogate_0 := by decide +kernel
theorem dJ28_highSurrogate_0 : decode cJ28_highSurrogate 0 = .ok (.iload_n 0, 1) := dk_26 (dk_at dksJ28_highSurrogate_0 0 rfl rfl)
theorem dJ28_highSurrogate_1 : decode cJ28_highSurrogate 1 = .ok (.bipush 10, 2) := dk_16 10 (dk_at dksJ28_highSurrogate_0 1 rfl rfl)
theorem dJ28_highSurrogate_3 : decode cJ28_highSurrogate 3 = .ok (.iushr, 1) := dk_124 (dk_at dksJ28_highSurrogate_0 3 rfl rfl)
theorem dJ28_highSurrogate_4 : decode cJ28_highSurrogate 4 = .ok (.ldc 110, 2) := dk_18 110 (dk_at dksJ28_highSurrogate_0 4 rfl rfl)
theorem dJ28_highSurrogate_6 : decode cJ28_highSurrogate 6 = .ok (.iadd, 1) := dk_96 (dk_at dksJ28_highSurrogate_0 6 rfl rfl)
theorem dJ28_highSurrogate_7 : decode cJ28_highSurrogate 7 = .ok (.i2c, 1) := dk_146 (dk_at dksJ28_highSurrogate_0 7 rfl rfl)
theorem dJ28_highSurrogate_8 : decode cJ28_highSurrogate 8 = .ok (.ireturn, 1) := dk_172 (dk_at dksJ28_highSurrogate_0 8 rfl rfl)
abbrev cJ28_lowSurrogate : ByteArray := prog_42_method_29_code
def yJ28_lowSurrogate : MethodName := ⟨RJ28, "lowSurrogate", "(I)C"⟩
def dkwJ28_lowSurrogate_0 : List UInt8 := [26, 17, 3, 255, 126, 18, 76, 96, 146, 172]
abbrev dktJ28_lowSurrogate_0 : List UInt8 := dkwJ28_lowSurrogate_0 ++ []
theorem dksJ28_lowSurrogate_0 : cJ28_lowSurrogate.data.toList.drop 0 = dktJ28_lowSurrogate_0 := by decide +kernel
theorem dJ28_lowSurrogate_0 : decode cJ28_lowSurrogate 0 = .ok (.iload_n 0, 1) := dk_26 (dk_at dksJ28_lowSurrogate_0 0 rfl rfl)
theorem dJ28_lowSurrogate_1 : decode cJ28_lowSurrogate 1 = .ok (.sipush 1023, 3) := dk_17 3 255 (dk_at dksJ28_lowSurrogate_0 1 rfl rfl)
theorem dJ28_lowSurrogate_4 : decode cJ28_lowSurrogate 4 = .ok (.iand, 1) := dk_126 (dk_at dksJ28_lowSurrogate_0 4 rfl rfl)
theorem dJ28_lowSurrogate_5 : decode cJ28_lowSurrogate 5 = .ok (.ldc 76, 2) := dk_18 76 (dk_at dksJ28_lowSurrogate_0 5 rfl rfl)
theorem dJ28_lowSurrogate_7 : decode cJ28_lowSurrogate 7 = .ok (.iadd, 1) := dk_96 (dk_at dksJ28_lowSurrogate_0 7 rfl rfl)
theorem dJ28_lowSurrogate_8 : decode cJ28_lowSurrogate 8 = .ok (.i2c, 1) := dk_146 (dk_at dksJ28_lowSurrogate_0 8 rfl rfl)
theorem dJ28_lowSurrogate_9 : decode cJ28_lowSurrogate 9 = .ok (.ireturn, 1) := dk_172 (dk_at dksJ28_lowSurrogate_0 9 rfl rfl)
theorem q175 : (Jvm.Cond.initialized "java/lang/Character") ∈ lw_all := lw_g (lw_at lw_m1 45 rfl) rfl
theorem q1513 : (Jvm.Cond.static ({ cls := "java/lang/Character", name := "isValidCodePoint", desc := "(I)Z" } : Jvm.MethodName)) ∈ lw_all := lw_g (lw_at lw_m6 183 rfl) rfl
theorem q1514 : (Jvm.Cond.code ({ cls := "java/lang/Character", name := "isValidCodePoint", desc := "(I)Z" } : Jvm.MethodName) prog_42_method_11_code (2 : Nat) (Option.some Jvm.ClassFile.FieldType.boolean)) ∈ lw_all := lw_g (lw_at lw_m6 184 rfl) rfl
theorem q1516 : (Jvm.Cond.static ({ cls := "java/lang/Character", name := "highSurrogate", desc := "(I)C" } : Jvm.MethodName)) ∈ lw_all := lw_g (lw_at lw_m6 186 rfl) rfl
theorem q1517 : (Jvm.Cond.code ({ cls := "java/lang/Character", name := "highSurrogate", desc := "(I)C" } : Jvm.MethodName) prog_42_method_28_code (1 : Nat) (Option.some Jvm.ClassFile.FieldType.char)) ∈ lw_all := lw_g (lw_at lw_m6 187 rfl) rfl
theorem q1518 : (Jvm.Cond.constant "java/lang/Character" (110 : Nat) (55232 : Int32)) ∈ lw_all := lw_g (lw_at lw_m6 188 rfl) rfl
theorem q1520 : (Jvm.Cond.static ({ cls := "java/lang/Character", name := "lowSurrogate", desc := "(I)C" } : Jvm.MethodName)) ∈ lw_all := lw_g (lw_at lw_m6 190 rfl) rfl
theorem q1521 : (Jvm.Cond.code ({ cls := "java/lang/Character", name := "lowSurrogate", desc := "(I)C" } : Jvm.MethodName) prog_42_method_29_code (1 : Nat) (Option.some Jvm.ClassFile.FieldType.char)) ∈ lw_all := lw_g (lw_at lw_m6 191 rfl) rfl
theorem q1522 : (Jvm.Cond.constant "java/lang/Character" (76 : Nat) (56320 : Int32)) ∈ lw_all := lw_g (lw_at lw_m6 192 rfl) rfl
/-! java/util/LinkedList$Node -/
set_option maxRecDepth 100000
def RJ29 : String := "java/util/LinkedList$Node"
def TJ29 : u_T := fun k => match k with
  | 0 => ("java/util/LinkedList$Node", "item", "Ljava/lang/Object;", false)
  | 1 => ("java/util/LinkedList$Node", "next", "Ljava/util/LinkedList$Node;", false)
  | _ => ("java/util/LinkedList$Node", "prev", "Ljava/util/LinkedList$Node;", false)
def tyJ29 : Nat → FieldType := fun k => match k with
  | 0 => .object "java/lang/Object"
  | 1 => .object "java/util/LinkedList$Node"
  | _ => .object "java/util/LinkedList$Node"
abbrev wsJ290 : List Cond := u_ws RJ29 TJ29 3
theorem nmJ29 : ∀ a, a < 3 → ∀ b, b < 3 → a ≠ b → (TJ29 a).2.1 ≠ (TJ29 b).2.1 := by decide +kernel
theorem tyJ29_ok : ∀ k, k < 3 → parseFieldDescriptor (TJ29 k).2.2.1 = some (tyJ29 k) := by decide +kernel
abbrev cJ29_init : ByteArray := prog_80_method_1_code
def yJ29_init : MethodName := ⟨RJ29, "<init>", "(Ljava/util/LinkedList$Node;Ljava/lang/Object;Ljava/util/LinkedList$Node;)V"⟩
def dkwJ29_init_0 : List UInt8 := [42, 183, 0, 1, 42, 44, 181, 0, 7, 42, 45, 181, 0, 13, 42, 43, 181, 0, 17, 177]
abbrev dktJ29_init_0 : List UInt8 := dkwJ29_init_0 ++ []
theorem dksJ29_init_0 : cJ29_init.data.toList.drop 0 = dktJ29_init_0 := by decide +kernel
theorem dJ29_init_0 : decode cJ29_init 0 = .ok (.aload_n 0, 1) := dk_42 (dk_at dksJ29_init_0 0 rfl rfl)
theorem dJ29_init_1 : decode cJ29_init 1 = .ok (.invokespecial 1, 3) := dk_183 0 1 (dk_at dksJ29_init_0 1 rfl rfl)
theorem dJ29_init_4 : decode cJ29_init 4 = .ok (.aload_n 0, 1) := dk_42 (dk_at dksJ29_init_0 4 rfl rfl)
theorem dJ29_init_5 : decode cJ29_init 5 = .ok (.aload_n 2, 1) := dk_44 (dk_at dksJ29_init_0 5 rfl rfl)
theorem dJ29_init_6 : decode cJ29_init 6 = .ok (.putfield 7, 3) := dk_181 0 7 (dk_at dksJ29_init_0 6 rfl rfl)
theorem dJ29_init_9 : decode cJ29_init 9 = .ok (.aload_n 0, 1) := dk_42 (dk_at dksJ29_init_0 9 rfl rfl)
theorem dJ29_init_10 : decode cJ29_init 10 = .ok (.aload_n 3, 1) := dk_45 (dk_at dksJ29_init_0 10 rfl rfl)
theorem dJ29_init_11 : decode cJ29_init 11 = .ok (.putfield 13, 3) := dk_181 0 13 (dk_at dksJ29_init_0 11 rfl rfl)
theorem dJ29_init_14 : decode cJ29_init 14 = .ok (.aload_n 0, 1) := dk_42 (dk_at dksJ29_init_0 14 rfl rfl)
theorem dJ29_init_15 : decode cJ29_init 15 = .ok (.aload_n 1, 1) := dk_43 (dk_at dksJ29_init_0 15 rfl rfl)
theorem dJ29_init_16 : decode cJ29_init 16 = .ok (.putfield 17, 3) := dk_181 0 17 (dk_at dksJ29_init_0 16 rfl rfl)
theorem dJ29_init_19 : decode cJ29_init 19 = .ok (.return_, 1) := dk_177 (dk_at dksJ29_init_0 19 rfl rfl)
theorem q181 : (Jvm.Cond.initialized "java/util/LinkedList$Node") ∈ lw_all := lw_g (lw_at lw_m1 51 rfl) rfl
theorem q889 : (Jvm.Cond.selects "java/util/LinkedList$Node" ({ cls := "java/lang/Object", name := "getClass", desc := "()Ljava/lang/Class;" } : Jvm.MethodName) ({ cls := "java/lang/Object", name := "getClass", desc := "()Ljava/lang/Class;" } : Jvm.MethodName)) ∈ lw_all := lw_g (lw_at lw_m4 39 rfl) rfl
theorem q1657 : (Jvm.Cond.instantiable "java/util/LinkedList$Node" (3 : Nat)) ∈ lw_all := lw_g (lw_at lw_m7 87 rfl) rfl
theorem q1659 : (Jvm.Cond.instanceMethod ({ cls := "java/util/LinkedList$Node", name := "<init>", desc := "(Ljava/util/LinkedList$Node;Ljava/lang/Object;Ljava/util/LinkedList$Node;)V" } : Jvm.MethodName)) ∈ lw_all := lw_g (lw_at lw_m7 89 rfl) rfl
theorem q1660 : (Jvm.Cond.code ({ cls := "java/util/LinkedList$Node", name := "<init>", desc := "(Ljava/util/LinkedList$Node;Ljava/lang/Object;Ljava/util/LinkedList$Node;)V" } : Jvm.MethodName) prog_80_method_1_code (4 : Nat) (Option.none : Option Jvm.ClassFile.FieldType)) ∈ lw_all := lw_g (lw_at lw_m7 90 rfl) rfl
theorem q1661 : (Jvm.Cond.methodLink "java/util/LinkedList$Node" (1 : Nat) ({ cls := "java/lang/Object", name := "<init>", desc := "()V" } : Jvm.MethodName)) ∈ lw_all := lw_g (lw_at lw_m7 91 rfl) rfl
theorem q1662 : (Jvm.Cond.fieldLink "java/util/LinkedList$Node" (7 : Nat) "java/util/LinkedList$Node" "item" "Ljava/lang/Object;") ∈ lw_all := lw_g (lw_at lw_m7 92 rfl) rfl
theorem q1665 : (Jvm.Cond.fieldLink "java/util/LinkedList$Node" (13 : Nat) "java/util/LinkedList$Node" "next" "Ljava/util/LinkedList$Node;") ∈ lw_all := lw_g (lw_at lw_m7 95 rfl) rfl
theorem q1668 : (Jvm.Cond.fieldLink "java/util/LinkedList$Node" (17 : Nat) "java/util/LinkedList$Node" "prev" "Ljava/util/LinkedList$Node;") ∈ lw_all := lw_g (lw_at lw_m7 98 rfl) rfl
theorem q1670 : (Jvm.Cond.lays "java/util/LinkedList$Node" "java/util/LinkedList$Node" "item" "Ljava/lang/Object;") ∈ lw_all := lw_g (lw_at lw_m7 100 rfl) rfl
theorem q1671 : (Jvm.Cond.soleField "java/util/LinkedList$Node" "item") ∈ lw_all := lw_g (lw_at lw_m7 101 rfl) rfl
theorem q1672 : (Jvm.Cond.lays "java/util/LinkedList$Node" "java/util/LinkedList$Node" "next" "Ljava/util/LinkedList$Node;") ∈ lw_all := lw_g (lw_at lw_m7 102 rfl) rfl
theorem q1673 : (Jvm.Cond.soleField "java/util/LinkedList$Node" "next") ∈ lw_all := lw_g (lw_at lw_m7 103 rfl) rfl
theorem q1674 : (Jvm.Cond.lays "java/util/LinkedList$Node" "java/util/LinkedList$Node" "prev" "Ljava/util/LinkedList$Node;") ∈ lw_all := lw_g (lw_at lw_m7 104 rfl) rfl
theorem q1675 : (Jvm.Cond.soleField "java/util/LinkedList$Node" "prev") ∈ lw_all := lw_g (lw_at lw_m7 105 rfl) rfl
theorem q1676 : (Jvm.Cond.superclass "java/util/LinkedList$Node" "java/lang/Object") ∈ lw_all := lw_g (lw_at lw_m7 106 rfl) rfl
theorem q3420 : (Jvm.Cond.castable "java/util/LinkedList$Node" "java/lang/Object") ∈ lw_tbl := lw_at lw_m14 170 rfl
theorem in_J29 : ∀ w ∈ wsJ290, w ∈ lw_all := lw_in wsJ290 [1670, 1672, 1674] (by decide +kernel) (by decide +kernel)
/-! java/lang/RuntimeException -/
set_option maxRecDepth 100000
def RJ3 : String := "java/lang/RuntimeException"
abbrev cJ3_init : ByteArray := prog_56_method_1_code
def yJ3_init : MethodName := ⟨RJ3, "<init>", "()V"⟩
theorem dJ3_init_0 : decode cJ3_init 0 = .ok (.aload_n 0, 1) := by decide +kernel
theorem dJ3_init_1 : decode cJ3_init 1 = .ok (.invokespecial 1, 3) := by decide +kernel
theorem dJ3_init_4 : decode cJ3_init 4 = .ok (.return_, 1) := by decide +kernel
abbrev cJ3_init_2 : ByteArray := prog_56_method_2_code
def yJ3_init_2 : MethodName := ⟨RJ3, "<init>", "(Ljava/lang/String;)V"⟩
def dkwJ3_init_2_0 : List UInt8 := [42, 43, 183, 0, 7, 177]
abbrev dktJ3_init_2_0 : List UInt8 := dkwJ3_init_2_0 ++ []
theorem dksJ3_init_2_0 : cJ3_init_2.data.toList.drop 0 = dktJ3_init_2_0 := by decide +kernel
theorem dJ3_init_2_0 : decode cJ3_init_2 0 = .ok (.aload_n 0, 1) := dk_42 (dk_at dksJ3_init_2_0 0 rfl rfl)
theorem dJ3_init_2_1 : decode cJ3_init_2 1 = .ok (.aload_n 1, 1) := dk_43 (dk_at dksJ3_init_2_0 1 rfl rfl)
theorem dJ3_init_2_2 : decode cJ3_init_2 2 = .ok (.invokespecial 7, 3) := dk_183 0 7 (dk_at dksJ3_init_2_0 2 rfl rfl)
theorem dJ3_init_2_5 : decode cJ3_init_2 5 = .ok (.return_, 1) := dk_177 (dk_at dksJ3_init_2_0 5 rfl rfl)
abbrev cJ3_init_3 : ByteArray := prog_56_method_4_code
def yJ3_init_3 : MethodName := ⟨RJ3, "<init>", "(Ljava/lang/Throwable;)V"⟩
def dkwJ3_init_3_0 : List UInt8 := [42, 43, 183, 0, 13, 177]
abbrev dktJ3_init_3_0 : List UInt8 := dkwJ3_init_3_0 ++ []
theorem dksJ3_init_3_0 : cJ3_init_3.data.toList.drop 0 = dktJ3_init_3_0 := by decide +kernel
theorem dJ3_init_3_0 : decode cJ3_init_3 0 = .ok (.aload_n 0, 1) := dk_42 (dk_at dksJ3_init_3_0 0 rfl rfl)
theorem dJ3_init_3_1 : decode cJ3_init_3 1 = .ok (.aload_n 1, 1) := dk_43 (dk_at dksJ3_init_3_0 1 rfl rfl)
theorem dJ3_init_3_2 : decode cJ3_init_3 2 = .ok (.invokespecial 13, 3) := dk_183 0 13 (dk_at dksJ3_init_3_0 2 rfl rfl)
theorem dJ3_init_3_5 : decode cJ3_init_3 5 = .ok (.return_, 1) := dk_177 (dk_at dksJ3_init_3_0 5 rfl rfl)
abbrev cJ3_init_4 : ByteArray := prog_56_method_5_code
def yJ3_init_4 : MethodName := ⟨RJ3, "<init>", "(Ljava/lang/String;Ljava/lang/Throwable;ZZ)V"⟩
def dkwJ3_init_4_0 : List UInt8 := [42, 43, 44, 29, 21, 4, 183, 0, 16, 177]
abbrev dktJ3_init_4_0 : List UInt8 := dkwJ3_init_4_0 ++ []
theorem dksJ3_init_4_0 : cJ3_init_4.data.toList.drop 0 = dktJ3_init_4_0 := by decide +kernel
theorem dJ3_init_4_0 : decode cJ3_init_4 0 = .ok (.aload_n 0, 1) := dk_42 (dk_at dksJ3_init_4_0 0 rfl rfl)
theorem dJ3_init_4_1 : decode cJ3_init_4 1 = .ok (.aload_n 1, 1) := dk_43 (dk_at dksJ3_init_4_0 1 rfl rfl)
theorem dJ3_init_4_2 : decode cJ3_init_4 2 = .ok (.aload_n 2, 1) := dk_44 (dk_at dksJ3_init_4_0 2 rfl rfl)
theorem dJ3_init_4_3 : decode cJ3_init_4 3 = .ok (.iload_n 3, 1) := dk_29 (dk_at dksJ3_init_4_0 3 rfl rfl)
theorem dJ3_init_4_4 : decode cJ3_init_4 4 = .ok (.iload 4, 2) := dk_21 4 (dk_at dksJ3_init_4_0 4 rfl rfl)
theorem dJ3_init_4_6 : decode cJ3_init_4 6 = .ok (.invokespecial 16, 3) := dk_183 0 16 (dk_at dksJ3_init_4_0 6 rfl rfl)
theorem dJ3_init_4_9 : decode cJ3_init_4 9 = .ok (.return_, 1) := dk_177 (dk_at dksJ3_init_4_0 9 rfl rfl)
theorem q136 : (Jvm.Cond.initialized "java/lang/RuntimeException") ∈ lw_all := lw_g (lw_at lw_m1 6 rfl) rfl
theorem q288 : (Jvm.Cond.declares ({ cls := "java/lang/RuntimeException", name := "<init>", desc := "()V" } : Jvm.MethodName)) ∈ lw_tbl := lw_at lw_m1 158 rfl
theorem q289 : (Jvm.Cond.declares ({ cls := "java/lang/RuntimeException", name := "<init>", desc := "(Ljava/lang/String;)V" } : Jvm.MethodName)) ∈ lw_tbl := lw_at lw_m1 159 rfl
theorem q353 : (Jvm.Cond.instanceMethod ({ cls := "java/lang/RuntimeException", name := "<init>", desc := "()V" } : Jvm.MethodName)) ∈ lw_all := lw_g (lw_at lw_m1 223 rfl) rfl
theorem q354 : (Jvm.Cond.code ({ cls := "java/lang/RuntimeException", name := "<init>", desc := "()V" } : Jvm.MethodName) prog_56_method_1_code (1 : Nat) (Option.none : Option Jvm.ClassFile.FieldType)) ∈ lw_all := lw_g (lw_at lw_m1 224 rfl) rfl
theorem q355 : (Jvm.Cond.methodLink "java/lang/RuntimeException" (1 : Nat) ({ cls := "java/lang/Exception", name := "<init>", desc := "()V" } : Jvm.MethodName)) ∈ lw_all := lw_g (lw_at lw_m1 225 rfl) rfl
theorem q598 : (Jvm.Cond.instanceMethod ({ cls := "java/lang/RuntimeException", name := "<init>", desc := "(Ljava/lang/String;)V" } : Jvm.MethodName)) ∈ lw_all := lw_g (lw_at lw_m2 228 rfl) rfl
theorem q599 : (Jvm.Cond.code ({ cls := "java/lang/RuntimeException", name := "<init>", desc := "(Ljava/lang/String;)V" } : Jvm.MethodName) prog_56_method_2_code (2 : Nat) (Option.none : Option Jvm.ClassFile.FieldType)) ∈ lw_all := lw_g (lw_at lw_m2 229 rfl) rfl
theorem q600 : (Jvm.Cond.methodLink "java/lang/RuntimeException" (7 : Nat) ({ cls := "java/lang/Exception", name := "<init>", desc := "(Ljava/lang/String;)V" } : Jvm.MethodName)) ∈ lw_all := lw_g (lw_at lw_m2 230 rfl) rfl
theorem q1094 : (Jvm.Cond.instanceMethod ({ cls := "java/lang/RuntimeException", name := "<init>", desc := "(Ljava/lang/Throwable;)V" } : Jvm.MethodName)) ∈ lw_all := lw_g (lw_at lw_m5 4 rfl) rfl
theorem q1095 : (Jvm.Cond.code ({ cls := "java/lang/RuntimeException", name := "<init>", desc := "(Ljava/lang/Throwable;)V" } : Jvm.MethodName) prog_56_method_4_code (2 : Nat) (Option.none : Option Jvm.ClassFile.FieldType)) ∈ lw_all := lw_g (lw_at lw_m5 5 rfl) rfl
theorem q1096 : (Jvm.Cond.methodLink "java/lang/RuntimeException" (13 : Nat) ({ cls := "java/lang/Exception", name := "<init>", desc := "(Ljava/lang/Throwable;)V" } : Jvm.MethodName)) ∈ lw_all := lw_g (lw_at lw_m5 6 rfl) rfl
theorem q1463 : (Jvm.Cond.instanceMethod ({ cls := "java/lang/RuntimeException", name := "<init>", desc := "(Ljava/lang/String;Ljava/lang/Throwable;ZZ)V" } : Jvm.MethodName)) ∈ lw_all := lw_g (lw_at lw_m6 133 rfl) rfl
theorem q1464 : (Jvm.Cond.code ({ cls := "java/lang/RuntimeException", name := "<init>", desc := "(Ljava/lang/String;Ljava/lang/Throwable;ZZ)V" } : Jvm.MethodName) prog_56_method_5_code (5 : Nat) (Option.none : Option Jvm.ClassFile.FieldType)) ∈ lw_all := lw_g (lw_at lw_m6 134 rfl) rfl
theorem q1465 : (Jvm.Cond.methodLink "java/lang/RuntimeException" (16 : Nat) ({ cls := "java/lang/Exception", name := "<init>", desc := "(Ljava/lang/String;Ljava/lang/Throwable;ZZ)V" } : Jvm.MethodName)) ∈ lw_all := lw_g (lw_at lw_m6 135 rfl) rfl
/-! java/lang/ArrayIndexOutOfBoundsException -/
set_option maxRecDepth 100000
def RJ30 : String := "java/lang/ArrayIndexOutOfBoundsException"
def TJ30 : u_T := fun k => match k with
  | 0 => ("java/lang/Throwable", "backtrace", "Ljava/lang/Object;", false)
  | 1 => ("java/lang/Throwable", "detailMessage", "Ljava/lang/String;", false)
  | 2 => ("java/lang/Throwable", "cause", "Ljava/lang/Throwable;", false)
  | 3 => ("java/lang/Throwable", "stackTrace", "[Ljava/lang/StackTraceElement;", false)
  | 4 => ("java/lang/Throwable", "depth", "I", false)
  | _ => ("java/lang/Throwable", "suppressedExceptions", "Ljava/util/List;", false)
def tyJ30 : Nat → FieldType := fun k => match k with
  | 0 => .object "java/lang/Object"
  | 1 => .object "java/lang/String"
  | 2 => .object "java/lang/Throwable"
  | 3 => .array (.object "java/lang/StackTraceElement")
  | 4 => .int
  | _ => .object "java/util/List"
abbrev wsJ300 : List Cond := u_ws RJ30 TJ30 6
theorem nmJ30 : ∀ a, a < 6 → ∀ b, b < 6 → a ≠ b → (TJ30 a).2.1 ≠ (TJ30 b).2.1 := by decide +kernel
theorem tyJ30_ok : ∀ k, k < 6 → parseFieldDescriptor (TJ30 k).2.2.1 = some (tyJ30 k) := by decide +kernel
abbrev cJ30_init : ByteArray := prog_39_method_2_code
def yJ30_init : MethodName := ⟨RJ30, "<init>", "(Ljava/lang/String;)V"⟩
def dkwJ30_init_0 : List UInt8 := [42, 43, 183, 0, 7, 177]
abbrev dktJ30_init_0 : List UInt8 := dkwJ30_init_0 ++ []
theorem dksJ30_init_0 : cJ30_init.data.toList.drop 0 = dktJ30_init_0 := by decide +kernel
theorem dJ30_init_0 : decode cJ30_init 0 = .ok (.aload_n 0, 1) := dk_42 (dk_at dksJ30_init_0 0 rfl rfl)
theorem dJ30_init_1 : decode cJ30_init 1 = .ok (.aload_n 1, 1) := dk_43 (dk_at dksJ30_init_0 1 rfl rfl)
theorem dJ30_init_2 : decode cJ30_init 2 = .ok (.invokespecial 7, 3) := dk_183 0 7 (dk_at dksJ30_init_0 2 rfl rfl)
theorem dJ30_init_5 : decode cJ30_init 5 = .ok (.return_, 1) := dk_177 (dk_at dksJ30_init_0 5 rfl rfl)
theorem q197 : (Jvm.Cond.initialized "java/lang/ArrayIndexOutOfBoundsException") ∈ lw_all := lw_g (lw_at lw_m1 67 rfl) rfl
theorem q320 : (Jvm.Cond.selects "java/lang/ArrayIndexOutOfBoundsException" ({ cls := "java/lang/Throwable", name := "fillInStackTrace", desc := "()Ljava/lang/Throwable;" } : Jvm.MethodName) ({ cls := "java/lang/Throwable", name := "fillInStackTrace", desc := "()Ljava/lang/Throwable;" } : Jvm.MethodName)) ∈ lw_all := lw_g (lw_at lw_m1 190 rfl) rfl
theorem q798 : (Jvm.Cond.selects "java/lang/ArrayIndexOutOfBoundsException" ({ cls := "java/lang/Object", name := "equals", desc := "(Ljava/lang/Object;)Z" } : Jvm.MethodName) ({ cls := "java/lang/Object", name := "equals", desc := "(Ljava/lang/Object;)Z" } : Jvm.MethodName)) ∈ lw_all := lw_g (lw_at lw_m3 188 rfl) rfl
theorem q875 : (Jvm.Cond.selects "java/lang/ArrayIndexOutOfBoundsException" ({ cls := "java/lang/Object", name := "getClass", desc := "()Ljava/lang/Class;" } : Jvm.MethodName) ({ cls := "java/lang/Object", name := "getClass", desc := "()Ljava/lang/Class;" } : Jvm.MethodName)) ∈ lw_all := lw_g (lw_at lw_m4 25 rfl) rfl
theorem q1107 : (Jvm.Cond.selects "java/lang/ArrayIndexOutOfBoundsException" ({ cls := "java/lang/Throwable", name := "toString", desc := "()Ljava/lang/String;" } : Jvm.MethodName) ({ cls := "java/lang/Throwable", name := "toString", desc := "()Ljava/lang/String;" } : Jvm.MethodName)) ∈ lw_all := lw_g (lw_at lw_m5 17 rfl) rfl
theorem q1120 : (Jvm.Cond.selects "java/lang/ArrayIndexOutOfBoundsException" ({ cls := "java/lang/Throwable", name := "getLocalizedMessage", desc := "()Ljava/lang/String;" } : Jvm.MethodName) ({ cls := "java/lang/Throwable", name := "getLocalizedMessage", desc := "()Ljava/lang/String;" } : Jvm.MethodName)) ∈ lw_all := lw_g (lw_at lw_m5 30 rfl) rfl
theorem q1132 : (Jvm.Cond.selects "java/lang/ArrayIndexOutOfBoundsException" ({ cls := "java/lang/Throwable", name := "getMessage", desc := "()Ljava/lang/String;" } : Jvm.MethodName) ({ cls := "java/lang/Throwable", name := "getMessage", desc := "()Ljava/lang/String;" } : Jvm.MethodName)) ∈ lw_all := lw_g (lw_at lw_m5 42 rfl) rfl
theorem q2410 : (Jvm.Cond.instantiable "java/lang/ArrayIndexOutOfBoundsException" (6 : Nat)) ∈ lw_all := lw_g (lw_at lw_m10 120 rfl) rfl
theorem q2411 : (Jvm.Cond.instanceMethod ({ cls := "java/lang/ArrayIndexOutOfBoundsException", name := "<init>", desc := "(Ljava/lang/String;)V" } : Jvm.MethodName)) ∈ lw_all := lw_g (lw_at lw_m10 121 rfl) rfl
theorem q2412 : (Jvm.Cond.code ({ cls := "java/lang/ArrayIndexOutOfBoundsException", name := "<init>", desc := "(Ljava/lang/String;)V" } : Jvm.MethodName) prog_39_method_2_code (2 : Nat) (Option.none : Option Jvm.ClassFile.FieldType)) ∈ lw_all := lw_g (lw_at lw_m10 122 rfl) rfl
theorem q2413 : (Jvm.Cond.methodLink "java/lang/ArrayIndexOutOfBoundsException" (7 : Nat) ({ cls := "java/lang/IndexOutOfBoundsException", name := "<init>", desc := "(Ljava/lang/String;)V" } : Jvm.MethodName)) ∈ lw_all := lw_g (lw_at lw_m10 123 rfl) rfl
theorem q2414 : (Jvm.Cond.lays "java/lang/ArrayIndexOutOfBoundsException" "java/lang/Throwable" "backtrace" "Ljava/lang/Object;") ∈ lw_all := lw_g (lw_at lw_m10 124 rfl) rfl
theorem q2415 : (Jvm.Cond.lays "java/lang/ArrayIndexOutOfBoundsException" "java/lang/Throwable" "detailMessage" "Ljava/lang/String;") ∈ lw_all := lw_g (lw_at lw_m10 125 rfl) rfl
theorem q2416 : (Jvm.Cond.lays "java/lang/ArrayIndexOutOfBoundsException" "java/lang/Throwable" "cause" "Ljava/lang/Throwable;") ∈ lw_all := lw_g (lw_at lw_m10 126 rfl) rfl
theorem q2417 : (Jvm.Cond.lays "java/lang/ArrayIndexOutOfBoundsException" "java/lang/Throwable" "stackTrace" "[Ljava/lang/StackTraceElement;") ∈ lw_all := lw_g (lw_at lw_m10 127 rfl) rfl
theorem q2418 : (Jvm.Cond.lays "java/lang/ArrayIndexOutOfBoundsException" "java/lang/Throwable" "depth" "I") ∈ lw_all := lw_g (lw_at lw_m10 128 rfl) rfl
theorem q2419 : (Jvm.Cond.lays "java/lang/ArrayIndexOutOfBoundsException" "java/lang/Throwable" "suppressedExceptions" "Ljava/util/List;") ∈ lw_all := lw_g (lw_at lw_m10 129 rfl) rfl
theorem q2420 : (Jvm.Cond.superclass "java/lang/ArrayIndexOutOfBoundsException" "java/lang/IndexOutOfBoundsException") ∈ lw_all := lw_g (lw_at lw_m10 130 rfl) rfl
theorem q2421 : (Jvm.Cond.castable "java/lang/ArrayIndexOutOfBoundsException" "java/lang/ArrayIndexOutOfBoundsException") ∈ lw_tbl := lw_at lw_m10 131 rfl
theorem q2424 : (Jvm.Cond.selects "java/lang/ArrayIndexOutOfBoundsException" ({ cls := "java/lang/Throwable", name := "fillInStackTrace", desc := "(I)Ljava/lang/Throwable;" } : Jvm.MethodName) ({ cls := "java/lang/Throwable", name := "fillInStackTrace", desc := "(I)Ljava/lang/Throwable;" } : Jvm.MethodName)) ∈ lw_all := lw_g (lw_at lw_m10 134 rfl) rfl
theorem q3383 : (Jvm.Cond.castable "java/lang/ArrayIndexOutOfBoundsException" "java/lang/IndexOutOfBoundsException") ∈ lw_tbl := lw_at lw_m14 133 rfl
theorem q3436 : (Jvm.Cond.castable "java/lang/ArrayIndexOutOfBoundsException" "java/lang/Object") ∈ lw_tbl := lw_at lw_m14 186 rfl
theorem in_J30 : ∀ w ∈ wsJ300, w ∈ lw_all := lw_in wsJ300 [2414, 2415, 2416, 2417, 2418, 2419] (by decide +kernel) (by decide +kernel)
/-! java/lang/ArrayStoreException -/
set_option maxRecDepth 100000
def RJ31 : String := "java/lang/ArrayStoreException"
def TJ31 : u_T := fun k => match k with
  | 0 => ("java/lang/Throwable", "backtrace", "Ljava/lang/Object;", false)
  | 1 => ("java/lang/Throwable", "detailMessage", "Ljava/lang/String;", false)
  | 2 => ("java/lang/Throwable", "cause", "Ljava/lang/Throwable;", false)
  | 3 => ("java/lang/Throwable", "stackTrace", "[Ljava/lang/StackTraceElement;", false)
  | 4 => ("java/lang/Throwable", "depth", "I", false)
  | _ => ("java/lang/Throwable", "suppressedExceptions", "Ljava/util/List;", false)
def tyJ31 : Nat → FieldType := fun k => match k with
  | 0 => .object "java/lang/Object"
  | 1 => .object "java/lang/String"
  | 2 => .object "java/lang/Throwable"
  | 3 => .array (.object "java/lang/StackTraceElement")
  | 4 => .int
  | _ => .object "java/util/List"
abbrev wsJ310 : List Cond := u_ws RJ31 TJ31 6
theorem nmJ31 : ∀ a, a < 6 → ∀ b, b < 6 → a ≠ b → (TJ31 a).2.1 ≠ (TJ31 b).2.1 := by decide +kernel
theorem tyJ31_ok : ∀ k, k < 6 → parseFieldDescriptor (TJ31 k).2.2.1 = some (tyJ31 k) := by decide +kernel
abbrev cJ31_init : ByteArray := prog_40_method_2_code
def yJ31_init : MethodName := ⟨RJ31, "<init>", "(Ljava/lang/String;)V"⟩
def dkwJ31_init_0 : List UInt8 := [42, 43, 183, 0, 7, 177]
abbrev dktJ31_init_0 : List UInt8 := dkwJ31_init_0 ++ []
theorem dksJ31_init_0 : cJ31_init.data.toList.drop 0 = dktJ31_init_0 := by decide +kernel
theorem dJ31_init_0 : decode cJ31_init 0 = .ok (.aload_n 0, 1) := dk_42 (dk_at dksJ31_init_0 0 rfl rfl)
theorem dJ31_init_1 : decode cJ31_init 1 = .ok (.aload_n 1, 1) := dk_43 (dk_at dksJ31_init_0 1 rfl rfl)
theorem dJ31_init_2 : decode cJ31_init 2 = .ok (.invokespecial 7, 3) := dk_183 0 7 (dk_at dksJ31_init_0 2 rfl rfl)
theorem dJ31_init_5 : decode cJ31_init 5 = .ok (.return_, 1) := dk_177 (dk_at dksJ31_init_0 5 rfl rfl)
theorem q199 : (Jvm.Cond.initialized "java/lang/ArrayStoreException") ∈ lw_all := lw_g (lw_at lw_m1 69 rfl) rfl
theorem q321 : (Jvm.Cond.selects "java/lang/ArrayStoreException" ({ cls := "java/lang/Throwable", name := "fillInStackTrace", desc := "()Ljava/lang/Throwable;" } : Jvm.MethodName) ({ cls := "java/lang/Throwable", name := "fillInStackTrace", desc := "()Ljava/lang/Throwable;" } : Jvm.MethodName)) ∈ lw_all := lw_g (lw_at lw_m1 191 rfl) rfl
theorem q799 : (Jvm.Cond.selects "java/lang/ArrayStoreException" ({ cls := "java/lang/Object", name := "equals", desc := "(Ljava/lang/Object;)Z" } : Jvm.MethodName) ({ cls := "java/lang/Object", name := "equals", desc := "(Ljava/lang/Object;)Z" } : Jvm.MethodName)) ∈ lw_all := lw_g (lw_at lw_m3 189 rfl) rfl
theorem q876 : (Jvm.Cond.selects "java/lang/ArrayStoreException" ({ cls := "java/lang/Object", name := "getClass", desc := "()Ljava/lang/Class;" } : Jvm.MethodName) ({ cls := "java/lang/Object", name := "getClass", desc := "()Ljava/lang/Class;" } : Jvm.MethodName)) ∈ lw_all := lw_g (lw_at lw_m4 26 rfl) rfl
theorem q1108 : (Jvm.Cond.selects "java/lang/ArrayStoreException" ({ cls := "java/lang/Throwable", name := "toString", desc := "()Ljava/lang/String;" } : Jvm.MethodName) ({ cls := "java/lang/Throwable", name := "toString", desc := "()Ljava/lang/String;" } : Jvm.MethodName)) ∈ lw_all := lw_g (lw_at lw_m5 18 rfl) rfl
theorem q1121 : (Jvm.Cond.selects "java/lang/ArrayStoreException" ({ cls := "java/lang/Throwable", name := "getLocalizedMessage", desc := "()Ljava/lang/String;" } : Jvm.MethodName) ({ cls := "java/lang/Throwable", name := "getLocalizedMessage", desc := "()Ljava/lang/String;" } : Jvm.MethodName)) ∈ lw_all := lw_g (lw_at lw_m5 31 rfl) rfl
theorem q1133 : (Jvm.Cond.selects "java/lang/ArrayStoreException" ({ cls := "java/lang/Throwable", name := "getMessage", desc := "()Ljava/lang/String;" } : Jvm.MethodName) ({ cls := "java/lang/Throwable", name := "getMessage", desc := "()Ljava/lang/String;" } : Jvm.MethodName)) ∈ lw_all := lw_g (lw_at lw_m5 43 rfl) rfl
theorem q2647 : (Jvm.Cond.instantiable "java/lang/ArrayStoreException" (6 : Nat)) ∈ lw_all := lw_g (lw_at lw_m11 117 rfl) rfl
theorem q2648 : (Jvm.Cond.instanceMethod ({ cls := "java/lang/ArrayStoreException", name := "<init>", desc := "(Ljava/lang/String;)V" } : Jvm.MethodName)) ∈ lw_all := lw_g (lw_at lw_m11 118 rfl) rfl
theorem q2649 : (Jvm.Cond.code ({ cls := "java/lang/ArrayStoreException", name := "<init>", desc := "(Ljava/lang/String;)V" } : Jvm.MethodName) prog_40_method_2_code (2 : Nat) (Option.none : Option Jvm.ClassFile.FieldType)) ∈ lw_all := lw_g (lw_at lw_m11 119 rfl) rfl
theorem q2650 : (Jvm.Cond.methodLink "java/lang/ArrayStoreException" (7 : Nat) ({ cls := "java/lang/RuntimeException", name := "<init>", desc := "(Ljava/lang/String;)V" } : Jvm.MethodName)) ∈ lw_all := lw_g (lw_at lw_m11 120 rfl) rfl
theorem q2651 : (Jvm.Cond.lays "java/lang/ArrayStoreException" "java/lang/Throwable" "backtrace" "Ljava/lang/Object;") ∈ lw_all := lw_g (lw_at lw_m11 121 rfl) rfl
theorem q2652 : (Jvm.Cond.lays "java/lang/ArrayStoreException" "java/lang/Throwable" "detailMessage" "Ljava/lang/String;") ∈ lw_all := lw_g (lw_at lw_m11 122 rfl) rfl
theorem q2653 : (Jvm.Cond.lays "java/lang/ArrayStoreException" "java/lang/Throwable" "cause" "Ljava/lang/Throwable;") ∈ lw_all := lw_g (lw_at lw_m11 123 rfl) rfl
theorem q2654 : (Jvm.Cond.lays "java/lang/ArrayStoreException" "java/lang/Throwable" "stackTrace" "[Ljava/lang/StackTraceElement;") ∈ lw_all := lw_g (lw_at lw_m11 124 rfl) rfl
theorem q2655 : (Jvm.Cond.lays "java/lang/ArrayStoreException" "java/lang/Throwable" "depth" "I") ∈ lw_all := lw_g (lw_at lw_m11 125 rfl) rfl
theorem q2656 : (Jvm.Cond.lays "java/lang/ArrayStoreException" "java/lang/Throwable" "suppressedExceptions" "Ljava/util/List;") ∈ lw_all := lw_g (lw_at lw_m11 126 rfl) rfl
theorem q2657 : (Jvm.Cond.superclass "java/lang/ArrayStoreException" "java/lang/RuntimeException") ∈ lw_all := lw_g (lw_at lw_m11 127 rfl) rfl
theorem q2658 : (Jvm.Cond.castable "java/lang/ArrayStoreException" "java/lang/ArrayStoreException") ∈ lw_tbl := lw_at lw_m11 128 rfl
theorem q2659 : (Jvm.Cond.selects "java/lang/ArrayStoreException" ({ cls := "java/lang/Throwable", name := "fillInStackTrace", desc := "(I)Ljava/lang/Throwable;" } : Jvm.MethodName) ({ cls := "java/lang/Throwable", name := "fillInStackTrace", desc := "(I)Ljava/lang/Throwable;" } : Jvm.MethodName)) ∈ lw_all := lw_g (lw_at lw_m11 129 rfl) rfl
theorem q3438 : (Jvm.Cond.castable "java/lang/ArrayStoreException" "java/lang/Object") ∈ lw_tbl := lw_at lw_m14 188 rfl
theorem in_J31 : ∀ w ∈ wsJ310, w ∈ lw_all := lw_in wsJ310 [2651, 2652, 2653, 2654, 2655, 2656] (by decide +kernel) (by decide +kernel)
/-! java/lang/Object -/
set_option maxRecDepth 100000
def RJ32 : String := "java/lang/Object"
abbrev cJ32_init : ByteArray := object_method_1_code
def yJ32_init : MethodName := ⟨RJ32, "<init>", "()V"⟩
theorem dJ32_init_0 : decode cJ32_init 0 = .ok (.return_, 1) := by decide +kernel
abbrev cJ32_equals : ByteArray := object_method_4_code
def yJ32_equals : MethodName := ⟨RJ32, "equals", "(Ljava/lang/Object;)Z"⟩
def dkwJ32_equals_0 : List UInt8 := [42, 43, 166, 0, 7, 4, 167, 0, 4, 3, 172]
abbrev dktJ32_equals_0 : List UInt8 := dkwJ32_equals_0 ++ []
theorem dksJ32_equals_0 : cJ32_equals.data.toList.drop 0 = dktJ32_equals_0 := by decide +kernel
theorem dJ32_equals_0 : decode cJ32_equals 0 = .ok (.aload_n 0, 1) := dk_42 (dk_at dksJ32_equals_0 0 rfl rfl)
theorem dJ32_equals_1 : decode cJ32_equals 1 = .ok (.aload_n 1, 1) := dk_43 (dk_at dksJ32_equals_0 1 rfl rfl)
theorem dJ32_equals_2 : decode cJ32_equals 2 = .ok (.if_acmp .ne 7, 3) := dk_166 0 7 (dk_at dksJ32_equals_0 2 rfl rfl)
theorem dJ32_equals_5 : decode cJ32_equals 5 = .ok (.iconst 1, 1) := dk_4 (dk_at dksJ32_equals_0 5 rfl rfl)
theorem dJ32_equals_6 : decode cJ32_equals 6 = .ok (.goto 4, 3) := dk_167 0 4 (dk_at dksJ32_equals_0 6 rfl rfl)
theorem dJ32_equals_9 : decode cJ32_equals 9 = .ok (.iconst 0, 1) := dk_3 (dk_at dksJ32_equals_0 9 rfl rfl)
theorem dJ32_equals_10 : decode cJ32_equals 10 = .ok (.ireturn, 1) := dk_172 (dk_at dksJ32_equals_0 10 rfl rfl)
theorem q206 : (Jvm.Cond.instanceMethod ({ cls := "java/lang/Object", name := "<init>", desc := "()V" } : Jvm.MethodName)) ∈ lw_all := lw_g (lw_at lw_m1 76 rfl) rfl
theorem q207 : (Jvm.Cond.code ({ cls := "java/lang/Object", name := "<init>", desc := "()V" } : Jvm.MethodName) object_method_1_code (1 : Nat) (Option.none : Option Jvm.ClassFile.FieldType)) ∈ lw_all := lw_g (lw_at lw_m1 77 rfl) rfl
theorem q422 : (Jvm.Cond.native ({ cls := "java/lang/Object", name := "clone", desc := "()Ljava/lang/Object;" } : Jvm.MethodName)) ∈ lw_all := lw_g (lw_at lw_m2 52 rfl) rfl
theorem q423 : (Jvm.Cond.instanceMethod ({ cls := "java/lang/Object", name := "clone", desc := "()Ljava/lang/Object;" } : Jvm.MethodName)) ∈ lw_all := lw_g (lw_at lw_m2 53 rfl) rfl
theorem q762 : (Jvm.Cond.declares ({ cls := "java/lang/Object", name := "equals", desc := "(Ljava/lang/Object;)Z" } : Jvm.MethodName)) ∈ lw_tbl := lw_at lw_m3 152 rfl
theorem q764 : (Jvm.Cond.instanceMethod ({ cls := "java/lang/Object", name := "equals", desc := "(Ljava/lang/Object;)Z" } : Jvm.MethodName)) ∈ lw_all := lw_g (lw_at lw_m3 154 rfl) rfl
theorem q765 : (Jvm.Cond.sameMethod "java/lang/Object" "java/lang/Object" "equals" "(Ljava/lang/Object;)Z") ∈ lw_all := lw_g (lw_at lw_m3 155 rfl) rfl
theorem q819 : (Jvm.Cond.code ({ cls := "java/lang/Object", name := "equals", desc := "(Ljava/lang/Object;)Z" } : Jvm.MethodName) object_method_4_code (2 : Nat) (Option.some Jvm.ClassFile.FieldType.boolean)) ∈ lw_all := lw_g (lw_at lw_m3 209 rfl) rfl
theorem q841 : (Jvm.Cond.instanceMethod ({ cls := "java/lang/Object", name := "getClass", desc := "()Ljava/lang/Class;" } : Jvm.MethodName)) ∈ lw_all := lw_g (lw_at lw_m3 231 rfl) rfl
theorem q842 : (Jvm.Cond.sameMethod "java/lang/Object" "java/lang/Object" "getClass" "()Ljava/lang/Class;") ∈ lw_all := lw_g (lw_at lw_m3 232 rfl) rfl
theorem q891 : (Jvm.Cond.native ({ cls := "java/lang/Object", name := "getClass", desc := "()Ljava/lang/Class;" } : Jvm.MethodName)) ∈ lw_all := lw_g (lw_at lw_m4 41 rfl) rfl
theorem q3442 : (Jvm.Cond.declares ({ cls := "java/lang/Object", name := "getClass", desc := "()Ljava/lang/Class;" } : Jvm.MethodName)) ∈ lw_tbl := lw_at lw_m14 192 rfl
/-! java/lang/System$2 -/
set_option maxRecDepth 100000
def RJ33 : String := "java/lang/System$2"
abbrev cJ33_getUTF16Char : ByteArray := prog_62_method_45_code
def yJ33_getUTF16Char : MethodName := ⟨RJ33, "getUTF16Char", "([BI)C"⟩
def dkwJ33_getUTF16Char_0 : List UInt8 := [43, 28, 184, 0, 185, 172]
abbrev dktJ33_getUTF16Char_0 : List UInt8 := dkwJ33_getUTF16Char_0 ++ []
theorem dksJ33_getUTF16Char_0 : cJ33_getUTF16Char.data.toList.drop 0 = dktJ33_getUTF16Char_0 := by decide +kernel
theorem dJ33_getUTF16Char_0 : decode cJ33_getUTF16Char 0 = .ok (.aload_n 1, 1) := dk_43 (dk_at dksJ33_getUTF16Char_0 0 rfl rfl)
theorem dJ33_getUTF16Char_1 : decode cJ33_getUTF16Char 1 = .ok (.iload_n 2, 1) := dk_28 (dk_at dksJ33_getUTF16Char_0 1 rfl rfl)
theorem dJ33_getUTF16Char_2 : decode cJ33_getUTF16Char 2 = .ok (.invokestatic 185, 3) := dk_184 0 185 (dk_at dksJ33_getUTF16Char_0 2 rfl rfl)
theorem dJ33_getUTF16Char_5 : decode cJ33_getUTF16Char 5 = .ok (.ireturn, 1) := dk_172 (dk_at dksJ33_getUTF16Char_0 5 rfl rfl)
theorem q818 : (Jvm.Cond.selects "java/lang/System$2" ({ cls := "java/lang/Object", name := "equals", desc := "(Ljava/lang/Object;)Z" } : Jvm.MethodName) ({ cls := "java/lang/Object", name := "equals", desc := "(Ljava/lang/Object;)Z" } : Jvm.MethodName)) ∈ lw_all := lw_g (lw_at lw_m3 208 rfl) rfl
theorem q883 : (Jvm.Cond.selects "java/lang/System$2" ({ cls := "java/lang/Object", name := "getClass", desc := "()Ljava/lang/Class;" } : Jvm.MethodName) ({ cls := "java/lang/Object", name := "getClass", desc := "()Ljava/lang/Class;" } : Jvm.MethodName)) ∈ lw_all := lw_g (lw_at lw_m4 33 rfl) rfl
theorem q1700 : (Jvm.Cond.castable "java/lang/System$2" "jdk/internal/access/JavaLangAccess") ∈ lw_tbl := lw_at lw_m7 130 rfl
theorem q1701 : (Jvm.Cond.selects "java/lang/System$2" ({ cls := "jdk/internal/access/JavaLangAccess", name := "getUTF16Char", desc := "([BI)C" } : Jvm.MethodName) ({ cls := "java/lang/System$2", name := "getUTF16Char", desc := "([BI)C" } : Jvm.MethodName)) ∈ lw_all := lw_g (lw_at lw_m7 131 rfl) rfl
theorem q1702 : (Jvm.Cond.unhidden "java/lang/System$2" "getUTF16Char" "([BI)C") ∈ lw_tbl := lw_at lw_m7 132 rfl
theorem q1703 : (Jvm.Cond.instanceMethod ({ cls := "java/lang/System$2", name := "getUTF16Char", desc := "([BI)C" } : Jvm.MethodName)) ∈ lw_all := lw_g (lw_at lw_m7 133 rfl) rfl
theorem q1704 : (Jvm.Cond.publicMethod ({ cls := "java/lang/System$2", name := "getUTF16Char", desc := "([BI)C" } : Jvm.MethodName)) ∈ lw_tbl := lw_at lw_m7 134 rfl
theorem q1705 : (Jvm.Cond.code ({ cls := "java/lang/System$2", name := "getUTF16Char", desc := "([BI)C" } : Jvm.MethodName) prog_62_method_45_code (3 : Nat) (Option.some Jvm.ClassFile.FieldType.char)) ∈ lw_all := lw_g (lw_at lw_m7 135 rfl) rfl
theorem q1706 : (Jvm.Cond.methodLink "java/lang/System$2" (185 : Nat) ({ cls := "java/lang/StringUTF16", name := "getChar", desc := "([BI)C" } : Jvm.MethodName)) ∈ lw_all := lw_g (lw_at lw_m7 136 rfl) rfl
theorem q3421 : (Jvm.Cond.castable "java/lang/System$2" "java/lang/Object") ∈ lw_tbl := lw_at lw_m14 171 rfl
/-! java/lang/NegativeArraySizeException -/
set_option maxRecDepth 100000
def RJ4 : String := "java/lang/NegativeArraySizeException"
def TJ4 : u_T := fun k => match k with
  | 0 => ("java/lang/Throwable", "cause", "Ljava/lang/Throwable;", false)
  | 1 => ("java/lang/Throwable", "stackTrace", "[Ljava/lang/StackTraceElement;", false)
  | 2 => ("java/lang/Throwable", "suppressedExceptions", "Ljava/util/List;", false)
  | 3 => ("java/lang/Throwable", "detailMessage", "Ljava/lang/String;", false)
  | 4 => ("java/lang/Throwable", "backtrace", "Ljava/lang/Object;", false)
  | _ => ("java/lang/Throwable", "depth", "I", false)
def tyJ4 : Nat → FieldType := fun k => match k with
  | 0 => .object "java/lang/Throwable"
  | 1 => .array (.object "java/lang/StackTraceElement")
  | 2 => .object "java/util/List"
  | 3 => .object "java/lang/String"
  | 4 => .object "java/lang/Object"
  | _ => .int
abbrev wsJ40 : List Cond := u_ws RJ4 TJ4 6
theorem nmJ4 : ∀ a, a < 6 → ∀ b, b < 6 → a ≠ b → (TJ4 a).2.1 ≠ (TJ4 b).2.1 := by decide +kernel
theorem tyJ4_ok : ∀ k, k < 6 → parseFieldDescriptor (TJ4 k).2.2.1 = some (tyJ4 k) := by decide +kernel
abbrev cJ4_init : ByteArray := prog_54_method_1_code
def yJ4_init : MethodName := ⟨RJ4, "<init>", "()V"⟩
theorem dJ4_init_0 : decode cJ4_init 0 = .ok (.aload_n 0, 1) := by decide +kernel
theorem dJ4_init_1 : decode cJ4_init 1 = .ok (.invokespecial 1, 3) := by decide +kernel
theorem dJ4_init_4 : decode cJ4_init 4 = .ok (.return_, 1) := by decide +kernel
abbrev cJ4_init_2 : ByteArray := prog_54_method_2_code
def yJ4_init_2 : MethodName := ⟨RJ4, "<init>", "(Ljava/lang/String;)V"⟩
def dkwJ4_init_2_0 : List UInt8 := [42, 43, 183, 0, 7, 177]
abbrev dktJ4_init_2_0 : List UInt8 := dkwJ4_init_2_0 ++ []
theorem dksJ4_init_2_0 : cJ4_init_2.data.toList.drop 0 = dktJ4_init_2_0 := by decide +kernel
theorem dJ4_init_2_0 : decode cJ4_init_2 0 = .ok (.aload_n 0, 1) := dk_42 (dk_at dksJ4_init_2_0 0 rfl rfl)
theorem dJ4_init_2_1 : decode cJ4_init_2 1 = .ok (.aload_n 1, 1) := dk_43 (dk_at dksJ4_init_2_0 1 rfl rfl)
theorem dJ4_init_2_2 : decode cJ4_init_2 2 = .ok (.invokespecial 7, 3) := dk_183 0 7 (dk_at dksJ4_init_2_0 2 rfl rfl)
theorem dJ4_init_2_5 : decode cJ4_init_2 5 = .ok (.return_, 1) := dk_177 (dk_at dksJ4_init_2_0 5 rfl rfl)
theorem q137 : (Jvm.Cond.initialized "java/lang/NegativeArraySizeException") ∈ lw_all := lw_g (lw_at lw_m1 7 rfl) rfl
theorem q286 : (Jvm.Cond.instantiable "java/lang/NegativeArraySizeException" (6 : Nat)) ∈ lw_all := lw_g (lw_at lw_m1 156 rfl) rfl
theorem q287 : (Jvm.Cond.castable "java/lang/NegativeArraySizeException" "java/lang/NegativeArraySizeException") ∈ lw_tbl := lw_at lw_m1 157 rfl
theorem q294 : (Jvm.Cond.selects "java/lang/NegativeArraySizeException" ({ cls := "java/lang/Throwable", name := "fillInStackTrace", desc := "(I)Ljava/lang/Throwable;" } : Jvm.MethodName) ({ cls := "java/lang/Throwable", name := "fillInStackTrace", desc := "(I)Ljava/lang/Throwable;" } : Jvm.MethodName)) ∈ lw_all := lw_g (lw_at lw_m1 164 rfl) rfl
theorem q295 : (Jvm.Cond.selects "java/lang/NegativeArraySizeException" ({ cls := "java/lang/Throwable", name := "fillInStackTrace", desc := "()Ljava/lang/Throwable;" } : Jvm.MethodName) ({ cls := "java/lang/Throwable", name := "fillInStackTrace", desc := "()Ljava/lang/Throwable;" } : Jvm.MethodName)) ∈ lw_all := lw_g (lw_at lw_m1 165 rfl) rfl
theorem q296 : (Jvm.Cond.lays "java/lang/NegativeArraySizeException" "java/lang/Throwable" "cause" "Ljava/lang/Throwable;") ∈ lw_all := lw_g (lw_at lw_m1 166 rfl) rfl
theorem q298 : (Jvm.Cond.lays "java/lang/NegativeArraySizeException" "java/lang/Throwable" "stackTrace" "[Ljava/lang/StackTraceElement;") ∈ lw_all := lw_g (lw_at lw_m1 168 rfl) rfl
theorem q300 : (Jvm.Cond.lays "java/lang/NegativeArraySizeException" "java/lang/Throwable" "suppressedExceptions" "Ljava/util/List;") ∈ lw_all := lw_g (lw_at lw_m1 170 rfl) rfl
theorem q302 : (Jvm.Cond.lays "java/lang/NegativeArraySizeException" "java/lang/Throwable" "detailMessage" "Ljava/lang/String;") ∈ lw_all := lw_g (lw_at lw_m1 172 rfl) rfl
theorem q304 : (Jvm.Cond.lays "java/lang/NegativeArraySizeException" "java/lang/Throwable" "backtrace" "Ljava/lang/Object;") ∈ lw_all := lw_g (lw_at lw_m1 174 rfl) rfl
theorem q350 : (Jvm.Cond.instanceMethod ({ cls := "java/lang/NegativeArraySizeException", name := "<init>", desc := "()V" } : Jvm.MethodName)) ∈ lw_all := lw_g (lw_at lw_m1 220 rfl) rfl
theorem q351 : (Jvm.Cond.code ({ cls := "java/lang/NegativeArraySizeException", name := "<init>", desc := "()V" } : Jvm.MethodName) prog_54_method_1_code (1 : Nat) (Option.none : Option Jvm.ClassFile.FieldType)) ∈ lw_all := lw_g (lw_at lw_m1 221 rfl) rfl
theorem q352 : (Jvm.Cond.methodLink "java/lang/NegativeArraySizeException" (1 : Nat) ({ cls := "java/lang/RuntimeException", name := "<init>", desc := "()V" } : Jvm.MethodName)) ∈ lw_all := lw_g (lw_at lw_m1 222 rfl) rfl
theorem q368 : (Jvm.Cond.lays "java/lang/NegativeArraySizeException" "java/lang/Throwable" "depth" "I") ∈ lw_all := lw_g (lw_at lw_m1 238 rfl) rfl
theorem q371 : (Jvm.Cond.superclass "java/lang/NegativeArraySizeException" "java/lang/RuntimeException") ∈ lw_all := lw_g (lw_at lw_m2 1 rfl) rfl
theorem q595 : (Jvm.Cond.instanceMethod ({ cls := "java/lang/NegativeArraySizeException", name := "<init>", desc := "(Ljava/lang/String;)V" } : Jvm.MethodName)) ∈ lw_all := lw_g (lw_at lw_m2 225 rfl) rfl
theorem q596 : (Jvm.Cond.code ({ cls := "java/lang/NegativeArraySizeException", name := "<init>", desc := "(Ljava/lang/String;)V" } : Jvm.MethodName) prog_54_method_2_code (2 : Nat) (Option.none : Option Jvm.ClassFile.FieldType)) ∈ lw_all := lw_g (lw_at lw_m2 226 rfl) rfl
theorem q597 : (Jvm.Cond.methodLink "java/lang/NegativeArraySizeException" (7 : Nat) ({ cls := "java/lang/RuntimeException", name := "<init>", desc := "(Ljava/lang/String;)V" } : Jvm.MethodName)) ∈ lw_all := lw_g (lw_at lw_m2 227 rfl) rfl
theorem q809 : (Jvm.Cond.selects "java/lang/NegativeArraySizeException" ({ cls := "java/lang/Object", name := "equals", desc := "(Ljava/lang/Object;)Z" } : Jvm.MethodName) ({ cls := "java/lang/Object", name := "equals", desc := "(Ljava/lang/Object;)Z" } : Jvm.MethodName)) ∈ lw_all := lw_g (lw_at lw_m3 199 rfl) rfl
theorem q880 : (Jvm.Cond.selects "java/lang/NegativeArraySizeException" ({ cls := "java/lang/Object", name := "getClass", desc := "()Ljava/lang/Class;" } : Jvm.MethodName) ({ cls := "java/lang/Object", name := "getClass", desc := "()Ljava/lang/Class;" } : Jvm.MethodName)) ∈ lw_all := lw_g (lw_at lw_m4 30 rfl) rfl
theorem q1111 : (Jvm.Cond.selects "java/lang/NegativeArraySizeException" ({ cls := "java/lang/Throwable", name := "toString", desc := "()Ljava/lang/String;" } : Jvm.MethodName) ({ cls := "java/lang/Throwable", name := "toString", desc := "()Ljava/lang/String;" } : Jvm.MethodName)) ∈ lw_all := lw_g (lw_at lw_m5 21 rfl) rfl
theorem q1124 : (Jvm.Cond.selects "java/lang/NegativeArraySizeException" ({ cls := "java/lang/Throwable", name := "getLocalizedMessage", desc := "()Ljava/lang/String;" } : Jvm.MethodName) ({ cls := "java/lang/Throwable", name := "getLocalizedMessage", desc := "()Ljava/lang/String;" } : Jvm.MethodName)) ∈ lw_all := lw_g (lw_at lw_m5 34 rfl) rfl
theorem q1136 : (Jvm.Cond.selects "java/lang/NegativeArraySizeException" ({ cls := "java/lang/Throwable", name := "getMessage", desc := "()Ljava/lang/String;" } : Jvm.MethodName) ({ cls := "java/lang/Throwable", name := "getMessage", desc := "()Ljava/lang/String;" } : Jvm.MethodName)) ∈ lw_all := lw_g (lw_at lw_m5 46 rfl) rfl
theorem q3398 : (Jvm.Cond.castable "java/lang/NegativeArraySizeException" "java/lang/Object") ∈ lw_tbl := lw_at lw_m14 148 rfl
theorem in_J4 : ∀ w ∈ wsJ40, w ∈ lw_all := lw_in wsJ40 [296, 298, 300, 302, 304, 368] (by decide +kernel) (by decide +kernel)
/-! java/lang/AbstractStringBuilder -/
set_option maxRecDepth 100000
def RJ5 : String := "java/lang/AbstractStringBuilder"
abbrev cJ5_init : ByteArray := prog_37_method_2_code
def yJ5_init : MethodName := ⟨RJ5, "<init>", "(I)V"⟩
def dkwJ5_init_1 : List UInt8 := [167, 0, 16, 42, 27, 184, 0, 26, 181, 0, 15, 42, 4, 181, 0, 22, 177]
abbrev dktJ5_init_1 : List UInt8 := dkwJ5_init_1 ++ []
def dkwJ5_init_0 : List UInt8 := [42, 183, 0, 3, 178, 0, 18, 153, 0, 18, 42, 27, 188, 8, 181, 0, 15, 42, 3, 181, 0, 22]
abbrev dktJ5_init_0 : List UInt8 := dkwJ5_init_0 ++ dktJ5_init_1
theorem dksJ5_init_0 : cJ5_init.data.toList.drop 0 = dktJ5_init_0 := by decide +kernel
theorem dksJ5_init_1 : cJ5_init.data.toList.drop 22 = dktJ5_init_1 := dk_seg dksJ5_init_0 22 rfl rfl
theorem dJ5_init_0 : decode cJ5_init 0 = .ok (.aload_n 0, 1) := dk_42 (dk_at dksJ5_init_0 0 rfl rfl)
theorem dJ5_init_1 : decode cJ5_init 1 = .ok (.invokespecial 3, 3) := dk_183 0 3 (dk_at dksJ5_init_0 1 rfl rfl)
theorem dJ5_init_4 : decode cJ5_init 4 = .ok (.getstatic 18, 3) := dk_178 0 18 (dk_at dksJ5_init_0 4 rfl rfl)
theorem dJ5_init_7 : decode cJ5_init 7 = .ok (.ifCond .eq 18, 3) := dk_153 0 18 (dk_at dksJ5_init_0 7 rfl rfl)
theorem dJ5_init_10 : decode cJ5_init 10 = .ok (.aload_n 0, 1) := dk_42 (dk_at dksJ5_init_0 10 rfl rfl)
theorem dJ5_init_11 : decode cJ5_init 11 = .ok (.iload_n 1, 1) := dk_27 (dk_at dksJ5_init_0 11 rfl rfl)
theorem dJ5_init_12 : decode cJ5_init 12 = .ok (.newarray .byte, 2) := dk_188_8 (dk_at dksJ5_init_0 12 rfl rfl)
theorem dJ5_init_14 : decode cJ5_init 14 = .ok (.putfield 15, 3) := dk_181 0 15 (dk_at dksJ5_init_0 14 rfl rfl)
theorem dJ5_init_17 : decode cJ5_init 17 = .ok (.aload_n 0, 1) := dk_42 (dk_at dksJ5_init_0 17 rfl rfl)
theorem dJ5_init_18 : decode cJ5_init 18 = .ok (.iconst 0, 1) := dk_3 (dk_at dksJ5_init_0 18 rfl rfl)
theorem dJ5_init_19 : decode cJ5_init 19 = .ok (.putfield 22, 3) := dk_181 0 22 (dk_at dksJ5_init_0 19 rfl rfl)
theorem dJ5_init_22 : decode cJ5_init 22 = .ok (.goto 16, 3) := dk_167 0 16 (dk_at dksJ5_init_1 0 rfl rfl)
theorem dJ5_init_25 : decode cJ5_init 25 = .ok (.aload_n 0, 1) := dk_42 (dk_at dksJ5_init_1 3 rfl rfl)
theorem dJ5_init_26 : decode cJ5_init 26 = .ok (.iload_n 1, 1) := dk_27 (dk_at dksJ5_init_1 4 rfl rfl)
theorem dJ5_init_27 : decode cJ5_init 27 = .ok (.invokestatic 26, 3) := dk_184 0 26 (dk_at dksJ5_init_1 5 rfl rfl)
theorem dJ5_init_30 : decode cJ5_init 30 = .ok (.putfield 15, 3) := dk_181 0 15 (dk_at dksJ5_init_1 8 rfl rfl)
theorem dJ5_init_33 : decode cJ5_init 33 = .ok (.aload_n 0, 1) := dk_42 (dk_at dksJ5_init_1 11 rfl rfl)
theorem dJ5_init_34 : decode cJ5_init 34 = .ok (.iconst 1, 1) := dk_4 (dk_at dksJ5_init_1 12 rfl rfl)
theorem dJ5_init_35 : decode cJ5_init 35 = .ok (.putfield 22, 3) := dk_181 0 22 (dk_at dksJ5_init_1 13 rfl rfl)
theorem dJ5_init_38 : decode cJ5_init 38 = .ok (.return_, 1) := dk_177 (dk_at dksJ5_init_1 16 rfl rfl)
abbrev cJ5_append : ByteArray := prog_37_method_22_code
def yJ5_append : MethodName := ⟨RJ5, "append", "(Ljava/lang/String;)Ljava/lang/AbstractStringBuilder;"⟩
def dkwJ5_append_1 : List UInt8 := [42, 42, 180, 0, 79, 43, 182, 0, 208, 42, 89, 180, 0, 79, 28, 96, 181, 0, 79, 42, 176]
abbrev dktJ5_append_1 : List UInt8 := dkwJ5_append_1 ++ []
def dkwJ5_append_0 : List UInt8 := [43, 199, 0, 8, 42, 182, 0, 204, 176, 43, 182, 0, 32, 61, 42, 42, 180, 0, 79, 28, 96, 182, 0, 100]
abbrev dktJ5_append_0 : List UInt8 := dkwJ5_append_0 ++ dktJ5_append_1
theorem dksJ5_append_0 : cJ5_append.data.toList.drop 0 = dktJ5_append_0 := by decide +kernel
theorem dksJ5_append_1 : cJ5_append.data.toList.drop 24 = dktJ5_append_1 := dk_seg dksJ5_append_0 24 rfl rfl
theorem dJ5_append_0 : decode cJ5_append 0 = .ok (.aload_n 1, 1) := dk_43 (dk_at dksJ5_append_0 0 rfl rfl)
theorem dJ5_append_1 : decode cJ5_append 1 = .ok (.ifnonnull 8, 3) := dk_199 0 8 (dk_at dksJ5_append_0 1 rfl rfl)
theorem dJ5_append_4 : decode cJ5_append 4 = .ok (.aload_n 0, 1) := dk_42 (dk_at dksJ5_append_0 4 rfl rfl)
theorem dJ5_append_5 : decode cJ5_append 5 = .ok (.invokevirtual 204, 3) := dk_182 0 204 (dk_at dksJ5_append_0 5 rfl rfl)
theorem dJ5_append_8 : decode cJ5_append 8 = .ok (.areturn, 1) := dk_176 (dk_at dksJ5_append_0 8 rfl rfl)
theorem dJ5_append_9 : decode cJ5_append 9 = .ok (.aload_n 1, 1) := dk_43 (dk_at dksJ5_append_0 9 rfl rfl)
theorem dJ5_append_10 : decode cJ5_append 10 = .ok (.invokevirtual 32, 3) := dk_182 0 32 (dk_at dksJ5_append_0 10 rfl rfl)
theorem dJ5_append_13 : decode cJ5_append 13 = .ok (.istore_n 2, 1) := dk_61 (dk_at dksJ5_append_0 13 rfl rfl)
theorem dJ5_append_14 : decode cJ5_append 14 = .ok (.aload_n 0, 1) := dk_42 (dk_at dksJ5_append_0 14 rfl rfl)
theorem dJ5_append_15 : decode cJ5_append 15 = .ok (.aload_n 0, 1) := dk_42 (dk_at dksJ5_append_0 15 rfl rfl)
theorem dJ5_append_16 : decode cJ5_append 16 = .ok (.getfield 79, 3) := dk_180 0 79 (dk_at dksJ5_append_0 16 rfl rfl)
theorem dJ5_append_19 : decode cJ5_append 19 = .ok (.iload_n 2, 1) := dk_28 (dk_at dksJ5_append_0 19 rfl rfl)
theorem dJ5_append_20 : decode cJ5_append 20 = .ok (.iadd, 1) := dk_96 (dk_at dksJ5_append_0 20 rfl rfl)
theorem dJ5_append_21 : decode cJ5_append 21 = .ok (.invokevirtual 100, 3) := dk_182 0 100 (dk_at dksJ5_append_0 21 rfl rfl)
theorem dJ5_append_24 : decode cJ5_append 24 = .ok (.aload_n 0, 1) := dk_42 (dk_at dksJ5_append_1 0 rfl rfl)
theorem dJ5_append_25 : decode cJ5_append 25 = .ok (.aload_n 0, 1) := dk_42 (dk_at dksJ5_append_1 1 rfl rfl)
theorem dJ5_append_26 : decode cJ5_append 26 = .ok (.getfield 79, 3) := dk_180 0 79 (dk_at dksJ5_append_1 2 rfl rfl)
theorem dJ5_append_29 : decode cJ5_append 29 = .ok (.aload_n 1, 1) := dk_43 (dk_at dksJ5_append_1 5 rfl rfl)
theorem dJ5_append_30 : decode cJ5_append 30 = .ok (.invokevirtual 208, 3) := dk_182 0 208 (dk_at dksJ5_append_1 6 rfl rfl)
theorem dJ5_append_33 : decode cJ5_append 33 = .ok (.aload_n 0, 1) := dk_42 (dk_at dksJ5_append_1 9 rfl rfl)
theorem dJ5_append_34 : decode cJ5_append 34 = .ok (.dup, 1) := dk_89 (dk_at dksJ5_append_1 10 rfl rfl)
theorem dJ5_append_35 : decode cJ5_append 35 = .ok (.getfield 79, 3) := dk_180 0 79 (dk_at dksJ5_append_1 11 rfl rfl)
theorem dJ5_append_38 : decode cJ5_append 38 = .ok (.iload_n 2, 1) := dk_28 (dk_at dksJ5_append_1 14 rfl rfl)
theorem dJ5_append_39 : decode cJ5_append 39 = .ok (.iadd, 1) := dk_96 (dk_at dksJ5_append_1 15 rfl rfl)
theorem dJ5_append_40 : decode cJ5_append 40 = .ok (.putfield 79, 3) := dk_181 0 79 (dk_at dksJ5_append_1 16 rfl rfl)
theorem dJ5_append_43 : decode cJ5_append 43 = .ok (.aload_n 0, 1) := dk_42 (dk_at dksJ5_append_1 19 rfl rfl)
theorem dJ5_append_44 : decode cJ5_append 44 = .ok (.areturn, 1) := dk_176 (dk_at dksJ5_append_1 20 rfl rfl)
abbrev cJ5_appendNull : ByteArray := prog_37_method_26_code
def yJ5_appendNull : MethodName := ⟨RJ5, "appendNull", "()Ljava/lang/AbstractStringBuilder;"⟩
def dkwJ5_appendNull_3 : List UInt8 := [184, 0, 226, 60, 42, 27, 181, 0, 79, 42, 176]
abbrev dktJ5_appendNull_3 : List UInt8 := dkwJ5_appendNull_3 ++ []
def dkwJ5_appendNull_2 : List UInt8 := [16, 108, 84, 44, 27, 132, 1, 1, 16, 108, 84, 167, 0, 17, 44, 27, 16, 110, 16, 117, 16, 108, 16, 108]
abbrev dktJ5_appendNull_2 : List UInt8 := dkwJ5_appendNull_2 ++ dktJ5_appendNull_3
def dkwJ5_appendNull_1 : List UInt8 := [153, 0, 38, 44, 27, 132, 1, 1, 16, 110, 84, 44, 27, 132, 1, 1, 16, 117, 84, 44, 27, 132, 1, 1]
abbrev dktJ5_appendNull_1 : List UInt8 := dkwJ5_appendNull_1 ++ dktJ5_appendNull_2
def dkwJ5_appendNull_0 : List UInt8 := [42, 42, 180, 0, 79, 7, 96, 182, 0, 100, 42, 180, 0, 79, 60, 42, 180, 0, 15, 77, 42, 182, 0, 83]
abbrev dktJ5_appendNull_0 : List UInt8 := dkwJ5_appendNull_0 ++ dktJ5_appendNull_1
theorem dksJ5_appendNull_0 : cJ5_appendNull.data.toList.drop 0 = dktJ5_appendNull_0 := by decide +kernel
theorem dksJ5_appendNull_1 : cJ5_appendNull.data.toList.drop 24 = dktJ5_appendNull_1 := dk_seg dksJ5_appendNull_0 24 rfl rfl
theorem dksJ5_appendNull_2 : cJ5_appendNull.data.toList.drop 48 = dktJ5_appendNull_2 := dk_seg dksJ5_appendNull_1 24 rfl rfl
theorem dksJ5_appendNull_3 : cJ5_appendNull.data.toList.drop 72 = dktJ5_appendNull_3 := dk_seg dksJ5_appendNull_2 24 rfl rfl
theorem dJ5_appendNull_0 : decode cJ5_appendNull 0 = .ok (.aload_n 0, 1) := dk_42 (dk_at dksJ5_appendNull_0 0 rfl rfl)
theorem dJ5_appendNull_1 : decode cJ5_appendNull 1 = .ok (.aload_n 0, 1) := dk_42 (dk_at dksJ5_appendNull_0 1 rfl rfl)
theorem dJ5_appendNull_2 : decode cJ5_appendNull 2 = .ok (.getfield 79, 3) := dk_180 0 79 (dk_at dksJ5_appendNull_0 2 rfl rfl)
theorem dJ5_appendNull_5 : decode cJ5_appendNull 5 = .ok (.iconst 4, 1) := dk_7 (dk_at dksJ5_appendNull_0 5 rfl rfl)
theorem dJ5_appendNull_6 : decode cJ5_appendNull 6 = .ok (.iadd, 1) := dk_96 (dk_at dksJ5_appendNull_0 6 rfl rfl)
theorem dJ5_appendNull_7 : decode cJ5_appendNull 7 = .ok (.invokevirtual 100, 3) := dk_182 0 100 (dk_at dksJ5_appendNull_0 7 rfl rfl)
theorem dJ5_appendNull_10 : decode cJ5_appendNull 10 = .ok (.aload_n 0, 1) := dk_42 (dk_at dksJ5_appendNull_0 10 rfl rfl)
theorem dJ5_appendNull_11 : decode cJ5_appendNull 11 = .ok (.getfield 79, 3) := dk_180 0 79 (dk_at dksJ5_appendNull_0 11 rfl rfl)
theorem dJ5_appendNull_14 : decode cJ5_appendNull 14 = .ok (.istore_n 1, 1) := dk_60 (dk_at dksJ5_appendNull_0 14 rfl rfl)
theorem dJ5_appendNull_15 : decode cJ5_appendNull 15 = .ok (.aload_n 0, 1) := dk_42 (dk_at dksJ5_appendNull_0 15 rfl rfl)
theorem dJ5_appendNull_16 : decode cJ5_appendNull 16 = .ok (.getfield 15, 3) := dk_180 0 15 (dk_at dksJ5_appendNull_0 16 rfl rfl)
theorem dJ5_appendNull_19 : decode cJ5_appendNull 19 = .ok (.astore_n 2, 1) := dk_77 (dk_at dksJ5_appendNull_0 19 rfl rfl)
theorem dJ5_appendNull_20 : decode cJ5_appendNull 20 = .ok (.aload_n 0, 1) := dk_42 (dk_at dksJ5_appendNull_0 20 rfl rfl)
theorem dJ5_appendNull_21 : decode cJ5_appendNull 21 = .ok (.invokevirtual 83, 3) := dk_182 0 83 (dk_at dksJ5_appendNull_0 21 rfl rfl)
theorem dJ5_appendNull_24 : decode cJ5_appendNull 24 = .ok (.ifCond .eq 38, 3) := dk_153 0 38 (dk_at dksJ5_appendNull_1 0 rfl rfl)
theorem dJ5_appendNull_27 : decode cJ5_appendNull 27 = .ok (.aload_n 2, 1) := dk_44 (dk_at dksJ5_appendNull_1 3 rfl rfl)
theorem dJ5_appendNull_28 : decode cJ5_appendNull 28 = .ok (.iload_n 1, 1) := dk_27 (dk_at dksJ5_appendNull_1 4 rfl rfl)
theorem dJ5_appendNull_29 : decode cJ5_appendNull 29 = .ok (.iinc 1 1, 3) := dk_132 1 1 (dk_at dksJ5_appendNull_1 5 rfl rfl)
theorem dJ5_appendNull_32 : decode cJ5_appendNull 32 = .ok (.bipush 110, 2) := dk_16 110 (dk_at dksJ5_appendNull_1 8 rfl rfl)
theorem dJ5_appendNull_34 : decode cJ5_appendNull 34 = .ok (.bastore, 1) := dk_84 (dk_at dksJ5_appendNull_1 10 rfl rfl)
theorem dJ5_appendNull_35 : decode cJ5_appendNull 35 = .ok (.aload_n 2, 1) := dk_44 (dk_at dksJ5_appendNull_1 11 rfl rfl)
theorem dJ5_appendNull_36 : decode cJ5_appendNull 36 = .ok (.iload_n 1, 1) := dk_27 (dk_at dksJ5_appendNull_1 12 rfl rfl)
theorem dJ5_appendNull_37 : decode cJ5_appendNull 37 = .ok (.iinc 1 1, 3) := dk_132 1 1 (dk_at dksJ5_appendNull_1 13 rfl rfl)
theorem dJ5_appendNull_40 : decode cJ5_appendNull 40 = .ok (.bipush 117, 2) := dk_16 117 (dk_at dksJ5_appendNull_1 16 rfl rfl)
theorem dJ5_appendNull_42 : decode cJ5_appendNull 42 = .ok (.bastore, 1) := dk_84 (dk_at dksJ5_appendNull_1 18 rfl rfl)
theorem dJ5_appendNull_43 : decode cJ5_appendNull 43 = .ok (.aload_n 2, 1) := dk_44 (dk_at dksJ5_appendNull_1 19 rfl rfl)
theorem dJ5_appendNull_44 : decode cJ5_appendNull 44 = .ok (.iload_n 1, 1) := dk_27 (dk_at dksJ5_appendNull_1 20 rfl rfl)
theorem dJ5_appendNull_45 : decode cJ5_appendNull 45 = .ok (.iinc 1 1, 3) := dk_132 1 1 (dk_at dksJ5_appendNull_1 21 rfl rfl)
theorem dJ5_appendNull_48 : decode cJ5_appendNull 48 = .ok (.bipush 108, 2) := dk_16 108 (dk_at dksJ5_appendNull_2 0 rfl rfl)
theorem dJ5_appendNull_50 : decode cJ5_appendNull 50 = .ok (.bastore, 1) := dk_84 (dk_at dksJ5_appendNull_2 2 rfl rfl)
theorem dJ5_appendNull_51 : decode cJ5_appendNull 51 = .ok (.aload_n 2, 1) := dk_44 (dk_at dksJ5_appendNull_2 3 rfl rfl)
theorem dJ5_appendNull_52 : decode cJ5_appendNull 52 = .ok (.iload_n 1, 1) := dk_27 (dk_at dksJ5_appendNull_2 4 rfl rfl)
theorem dJ5_appendNull_53 : decode cJ5_appendNull 53 = .ok (.iinc 1 1, 3) := dk_132 1 1 (dk_at dksJ5_appendNull_2 5 rfl rfl)
theorem dJ5_appendNull_56 : decode cJ5_appendNull 56 = .ok (.bipush 108, 2) := dk_16 108 (dk_at dksJ5_appendNull_2 8 rfl rfl)
theorem dJ5_appendNull_58 : decode cJ5_appendNull 58 = .ok (.bastore, 1) := dk_84 (dk_at dksJ5_appendNull_2 10 rfl rfl)
theorem dJ5_appendNull_59 : decode cJ5_appendNull 59 = .ok (.goto 17, 3) := dk_167 0 17 (dk_at dksJ5_appendNull_2 11 rfl rfl)
theorem dJ5_appendNull_62 : decode cJ5_appendNull 62 = .ok (.aload_n 2, 1) := dk_44 (dk_at dksJ5_appendNull_2 14 rfl rfl)
theorem dJ5_appendNull_63 : decode cJ5_appendNull 63 = .ok (.iload_n 1, 1) := dk_27 (dk_at dksJ5_appendNull_2 15 rfl rfl)
theorem dJ5_appendNull_64 : decode cJ5_appendNull 64 = .ok (.bipush 110, 2) := dk_16 110 (dk_at dksJ5_appendNull_2 16 rfl rfl)
theorem dJ5_appendNull_66 : decode cJ5_appendNull 66 = .ok (.bipush 117, 2) := dk_16 117 (dk_at dksJ5_appendNull_2 18 rfl rfl)
theorem dJ5_appendNull_68 : decode cJ5_appendNull 68 = .ok (.bipush 108, 2) := dk_16 108 (dk_at dksJ5_appendNull_2 20 rfl rfl)
theorem dJ5_appendNull_70 : decode cJ5_appendNull 70 = .ok (.bipush 108, 2) := dk_16 108 (dk_at dksJ5_appendNull_2 22 rfl rfl)
theorem dJ5_appendNull_72 : decode cJ5_appendNull 72 = .ok (.invokestatic 226, 3) := dk_184 0 226 (dk_at dksJ5_appendNull_3 0 rfl rfl)
theorem dJ5_appendNull_75 : decode cJ5_appendNull 75 = .ok (.istore_n 1, 1) := dk_60 (dk_at dksJ5_appendNull_3 3 rfl rfl)
theorem dJ5_appendNull_76 : decode cJ5_appendNull 76 = .ok (.aload_n 0, 1) := dk_42 (dk_at dksJ5_appendNull_3 4 rfl rfl)
theorem dJ5_appendNull_77 : decode cJ5_appendNull 77 = .ok (.iload_n 1, 1) := dk_27 (dk_at dksJ5_appendNull_3 5 rfl rfl)
theorem dJ5_appendNull_78 : decode cJ5_appendNull 78 = .ok (.putfield 79, 3) := dk_181 0 79 (dk_at dksJ5_appendNull_3 6 rfl rfl)
theorem dJ5_appendNull_81 : decode cJ5_appendNull 81 = .ok (.aload_n 0, 1) := dk_42 (dk_at dksJ5_appendNull_3 9 rfl rfl)
theorem dJ5_appendNull_82 : decode cJ5_appendNull 82 = .ok (.areturn, 1) := dk_176 (dk_at dksJ5_appendNull_3 10 rfl rfl)
abbrev cJ5_ensureCapacityInternal : ByteArray := prog_37_method_9_code
def yJ5_ensureCapacityInternal : MethodName := ⟨RJ5, "ensureCapacityInternal", "(I)V"⟩
def dkwJ5_ensureCapacityInternal_1 : List UInt8 := [182, 0, 104, 42, 180, 0, 22, 120, 184, 0, 108, 181, 0, 15, 177]
abbrev dktJ5_ensureCapacityInternal_1 : List UInt8 := dkwJ5_ensureCapacityInternal_1 ++ []
def dkwJ5_ensureCapacityInternal_0 : List UInt8 := [42, 180, 0, 15, 190, 42, 180, 0, 22, 122, 61, 27, 28, 100, 158, 0, 24, 42, 42, 180, 0, 15, 42, 27]
abbrev dktJ5_ensureCapacityInternal_0 : List UInt8 := dkwJ5_ensureCapacityInternal_0 ++ dktJ5_ensureCapacityInternal_1
theorem dksJ5_ensureCapacityInternal_0 : cJ5_ensureCapacityInternal.data.toList.drop 0 = dktJ5_ensureCapacityInternal_0 := by decide +kernel
theorem dksJ5_ensureCapacityInternal_1 : cJ5_ensureCapacityInternal.data.toList.drop 24 = dktJ5_ensureCapacityInternal_1 := dk_seg dksJ5_ensureCapacityInternal_0 24 rfl rfl
theorem dJ5_ensureCapacityInternal_0 : decode cJ5_ensureCapacityInternal 0 = .ok (.aload_n 0, 1) := dk_42 (dk_at dksJ5_ensureCapacityInternal_0 0 rfl rfl)
theorem dJ5_ensureCapacityInternal_1 : decode cJ5_ensureCapacityInternal 1 = .ok (.getfield 15, 3) := dk_180 0 15 (dk_at dksJ5_ensureCapacityInternal_0 1 rfl rfl)
theorem dJ5_ensureCapacityInternal_4 : decode cJ5_ensureCapacityInternal 4 = .ok (.arraylength, 1) := dk_190 (dk_at dksJ5_ensureCapacityInternal_0 4 rfl rfl)
theorem dJ5_ensureCapacityInternal_5 : decode cJ5_ensureCapacityInternal 5 = .ok (.aload_n 0, 1) := dk_42 (dk_at dksJ5_ensureCapacityInternal_0 5 rfl rfl)
theorem dJ5_ensureCapacityInternal_6 : decode cJ5_ensureCapacityInternal 6 = .ok (.getfield 22, 3) := dk_180 0 22 (dk_at dksJ5_ensureCapacityInternal_0 6 rfl rfl)
theorem dJ5_ensureCapacityInternal_9 : decode cJ5_ensureCapacityInternal 9 = .ok (.ishr, 1) := dk_122 (dk_at dksJ5_ensureCapacityInternal_0 9 rfl rfl)
theorem dJ5_ensureCapacityInternal_10 : decode cJ5_ensureCapacityInternal 10 = .ok (.istore_n 2, 1) := dk_61 (dk_at dksJ5_ensureCapacityInternal_0 10 rfl rfl)
theorem dJ5_ensureCapacityInternal_11 : decode cJ5_ensureCapacityInternal 11 = .ok (.iload_n 1, 1) := dk_27 (dk_at dksJ5_ensureCapacityInternal_0 11 rfl rfl)
theorem dJ5_ensureCapacityInternal_12 : decode cJ5_ensureCapacityInternal 12 = .ok (.iload_n 2, 1) := dk_28 (dk_at dksJ5_ensureCapacityInternal_0 12 rfl rfl)
theorem dJ5_ensureCapacityInternal_13 : decode cJ5_ensureCapacityInternal 13 = .ok (.isub, 1) := dk_100 (dk_at dksJ5_ensureCapacityInternal_0 13 rfl rfl)
theorem dJ5_ensureCapacityInternal_14 : decode cJ5_ensureCapacityInternal 14 = .ok (.ifCond .le 24, 3) := dk_158 0 24 (dk_at dksJ5_ensureCapacityInternal_0 14 rfl rfl)
theorem dJ5_ensureCapacityInternal_17 : decode cJ5_ensureCapacityInternal 17 = .ok (.aload_n 0, 1) := dk_42 (dk_at dksJ5_ensureCapacityInternal_0 17 rfl rfl)
theorem dJ5_ensureCapacityInternal_18 : decode cJ5_ensureCapacityInternal 18 = .ok (.aload_n 0, 1) := dk_42 (dk_at dksJ5_ensureCapacityInternal_0 18 rfl rfl)
theorem dJ5_ensureCapacityInternal_19 : decode cJ5_ensureCapacityInternal 19 = .ok (.getfield 15, 3) := dk_180 0 15 (dk_at dksJ5_ensureCapacityInternal_0 19 rfl rfl)
theorem dJ5_ensureCapacityInternal_22 : decode cJ5_ensureCapacityInternal 22 = .ok (.aload_n 0, 1) := dk_42 (dk_at dksJ5_ensureCapacityInternal_0 22 rfl rfl)
theorem dJ5_ensureCapacityInternal_23 : decode cJ5_ensureCapacityInternal 23 = .ok (.iload_n 1, 1) := dk_27 (dk_at dksJ5_ensureCapacityInternal_0 23 rfl rfl)
theorem dJ5_ensureCapacityInternal_24 : decode cJ5_ensureCapacityInternal 24 = .ok (.invokevirtual 104, 3) := dk_182 0 104 (dk_at dksJ5_ensureCapacityInternal_1 0 rfl rfl)
theorem dJ5_ensureCapacityInternal_27 : decode cJ5_ensureCapacityInternal 27 = .ok (.aload_n 0, 1) := dk_42 (dk_at dksJ5_ensureCapacityInternal_1 3 rfl rfl)
theorem dJ5_ensureCapacityInternal_28 : decode cJ5_ensureCapacityInternal 28 = .ok (.getfield 22, 3) := dk_180 0 22 (dk_at dksJ5_ensureCapacityInternal_1 4 rfl rfl)
theorem dJ5_ensureCapacityInternal_31 : decode cJ5_ensureCapacityInternal 31 = .ok (.ishl, 1) := dk_120 (dk_at dksJ5_ensureCapacityInternal_1 7 rfl rfl)
theorem dJ5_ensureCapacityInternal_32 : decode cJ5_ensureCapacityInternal 32 = .ok (.invokestatic 108, 3) := dk_184 0 108 (dk_at dksJ5_ensureCapacityInternal_1 8 rfl rfl)
theorem dJ5_ensureCapacityInternal_35 : decode cJ5_ensureCapacityInternal 35 = .ok (.putfield 15, 3) := dk_181 0 15 (dk_at dksJ5_ensureCapacityInternal_1 11 rfl rfl)
theorem dJ5_ensureCapacityInternal_38 : decode cJ5_ensureCapacityInternal 38 = .ok (.return_, 1) := dk_177 (dk_at dksJ5_ensureCapacityInternal_1 14 rfl rfl)
abbrev cJ5_newCapacity : ByteArray := prog_37_method_10_code
def yJ5_newCapacity : MethodName := ⟨RJ5, "newCapacity", "(I)I"⟩
def dkwJ5_newCapacity_2 : List UInt8 := [183, 0, 124, 191, 21, 5, 42, 180, 0, 22, 122, 172]
abbrev dktJ5_newCapacity_2 : List UInt8 := dkwJ5_newCapacity_2 ++ []
def dkwJ5_newCapacity_1 : List UInt8 := [180, 0, 22, 120, 96, 184, 0, 114, 54, 5, 21, 5, 18, 39, 160, 0, 13, 187, 0, 120, 89, 18, 122]
abbrev dktJ5_newCapacity_1 : List UInt8 := dkwJ5_newCapacity_1 ++ dktJ5_newCapacity_2
def dkwJ5_newCapacity_0 : List UInt8 := [42, 180, 0, 15, 190, 61, 27, 42, 180, 0, 22, 120, 62, 29, 28, 100, 54, 4, 28, 21, 4, 28, 5, 42]
abbrev dktJ5_newCapacity_0 : List UInt8 := dkwJ5_newCapacity_0 ++ dktJ5_newCapacity_1
theorem dksJ5_newCapacity_0 : cJ5_newCapacity.data.toList.drop 0 = dktJ5_newCapacity_0 := by decide +kernel
theorem dksJ5_newCapacity_1 : cJ5_newCapacity.data.toList.drop 24 = dktJ5_newCapacity_1 := dk_seg dksJ5_newCapacity_0 24 rfl rfl
theorem dksJ5_newCapacity_2 : cJ5_newCapacity.data.toList.drop 47 = dktJ5_newCapacity_2 := dk_seg dksJ5_newCapacity_1 23 rfl rfl
theorem dJ5_newCapacity_0 : decode cJ5_newCapacity 0 = .ok (.aload_n 0, 1) := dk_42 (dk_at dksJ5_newCapacity_0 0 rfl rfl)
theorem dJ5_newCapacity_1 : decode cJ5_newCapacity 1 = .ok (.getfield 15, 3) := dk_180 0 15 (dk_at dksJ5_newCapacity_0 1 rfl rfl)
theorem dJ5_newCapacity_4 : decode cJ5_newCapacity 4 = .ok (.arraylength, 1) := dk_190 (dk_at dksJ5_newCapacity_0 4 rfl rfl)
theorem dJ5_newCapacity_5 : decode cJ5_newCapacity 5 = .ok (.istore_n 2, 1) := dk_61 (dk_at dksJ5_newCapacity_0 5 rfl rfl)
theorem dJ5_newCapacity_6 : decode cJ5_newCapacity 6 = .ok (.iload_n 1, 1) := dk_27 (dk_at dksJ5_newCapacity_0 6 rfl rfl)
theorem dJ5_newCapacity_7 : decode cJ5_newCapacity 7 = .ok (.aload_n 0, 1) := dk_42 (dk_at dksJ5_newCapacity_0 7 rfl rfl)
theorem dJ5_newCapacity_8 : decode cJ5_newCapacity 8 = .ok (.getfield 22, 3) := dk_180 0 22 (dk_at dksJ5_newCapacity_0 8 rfl rfl)
theorem dJ5_newCapacity_11 : decode cJ5_newCapacity 11 = .ok (.ishl, 1) := dk_120 (dk_at dksJ5_newCapacity_0 11 rfl rfl)
theorem dJ5_newCapacity_12 : decode cJ5_newCapacity 12 = .ok (.istore_n 3, 1) := dk_62 (dk_at dksJ5_newCapacity_0 12 rfl rfl)
theorem dJ5_newCapacity_13 : decode cJ5_newCapacity 13 = .ok (.iload_n 3, 1) := dk_29 (dk_at dksJ5_newCapacity_0 13 rfl rfl)
theorem dJ5_newCapacity_14 : decode cJ5_newCapacity 14 = .ok (.iload_n 2, 1) := dk_28 (dk_at dksJ5_newCapacity_0 14 rfl rfl)
theorem dJ5_newCapacity_15 : decode cJ5_newCapacity 15 = .ok (.isub, 1) := dk_100 (dk_at dksJ5_newCapacity_0 15 rfl rfl)
theorem dJ5_newCapacity_16 : decode cJ5_newCapacity 16 = .ok (.istore 4, 2) := dk_54 4 (dk_at dksJ5_newCapacity_0 16 rfl rfl)
theorem dJ5_newCapacity_18 : decode cJ5_newCapacity 18 = .ok (.iload_n 2, 1) := dk_28 (dk_at dksJ5_newCapacity_0 18 rfl rfl)
theorem dJ5_newCapacity_19 : decode cJ5_newCapacity 19 = .ok (.iload 4, 2) := dk_21 4 (dk_at dksJ5_newCapacity_0 19 rfl rfl)
theorem dJ5_newCapacity_21 : decode cJ5_newCapacity 21 = .ok (.iload_n 2, 1) := dk_28 (dk_at dksJ5_newCapacity_0 21 rfl rfl)
theorem dJ5_newCapacity_22 : decode cJ5_newCapacity 22 = .ok (.iconst 2, 1) := dk_5 (dk_at dksJ5_newCapacity_0 22 rfl rfl)
theorem dJ5_newCapacity_23 : decode cJ5_newCapacity 23 = .ok (.aload_n 0, 1) := dk_42 (dk_at dksJ5_newCapacity_0 23 rfl rfl)
theorem dJ5_newCapacity_24 : decode cJ5_newCapacity 24 = .ok (.getfield 22, 3) := dk_180 0 22 (dk_at dksJ5_newCapacity_1 0 rfl rfl)
theorem dJ5_newCapacity_27 : decode cJ5_newCapacity 27 = .ok (.ishl, 1) := dk_120 (dk_at dksJ5_newCapacity_1 3 rfl rfl)
theorem dJ5_newCapacity_28 : decode cJ5_newCapacity 28 = .ok (.iadd, 1) := dk_96 (dk_at dksJ5_newCapacity_1 4 rfl rfl)
theorem dJ5_newCapacity_29 : decode cJ5_newCapacity 29 = .ok (.invokestatic 114, 3) := dk_184 0 114 (dk_at dksJ5_newCapacity_1 5 rfl rfl)
theorem dJ5_newCapacity_32 : decode cJ5_newCapacity 32 = .ok (.istore 5, 2) := dk_54 5 (dk_at dksJ5_newCapacity_1 8 rfl rfl)
theorem dJ5_newCapacity_34 : decode cJ5_newCapacity 34 = .ok (.iload 5, 2) := dk_21 5 (dk_at dksJ5_newCapacity_1 10 rfl rfl)
theorem dJ5_newCapacity_36 : decode cJ5_newCapacity 36 = .ok (.ldc 39, 2) := dk_18 39 (dk_at dksJ5_newCapacity_1 12 rfl rfl)
theorem dJ5_newCapacity_38 : decode cJ5_newCapacity 38 = .ok (.if_icmp .ne 13, 3) := dk_160 0 13 (dk_at dksJ5_newCapacity_1 14 rfl rfl)
theorem dJ5_newCapacity_41 : decode cJ5_newCapacity 41 = .ok (.new 120, 3) := dk_187 0 120 (dk_at dksJ5_newCapacity_1 17 rfl rfl)
theorem dJ5_newCapacity_44 : decode cJ5_newCapacity 44 = .ok (.dup, 1) := dk_89 (dk_at dksJ5_newCapacity_1 20 rfl rfl)
theorem dJ5_newCapacity_45 : decode cJ5_newCapacity 45 = .ok (.ldc 122, 2) := dk_18 122 (dk_at dksJ5_newCapacity_1 21 rfl rfl)
theorem dJ5_newCapacity_47 : decode cJ5_newCapacity 47 = .ok (.invokespecial 124, 3) := dk_183 0 124 (dk_at dksJ5_newCapacity_2 0 rfl rfl)
theorem dJ5_newCapacity_50 : decode cJ5_newCapacity 50 = .ok (.athrow, 1) := dk_191 (dk_at dksJ5_newCapacity_2 3 rfl rfl)
theorem dJ5_newCapacity_51 : decode cJ5_newCapacity 51 = .ok (.iload 5, 2) := dk_21 5 (dk_at dksJ5_newCapacity_2 4 rfl rfl)
theorem dJ5_newCapacity_53 : decode cJ5_newCapacity 53 = .ok (.aload_n 0, 1) := dk_42 (dk_at dksJ5_newCapacity_2 6 rfl rfl)
theorem dJ5_newCapacity_54 : decode cJ5_newCapacity 54 = .ok (.getfield 22, 3) := dk_180 0 22 (dk_at dksJ5_newCapacity_2 7 rfl rfl)
theorem dJ5_newCapacity_57 : decode cJ5_newCapacity 57 = .ok (.ishr, 1) := dk_122 (dk_at dksJ5_newCapacity_2 10 rfl rfl)
theorem dJ5_newCapacity_58 : decode cJ5_newCapacity 58 = .ok (.ireturn, 1) := dk_172 (dk_at dksJ5_newCapacity_2 11 rfl rfl)
abbrev cJ5_isLatin1 : ByteArray := prog_37_method_68_code
def yJ5_isLatin1 : MethodName := ⟨RJ5, "isLatin1", "()Z"⟩
def dkwJ5_isLatin1_0 : List UInt8 := [178, 0, 18, 153, 0, 14, 42, 180, 0, 22, 154, 0, 7, 4, 167, 0, 4, 3, 172]
abbrev dktJ5_isLatin1_0 : List UInt8 := dkwJ5_isLatin1_0 ++ []
theorem dksJ5_isLatin1_0 : cJ5_isLatin1.data.toList.drop 0 = dktJ5_isLatin1_0 := by decide +kernel
theorem dJ5_isLatin1_0 : decode cJ5_isLatin1 0 = .ok (.getstatic 18, 3) := dk_178 0 18 (dk_at dksJ5_isLatin1_0 0 rfl rfl)
theorem dJ5_isLatin1_3 : decode cJ5_isLatin1 3 = .ok (.ifCond .eq 14, 3) := dk_153 0 14 (dk_at dksJ5_isLatin1_0 3 rfl rfl)
theorem dJ5_isLatin1_6 : decode cJ5_isLatin1 6 = .ok (.aload_n 0, 1) := dk_42 (dk_at dksJ5_isLatin1_0 6 rfl rfl)
theorem dJ5_isLatin1_7 : decode cJ5_isLatin1 7 = .ok (.getfield 22, 3) := dk_180 0 22 (dk_at dksJ5_isLatin1_0 7 rfl rfl)
theorem dJ5_isLatin1_10 : decode cJ5_isLatin1 10 = .ok (.ifCond .ne 7, 3) := dk_154 0 7 (dk_at dksJ5_isLatin1_0 10 rfl rfl)
theorem dJ5_isLatin1_13 : decode cJ5_isLatin1 13 = .ok (.iconst 1, 1) := dk_4 (dk_at dksJ5_isLatin1_0 13 rfl rfl)
theorem dJ5_isLatin1_14 : decode cJ5_isLatin1 14 = .ok (.goto 4, 3) := dk_167 0 4 (dk_at dksJ5_isLatin1_0 14 rfl rfl)
theorem dJ5_isLatin1_17 : decode cJ5_isLatin1 17 = .ok (.iconst 0, 1) := dk_3 (dk_at dksJ5_isLatin1_0 17 rfl rfl)
theorem dJ5_isLatin1_18 : decode cJ5_isLatin1 18 = .ok (.ireturn, 1) := dk_172 (dk_at dksJ5_isLatin1_0 18 rfl rfl)
abbrev cJ5_putStringAt : ByteArray := prog_37_method_73_code
def yJ5_putStringAt : MethodName := ⟨RJ5, "putStringAt", "(ILjava/lang/String;)V"⟩
def dkwJ5_putStringAt_0 : List UInt8 := [42, 44, 182, 1, 141, 44, 42, 180, 0, 15, 27, 42, 180, 0, 22, 182, 1, 143, 177]
abbrev dktJ5_putStringAt_0 : List UInt8 := dkwJ5_putStringAt_0 ++ []
theorem dksJ5_putStringAt_0 : cJ5_putStringAt.data.toList.drop 0 = dktJ5_putStringAt_0 := by decide +kernel
theorem dJ5_putStringAt_0 : decode cJ5_putStringAt 0 = .ok (.aload_n 0, 1) := dk_42 (dk_at dksJ5_putStringAt_0 0 rfl rfl)
theorem dJ5_putStringAt_1 : decode cJ5_putStringAt 1 = .ok (.aload_n 2, 1) := dk_44 (dk_at dksJ5_putStringAt_0 1 rfl rfl)
theorem dJ5_putStringAt_2 : decode cJ5_putStringAt 2 = .ok (.invokevirtual 397, 3) := dk_182 1 141 (dk_at dksJ5_putStringAt_0 2 rfl rfl)
theorem dJ5_putStringAt_5 : decode cJ5_putStringAt 5 = .ok (.aload_n 2, 1) := dk_44 (dk_at dksJ5_putStringAt_0 5 rfl rfl)
theorem dJ5_putStringAt_6 : decode cJ5_putStringAt 6 = .ok (.aload_n 0, 1) := dk_42 (dk_at dksJ5_putStringAt_0 6 rfl rfl)
theorem dJ5_putStringAt_7 : decode cJ5_putStringAt 7 = .ok (.getfield 15, 3) := dk_180 0 15 (dk_at dksJ5_putStringAt_0 7 rfl rfl)
theorem dJ5_putStringAt_10 : decode cJ5_putStringAt 10 = .ok (.iload_n 1, 1) := dk_27 (dk_at dksJ5_putStringAt_0 10 rfl rfl)
theorem dJ5_putStringAt_11 : decode cJ5_putStringAt 11 = .ok (.aload_n 0, 1) := dk_42 (dk_at dksJ5_putStringAt_0 11 rfl rfl)
theorem dJ5_putStringAt_12 : decode cJ5_putStringAt 12 = .ok (.getfield 22, 3) := dk_180 0 22 (dk_at dksJ5_putStringAt_0 12 rfl rfl)
theorem dJ5_putStringAt_15 : decode cJ5_putStringAt 15 = .ok (.invokevirtual 399, 3) := dk_182 1 143 (dk_at dksJ5_putStringAt_0 15 rfl rfl)
theorem dJ5_putStringAt_18 : decode cJ5_putStringAt 18 = .ok (.return_, 1) := dk_177 (dk_at dksJ5_putStringAt_0 18 rfl rfl)
abbrev cJ5_inflateIfNeededFor : ByteArray := prog_37_method_71_code
def yJ5_inflateIfNeededFor : MethodName := ⟨RJ5, "inflateIfNeededFor", "(Ljava/lang/String;)V"⟩
def dkwJ5_inflateIfNeededFor_0 : List UInt8 := [178, 0, 18, 153, 0, 18, 42, 180, 0, 22, 43, 182, 0, 40, 159, 0, 7, 42, 182, 0, 195, 177]
abbrev dktJ5_inflateIfNeededFor_0 : List UInt8 := dkwJ5_inflateIfNeededFor_0 ++ []
theorem dksJ5_inflateIfNeededFor_0 : cJ5_inflateIfNeededFor.data.toList.drop 0 = dktJ5_inflateIfNeededFor_0 := by decide +kernel
theorem dJ5_inflateIfNeededFor_0 : decode cJ5_inflateIfNeededFor 0 = .ok (.getstatic 18, 3) := dk_178 0 18 (dk_at dksJ5_inflateIfNeededFor_0 0 rfl rfl)
theorem dJ5_inflateIfNeededFor_3 : decode cJ5_inflateIfNeededFor 3 = .ok (.ifCond .eq 18, 3) := dk_153 0 18 (dk_at dksJ5_inflateIfNeededFor_0 3 rfl rfl)
theorem dJ5_inflateIfNeededFor_6 : decode cJ5_inflateIfNeededFor 6 = .ok (.aload_n 0, 1) := dk_42 (dk_at dksJ5_inflateIfNeededFor_0 6 rfl rfl)
theorem dJ5_inflateIfNeededFor_7 : decode cJ5_inflateIfNeededFor 7 = .ok (.getfield 22, 3) := dk_180 0 22 (dk_at dksJ5_inflateIfNeededFor_0 7 rfl rfl)
theorem dJ5_inflateIfNeededFor_10 : decode cJ5_inflateIfNeededFor 10 = .ok (.aload_n 1, 1) := dk_43 (dk_at dksJ5_inflateIfNeededFor_0 10 rfl rfl)
theorem dJ5_inflateIfNeededFor_11 : decode cJ5_inflateIfNeededFor 11 = .ok (.invokevirtual 40, 3) := dk_182 0 40 (dk_at dksJ5_inflateIfNeededFor_0 11 rfl rfl)
theorem dJ5_inflateIfNeededFor_14 : decode cJ5_inflateIfNeededFor 14 = .ok (.if_icmp .eq 7, 3) := dk_159 0 7 (dk_at dksJ5_inflateIfNeededFor_0 14 rfl rfl)
theorem dJ5_inflateIfNeededFor_17 : decode cJ5_inflateIfNeededFor 17 = .ok (.aload_n 0, 1) := dk_42 (dk_at dksJ5_inflateIfNeededFor_0 17 rfl rfl)
theorem dJ5_inflateIfNeededFor_18 : decode cJ5_inflateIfNeededFor 18 = .ok (.invokevirtual 195, 3) := dk_182 0 195 (dk_at dksJ5_inflateIfNeededFor_0 18 rfl rfl)
theorem dJ5_inflateIfNeededFor_21 : decode cJ5_inflateIfNeededFor 21 = .ok (.return_, 1) := dk_177 (dk_at dksJ5_inflateIfNeededFor_0 21 rfl rfl)
abbrev cJ5_inflate : ByteArray := prog_37_method_11_code
def yJ5_inflate : MethodName := ⟨RJ5, "inflate", "()V"⟩
def dkwJ5_inflate_1 : List UInt8 := [42, 180, 0, 79, 184, 0, 125, 42, 43, 181, 0, 15, 42, 4, 181, 0, 22, 177]
abbrev dktJ5_inflate_1 : List UInt8 := dkwJ5_inflate_1 ++ []
def dkwJ5_inflate_0 : List UInt8 := [42, 182, 0, 83, 154, 0, 4, 177, 42, 180, 0, 15, 190, 184, 0, 26, 76, 42, 180, 0, 15, 3, 43, 3]
abbrev dktJ5_inflate_0 : List UInt8 := dkwJ5_inflate_0 ++ dktJ5_inflate_1
theorem dksJ5_inflate_0 : cJ5_inflate.data.toList.drop 0 = dktJ5_inflate_0 := by decide +kernel
theorem dksJ5_inflate_1 : cJ5_inflate.data.toList.drop 24 = dktJ5_inflate_1 := dk_seg dksJ5_inflate_0 24 rfl rfl
theorem dJ5_inflate_0 : decode cJ5_inflate 0 = .ok (.aload_n 0, 1) := dk_42 (dk_at dksJ5_inflate_0 0 rfl rfl)
theorem dJ5_inflate_1 : decode cJ5_inflate 1 = .ok (.invokevirtual 83, 3) := dk_182 0 83 (dk_at dksJ5_inflate_0 1 rfl rfl)
theorem dJ5_inflate_4 : decode cJ5_inflate 4 = .ok (.ifCond .ne 4, 3) := dk_154 0 4 (dk_at dksJ5_inflate_0 4 rfl rfl)
theorem dJ5_inflate_7 : decode cJ5_inflate 7 = .ok (.return_, 1) := dk_177 (dk_at dksJ5_inflate_0 7 rfl rfl)
theorem dJ5_inflate_8 : decode cJ5_inflate 8 = .ok (.aload_n 0, 1) := dk_42 (dk_at dksJ5_inflate_0 8 rfl rfl)
theorem dJ5_inflate_9 : decode cJ5_inflate 9 = .ok (.getfield 15, 3) := dk_180 0 15 (dk_at dksJ5_inflate_0 9 rfl rfl)
theorem dJ5_inflate_12 : decode cJ5_inflate 12 = .ok (.arraylength, 1) := dk_190 (dk_at dksJ5_inflate_0 12 rfl rfl)
theorem dJ5_inflate_13 : decode cJ5_inflate 13 = .ok (.invokestatic 26, 3) := dk_184 0 26 (dk_at dksJ5_inflate_0 13 rfl rfl)
theorem dJ5_inflate_16 : decode cJ5_inflate 16 = .ok (.astore_n 1, 1) := dk_76 (dk_at dksJ5_inflate_0 16 rfl rfl)
theorem dJ5_inflate_17 : decode cJ5_inflate 17 = .ok (.aload_n 0, 1) := dk_42 (dk_at dksJ5_inflate_0 17 rfl rfl)
theorem dJ5_inflate_18 : decode cJ5_inflate 18 = .ok (.getfield 15, 3) := dk_180 0 15 (dk_at dksJ5_inflate_0 18 rfl rfl)
theorem dJ5_inflate_21 : decode cJ5_inflate 21 = .ok (.iconst 0, 1) := dk_3 (dk_at dksJ5_inflate_0 21 rfl rfl)
theorem dJ5_inflate_22 : decode cJ5_inflate 22 = .ok (.aload_n 1, 1) := dk_43 (dk_at dksJ5_inflate_0 22 rfl rfl)
theorem dJ5_inflate_23 : decode cJ5_inflate 23 = .ok (.iconst 0, 1) := dk_3 (dk_at dksJ5_inflate_0 23 rfl rfl)
theorem dJ5_inflate_24 : decode cJ5_inflate 24 = .ok (.aload_n 0, 1) := dk_42 (dk_at dksJ5_inflate_1 0 rfl rfl)
theorem dJ5_inflate_25 : decode cJ5_inflate 25 = .ok (.getfield 79, 3) := dk_180 0 79 (dk_at dksJ5_inflate_1 1 rfl rfl)
theorem dJ5_inflate_28 : decode cJ5_inflate 28 = .ok (.invokestatic 125, 3) := dk_184 0 125 (dk_at dksJ5_inflate_1 4 rfl rfl)
theorem dJ5_inflate_31 : decode cJ5_inflate 31 = .ok (.aload_n 0, 1) := dk_42 (dk_at dksJ5_inflate_1 7 rfl rfl)
theorem dJ5_inflate_32 : decode cJ5_inflate 32 = .ok (.aload_n 1, 1) := dk_43 (dk_at dksJ5_inflate_1 8 rfl rfl)
theorem dJ5_inflate_33 : decode cJ5_inflate 33 = .ok (.putfield 15, 3) := dk_181 0 15 (dk_at dksJ5_inflate_1 9 rfl rfl)
theorem dJ5_inflate_36 : decode cJ5_inflate 36 = .ok (.aload_n 0, 1) := dk_42 (dk_at dksJ5_inflate_1 12 rfl rfl)
theorem dJ5_inflate_37 : decode cJ5_inflate 37 = .ok (.iconst 1, 1) := dk_4 (dk_at dksJ5_inflate_1 13 rfl rfl)
theorem dJ5_inflate_38 : decode cJ5_inflate 38 = .ok (.putfield 22, 3) := dk_181 0 22 (dk_at dksJ5_inflate_1 14 rfl rfl)
theorem dJ5_inflate_41 : decode cJ5_inflate 41 = .ok (.return_, 1) := dk_177 (dk_at dksJ5_inflate_1 17 rfl rfl)
abbrev cJ5_append_2 : ByteArray := prog_37_method_32_code
def yJ5_append_2 : MethodName := ⟨RJ5, "append", "(I)Ljava/lang/AbstractStringBuilder;"⟩
def dkwJ5_append_2_2 : List UInt8 := [42, 29, 181, 0, 79, 42, 176]
abbrev dktJ5_append_2_2 : List UInt8 := dkwJ5_append_2_2 ++ []
def dkwJ5_append_2_1 : List UInt8 := [27, 29, 42, 180, 0, 15, 184, 0, 248, 87, 167, 0, 14, 27, 28, 29, 42, 180, 0, 15, 184, 0, 251, 87]
abbrev dktJ5_append_2_1 : List UInt8 := dkwJ5_append_2_1 ++ dktJ5_append_2_2
def dkwJ5_append_2_0 : List UInt8 := [42, 180, 0, 79, 61, 28, 27, 184, 0, 245, 96, 62, 42, 29, 182, 0, 100, 42, 182, 0, 83, 153, 0, 16]
abbrev dktJ5_append_2_0 : List UInt8 := dkwJ5_append_2_0 ++ dktJ5_append_2_1
theorem dksJ5_append_2_0 : cJ5_append_2.data.toList.drop 0 = dktJ5_append_2_0 := by decide +kernel
theorem dksJ5_append_2_1 : cJ5_append_2.data.toList.drop 24 = dktJ5_append_2_1 := dk_seg dksJ5_append_2_0 24 rfl rfl
theorem dksJ5_append_2_2 : cJ5_append_2.data.toList.drop 48 = dktJ5_append_2_2 := dk_seg dksJ5_append_2_1 24 rfl rfl
theorem dJ5_append_2_0 : decode cJ5_append_2 0 = .ok (.aload_n 0, 1) := dk_42 (dk_at dksJ5_append_2_0 0 rfl rfl)
theorem dJ5_append_2_1 : decode cJ5_append_2 1 = .ok (.getfield 79, 3) := dk_180 0 79 (dk_at dksJ5_append_2_0 1 rfl rfl)
theorem dJ5_append_2_4 : decode cJ5_append_2 4 = .ok (.istore_n 2, 1) := dk_61 (dk_at dksJ5_append_2_0 4 rfl rfl)
theorem dJ5_append_2_5 : decode cJ5_append_2 5 = .ok (.iload_n 2, 1) := dk_28 (dk_at dksJ5_append_2_0 5 rfl rfl)
theorem dJ5_append_2_6 : decode cJ5_append_2 6 = .ok (.iload_n 1, 1) := dk_27 (dk_at dksJ5_append_2_0 6 rfl rfl)
theorem dJ5_append_2_7 : decode cJ5_append_2 7 = .ok (.invokestatic 245, 3) := dk_184 0 245 (dk_at dksJ5_append_2_0 7 rfl rfl)
theorem dJ5_append_2_10 : decode cJ5_append_2 10 = .ok (.iadd, 1) := dk_96 (dk_at dksJ5_append_2_0 10 rfl rfl)
theorem dJ5_append_2_11 : decode cJ5_append_2 11 = .ok (.istore_n 3, 1) := dk_62 (dk_at dksJ5_append_2_0 11 rfl rfl)
theorem dJ5_append_2_12 : decode cJ5_append_2 12 = .ok (.aload_n 0, 1) := dk_42 (dk_at dksJ5_append_2_0 12 rfl rfl)
theorem dJ5_append_2_13 : decode cJ5_append_2 13 = .ok (.iload_n 3, 1) := dk_29 (dk_at dksJ5_append_2_0 13 rfl rfl)
theorem dJ5_append_2_14 : decode cJ5_append_2 14 = .ok (.invokevirtual 100, 3) := dk_182 0 100 (dk_at dksJ5_append_2_0 14 rfl rfl)
theorem dJ5_append_2_17 : decode cJ5_append_2 17 = .ok (.aload_n 0, 1) := dk_42 (dk_at dksJ5_append_2_0 17 rfl rfl)
theorem dJ5_append_2_18 : decode cJ5_append_2 18 = .ok (.invokevirtual 83, 3) := dk_182 0 83 (dk_at dksJ5_append_2_0 18 rfl rfl)
theorem dJ5_append_2_21 : decode cJ5_append_2 21 = .ok (.ifCond .eq 16, 3) := dk_153 0 16 (dk_at dksJ5_append_2_0 21 rfl rfl)
theorem dJ5_append_2_24 : decode cJ5_append_2 24 = .ok (.iload_n 1, 1) := dk_27 (dk_at dksJ5_append_2_1 0 rfl rfl)
theorem dJ5_append_2_25 : decode cJ5_append_2 25 = .ok (.iload_n 3, 1) := dk_29 (dk_at dksJ5_append_2_1 1 rfl rfl)
theorem dJ5_append_2_26 : decode cJ5_append_2 26 = .ok (.aload_n 0, 1) := dk_42 (dk_at dksJ5_append_2_1 2 rfl rfl)
theorem dJ5_append_2_27 : decode cJ5_append_2 27 = .ok (.getfield 15, 3) := dk_180 0 15 (dk_at dksJ5_append_2_1 3 rfl rfl)
theorem dJ5_append_2_30 : decode cJ5_append_2 30 = .ok (.invokestatic 248, 3) := dk_184 0 248 (dk_at dksJ5_append_2_1 6 rfl rfl)
theorem dJ5_append_2_33 : decode cJ5_append_2 33 = .ok (.pop, 1) := dk_87 (dk_at dksJ5_append_2_1 9 rfl rfl)
theorem dJ5_append_2_34 : decode cJ5_append_2 34 = .ok (.goto 14, 3) := dk_167 0 14 (dk_at dksJ5_append_2_1 10 rfl rfl)
theorem dJ5_append_2_37 : decode cJ5_append_2 37 = .ok (.iload_n 1, 1) := dk_27 (dk_at dksJ5_append_2_1 13 rfl rfl)
theorem dJ5_append_2_38 : decode cJ5_append_2 38 = .ok (.iload_n 2, 1) := dk_28 (dk_at dksJ5_append_2_1 14 rfl rfl)
theorem dJ5_append_2_39 : decode cJ5_append_2 39 = .ok (.iload_n 3, 1) := dk_29 (dk_at dksJ5_append_2_1 15 rfl rfl)
theorem dJ5_append_2_40 : decode cJ5_append_2 40 = .ok (.aload_n 0, 1) := dk_42 (dk_at dksJ5_append_2_1 16 rfl rfl)
theorem dJ5_append_2_41 : decode cJ5_append_2 41 = .ok (.getfield 15, 3) := dk_180 0 15 (dk_at dksJ5_append_2_1 17 rfl rfl)
theorem dJ5_append_2_44 : decode cJ5_append_2 44 = .ok (.invokestatic 251, 3) := dk_184 0 251 (dk_at dksJ5_append_2_1 20 rfl rfl)
theorem dJ5_append_2_47 : decode cJ5_append_2 47 = .ok (.pop, 1) := dk_87 (dk_at dksJ5_append_2_1 23 rfl rfl)
theorem dJ5_append_2_48 : decode cJ5_append_2 48 = .ok (.aload_n 0, 1) := dk_42 (dk_at dksJ5_append_2_2 0 rfl rfl)
theorem dJ5_append_2_49 : decode cJ5_append_2 49 = .ok (.iload_n 3, 1) := dk_29 (dk_at dksJ5_append_2_2 1 rfl rfl)
theorem dJ5_append_2_50 : decode cJ5_append_2 50 = .ok (.putfield 79, 3) := dk_181 0 79 (dk_at dksJ5_append_2_2 2 rfl rfl)
theorem dJ5_append_2_53 : decode cJ5_append_2 53 = .ok (.aload_n 0, 1) := dk_42 (dk_at dksJ5_append_2_2 5 rfl rfl)
theorem dJ5_append_2_54 : decode cJ5_append_2 54 = .ok (.areturn, 1) := dk_176 (dk_at dksJ5_append_2_2 6 rfl rfl)
abbrev cJ5_getValue : ByteArray := prog_37_method_64_code
def yJ5_getValue : MethodName := ⟨RJ5, "getValue", "()[B"⟩
theorem dJ5_getValue_0 : decode cJ5_getValue 0 = .ok (.aload_n 0, 1) := by decide +kernel
theorem dJ5_getValue_1 : decode cJ5_getValue 1 = .ok (.getfield 15, 3) := by decide +kernel
theorem dJ5_getValue_4 : decode cJ5_getValue 4 = .ok (.areturn, 1) := by decide +kernel
abbrev cJ5_length : ByteArray := prog_37_method_6_code
def yJ5_length : MethodName := ⟨RJ5, "length", "()I"⟩
theorem dJ5_length_0 : decode cJ5_length 0 = .ok (.aload_n 0, 1) := by decide +kernel
theorem dJ5_length_1 : decode cJ5_length 1 = .ok (.getfield 79, 3) := by decide +kernel
theorem dJ5_length_4 : decode cJ5_length 4 = .ok (.ireturn, 1) := by decide +kernel
abbrev cJ5_append_3 : ByteArray := prog_37_method_31_code
def yJ5_append_3 : MethodName := ⟨RJ5, "append", "(C)Ljava/lang/AbstractStringBuilder;"⟩
def dkwJ5_append_3_3 : List UInt8 := [181, 0, 79, 27, 184, 0, 197, 42, 176]
abbrev dktJ5_append_3_3 : List UInt8 := dkwJ5_append_3_3 ++ []
def dkwJ5_append_3_2 : List UInt8 := [182, 0, 83, 153, 0, 7, 42, 182, 0, 195, 42, 180, 0, 15, 42, 89, 180, 0, 79, 90, 4, 96]
abbrev dktJ5_append_3_2 : List UInt8 := dkwJ5_append_3_2 ++ dktJ5_append_3_3
def dkwJ5_append_3_1 : List UInt8 := [42, 180, 0, 15, 42, 89, 180, 0, 79, 90, 4, 96, 181, 0, 79, 27, 145, 84, 167, 0, 33, 42]
abbrev dktJ5_append_3_1 : List UInt8 := dkwJ5_append_3_1 ++ dktJ5_append_3_2
def dkwJ5_append_3_0 : List UInt8 := [42, 42, 180, 0, 79, 4, 96, 182, 0, 100, 42, 182, 0, 83, 153, 0, 31, 27, 184, 0, 191, 153, 0, 24]
abbrev dktJ5_append_3_0 : List UInt8 := dkwJ5_append_3_0 ++ dktJ5_append_3_1
theorem dksJ5_append_3_0 : cJ5_append_3.data.toList.drop 0 = dktJ5_append_3_0 := by decide +kernel
theorem dksJ5_append_3_1 : cJ5_append_3.data.toList.drop 24 = dktJ5_append_3_1 := dk_seg dksJ5_append_3_0 24 rfl rfl
theorem dksJ5_append_3_2 : cJ5_append_3.data.toList.drop 46 = dktJ5_append_3_2 := dk_seg dksJ5_append_3_1 22 rfl rfl
theorem dksJ5_append_3_3 : cJ5_append_3.data.toList.drop 68 = dktJ5_append_3_3 := dk_seg dksJ5_append_3_2 22 rfl rfl
theorem dJ5_append_3_0 : decode cJ5_append_3 0 = .ok (.aload_n 0, 1) := dk_42 (dk_at dksJ5_append_3_0 0 rfl rfl)
theorem dJ5_append_3_1 : decode cJ5_append_3 1 = .ok (.aload_n 0, 1) := dk_42 (dk_at dksJ5_append_3_0 1 rfl rfl)
theorem dJ5_append_3_2 : decode cJ5_append_3 2 = .ok (.getfield 79, 3) := dk_180 0 79 (dk_at dksJ5_append_3_0 2 rfl rfl)
theorem dJ5_append_3_5 : decode cJ5_append_3 5 = .ok (.iconst 1, 1) := dk_4 (dk_at dksJ5_append_3_0 5 rfl rfl)
theorem dJ5_append_3_6 : decode cJ5_append_3 6 = .ok (.iadd, 1) := dk_96 (dk_at dksJ5_append_3_0 6 rfl rfl)
theorem dJ5_append_3_7 : decode cJ5_append_3 7 = .ok (.invokevirtual 100, 3) := dk_182 0 100 (dk_at dksJ5_append_3_0 7 rfl rfl)
theorem dJ5_append_3_10 : decode cJ5_append_3 10 = .ok (.aload_n 0, 1) := dk_42 (dk_at dksJ5_append_3_0 10 rfl rfl)
theorem dJ5_append_3_11 : decode cJ5_append_3 11 = .ok (.invokevirtual 83, 3) := dk_182 0 83 (dk_at dksJ5_append_3_0 11 rfl rfl)
theorem dJ5_append_3_14 : decode cJ5_append_3 14 = .ok (.ifCond .eq 31, 3) := dk_153 0 31 (dk_at dksJ5_append_3_0 14 rfl rfl)
theorem dJ5_append_3_17 : decode cJ5_append_3 17 = .ok (.iload_n 1, 1) := dk_27 (dk_at dksJ5_append_3_0 17 rfl rfl)
theorem dJ5_append_3_18 : decode cJ5_append_3 18 = .ok (.invokestatic 191, 3) := dk_184 0 191 (dk_at dksJ5_append_3_0 18 rfl rfl)
theorem dJ5_append_3_21 : decode cJ5_append_3 21 = .ok (.ifCond .eq 24, 3) := dk_153 0 24 (dk_at dksJ5_append_3_0 21 rfl rfl)
theorem dJ5_append_3_24 : decode cJ5_append_3 24 = .ok (.aload_n 0, 1) := dk_42 (dk_at dksJ5_append_3_1 0 rfl rfl)
theorem dJ5_append_3_25 : decode cJ5_append_3 25 = .ok (.getfield 15, 3) := dk_180 0 15 (dk_at dksJ5_append_3_1 1 rfl rfl)
theorem dJ5_append_3_28 : decode cJ5_append_3 28 = .ok (.aload_n 0, 1) := dk_42 (dk_at dksJ5_append_3_1 4 rfl rfl)
theorem dJ5_append_3_29 : decode cJ5_append_3 29 = .ok (.dup, 1) := dk_89 (dk_at dksJ5_append_3_1 5 rfl rfl)
theorem dJ5_append_3_30 : decode cJ5_append_3 30 = .ok (.getfield 79, 3) := dk_180 0 79 (dk_at dksJ5_append_3_1 6 rfl rfl)
theorem dJ5_append_3_33 : decode cJ5_append_3 33 = .ok (.dup_x1, 1) := dk_90 (dk_at dksJ5_append_3_1 9 rfl rfl)
theorem dJ5_append_3_34 : decode cJ5_append_3 34 = .ok (.iconst 1, 1) := dk_4 (dk_at dksJ5_append_3_1 10 rfl rfl)
theorem dJ5_append_3_35 : decode cJ5_append_3 35 = .ok (.iadd, 1) := dk_96 (dk_at dksJ5_append_3_1 11 rfl rfl)
theorem dJ5_append_3_36 : decode cJ5_append_3 36 = .ok (.putfield 79, 3) := dk_181 0 79 (dk_at dksJ5_append_3_1 12 rfl rfl)
theorem dJ5_append_3_39 : decode cJ5_append_3 39 = .ok (.iload_n 1, 1) := dk_27 (dk_at dksJ5_append_3_1 15 rfl rfl)
theorem dJ5_append_3_40 : decode cJ5_append_3 40 = .ok (.i2b, 1) := dk_145 (dk_at dksJ5_append_3_1 16 rfl rfl)
theorem dJ5_append_3_41 : decode cJ5_append_3 41 = .ok (.bastore, 1) := dk_84 (dk_at dksJ5_append_3_1 17 rfl rfl)
theorem dJ5_append_3_42 : decode cJ5_append_3 42 = .ok (.goto 33, 3) := dk_167 0 33 (dk_at dksJ5_append_3_1 18 rfl rfl)
theorem dJ5_append_3_45 : decode cJ5_append_3 45 = .ok (.aload_n 0, 1) := dk_42 (dk_at dksJ5_append_3_1 21 rfl rfl)
theorem dJ5_append_3_46 : decode cJ5_append_3 46 = .ok (.invokevirtual 83, 3) := dk_182 0 83 (dk_at dksJ5_append_3_2 0 rfl rfl)
theorem dJ5_append_3_49 : decode cJ5_append_3 49 = .ok (.ifCond .eq 7, 3) := dk_153 0 7 (dk_at dksJ5_append_3_2 3 rfl rfl)
theorem dJ5_append_3_52 : decode cJ5_append_3 52 = .ok (.aload_n 0, 1) := dk_42 (dk_at dksJ5_append_3_2 6 rfl rfl)
theorem dJ5_append_3_53 : decode cJ5_append_3 53 = .ok (.invokevirtual 195, 3) := dk_182 0 195 (dk_at dksJ5_append_3_2 7 rfl rfl)
theorem dJ5_append_3_56 : decode cJ5_append_3 56 = .ok (.aload_n 0, 1) := dk_42 (dk_at dksJ5_append_3_2 10 rfl rfl)
theorem dJ5_append_3_57 : decode cJ5_append_3 57 = .ok (.getfield 15, 3) := dk_180 0 15 (dk_at dksJ5_append_3_2 11 rfl rfl)
theorem dJ5_append_3_60 : decode cJ5_append_3 60 = .ok (.aload_n 0, 1) := dk_42 (dk_at dksJ5_append_3_2 14 rfl rfl)
theorem dJ5_append_3_61 : decode cJ5_append_3 61 = .ok (.dup, 1) := dk_89 (dk_at dksJ5_append_3_2 15 rfl rfl)
theorem dJ5_append_3_62 : decode cJ5_append_3 62 = .ok (.getfield 79, 3) := dk_180 0 79 (dk_at dksJ5_append_3_2 16 rfl rfl)
theorem dJ5_append_3_65 : decode cJ5_append_3 65 = .ok (.dup_x1, 1) := dk_90 (dk_at dksJ5_append_3_2 19 rfl rfl)
theorem dJ5_append_3_66 : decode cJ5_append_3 66 = .ok (.iconst 1, 1) := dk_4 (dk_at dksJ5_append_3_2 20 rfl rfl)
theorem dJ5_append_3_67 : decode cJ5_append_3 67 = .ok (.iadd, 1) := dk_96 (dk_at dksJ5_append_3_2 21 rfl rfl)
theorem dJ5_append_3_68 : decode cJ5_append_3 68 = .ok (.putfield 79, 3) := dk_181 0 79 (dk_at dksJ5_append_3_3 0 rfl rfl)
theorem dJ5_append_3_71 : decode cJ5_append_3 71 = .ok (.iload_n 1, 1) := dk_27 (dk_at dksJ5_append_3_3 3 rfl rfl)
theorem dJ5_append_3_72 : decode cJ5_append_3 72 = .ok (.invokestatic 197, 3) := dk_184 0 197 (dk_at dksJ5_append_3_3 4 rfl rfl)
theorem dJ5_append_3_75 : decode cJ5_append_3 75 = .ok (.aload_n 0, 1) := dk_42 (dk_at dksJ5_append_3_3 7 rfl rfl)
theorem dJ5_append_3_76 : decode cJ5_append_3 76 = .ok (.areturn, 1) := dk_176 (dk_at dksJ5_append_3_3 8 rfl rfl)
theorem q138 : (Jvm.Cond.initialized "java/lang/AbstractStringBuilder") ∈ lw_all := lw_g (lw_at lw_m1 8 rfl) rfl
theorem q337 : (Jvm.Cond.instanceMethod ({ cls := "java/lang/AbstractStringBuilder", name := "<init>", desc := "(I)V" } : Jvm.MethodName)) ∈ lw_all := lw_g (lw_at lw_m1 207 rfl) rfl
theorem q338 : (Jvm.Cond.code ({ cls := "java/lang/AbstractStringBuilder", name := "<init>", desc := "(I)V" } : Jvm.MethodName) prog_37_method_2_code (2 : Nat) (Option.none : Option Jvm.ClassFile.FieldType)) ∈ lw_all := lw_g (lw_at lw_m1 208 rfl) rfl
theorem q339 : (Jvm.Cond.methodLink "java/lang/AbstractStringBuilder" (3 : Nat) ({ cls := "java/lang/Object", name := "<init>", desc := "()V" } : Jvm.MethodName)) ∈ lw_all := lw_g (lw_at lw_m1 209 rfl) rfl
theorem q340 : (Jvm.Cond.fieldLink "java/lang/AbstractStringBuilder" (18 : Nat) "java/lang/String" "COMPACT_STRINGS" "Z") ∈ lw_all := lw_g (lw_at lw_m1 210 rfl) rfl
theorem q342 : (Jvm.Cond.methodLink "java/lang/AbstractStringBuilder" (26 : Nat) ({ cls := "java/lang/StringUTF16", name := "newBytesFor", desc := "(I)[B" } : Jvm.MethodName)) ∈ lw_all := lw_g (lw_at lw_m1 212 rfl) rfl
theorem q373 : (Jvm.Cond.fieldLink "java/lang/AbstractStringBuilder" (15 : Nat) "java/lang/AbstractStringBuilder" "value" "[B") ∈ lw_all := lw_g (lw_at lw_m2 3 rfl) rfl
theorem q374 : (Jvm.Cond.fieldLink "java/lang/AbstractStringBuilder" (22 : Nat) "java/lang/AbstractStringBuilder" "coder" "B") ∈ lw_all := lw_g (lw_at lw_m2 4 rfl) rfl
theorem q376 : (Jvm.Cond.fieldLink "java/lang/AbstractStringBuilder" (79 : Nat) "java/lang/AbstractStringBuilder" "count" "I") ∈ lw_all := lw_g (lw_at lw_m2 6 rfl) rfl
theorem q378 : (Jvm.Cond.soleField "java/lang/AbstractStringBuilder" "value") ∈ lw_all := lw_g (lw_at lw_m2 8 rfl) rfl
theorem q380 : (Jvm.Cond.soleField "java/lang/AbstractStringBuilder" "coder") ∈ lw_all := lw_g (lw_at lw_m2 10 rfl) rfl
theorem q382 : (Jvm.Cond.soleField "java/lang/AbstractStringBuilder" "maybeLatin1") ∈ lw_all := lw_g (lw_at lw_m2 12 rfl) rfl
theorem q384 : (Jvm.Cond.soleField "java/lang/AbstractStringBuilder" "count") ∈ lw_all := lw_g (lw_at lw_m2 14 rfl) rfl
theorem q392 : (Jvm.Cond.instanceMethod ({ cls := "java/lang/AbstractStringBuilder", name := "append", desc := "(Ljava/lang/String;)Ljava/lang/AbstractStringBuilder;" } : Jvm.MethodName)) ∈ lw_all := lw_g (lw_at lw_m2 22 rfl) rfl
theorem q393 : (Jvm.Cond.code ({ cls := "java/lang/AbstractStringBuilder", name := "append", desc := "(Ljava/lang/String;)Ljava/lang/AbstractStringBuilder;" } : Jvm.MethodName) prog_37_method_22_code (3 : Nat) (Option.some (Jvm.ClassFile.FieldType.object "java/lang/AbstractStringBuilder"))) ∈ lw_all := lw_g (lw_at lw_m2 23 rfl) rfl
theorem q394 : (Jvm.Cond.methodLink "java/lang/AbstractStringBuilder" (204 : Nat) ({ cls := "java/lang/AbstractStringBuilder", name := "appendNull", desc := "()Ljava/lang/AbstractStringBuilder;" } : Jvm.MethodName)) ∈ lw_all := lw_g (lw_at lw_m2 24 rfl) rfl
theorem q395 : (Jvm.Cond.privateMethod ({ cls := "java/lang/AbstractStringBuilder", name := "appendNull", desc := "()Ljava/lang/AbstractStringBuilder;" } : Jvm.MethodName)) ∈ lw_tbl := lw_at lw_m2 25 rfl
theorem q396 : (Jvm.Cond.instanceMethod ({ cls := "java/lang/AbstractStringBuilder", name := "appendNull", desc := "()Ljava/lang/AbstractStringBuilder;" } : Jvm.MethodName)) ∈ lw_all := lw_g (lw_at lw_m2 26 rfl) rfl
theorem q397 : (Jvm.Cond.code ({ cls := "java/lang/AbstractStringBuilder", name := "appendNull", desc := "()Ljava/lang/AbstractStringBuilder;" } : Jvm.MethodName) prog_37_method_26_code (3 : Nat) (Option.some (Jvm.ClassFile.FieldType.object "java/lang/AbstractStringBuilder"))) ∈ lw_all := lw_g (lw_at lw_m2 27 rfl) rfl
theorem q398 : (Jvm.Cond.methodLink "java/lang/AbstractStringBuilder" (100 : Nat) ({ cls := "java/lang/AbstractStringBuilder", name := "ensureCapacityInternal", desc := "(I)V" } : Jvm.MethodName)) ∈ lw_all := lw_g (lw_at lw_m2 28 rfl) rfl
theorem q399 : (Jvm.Cond.privateMethod ({ cls := "java/lang/AbstractStringBuilder", name := "ensureCapacityInternal", desc := "(I)V" } : Jvm.MethodName)) ∈ lw_tbl := lw_at lw_m2 29 rfl
theorem q400 : (Jvm.Cond.instanceMethod ({ cls := "java/lang/AbstractStringBuilder", name := "ensureCapacityInternal", desc := "(I)V" } : Jvm.MethodName)) ∈ lw_all := lw_g (lw_at lw_m2 30 rfl) rfl
theorem q401 : (Jvm.Cond.code ({ cls := "java/lang/AbstractStringBuilder", name := "ensureCapacityInternal", desc := "(I)V" } : Jvm.MethodName) prog_37_method_9_code (3 : Nat) (Option.none : Option Jvm.ClassFile.FieldType)) ∈ lw_all := lw_g (lw_at lw_m2 31 rfl) rfl
theorem q402 : (Jvm.Cond.methodLink "java/lang/AbstractStringBuilder" (104 : Nat) ({ cls := "java/lang/AbstractStringBuilder", name := "newCapacity", desc := "(I)I" } : Jvm.MethodName)) ∈ lw_all := lw_g (lw_at lw_m2 32 rfl) rfl
theorem q403 : (Jvm.Cond.privateMethod ({ cls := "java/lang/AbstractStringBuilder", name := "newCapacity", desc := "(I)I" } : Jvm.MethodName)) ∈ lw_tbl := lw_at lw_m2 33 rfl
theorem q404 : (Jvm.Cond.instanceMethod ({ cls := "java/lang/AbstractStringBuilder", name := "newCapacity", desc := "(I)I" } : Jvm.MethodName)) ∈ lw_all := lw_g (lw_at lw_m2 34 rfl) rfl
theorem q405 : (Jvm.Cond.code ({ cls := "java/lang/AbstractStringBuilder", name := "newCapacity", desc := "(I)I" } : Jvm.MethodName) prog_37_method_10_code (6 : Nat) (Option.some Jvm.ClassFile.FieldType.int)) ∈ lw_all := lw_g (lw_at lw_m2 35 rfl) rfl
theorem q406 : (Jvm.Cond.methodLink "java/lang/AbstractStringBuilder" (114 : Nat) ({ cls := "jdk/internal/util/ArraysSupport", name := "newLength", desc := "(III)I" } : Jvm.MethodName)) ∈ lw_all := lw_g (lw_at lw_m2 36 rfl) rfl
theorem q416 : (Jvm.Cond.constant "java/lang/AbstractStringBuilder" (39 : Nat) (2147483647 : Int32)) ∈ lw_all := lw_g (lw_at lw_m2 46 rfl) rfl
theorem q417 : (Jvm.Cond.methodLink "java/lang/AbstractStringBuilder" (108 : Nat) ({ cls := "java/util/Arrays", name := "copyOf", desc := "([BI)[B" } : Jvm.MethodName)) ∈ lw_all := lw_g (lw_at lw_m2 47 rfl) rfl
theorem q433 : (Jvm.Cond.methodLink "java/lang/AbstractStringBuilder" (83 : Nat) ({ cls := "java/lang/AbstractStringBuilder", name := "isLatin1", desc := "()Z" } : Jvm.MethodName)) ∈ lw_all := lw_g (lw_at lw_m2 63 rfl) rfl
theorem q434 : (Jvm.Cond.instanceMethod ({ cls := "java/lang/AbstractStringBuilder", name := "isLatin1", desc := "()Z" } : Jvm.MethodName)) ∈ lw_all := lw_g (lw_at lw_m2 64 rfl) rfl
theorem q435 : (Jvm.Cond.sameMethod "java/lang/AbstractStringBuilder" "java/lang/AbstractStringBuilder" "isLatin1" "()Z") ∈ lw_all := lw_g (lw_at lw_m2 65 rfl) rfl
theorem q437 : (Jvm.Cond.code ({ cls := "java/lang/AbstractStringBuilder", name := "isLatin1", desc := "()Z" } : Jvm.MethodName) prog_37_method_68_code (1 : Nat) (Option.some Jvm.ClassFile.FieldType.boolean)) ∈ lw_all := lw_g (lw_at lw_m2 67 rfl) rfl
theorem q438 : (Jvm.Cond.methodLink "java/lang/AbstractStringBuilder" (226 : Nat) ({ cls := "java/lang/StringUTF16", name := "putCharsAt", desc := "([BICCCC)I" } : Jvm.MethodName)) ∈ lw_all := lw_g (lw_at lw_m2 68 rfl) rfl
theorem q464 : (Jvm.Cond.methodLink "java/lang/AbstractStringBuilder" (32 : Nat) ({ cls := "java/lang/String", name := "length", desc := "()I" } : Jvm.MethodName)) ∈ lw_all := lw_g (lw_at lw_m2 94 rfl) rfl
theorem q473 : (Jvm.Cond.methodLink "java/lang/AbstractStringBuilder" (208 : Nat) ({ cls := "java/lang/AbstractStringBuilder", name := "putStringAt", desc := "(ILjava/lang/String;)V" } : Jvm.MethodName)) ∈ lw_all := lw_g (lw_at lw_m2 103 rfl) rfl
theorem q474 : (Jvm.Cond.privateMethod ({ cls := "java/lang/AbstractStringBuilder", name := "putStringAt", desc := "(ILjava/lang/String;)V" } : Jvm.MethodName)) ∈ lw_tbl := lw_at lw_m2 104 rfl
theorem q475 : (Jvm.Cond.instanceMethod ({ cls := "java/lang/AbstractStringBuilder", name := "putStringAt", desc := "(ILjava/lang/String;)V" } : Jvm.MethodName)) ∈ lw_all := lw_g (lw_at lw_m2 105 rfl) rfl
theorem q476 : (Jvm.Cond.code ({ cls := "java/lang/AbstractStringBuilder", name := "putStringAt", desc := "(ILjava/lang/String;)V" } : Jvm.MethodName) prog_37_method_73_code (3 : Nat) (Option.none : Option Jvm.ClassFile.FieldType)) ∈ lw_all := lw_g (lw_at lw_m2 106 rfl) rfl
theorem q477 : (Jvm.Cond.methodLink "java/lang/AbstractStringBuilder" (397 : Nat) ({ cls := "java/lang/AbstractStringBuilder", name := "inflateIfNeededFor", desc := "(Ljava/lang/String;)V" } : Jvm.MethodName)) ∈ lw_all := lw_g (lw_at lw_m2 107 rfl) rfl
theorem q478 : (Jvm.Cond.privateMethod ({ cls := "java/lang/AbstractStringBuilder", name := "inflateIfNeededFor", desc := "(Ljava/lang/String;)V" } : Jvm.MethodName)) ∈ lw_tbl := lw_at lw_m2 108 rfl
theorem q479 : (Jvm.Cond.instanceMethod ({ cls := "java/lang/AbstractStringBuilder", name := "inflateIfNeededFor", desc := "(Ljava/lang/String;)V" } : Jvm.MethodName)) ∈ lw_all := lw_g (lw_at lw_m2 109 rfl) rfl
theorem q480 : (Jvm.Cond.code ({ cls := "java/lang/AbstractStringBuilder", name := "inflateIfNeededFor", desc := "(Ljava/lang/String;)V" } : Jvm.MethodName) prog_37_method_71_code (2 : Nat) (Option.none : Option Jvm.ClassFile.FieldType)) ∈ lw_all := lw_g (lw_at lw_m2 110 rfl) rfl
theorem q481 : (Jvm.Cond.methodLink "java/lang/AbstractStringBuilder" (40 : Nat) ({ cls := "java/lang/String", name := "coder", desc := "()B" } : Jvm.MethodName)) ∈ lw_all := lw_g (lw_at lw_m2 111 rfl) rfl
theorem q482 : (Jvm.Cond.methodLink "java/lang/AbstractStringBuilder" (195 : Nat) ({ cls := "java/lang/AbstractStringBuilder", name := "inflate", desc := "()V" } : Jvm.MethodName)) ∈ lw_all := lw_g (lw_at lw_m2 112 rfl) rfl
theorem q483 : (Jvm.Cond.privateMethod ({ cls := "java/lang/AbstractStringBuilder", name := "inflate", desc := "()V" } : Jvm.MethodName)) ∈ lw_tbl := lw_at lw_m2 113 rfl
theorem q484 : (Jvm.Cond.instanceMethod ({ cls := "java/lang/AbstractStringBuilder", name := "inflate", desc := "()V" } : Jvm.MethodName)) ∈ lw_all := lw_g (lw_at lw_m2 114 rfl) rfl
theorem q485 : (Jvm.Cond.code ({ cls := "java/lang/AbstractStringBuilder", name := "inflate", desc := "()V" } : Jvm.MethodName) prog_37_method_11_code (2 : Nat) (Option.none : Option Jvm.ClassFile.FieldType)) ∈ lw_all := lw_g (lw_at lw_m2 115 rfl) rfl
theorem q486 : (Jvm.Cond.methodLink "java/lang/AbstractStringBuilder" (125 : Nat) ({ cls := "java/lang/StringLatin1", name := "inflate", desc := "([BI[BII)V" } : Jvm.MethodName)) ∈ lw_all := lw_g (lw_at lw_m2 116 rfl) rfl
theorem q501 : (Jvm.Cond.methodLink "java/lang/AbstractStringBuilder" (399 : Nat) ({ cls := "java/lang/String", name := "getBytes", desc := "([BIB)V" } : Jvm.MethodName)) ∈ lw_all := lw_g (lw_at lw_m2 131 rfl) rfl
theorem q512 : (Jvm.Cond.instanceMethod ({ cls := "java/lang/AbstractStringBuilder", name := "append", desc := "(I)Ljava/lang/AbstractStringBuilder;" } : Jvm.MethodName)) ∈ lw_all := lw_g (lw_at lw_m2 142 rfl) rfl
theorem q513 : (Jvm.Cond.code ({ cls := "java/lang/AbstractStringBuilder", name := "append", desc := "(I)Ljava/lang/AbstractStringBuilder;" } : Jvm.MethodName) prog_37_method_32_code (4 : Nat) (Option.some (Jvm.ClassFile.FieldType.object "java/lang/AbstractStringBuilder"))) ∈ lw_all := lw_g (lw_at lw_m2 143 rfl) rfl
theorem q514 : (Jvm.Cond.methodLink "java/lang/AbstractStringBuilder" (245 : Nat) ({ cls := "java/lang/Integer", name := "stringSize", desc := "(I)I" } : Jvm.MethodName)) ∈ lw_all := lw_g (lw_at lw_m2 144 rfl) rfl
theorem q517 : (Jvm.Cond.methodLink "java/lang/AbstractStringBuilder" (248 : Nat) ({ cls := "java/lang/Integer", name := "getChars", desc := "(II[B)I" } : Jvm.MethodName)) ∈ lw_all := lw_g (lw_at lw_m2 147 rfl) rfl
theorem q524 : (Jvm.Cond.methodLink "java/lang/AbstractStringBuilder" (251 : Nat) ({ cls := "java/lang/StringUTF16", name := "getChars", desc := "(III[B)I" } : Jvm.MethodName)) ∈ lw_all := lw_g (lw_at lw_m2 154 rfl) rfl
theorem q546 : (Jvm.Cond.instanceMethod ({ cls := "java/lang/AbstractStringBuilder", name := "getValue", desc := "()[B" } : Jvm.MethodName)) ∈ lw_all := lw_g (lw_at lw_m2 176 rfl) rfl
theorem q547 : (Jvm.Cond.sameMethod "java/lang/AbstractStringBuilder" "java/lang/AbstractStringBuilder" "getValue" "()[B") ∈ lw_all := lw_g (lw_at lw_m2 177 rfl) rfl
theorem q549 : (Jvm.Cond.code ({ cls := "java/lang/AbstractStringBuilder", name := "getValue", desc := "()[B" } : Jvm.MethodName) prog_37_method_64_code (1 : Nat) (Option.some (Jvm.ClassFile.FieldType.array Jvm.ClassFile.FieldType.byte))) ∈ lw_all := lw_g (lw_at lw_m2 179 rfl) rfl
theorem q551 : (Jvm.Cond.instanceMethod ({ cls := "java/lang/AbstractStringBuilder", name := "length", desc := "()I" } : Jvm.MethodName)) ∈ lw_all := lw_g (lw_at lw_m2 181 rfl) rfl
theorem q552 : (Jvm.Cond.sameMethod "java/lang/AbstractStringBuilder" "java/lang/AbstractStringBuilder" "length" "()I") ∈ lw_all := lw_g (lw_at lw_m2 182 rfl) rfl
theorem q557 : (Jvm.Cond.code ({ cls := "java/lang/AbstractStringBuilder", name := "length", desc := "()I" } : Jvm.MethodName) prog_37_method_6_code (1 : Nat) (Option.some Jvm.ClassFile.FieldType.int)) ∈ lw_all := lw_g (lw_at lw_m2 187 rfl) rfl
theorem q1418 : (Jvm.Cond.instanceMethod ({ cls := "java/lang/AbstractStringBuilder", name := "append", desc := "(C)Ljava/lang/AbstractStringBuilder;" } : Jvm.MethodName)) ∈ lw_all := lw_g (lw_at lw_m6 88 rfl) rfl
theorem q1419 : (Jvm.Cond.code ({ cls := "java/lang/AbstractStringBuilder", name := "append", desc := "(C)Ljava/lang/AbstractStringBuilder;" } : Jvm.MethodName) prog_37_method_31_code (2 : Nat) (Option.some (Jvm.ClassFile.FieldType.object "java/lang/AbstractStringBuilder"))) ∈ lw_all := lw_g (lw_at lw_m6 89 rfl) rfl
theorem q1420 : (Jvm.Cond.methodLink "java/lang/AbstractStringBuilder" (191 : Nat) ({ cls := "java/lang/StringLatin1", name := "canEncode", desc := "(C)Z" } : Jvm.MethodName)) ∈ lw_all := lw_g (lw_at lw_m6 90 rfl) rfl
theorem q1423 : (Jvm.Cond.methodLink "java/lang/AbstractStringBuilder" (197 : Nat) ({ cls := "java/lang/StringUTF16", name := "putCharSB", desc := "([BII)V" } : Jvm.MethodName)) ∈ lw_all := lw_g (lw_at lw_m6 93 rfl) rfl
theorem q3347 : (Jvm.Cond.sameMethod "java/lang/AbstractStringBuilder" "java/lang/AbstractStringBuilder" "append" "(Ljava/lang/String;)Ljava/lang/AbstractStringBuilder;") ∈ lw_all := lw_g (lw_at lw_m14 97 rfl) rfl
theorem q3348 : (Jvm.Cond.sameMethod "java/lang/AbstractStringBuilder" "java/lang/AbstractStringBuilder" "appendNull" "()Ljava/lang/AbstractStringBuilder;") ∈ lw_all := lw_g (lw_at lw_m14 98 rfl) rfl
theorem q3349 : (Jvm.Cond.sameMethod "java/lang/AbstractStringBuilder" "java/lang/AbstractStringBuilder" "ensureCapacityInternal" "(I)V") ∈ lw_all := lw_g (lw_at lw_m14 99 rfl) rfl
theorem q3350 : (Jvm.Cond.sameMethod "java/lang/AbstractStringBuilder" "java/lang/AbstractStringBuilder" "newCapacity" "(I)I") ∈ lw_all := lw_g (lw_at lw_m14 100 rfl) rfl
theorem q3351 : (Jvm.Cond.sameMethod "java/lang/AbstractStringBuilder" "java/lang/AbstractStringBuilder" "putStringAt" "(ILjava/lang/String;)V") ∈ lw_all := lw_g (lw_at lw_m14 101 rfl) rfl
theorem q3352 : (Jvm.Cond.sameMethod "java/lang/AbstractStringBuilder" "java/lang/AbstractStringBuilder" "inflateIfNeededFor" "(Ljava/lang/String;)V") ∈ lw_all := lw_g (lw_at lw_m14 102 rfl) rfl
theorem q3353 : (Jvm.Cond.sameMethod "java/lang/AbstractStringBuilder" "java/lang/AbstractStringBuilder" "inflate" "()V") ∈ lw_all := lw_g (lw_at lw_m14 103 rfl) rfl
theorem q3354 : (Jvm.Cond.sameMethod "java/lang/AbstractStringBuilder" "java/lang/AbstractStringBuilder" "append" "(I)Ljava/lang/AbstractStringBuilder;") ∈ lw_all := lw_g (lw_at lw_m14 104 rfl) rfl
theorem q3357 : (Jvm.Cond.sameMethod "java/lang/AbstractStringBuilder" "java/lang/AbstractStringBuilder" "append" "(C)Ljava/lang/AbstractStringBuilder;") ∈ lw_all := lw_g (lw_at lw_m14 107 rfl) rfl
/-! java/lang/StringBuilder -/
set_option maxRecDepth 100000
def RJ6 : String := "java/lang/StringBuilder"
def TJ6 : u_T := fun k => match k with
  | 0 => ("java/lang/AbstractStringBuilder", "value", "[B", false)
  | 1 => ("java/lang/AbstractStringBuilder", "coder", "B", false)
  | 2 => ("java/lang/AbstractStringBuilder", "maybeLatin1", "Z", false)
  | _ => ("java/lang/AbstractStringBuilder", "count", "I", false)
def tyJ6 : Nat → FieldType := fun k => match k with
  | 0 => .array .byte
  | 1 => .byte
  | 2 => .boolean
  | _ => .int
abbrev wsJ60 : List Cond := u_ws RJ6 TJ6 4
theorem nmJ6 : ∀ a, a < 4 → ∀ b, b < 4 → a ≠ b → (TJ6 a).2.1 ≠ (TJ6 b).2.1 := by decide +kernel
theorem tyJ6_ok : ∀ k, k < 4 → parseFieldDescriptor (TJ6 k).2.2.1 = some (tyJ6 k) := by decide +kernel
abbrev cJ6_init : ByteArray := prog_58_method_1_code
def yJ6_init : MethodName := ⟨RJ6, "<init>", "()V"⟩
def dkwJ6_init_0 : List UInt8 := [42, 16, 16, 183, 0, 1, 177]
abbrev dktJ6_init_0 : List UInt8 := dkwJ6_init_0 ++ []
theorem dksJ6_init_0 : cJ6_init.data.toList.drop 0 = dktJ6_init_0 := by decide +kernel
theorem dJ6_init_0 : decode cJ6_init 0 = .ok (.aload_n 0, 1) := dk_42 (dk_at dksJ6_init_0 0 rfl rfl)
theorem dJ6_init_1 : decode cJ6_init 1 = .ok (.bipush 16, 2) := dk_16 16 (dk_at dksJ6_init_0 1 rfl rfl)
theorem dJ6_init_3 : decode cJ6_init 3 = .ok (.invokespecial 1, 3) := dk_183 0 1 (dk_at dksJ6_init_0 3 rfl rfl)
theorem dJ6_init_6 : decode cJ6_init 6 = .ok (.return_, 1) := dk_177 (dk_at dksJ6_init_0 6 rfl rfl)
abbrev cJ6_append : ByteArray := prog_58_method_7_code
def yJ6_append : MethodName := ⟨RJ6, "append", "(Ljava/lang/String;)Ljava/lang/StringBuilder;"⟩
def dkwJ6_append_0 : List UInt8 := [42, 43, 183, 0, 29, 87, 42, 176]
abbrev dktJ6_append_0 : List UInt8 := dkwJ6_append_0 ++ []
theorem dksJ6_append_0 : cJ6_append.data.toList.drop 0 = dktJ6_append_0 := by decide +kernel
theorem dJ6_append_0 : decode cJ6_append 0 = .ok (.aload_n 0, 1) := dk_42 (dk_at dksJ6_append_0 0 rfl rfl)
theorem dJ6_append_1 : decode cJ6_append 1 = .ok (.aload_n 1, 1) := dk_43 (dk_at dksJ6_append_0 1 rfl rfl)
theorem dJ6_append_2 : decode cJ6_append 2 = .ok (.invokespecial 29, 3) := dk_183 0 29 (dk_at dksJ6_append_0 2 rfl rfl)
theorem dJ6_append_5 : decode cJ6_append 5 = .ok (.pop, 1) := dk_87 (dk_at dksJ6_append_0 5 rfl rfl)
theorem dJ6_append_6 : decode cJ6_append 6 = .ok (.aload_n 0, 1) := dk_42 (dk_at dksJ6_append_0 6 rfl rfl)
theorem dJ6_append_7 : decode cJ6_append 7 = .ok (.areturn, 1) := dk_176 (dk_at dksJ6_append_0 7 rfl rfl)
abbrev cJ6_append_2 : ByteArray := prog_58_method_15_code
def yJ6_append_2 : MethodName := ⟨RJ6, "append", "(I)Ljava/lang/StringBuilder;"⟩
def dkwJ6_append_2_0 : List UInt8 := [42, 27, 183, 0, 53, 87, 42, 176]
abbrev dktJ6_append_2_0 : List UInt8 := dkwJ6_append_2_0 ++ []
theorem dksJ6_append_2_0 : cJ6_append_2.data.toList.drop 0 = dktJ6_append_2_0 := by decide +kernel
theorem dJ6_append_2_0 : decode cJ6_append_2 0 = .ok (.aload_n 0, 1) := dk_42 (dk_at dksJ6_append_2_0 0 rfl rfl)
theorem dJ6_append_2_1 : decode cJ6_append_2 1 = .ok (.iload_n 1, 1) := dk_27 (dk_at dksJ6_append_2_0 1 rfl rfl)
theorem dJ6_append_2_2 : decode cJ6_append_2 2 = .ok (.invokespecial 53, 3) := dk_183 0 53 (dk_at dksJ6_append_2_0 2 rfl rfl)
theorem dJ6_append_2_5 : decode cJ6_append_2 5 = .ok (.pop, 1) := dk_87 (dk_at dksJ6_append_2_0 5 rfl rfl)
theorem dJ6_append_2_6 : decode cJ6_append_2 6 = .ok (.aload_n 0, 1) := dk_42 (dk_at dksJ6_append_2_0 6 rfl rfl)
theorem dJ6_append_2_7 : decode cJ6_append_2 7 = .ok (.areturn, 1) := dk_176 (dk_at dksJ6_append_2_0 7 rfl rfl)
abbrev cJ6_toString : ByteArray := prog_58_method_42_code
def yJ6_toString : MethodName := ⟨RJ6, "toString", "()Ljava/lang/String;"⟩
def dkwJ6_toString_0 : List UInt8 := [187, 0, 18, 89, 42, 183, 0, 137, 176]
abbrev dktJ6_toString_0 : List UInt8 := dkwJ6_toString_0 ++ []
theorem dksJ6_toString_0 : cJ6_toString.data.toList.drop 0 = dktJ6_toString_0 := by decide +kernel
theorem dJ6_toString_0 : decode cJ6_toString 0 = .ok (.new 18, 3) := dk_187 0 18 (dk_at dksJ6_toString_0 0 rfl rfl)
theorem dJ6_toString_3 : decode cJ6_toString 3 = .ok (.dup, 1) := dk_89 (dk_at dksJ6_toString_0 3 rfl rfl)
theorem dJ6_toString_4 : decode cJ6_toString 4 = .ok (.aload_n 0, 1) := dk_42 (dk_at dksJ6_toString_0 4 rfl rfl)
theorem dJ6_toString_5 : decode cJ6_toString 5 = .ok (.invokespecial 137, 3) := dk_183 0 137 (dk_at dksJ6_toString_0 5 rfl rfl)
theorem dJ6_toString_8 : decode cJ6_toString 8 = .ok (.areturn, 1) := dk_176 (dk_at dksJ6_toString_0 8 rfl rfl)
abbrev cJ6_length : ByteArray := prog_58_method_93_code
def yJ6_length : MethodName := ⟨RJ6, "length", "()I"⟩
theorem dJ6_length_0 : decode cJ6_length 0 = .ok (.aload_n 0, 1) := by decide +kernel
theorem dJ6_length_1 : decode cJ6_length 1 = .ok (.invokespecial 343, 3) := by decide +kernel
theorem dJ6_length_4 : decode cJ6_length 4 = .ok (.ireturn, 1) := by decide +kernel
abbrev cJ6_init_2 : ByteArray := prog_58_method_2_code
def yJ6_init_2 : MethodName := ⟨RJ6, "<init>", "(I)V"⟩
def dkwJ6_init_2_0 : List UInt8 := [42, 27, 183, 0, 1, 177]
abbrev dktJ6_init_2_0 : List UInt8 := dkwJ6_init_2_0 ++ []
theorem dksJ6_init_2_0 : cJ6_init_2.data.toList.drop 0 = dktJ6_init_2_0 := by decide +kernel
theorem dJ6_init_2_0 : decode cJ6_init_2 0 = .ok (.aload_n 0, 1) := dk_42 (dk_at dksJ6_init_2_0 0 rfl rfl)
theorem dJ6_init_2_1 : decode cJ6_init_2 1 = .ok (.iload_n 1, 1) := dk_27 (dk_at dksJ6_init_2_0 1 rfl rfl)
theorem dJ6_init_2_2 : decode cJ6_init_2 2 = .ok (.invokespecial 1, 3) := dk_183 0 1 (dk_at dksJ6_init_2_0 2 rfl rfl)
theorem dJ6_init_2_5 : decode cJ6_init_2 5 = .ok (.return_, 1) := dk_177 (dk_at dksJ6_init_2_0 5 rfl rfl)
abbrev cJ6_append_3 : ByteArray := prog_58_method_14_code
def yJ6_append_3 : MethodName := ⟨RJ6, "append", "(C)Ljava/lang/StringBuilder;"⟩
def dkwJ6_append_3_0 : List UInt8 := [42, 27, 183, 0, 50, 87, 42, 176]
abbrev dktJ6_append_3_0 : List UInt8 := dkwJ6_append_3_0 ++ []
theorem dksJ6_append_3_0 : cJ6_append_3.data.toList.drop 0 = dktJ6_append_3_0 := by decide +kernel
theorem dJ6_append_3_0 : decode cJ6_append_3 0 = .ok (.aload_n 0, 1) := dk_42 (dk_at dksJ6_append_3_0 0 rfl rfl)
theorem dJ6_append_3_1 : decode cJ6_append_3 1 = .ok (.iload_n 1, 1) := dk_27 (dk_at dksJ6_append_3_0 1 rfl rfl)
theorem dJ6_append_3_2 : decode cJ6_append_3 2 = .ok (.invokespecial 50, 3) := dk_183 0 50 (dk_at dksJ6_append_3_0 2 rfl rfl)
theorem dJ6_append_3_5 : decode cJ6_append_3 5 = .ok (.pop, 1) := dk_87 (dk_at dksJ6_append_3_0 5 rfl rfl)
theorem dJ6_append_3_6 : decode cJ6_append_3 6 = .ok (.aload_n 0, 1) := dk_42 (dk_at dksJ6_append_3_0 6 rfl rfl)
theorem dJ6_append_3_7 : decode cJ6_append_3 7 = .ok (.areturn, 1) := dk_176 (dk_at dksJ6_append_3_0 7 rfl rfl)
theorem q139 : (Jvm.Cond.initialized "java/lang/StringBuilder") ∈ lw_all := lw_g (lw_at lw_m1 9 rfl) rfl
theorem q332 : (Jvm.Cond.instantiable "java/lang/StringBuilder" (4 : Nat)) ∈ lw_all := lw_g (lw_at lw_m1 202 rfl) rfl
theorem q334 : (Jvm.Cond.instanceMethod ({ cls := "java/lang/StringBuilder", name := "<init>", desc := "()V" } : Jvm.MethodName)) ∈ lw_all := lw_g (lw_at lw_m1 204 rfl) rfl
theorem q335 : (Jvm.Cond.code ({ cls := "java/lang/StringBuilder", name := "<init>", desc := "()V" } : Jvm.MethodName) prog_58_method_1_code (1 : Nat) (Option.none : Option Jvm.ClassFile.FieldType)) ∈ lw_all := lw_g (lw_at lw_m1 205 rfl) rfl
theorem q336 : (Jvm.Cond.methodLink "java/lang/StringBuilder" (1 : Nat) ({ cls := "java/lang/AbstractStringBuilder", name := "<init>", desc := "(I)V" } : Jvm.MethodName)) ∈ lw_all := lw_g (lw_at lw_m1 206 rfl) rfl
theorem q377 : (Jvm.Cond.lays "java/lang/StringBuilder" "java/lang/AbstractStringBuilder" "value" "[B") ∈ lw_all := lw_g (lw_at lw_m2 7 rfl) rfl
theorem q379 : (Jvm.Cond.lays "java/lang/StringBuilder" "java/lang/AbstractStringBuilder" "coder" "B") ∈ lw_all := lw_g (lw_at lw_m2 9 rfl) rfl
theorem q381 : (Jvm.Cond.lays "java/lang/StringBuilder" "java/lang/AbstractStringBuilder" "maybeLatin1" "Z") ∈ lw_all := lw_g (lw_at lw_m2 11 rfl) rfl
theorem q383 : (Jvm.Cond.lays "java/lang/StringBuilder" "java/lang/AbstractStringBuilder" "count" "I") ∈ lw_all := lw_g (lw_at lw_m2 13 rfl) rfl
theorem q385 : (Jvm.Cond.superclass "java/lang/StringBuilder" "java/lang/AbstractStringBuilder") ∈ lw_all := lw_g (lw_at lw_m2 15 rfl) rfl
theorem q388 : (Jvm.Cond.instanceMethod ({ cls := "java/lang/StringBuilder", name := "append", desc := "(Ljava/lang/String;)Ljava/lang/StringBuilder;" } : Jvm.MethodName)) ∈ lw_all := lw_g (lw_at lw_m2 18 rfl) rfl
theorem q389 : (Jvm.Cond.selects "java/lang/StringBuilder" ({ cls := "java/lang/StringBuilder", name := "append", desc := "(Ljava/lang/String;)Ljava/lang/StringBuilder;" } : Jvm.MethodName) ({ cls := "java/lang/StringBuilder", name := "append", desc := "(Ljava/lang/String;)Ljava/lang/StringBuilder;" } : Jvm.MethodName)) ∈ lw_all := lw_g (lw_at lw_m2 19 rfl) rfl
theorem q390 : (Jvm.Cond.code ({ cls := "java/lang/StringBuilder", name := "append", desc := "(Ljava/lang/String;)Ljava/lang/StringBuilder;" } : Jvm.MethodName) prog_58_method_7_code (2 : Nat) (Option.some (Jvm.ClassFile.FieldType.object "java/lang/StringBuilder"))) ∈ lw_all := lw_g (lw_at lw_m2 20 rfl) rfl
theorem q391 : (Jvm.Cond.methodLink "java/lang/StringBuilder" (29 : Nat) ({ cls := "java/lang/AbstractStringBuilder", name := "append", desc := "(Ljava/lang/String;)Ljava/lang/AbstractStringBuilder;" } : Jvm.MethodName)) ∈ lw_all := lw_g (lw_at lw_m2 21 rfl) rfl
theorem q436 : (Jvm.Cond.selects "java/lang/StringBuilder" ({ cls := "java/lang/AbstractStringBuilder", name := "isLatin1", desc := "()Z" } : Jvm.MethodName) ({ cls := "java/lang/AbstractStringBuilder", name := "isLatin1", desc := "()Z" } : Jvm.MethodName)) ∈ lw_all := lw_g (lw_at lw_m2 66 rfl) rfl
theorem q508 : (Jvm.Cond.instanceMethod ({ cls := "java/lang/StringBuilder", name := "append", desc := "(I)Ljava/lang/StringBuilder;" } : Jvm.MethodName)) ∈ lw_all := lw_g (lw_at lw_m2 138 rfl) rfl
theorem q509 : (Jvm.Cond.selects "java/lang/StringBuilder" ({ cls := "java/lang/StringBuilder", name := "append", desc := "(I)Ljava/lang/StringBuilder;" } : Jvm.MethodName) ({ cls := "java/lang/StringBuilder", name := "append", desc := "(I)Ljava/lang/StringBuilder;" } : Jvm.MethodName)) ∈ lw_all := lw_g (lw_at lw_m2 139 rfl) rfl
theorem q510 : (Jvm.Cond.code ({ cls := "java/lang/StringBuilder", name := "append", desc := "(I)Ljava/lang/StringBuilder;" } : Jvm.MethodName) prog_58_method_15_code (2 : Nat) (Option.some (Jvm.ClassFile.FieldType.object "java/lang/StringBuilder"))) ∈ lw_all := lw_g (lw_at lw_m2 140 rfl) rfl
theorem q511 : (Jvm.Cond.methodLink "java/lang/StringBuilder" (53 : Nat) ({ cls := "java/lang/AbstractStringBuilder", name := "append", desc := "(I)Ljava/lang/AbstractStringBuilder;" } : Jvm.MethodName)) ∈ lw_all := lw_g (lw_at lw_m2 141 rfl) rfl
theorem q533 : (Jvm.Cond.instanceMethod ({ cls := "java/lang/StringBuilder", name := "toString", desc := "()Ljava/lang/String;" } : Jvm.MethodName)) ∈ lw_all := lw_g (lw_at lw_m2 163 rfl) rfl
theorem q534 : (Jvm.Cond.selects "java/lang/StringBuilder" ({ cls := "java/lang/StringBuilder", name := "toString", desc := "()Ljava/lang/String;" } : Jvm.MethodName) ({ cls := "java/lang/StringBuilder", name := "toString", desc := "()Ljava/lang/String;" } : Jvm.MethodName)) ∈ lw_all := lw_g (lw_at lw_m2 164 rfl) rfl
theorem q535 : (Jvm.Cond.code ({ cls := "java/lang/StringBuilder", name := "toString", desc := "()Ljava/lang/String;" } : Jvm.MethodName) prog_58_method_42_code (1 : Nat) (Option.some (Jvm.ClassFile.FieldType.object "java/lang/String"))) ∈ lw_all := lw_g (lw_at lw_m2 165 rfl) rfl
theorem q536 : (Jvm.Cond.classLink "java/lang/StringBuilder" (18 : Nat) "java/lang/String") ∈ lw_all := lw_g (lw_at lw_m2 166 rfl) rfl
theorem q538 : (Jvm.Cond.methodLink "java/lang/StringBuilder" (137 : Nat) ({ cls := "java/lang/String", name := "<init>", desc := "(Ljava/lang/StringBuilder;)V" } : Jvm.MethodName)) ∈ lw_all := lw_g (lw_at lw_m2 168 rfl) rfl
theorem q548 : (Jvm.Cond.selects "java/lang/StringBuilder" ({ cls := "java/lang/AbstractStringBuilder", name := "getValue", desc := "()[B" } : Jvm.MethodName) ({ cls := "java/lang/AbstractStringBuilder", name := "getValue", desc := "()[B" } : Jvm.MethodName)) ∈ lw_all := lw_g (lw_at lw_m2 178 rfl) rfl
theorem q553 : (Jvm.Cond.selects "java/lang/StringBuilder" ({ cls := "java/lang/AbstractStringBuilder", name := "length", desc := "()I" } : Jvm.MethodName) ({ cls := "java/lang/StringBuilder", name := "length", desc := "()I" } : Jvm.MethodName)) ∈ lw_all := lw_g (lw_at lw_m2 183 rfl) rfl
theorem q554 : (Jvm.Cond.instanceMethod ({ cls := "java/lang/StringBuilder", name := "length", desc := "()I" } : Jvm.MethodName)) ∈ lw_all := lw_g (lw_at lw_m2 184 rfl) rfl
theorem q555 : (Jvm.Cond.code ({ cls := "java/lang/StringBuilder", name := "length", desc := "()I" } : Jvm.MethodName) prog_58_method_93_code (1 : Nat) (Option.some Jvm.ClassFile.FieldType.int)) ∈ lw_all := lw_g (lw_at lw_m2 185 rfl) rfl
theorem q556 : (Jvm.Cond.methodLink "java/lang/StringBuilder" (343 : Nat) ({ cls := "java/lang/AbstractStringBuilder", name := "length", desc := "()I" } : Jvm.MethodName)) ∈ lw_all := lw_g (lw_at lw_m2 186 rfl) rfl
theorem q817 : (Jvm.Cond.selects "java/lang/StringBuilder" ({ cls := "java/lang/Object", name := "equals", desc := "(Ljava/lang/Object;)Z" } : Jvm.MethodName) ({ cls := "java/lang/Object", name := "equals", desc := "(Ljava/lang/Object;)Z" } : Jvm.MethodName)) ∈ lw_all := lw_g (lw_at lw_m3 207 rfl) rfl
theorem q882 : (Jvm.Cond.selects "java/lang/StringBuilder" ({ cls := "java/lang/Object", name := "getClass", desc := "()Ljava/lang/Class;" } : Jvm.MethodName) ({ cls := "java/lang/Object", name := "getClass", desc := "()Ljava/lang/Class;" } : Jvm.MethodName)) ∈ lw_all := lw_g (lw_at lw_m4 32 rfl) rfl
theorem q1410 : (Jvm.Cond.instanceMethod ({ cls := "java/lang/StringBuilder", name := "<init>", desc := "(I)V" } : Jvm.MethodName)) ∈ lw_all := lw_g (lw_at lw_m6 80 rfl) rfl
theorem q1411 : (Jvm.Cond.code ({ cls := "java/lang/StringBuilder", name := "<init>", desc := "(I)V" } : Jvm.MethodName) prog_58_method_2_code (2 : Nat) (Option.none : Option Jvm.ClassFile.FieldType)) ∈ lw_all := lw_g (lw_at lw_m6 81 rfl) rfl
theorem q1414 : (Jvm.Cond.instanceMethod ({ cls := "java/lang/StringBuilder", name := "append", desc := "(C)Ljava/lang/StringBuilder;" } : Jvm.MethodName)) ∈ lw_all := lw_g (lw_at lw_m6 84 rfl) rfl
theorem q1415 : (Jvm.Cond.selects "java/lang/StringBuilder" ({ cls := "java/lang/StringBuilder", name := "append", desc := "(C)Ljava/lang/StringBuilder;" } : Jvm.MethodName) ({ cls := "java/lang/StringBuilder", name := "append", desc := "(C)Ljava/lang/StringBuilder;" } : Jvm.MethodName)) ∈ lw_all := lw_g (lw_at lw_m6 85 rfl) rfl
theorem q1416 : (Jvm.Cond.code ({ cls := "java/lang/StringBuilder", name := "append", desc := "(C)Ljava/lang/StringBuilder;" } : Jvm.MethodName) prog_58_method_14_code (2 : Nat) (Option.some (Jvm.ClassFile.FieldType.object "java/lang/StringBuilder"))) ∈ lw_all := lw_g (lw_at lw_m6 86 rfl) rfl
theorem q1417 : (Jvm.Cond.methodLink "java/lang/StringBuilder" (50 : Nat) ({ cls := "java/lang/AbstractStringBuilder", name := "append", desc := "(C)Ljava/lang/AbstractStringBuilder;" } : Jvm.MethodName)) ∈ lw_all := lw_g (lw_at lw_m6 87 rfl) rfl
theorem q3356 : (Jvm.Cond.selects "java/lang/StringBuilder" ({ cls := "java/lang/StringBuilder", name := "length", desc := "()I" } : Jvm.MethodName) ({ cls := "java/lang/StringBuilder", name := "length", desc := "()I" } : Jvm.MethodName)) ∈ lw_all := lw_g (lw_at lw_m14 106 rfl) rfl
theorem q3399 : (Jvm.Cond.castable "java/lang/StringBuilder" "java/lang/Object") ∈ lw_tbl := lw_at lw_m14 149 rfl
theorem in_J6 : ∀ w ∈ wsJ60, w ∈ lw_all := lw_in wsJ60 [377, 379, 381, 383] (by decide +kernel) (by decide +kernel)
/-! java/lang/String -/
set_option maxRecDepth 100000
def RJ7 : String := "java/lang/String"
def TJ7 : u_T := fun k => match k with
  | 0 => ("java/lang/String", "value", "[B", true)
  | 1 => ("java/lang/String", "coder", "B", true)
  | 2 => ("java/lang/String", "hash", "I", false)
  | _ => ("java/lang/String", "hashIsZero", "Z", false)
def tyJ7 : Nat → FieldType := fun k => match k with
  | 0 => .array .byte
  | 1 => .byte
  | 2 => .int
  | _ => .boolean
abbrev wsJ70 : List Cond := u_ws RJ7 TJ7 4
theorem nmJ7 : ∀ a, a < 4 → ∀ b, b < 4 → a ≠ b → (TJ7 a).2.1 ≠ (TJ7 b).2.1 := by decide +kernel
theorem tyJ7_ok : ∀ k, k < 4 → parseFieldDescriptor (TJ7 k).2.2.1 = some (tyJ7 k) := by decide +kernel
abbrev cJ7_checkBoundsBeginEnd : ByteArray := prog_57_method_158_code
def yJ7_checkBoundsBeginEnd : MethodName := ⟨RJ7, "checkBoundsBeginEnd", "(III)V"⟩
def dkwJ7_checkBoundsBeginEnd_0 : List UInt8 := [26, 27, 28, 178, 4, 29, 184, 4, 38, 87, 177]
abbrev dktJ7_checkBoundsBeginEnd_0 : List UInt8 := dkwJ7_checkBoundsBeginEnd_0 ++ []
theorem dksJ7_checkBoundsBeginEnd_0 : cJ7_checkBoundsBeginEnd.data.toList.drop 0 = dktJ7_checkBoundsBeginEnd_0 := by decide +kernel
theorem dJ7_checkBoundsBeginEnd_0 : decode cJ7_checkBoundsBeginEnd 0 = .ok (.iload_n 0, 1) := dk_26 (dk_at dksJ7_checkBoundsBeginEnd_0 0 rfl rfl)
theorem dJ7_checkBoundsBeginEnd_1 : decode cJ7_checkBoundsBeginEnd 1 = .ok (.iload_n 1, 1) := dk_27 (dk_at dksJ7_checkBoundsBeginEnd_0 1 rfl rfl)
theorem dJ7_checkBoundsBeginEnd_2 : decode cJ7_checkBoundsBeginEnd 2 = .ok (.iload_n 2, 1) := dk_28 (dk_at dksJ7_checkBoundsBeginEnd_0 2 rfl rfl)
theorem dJ7_checkBoundsBeginEnd_3 : decode cJ7_checkBoundsBeginEnd 3 = .ok (.getstatic 1053, 3) := dk_178 4 29 (dk_at dksJ7_checkBoundsBeginEnd_0 3 rfl rfl)
theorem dJ7_checkBoundsBeginEnd_6 : decode cJ7_checkBoundsBeginEnd 6 = .ok (.invokestatic 1062, 3) := dk_184 4 38 (dk_at dksJ7_checkBoundsBeginEnd_0 6 rfl rfl)
theorem dJ7_checkBoundsBeginEnd_9 : decode cJ7_checkBoundsBeginEnd 9 = .ok (.pop, 1) := dk_87 (dk_at dksJ7_checkBoundsBeginEnd_0 9 rfl rfl)
theorem dJ7_checkBoundsBeginEnd_10 : decode cJ7_checkBoundsBeginEnd 10 = .ok (.return_, 1) := dk_177 (dk_at dksJ7_checkBoundsBeginEnd_0 10 rfl rfl)
abbrev cJ7_length : ByteArray := prog_57_method_54_code
def yJ7_length : MethodName := ⟨RJ7, "length", "()I"⟩
def dkwJ7_length_0 : List UInt8 := [42, 180, 0, 9, 190, 42, 182, 1, 79, 122, 172]
abbrev dktJ7_length_0 : List UInt8 := dkwJ7_length_0 ++ []
theorem dksJ7_length_0 : cJ7_length.data.toList.drop 0 = dktJ7_length_0 := by decide +kernel
theorem dJ7_length_0 : decode cJ7_length 0 = .ok (.aload_n 0, 1) := dk_42 (dk_at dksJ7_length_0 0 rfl rfl)
theorem dJ7_length_1 : decode cJ7_length 1 = .ok (.getfield 9, 3) := dk_180 0 9 (dk_at dksJ7_length_0 1 rfl rfl)
theorem dJ7_length_4 : decode cJ7_length 4 = .ok (.arraylength, 1) := dk_190 (dk_at dksJ7_length_0 4 rfl rfl)
theorem dJ7_length_5 : decode cJ7_length 5 = .ok (.aload_n 0, 1) := dk_42 (dk_at dksJ7_length_0 5 rfl rfl)
theorem dJ7_length_6 : decode cJ7_length 6 = .ok (.invokevirtual 335, 3) := dk_182 1 79 (dk_at dksJ7_length_0 6 rfl rfl)
theorem dJ7_length_9 : decode cJ7_length 9 = .ok (.ishr, 1) := dk_122 (dk_at dksJ7_length_0 9 rfl rfl)
theorem dJ7_length_10 : decode cJ7_length 10 = .ok (.ireturn, 1) := dk_172 (dk_at dksJ7_length_0 10 rfl rfl)
abbrev cJ7_coder : ByteArray := prog_57_method_152_code
def yJ7_coder : MethodName := ⟨RJ7, "coder", "()B"⟩
def dkwJ7_coder_0 : List UInt8 := [178, 0, 38, 153, 0, 10, 42, 180, 0, 15, 167, 0, 4, 4, 172]
abbrev dktJ7_coder_0 : List UInt8 := dkwJ7_coder_0 ++ []
theorem dksJ7_coder_0 : cJ7_coder.data.toList.drop 0 = dktJ7_coder_0 := by decide +kernel
theorem dJ7_coder_0 : decode cJ7_coder 0 = .ok (.getstatic 38, 3) := dk_178 0 38 (dk_at dksJ7_coder_0 0 rfl rfl)
theorem dJ7_coder_3 : decode cJ7_coder 3 = .ok (.ifCond .eq 10, 3) := dk_153 0 10 (dk_at dksJ7_coder_0 3 rfl rfl)
theorem dJ7_coder_6 : decode cJ7_coder 6 = .ok (.aload_n 0, 1) := dk_42 (dk_at dksJ7_coder_0 6 rfl rfl)
theorem dJ7_coder_7 : decode cJ7_coder 7 = .ok (.getfield 15, 3) := dk_180 0 15 (dk_at dksJ7_coder_0 7 rfl rfl)
theorem dJ7_coder_10 : decode cJ7_coder 10 = .ok (.goto 4, 3) := dk_167 0 4 (dk_at dksJ7_coder_0 10 rfl rfl)
theorem dJ7_coder_13 : decode cJ7_coder 13 = .ok (.iconst 1, 1) := dk_4 (dk_at dksJ7_coder_0 13 rfl rfl)
theorem dJ7_coder_14 : decode cJ7_coder 14 = .ok (.ireturn, 1) := dk_172 (dk_at dksJ7_coder_0 14 rfl rfl)
abbrev cJ7_checkBoundsOffCount : ByteArray := prog_57_method_157_code
def yJ7_checkBoundsOffCount : MethodName := ⟨RJ7, "checkBoundsOffCount", "(III)I"⟩
def dkwJ7_checkBoundsOffCount_0 : List UInt8 := [26, 27, 28, 178, 4, 29, 184, 4, 41, 172]
abbrev dktJ7_checkBoundsOffCount_0 : List UInt8 := dkwJ7_checkBoundsOffCount_0 ++ []
theorem dksJ7_checkBoundsOffCount_0 : cJ7_checkBoundsOffCount.data.toList.drop 0 = dktJ7_checkBoundsOffCount_0 := by decide +kernel
theorem dJ7_checkBoundsOffCount_0 : decode cJ7_checkBoundsOffCount 0 = .ok (.iload_n 0, 1) := dk_26 (dk_at dksJ7_checkBoundsOffCount_0 0 rfl rfl)
theorem dJ7_checkBoundsOffCount_1 : decode cJ7_checkBoundsOffCount 1 = .ok (.iload_n 1, 1) := dk_27 (dk_at dksJ7_checkBoundsOffCount_0 1 rfl rfl)
theorem dJ7_checkBoundsOffCount_2 : decode cJ7_checkBoundsOffCount 2 = .ok (.iload_n 2, 1) := dk_28 (dk_at dksJ7_checkBoundsOffCount_0 2 rfl rfl)
theorem dJ7_checkBoundsOffCount_3 : decode cJ7_checkBoundsOffCount 3 = .ok (.getstatic 1053, 3) := dk_178 4 29 (dk_at dksJ7_checkBoundsOffCount_0 3 rfl rfl)
theorem dJ7_checkBoundsOffCount_6 : decode cJ7_checkBoundsOffCount 6 = .ok (.invokestatic 1065, 3) := dk_184 4 41 (dk_at dksJ7_checkBoundsOffCount_0 6 rfl rfl)
theorem dJ7_checkBoundsOffCount_9 : decode cJ7_checkBoundsOffCount 9 = .ok (.ireturn, 1) := dk_172 (dk_at dksJ7_checkBoundsOffCount_0 9 rfl rfl)
abbrev cJ7_getBytes : ByteArray := prog_57_method_147_code
def yJ7_getBytes : MethodName := ⟨RJ7, "getBytes", "([BIB)V"⟩
def dkwJ7_getBytes_1 : List UInt8 := [184, 0, 212, 167, 0, 18, 42, 180, 0, 9, 3, 43, 28, 42, 180, 0, 9, 190, 184, 0, 106, 177]
abbrev dktJ7_getBytes_1 : List UInt8 := dkwJ7_getBytes_1 ++ []
def dkwJ7_getBytes_0 : List UInt8 := [42, 182, 1, 79, 29, 160, 0, 23, 42, 180, 0, 9, 3, 43, 28, 29, 120, 42, 180, 0, 9, 190]
abbrev dktJ7_getBytes_0 : List UInt8 := dkwJ7_getBytes_0 ++ dktJ7_getBytes_1
theorem dksJ7_getBytes_0 : cJ7_getBytes.data.toList.drop 0 = dktJ7_getBytes_0 := by decide +kernel
theorem dksJ7_getBytes_1 : cJ7_getBytes.data.toList.drop 22 = dktJ7_getBytes_1 := dk_seg dksJ7_getBytes_0 22 rfl rfl
theorem dJ7_getBytes_0 : decode cJ7_getBytes 0 = .ok (.aload_n 0, 1) := dk_42 (dk_at dksJ7_getBytes_0 0 rfl rfl)
theorem dJ7_getBytes_1 : decode cJ7_getBytes 1 = .ok (.invokevirtual 335, 3) := dk_182 1 79 (dk_at dksJ7_getBytes_0 1 rfl rfl)
theorem dJ7_getBytes_4 : decode cJ7_getBytes 4 = .ok (.iload_n 3, 1) := dk_29 (dk_at dksJ7_getBytes_0 4 rfl rfl)
theorem dJ7_getBytes_5 : decode cJ7_getBytes 5 = .ok (.if_icmp .ne 23, 3) := dk_160 0 23 (dk_at dksJ7_getBytes_0 5 rfl rfl)
theorem dJ7_getBytes_8 : decode cJ7_getBytes 8 = .ok (.aload_n 0, 1) := dk_42 (dk_at dksJ7_getBytes_0 8 rfl rfl)
theorem dJ7_getBytes_9 : decode cJ7_getBytes 9 = .ok (.getfield 9, 3) := dk_180 0 9 (dk_at dksJ7_getBytes_0 9 rfl rfl)
theorem dJ7_getBytes_12 : decode cJ7_getBytes 12 = .ok (.iconst 0, 1) := dk_3 (dk_at dksJ7_getBytes_0 12 rfl rfl)
theorem dJ7_getBytes_13 : decode cJ7_getBytes 13 = .ok (.aload_n 1, 1) := dk_43 (dk_at dksJ7_getBytes_0 13 rfl rfl)
theorem dJ7_getBytes_14 : decode cJ7_getBytes 14 = .ok (.iload_n 2, 1) := dk_28 (dk_at dksJ7_getBytes_0 14 rfl rfl)
theorem dJ7_getBytes_15 : decode cJ7_getBytes 15 = .ok (.iload_n 3, 1) := dk_29 (dk_at dksJ7_getBytes_0 15 rfl rfl)
theorem dJ7_getBytes_16 : decode cJ7_getBytes 16 = .ok (.ishl, 1) := dk_120 (dk_at dksJ7_getBytes_0 16 rfl rfl)
theorem dJ7_getBytes_17 : decode cJ7_getBytes 17 = .ok (.aload_n 0, 1) := dk_42 (dk_at dksJ7_getBytes_0 17 rfl rfl)
theorem dJ7_getBytes_18 : decode cJ7_getBytes 18 = .ok (.getfield 9, 3) := dk_180 0 9 (dk_at dksJ7_getBytes_0 18 rfl rfl)
theorem dJ7_getBytes_21 : decode cJ7_getBytes 21 = .ok (.arraylength, 1) := dk_190 (dk_at dksJ7_getBytes_0 21 rfl rfl)
theorem dJ7_getBytes_22 : decode cJ7_getBytes 22 = .ok (.invokestatic 212, 3) := dk_184 0 212 (dk_at dksJ7_getBytes_1 0 rfl rfl)
theorem dJ7_getBytes_25 : decode cJ7_getBytes 25 = .ok (.goto 18, 3) := dk_167 0 18 (dk_at dksJ7_getBytes_1 3 rfl rfl)
theorem dJ7_getBytes_28 : decode cJ7_getBytes 28 = .ok (.aload_n 0, 1) := dk_42 (dk_at dksJ7_getBytes_1 6 rfl rfl)
theorem dJ7_getBytes_29 : decode cJ7_getBytes 29 = .ok (.getfield 9, 3) := dk_180 0 9 (dk_at dksJ7_getBytes_1 7 rfl rfl)
theorem dJ7_getBytes_32 : decode cJ7_getBytes 32 = .ok (.iconst 0, 1) := dk_3 (dk_at dksJ7_getBytes_1 10 rfl rfl)
theorem dJ7_getBytes_33 : decode cJ7_getBytes 33 = .ok (.aload_n 1, 1) := dk_43 (dk_at dksJ7_getBytes_1 11 rfl rfl)
theorem dJ7_getBytes_34 : decode cJ7_getBytes 34 = .ok (.iload_n 2, 1) := dk_28 (dk_at dksJ7_getBytes_1 12 rfl rfl)
theorem dJ7_getBytes_35 : decode cJ7_getBytes 35 = .ok (.aload_n 0, 1) := dk_42 (dk_at dksJ7_getBytes_1 13 rfl rfl)
theorem dJ7_getBytes_36 : decode cJ7_getBytes 36 = .ok (.getfield 9, 3) := dk_180 0 9 (dk_at dksJ7_getBytes_1 14 rfl rfl)
theorem dJ7_getBytes_39 : decode cJ7_getBytes 39 = .ok (.arraylength, 1) := dk_190 (dk_at dksJ7_getBytes_1 17 rfl rfl)
theorem dJ7_getBytes_40 : decode cJ7_getBytes 40 = .ok (.invokestatic 106, 3) := dk_184 0 106 (dk_at dksJ7_getBytes_1 18 rfl rfl)
theorem dJ7_getBytes_43 : decode cJ7_getBytes 43 = .ok (.return_, 1) := dk_177 (dk_at dksJ7_getBytes_1 21 rfl rfl)
abbrev cJ7_init : ByteArray := prog_57_method_53_code
def yJ7_init : MethodName := ⟨RJ7, "<init>", "(Ljava/lang/StringBuilder;)V"⟩
def dkwJ7_init_0 : List UInt8 := [42, 43, 1, 183, 1, 233, 177]
abbrev dktJ7_init_0 : List UInt8 := dkwJ7_init_0 ++ []
theorem dksJ7_init_0 : cJ7_init.data.toList.drop 0 = dktJ7_init_0 := by decide +kernel
theorem dJ7_init_0 : decode cJ7_init 0 = .ok (.aload_n 0, 1) := dk_42 (dk_at dksJ7_init_0 0 rfl rfl)
theorem dJ7_init_1 : decode cJ7_init 1 = .ok (.aload_n 1, 1) := dk_43 (dk_at dksJ7_init_0 1 rfl rfl)
theorem dJ7_init_2 : decode cJ7_init 2 = .ok (.aconst_null, 1) := dk_1 (dk_at dksJ7_init_0 2 rfl rfl)
theorem dJ7_init_3 : decode cJ7_init 3 = .ok (.invokespecial 489, 3) := dk_183 1 233 (dk_at dksJ7_init_0 3 rfl rfl)
theorem dJ7_init_6 : decode cJ7_init 6 = .ok (.return_, 1) := dk_177 (dk_at dksJ7_init_0 6 rfl rfl)
abbrev cJ7_init_2 : ByteArray := prog_57_method_150_code
def yJ7_init_2 : MethodName := ⟨RJ7, "<init>", "(Ljava/lang/AbstractStringBuilder;Ljava/lang/Void;)V"⟩
def dkwJ7_init_2_4 : List UInt8 := [181, 0, 9, 177]
abbrev dktJ7_init_2_4 : List UInt8 := dkwJ7_init_2_4 ++ []
def dkwJ7_init_2_3 : List UInt8 := [184, 0, 47, 181, 0, 15, 177, 42, 4, 181, 0, 15, 42, 45, 3, 21, 4, 4, 120, 184, 0, 54]
abbrev dktJ7_init_2_3 : List UInt8 := dkwJ7_init_2_3 ++ dktJ7_init_2_4
def dkwJ7_init_2_2 : List UInt8 := [180, 4, 24, 153, 0, 28, 42, 45, 3, 21, 4, 184, 4, 27, 181, 0, 9, 42, 42, 180, 0, 9, 21, 4]
abbrev dktJ7_init_2_2 : List UInt8 := dkwJ7_init_2_2 ++ dktJ7_init_2_3
def dkwJ7_init_2_1 : List UInt8 := [181, 0, 15, 42, 45, 3, 21, 4, 184, 0, 54, 181, 0, 9, 167, 0, 59, 178, 0, 38, 153, 0, 35, 43]
abbrev dktJ7_init_2_1 : List UInt8 := dkwJ7_init_2_1 ++ dktJ7_init_2_2
def dkwJ7_init_2_0 : List UInt8 := [42, 183, 0, 1, 43, 182, 2, 40, 78, 43, 182, 2, 37, 54, 4, 43, 182, 4, 23, 153, 0, 22, 42, 3]
abbrev dktJ7_init_2_0 : List UInt8 := dkwJ7_init_2_0 ++ dktJ7_init_2_1
theorem dksJ7_init_2_0 : cJ7_init_2.data.toList.drop 0 = dktJ7_init_2_0 := by decide +kernel
theorem dksJ7_init_2_1 : cJ7_init_2.data.toList.drop 24 = dktJ7_init_2_1 := dk_seg dksJ7_init_2_0 24 rfl rfl
theorem dksJ7_init_2_2 : cJ7_init_2.data.toList.drop 48 = dktJ7_init_2_2 := dk_seg dksJ7_init_2_1 24 rfl rfl
theorem dksJ7_init_2_3 : cJ7_init_2.data.toList.drop 72 = dktJ7_init_2_3 := dk_seg dksJ7_init_2_2 24 rfl rfl
theorem dksJ7_init_2_4 : cJ7_init_2.data.toList.drop 94 = dktJ7_init_2_4 := dk_seg dksJ7_init_2_3 22 rfl rfl
theorem dJ7_init_2_0 : decode cJ7_init_2 0 = .ok (.aload_n 0, 1) := dk_42 (dk_at dksJ7_init_2_0 0 rfl rfl)
theorem dJ7_init_2_1 : decode cJ7_init_2 1 = .ok (.invokespecial 1, 3) := dk_183 0 1 (dk_at dksJ7_init_2_0 1 rfl rfl)
theorem dJ7_init_2_4 : decode cJ7_init_2 4 = .ok (.aload_n 1, 1) := dk_43 (dk_at dksJ7_init_2_0 4 rfl rfl)
theorem dJ7_init_2_5 : decode cJ7_init_2 5 = .ok (.invokevirtual 552, 3) := dk_182 2 40 (dk_at dksJ7_init_2_0 5 rfl rfl)
theorem dJ7_init_2_8 : decode cJ7_init_2 8 = .ok (.astore_n 3, 1) := dk_78 (dk_at dksJ7_init_2_0 8 rfl rfl)
theorem dJ7_init_2_9 : decode cJ7_init_2 9 = .ok (.aload_n 1, 1) := dk_43 (dk_at dksJ7_init_2_0 9 rfl rfl)
theorem dJ7_init_2_10 : decode cJ7_init_2 10 = .ok (.invokevirtual 549, 3) := dk_182 2 37 (dk_at dksJ7_init_2_0 10 rfl rfl)
theorem dJ7_init_2_13 : decode cJ7_init_2 13 = .ok (.istore 4, 2) := dk_54 4 (dk_at dksJ7_init_2_0 13 rfl rfl)
theorem dJ7_init_2_15 : decode cJ7_init_2 15 = .ok (.aload_n 1, 1) := dk_43 (dk_at dksJ7_init_2_0 15 rfl rfl)
theorem dJ7_init_2_16 : decode cJ7_init_2 16 = .ok (.invokevirtual 1047, 3) := dk_182 4 23 (dk_at dksJ7_init_2_0 16 rfl rfl)
theorem dJ7_init_2_19 : decode cJ7_init_2 19 = .ok (.ifCond .eq 22, 3) := dk_153 0 22 (dk_at dksJ7_init_2_0 19 rfl rfl)
theorem dJ7_init_2_22 : decode cJ7_init_2 22 = .ok (.aload_n 0, 1) := dk_42 (dk_at dksJ7_init_2_0 22 rfl rfl)
theorem dJ7_init_2_23 : decode cJ7_init_2 23 = .ok (.iconst 0, 1) := dk_3 (dk_at dksJ7_init_2_0 23 rfl rfl)
theorem dJ7_init_2_24 : decode cJ7_init_2 24 = .ok (.putfield 15, 3) := dk_181 0 15 (dk_at dksJ7_init_2_1 0 rfl rfl)
theorem dJ7_init_2_27 : decode cJ7_init_2 27 = .ok (.aload_n 0, 1) := dk_42 (dk_at dksJ7_init_2_1 3 rfl rfl)
theorem dJ7_init_2_28 : decode cJ7_init_2 28 = .ok (.aload_n 3, 1) := dk_45 (dk_at dksJ7_init_2_1 4 rfl rfl)
theorem dJ7_init_2_29 : decode cJ7_init_2 29 = .ok (.iconst 0, 1) := dk_3 (dk_at dksJ7_init_2_1 5 rfl rfl)
theorem dJ7_init_2_30 : decode cJ7_init_2 30 = .ok (.iload 4, 2) := dk_21 4 (dk_at dksJ7_init_2_1 6 rfl rfl)
theorem dJ7_init_2_32 : decode cJ7_init_2 32 = .ok (.invokestatic 54, 3) := dk_184 0 54 (dk_at dksJ7_init_2_1 8 rfl rfl)
theorem dJ7_init_2_35 : decode cJ7_init_2 35 = .ok (.putfield 9, 3) := dk_181 0 9 (dk_at dksJ7_init_2_1 11 rfl rfl)
theorem dJ7_init_2_38 : decode cJ7_init_2 38 = .ok (.goto 59, 3) := dk_167 0 59 (dk_at dksJ7_init_2_1 14 rfl rfl)
theorem dJ7_init_2_41 : decode cJ7_init_2 41 = .ok (.getstatic 38, 3) := dk_178 0 38 (dk_at dksJ7_init_2_1 17 rfl rfl)
theorem dJ7_init_2_44 : decode cJ7_init_2 44 = .ok (.ifCond .eq 35, 3) := dk_153 0 35 (dk_at dksJ7_init_2_1 20 rfl rfl)
theorem dJ7_init_2_47 : decode cJ7_init_2 47 = .ok (.aload_n 1, 1) := dk_43 (dk_at dksJ7_init_2_1 23 rfl rfl)
theorem dJ7_init_2_48 : decode cJ7_init_2 48 = .ok (.getfield 1048, 3) := dk_180 4 24 (dk_at dksJ7_init_2_2 0 rfl rfl)
theorem dJ7_init_2_51 : decode cJ7_init_2 51 = .ok (.ifCond .eq 28, 3) := dk_153 0 28 (dk_at dksJ7_init_2_2 3 rfl rfl)
theorem dJ7_init_2_54 : decode cJ7_init_2 54 = .ok (.aload_n 0, 1) := dk_42 (dk_at dksJ7_init_2_2 6 rfl rfl)
theorem dJ7_init_2_55 : decode cJ7_init_2 55 = .ok (.aload_n 3, 1) := dk_45 (dk_at dksJ7_init_2_2 7 rfl rfl)
theorem dJ7_init_2_56 : decode cJ7_init_2 56 = .ok (.iconst 0, 1) := dk_3 (dk_at dksJ7_init_2_2 8 rfl rfl)
theorem dJ7_init_2_57 : decode cJ7_init_2 57 = .ok (.iload 4, 2) := dk_21 4 (dk_at dksJ7_init_2_2 9 rfl rfl)
theorem dJ7_init_2_59 : decode cJ7_init_2 59 = .ok (.invokestatic 1051, 3) := dk_184 4 27 (dk_at dksJ7_init_2_2 11 rfl rfl)
theorem dJ7_init_2_62 : decode cJ7_init_2 62 = .ok (.putfield 9, 3) := dk_181 0 9 (dk_at dksJ7_init_2_2 14 rfl rfl)
theorem dJ7_init_2_65 : decode cJ7_init_2 65 = .ok (.aload_n 0, 1) := dk_42 (dk_at dksJ7_init_2_2 17 rfl rfl)
theorem dJ7_init_2_66 : decode cJ7_init_2 66 = .ok (.aload_n 0, 1) := dk_42 (dk_at dksJ7_init_2_2 18 rfl rfl)
theorem dJ7_init_2_67 : decode cJ7_init_2 67 = .ok (.getfield 9, 3) := dk_180 0 9 (dk_at dksJ7_init_2_2 19 rfl rfl)
theorem dJ7_init_2_70 : decode cJ7_init_2 70 = .ok (.iload 4, 2) := dk_21 4 (dk_at dksJ7_init_2_2 22 rfl rfl)
theorem dJ7_init_2_72 : decode cJ7_init_2 72 = .ok (.invokestatic 47, 3) := dk_184 0 47 (dk_at dksJ7_init_2_3 0 rfl rfl)
theorem dJ7_init_2_75 : decode cJ7_init_2 75 = .ok (.putfield 15, 3) := dk_181 0 15 (dk_at dksJ7_init_2_3 3 rfl rfl)
theorem dJ7_init_2_78 : decode cJ7_init_2 78 = .ok (.return_, 1) := dk_177 (dk_at dksJ7_init_2_3 6 rfl rfl)
theorem dJ7_init_2_79 : decode cJ7_init_2 79 = .ok (.aload_n 0, 1) := dk_42 (dk_at dksJ7_init_2_3 7 rfl rfl)
theorem dJ7_init_2_80 : decode cJ7_init_2 80 = .ok (.iconst 1, 1) := dk_4 (dk_at dksJ7_init_2_3 8 rfl rfl)
theorem dJ7_init_2_81 : decode cJ7_init_2 81 = .ok (.putfield 15, 3) := dk_181 0 15 (dk_at dksJ7_init_2_3 9 rfl rfl)
theorem dJ7_init_2_84 : decode cJ7_init_2 84 = .ok (.aload_n 0, 1) := dk_42 (dk_at dksJ7_init_2_3 12 rfl rfl)
theorem dJ7_init_2_85 : decode cJ7_init_2 85 = .ok (.aload_n 3, 1) := dk_45 (dk_at dksJ7_init_2_3 13 rfl rfl)
theorem dJ7_init_2_86 : decode cJ7_init_2 86 = .ok (.iconst 0, 1) := dk_3 (dk_at dksJ7_init_2_3 14 rfl rfl)
theorem dJ7_init_2_87 : decode cJ7_init_2 87 = .ok (.iload 4, 2) := dk_21 4 (dk_at dksJ7_init_2_3 15 rfl rfl)
theorem dJ7_init_2_89 : decode cJ7_init_2 89 = .ok (.iconst 1, 1) := dk_4 (dk_at dksJ7_init_2_3 17 rfl rfl)
theorem dJ7_init_2_90 : decode cJ7_init_2 90 = .ok (.ishl, 1) := dk_120 (dk_at dksJ7_init_2_3 18 rfl rfl)
theorem dJ7_init_2_91 : decode cJ7_init_2 91 = .ok (.invokestatic 54, 3) := dk_184 0 54 (dk_at dksJ7_init_2_3 19 rfl rfl)
theorem dJ7_init_2_94 : decode cJ7_init_2 94 = .ok (.putfield 9, 3) := dk_181 0 9 (dk_at dksJ7_init_2_4 0 rfl rfl)
theorem dJ7_init_2_97 : decode cJ7_init_2 97 = .ok (.return_, 1) := dk_177 (dk_at dksJ7_init_2_4 3 rfl rfl)
abbrev cJ7_equals : ByteArray := prog_57_method_66_code
def yJ7_equals : MethodName := ⟨RJ7, "equals", "(Ljava/lang/Object;)Z"⟩
def dkwJ7_equals_2 : List UInt8 := [184, 2, 29, 153, 0, 7, 4, 167, 0, 4, 3, 172]
abbrev dktJ7_equals_2 : List UInt8 := dkwJ7_equals_2 ++ []
def dkwJ7_equals_1 : List UInt8 := [153, 0, 14, 42, 180, 0, 15, 44, 180, 0, 15, 160, 0, 21, 42, 180, 0, 9, 44, 180, 0, 9]
abbrev dktJ7_equals_1 : List UInt8 := dkwJ7_equals_1 ++ dktJ7_equals_2
def dkwJ7_equals_0 : List UInt8 := [42, 43, 166, 0, 5, 4, 172, 43, 193, 0, 10, 153, 0, 43, 43, 192, 0, 10, 77, 178, 0, 38]
abbrev dktJ7_equals_0 : List UInt8 := dkwJ7_equals_0 ++ dktJ7_equals_1
theorem dksJ7_equals_0 : cJ7_equals.data.toList.drop 0 = dktJ7_equals_0 := by decide +kernel
theorem dksJ7_equals_1 : cJ7_equals.data.toList.drop 22 = dktJ7_equals_1 := dk_seg dksJ7_equals_0 22 rfl rfl
theorem dksJ7_equals_2 : cJ7_equals.data.toList.drop 44 = dktJ7_equals_2 := dk_seg dksJ7_equals_1 22 rfl rfl
theorem dJ7_equals_0 : decode cJ7_equals 0 = .ok (.aload_n 0, 1) := dk_42 (dk_at dksJ7_equals_0 0 rfl rfl)
theorem dJ7_equals_1 : decode cJ7_equals 1 = .ok (.aload_n 1, 1) := dk_43 (dk_at dksJ7_equals_0 1 rfl rfl)
theorem dJ7_equals_2 : decode cJ7_equals 2 = .ok (.if_acmp .ne 5, 3) := dk_166 0 5 (dk_at dksJ7_equals_0 2 rfl rfl)
theorem dJ7_equals_5 : decode cJ7_equals 5 = .ok (.iconst 1, 1) := dk_4 (dk_at dksJ7_equals_0 5 rfl rfl)
theorem dJ7_equals_6 : decode cJ7_equals 6 = .ok (.ireturn, 1) := dk_172 (dk_at dksJ7_equals_0 6 rfl rfl)
theorem dJ7_equals_7 : decode cJ7_equals 7 = .ok (.aload_n 1, 1) := dk_43 (dk_at dksJ7_equals_0 7 rfl rfl)
theorem dJ7_equals_8 : decode cJ7_equals 8 = .ok (.instanceof 10, 3) := dk_193 0 10 (dk_at dksJ7_equals_0 8 rfl rfl)
theorem dJ7_equals_11 : decode cJ7_equals 11 = .ok (.ifCond .eq 43, 3) := dk_153 0 43 (dk_at dksJ7_equals_0 11 rfl rfl)
theorem dJ7_equals_14 : decode cJ7_equals 14 = .ok (.aload_n 1, 1) := dk_43 (dk_at dksJ7_equals_0 14 rfl rfl)
theorem dJ7_equals_15 : decode cJ7_equals 15 = .ok (.checkcast 10, 3) := dk_192 0 10 (dk_at dksJ7_equals_0 15 rfl rfl)
theorem dJ7_equals_18 : decode cJ7_equals 18 = .ok (.astore_n 2, 1) := dk_77 (dk_at dksJ7_equals_0 18 rfl rfl)
theorem dJ7_equals_19 : decode cJ7_equals 19 = .ok (.getstatic 38, 3) := dk_178 0 38 (dk_at dksJ7_equals_0 19 rfl rfl)
theorem dJ7_equals_22 : decode cJ7_equals 22 = .ok (.ifCond .eq 14, 3) := dk_153 0 14 (dk_at dksJ7_equals_1 0 rfl rfl)
theorem dJ7_equals_25 : decode cJ7_equals 25 = .ok (.aload_n 0, 1) := dk_42 (dk_at dksJ7_equals_1 3 rfl rfl)
theorem dJ7_equals_26 : decode cJ7_equals 26 = .ok (.getfield 15, 3) := dk_180 0 15 (dk_at dksJ7_equals_1 4 rfl rfl)
theorem dJ7_equals_29 : decode cJ7_equals 29 = .ok (.aload_n 2, 1) := dk_44 (dk_at dksJ7_equals_1 7 rfl rfl)
theorem dJ7_equals_30 : decode cJ7_equals 30 = .ok (.getfield 15, 3) := dk_180 0 15 (dk_at dksJ7_equals_1 8 rfl rfl)
theorem dJ7_equals_33 : decode cJ7_equals 33 = .ok (.if_icmp .ne 21, 3) := dk_160 0 21 (dk_at dksJ7_equals_1 11 rfl rfl)
theorem dJ7_equals_36 : decode cJ7_equals 36 = .ok (.aload_n 0, 1) := dk_42 (dk_at dksJ7_equals_1 14 rfl rfl)
theorem dJ7_equals_37 : decode cJ7_equals 37 = .ok (.getfield 9, 3) := dk_180 0 9 (dk_at dksJ7_equals_1 15 rfl rfl)
theorem dJ7_equals_40 : decode cJ7_equals 40 = .ok (.aload_n 2, 1) := dk_44 (dk_at dksJ7_equals_1 18 rfl rfl)
theorem dJ7_equals_41 : decode cJ7_equals 41 = .ok (.getfield 9, 3) := dk_180 0 9 (dk_at dksJ7_equals_1 19 rfl rfl)
theorem dJ7_equals_44 : decode cJ7_equals 44 = .ok (.invokestatic 541, 3) := dk_184 2 29 (dk_at dksJ7_equals_2 0 rfl rfl)
theorem dJ7_equals_47 : decode cJ7_equals 47 = .ok (.ifCond .eq 7, 3) := dk_153 0 7 (dk_at dksJ7_equals_2 3 rfl rfl)
theorem dJ7_equals_50 : decode cJ7_equals 50 = .ok (.iconst 1, 1) := dk_4 (dk_at dksJ7_equals_2 6 rfl rfl)
theorem dJ7_equals_51 : decode cJ7_equals 51 = .ok (.goto 4, 3) := dk_167 0 4 (dk_at dksJ7_equals_2 7 rfl rfl)
theorem dJ7_equals_54 : decode cJ7_equals 54 = .ok (.iconst 0, 1) := dk_3 (dk_at dksJ7_equals_2 10 rfl rfl)
theorem dJ7_equals_55 : decode cJ7_equals 55 = .ok (.ireturn, 1) := dk_172 (dk_at dksJ7_equals_2 11 rfl rfl)
abbrev cJ7_checkIndex : ByteArray := prog_57_method_155_code
def yJ7_checkIndex : MethodName := ⟨RJ7, "checkIndex", "(II)V"⟩
def dkwJ7_checkIndex_0 : List UInt8 := [26, 27, 178, 4, 29, 184, 4, 35, 87, 177]
abbrev dktJ7_checkIndex_0 : List UInt8 := dkwJ7_checkIndex_0 ++ []
theorem dksJ7_checkIndex_0 : cJ7_checkIndex.data.toList.drop 0 = dktJ7_checkIndex_0 := by decide +kernel
theorem dJ7_checkIndex_0 : decode cJ7_checkIndex 0 = .ok (.iload_n 0, 1) := dk_26 (dk_at dksJ7_checkIndex_0 0 rfl rfl)
theorem dJ7_checkIndex_1 : decode cJ7_checkIndex 1 = .ok (.iload_n 1, 1) := dk_27 (dk_at dksJ7_checkIndex_0 1 rfl rfl)
theorem dJ7_checkIndex_2 : decode cJ7_checkIndex 2 = .ok (.getstatic 1053, 3) := dk_178 4 29 (dk_at dksJ7_checkIndex_0 2 rfl rfl)
theorem dJ7_checkIndex_5 : decode cJ7_checkIndex 5 = .ok (.invokestatic 1059, 3) := dk_184 4 35 (dk_at dksJ7_checkIndex_0 5 rfl rfl)
theorem dJ7_checkIndex_8 : decode cJ7_checkIndex 8 = .ok (.pop, 1) := dk_87 (dk_at dksJ7_checkIndex_0 8 rfl rfl)
theorem dJ7_checkIndex_9 : decode cJ7_checkIndex 9 = .ok (.return_, 1) := dk_177 (dk_at dksJ7_checkIndex_0 9 rfl rfl)
abbrev cJ7_indexOf : ByteArray := prog_57_method_79_code
def yJ7_indexOf : MethodName := ⟨RJ7, "indexOf", "(I)I"⟩
def dkwJ7_indexOf_0 : List UInt8 := [42, 27, 3, 182, 2, 121, 172]
abbrev dktJ7_indexOf_0 : List UInt8 := dkwJ7_indexOf_0 ++ []
theorem dksJ7_indexOf_0 : cJ7_indexOf.data.toList.drop 0 = dktJ7_indexOf_0 := by decide +kernel
theorem dJ7_indexOf_0 : decode cJ7_indexOf 0 = .ok (.aload_n 0, 1) := dk_42 (dk_at dksJ7_indexOf_0 0 rfl rfl)
theorem dJ7_indexOf_1 : decode cJ7_indexOf 1 = .ok (.iload_n 1, 1) := dk_27 (dk_at dksJ7_indexOf_0 1 rfl rfl)
theorem dJ7_indexOf_2 : decode cJ7_indexOf 2 = .ok (.iconst 0, 1) := dk_3 (dk_at dksJ7_indexOf_0 2 rfl rfl)
theorem dJ7_indexOf_3 : decode cJ7_indexOf 3 = .ok (.invokevirtual 633, 3) := dk_182 2 121 (dk_at dksJ7_indexOf_0 3 rfl rfl)
theorem dJ7_indexOf_6 : decode cJ7_indexOf 6 = .ok (.ireturn, 1) := dk_172 (dk_at dksJ7_indexOf_0 6 rfl rfl)
abbrev cJ7_indexOf_2 : ByteArray := prog_57_method_80_code
def yJ7_indexOf_2 : MethodName := ⟨RJ7, "indexOf", "(II)I"⟩
def dkwJ7_indexOf_2_1 : List UInt8 := [180, 0, 9, 27, 28, 42, 182, 1, 249, 184, 2, 128, 172]
abbrev dktJ7_indexOf_2_1 : List UInt8 := dkwJ7_indexOf_2_1 ++ []
def dkwJ7_indexOf_2_0 : List UInt8 := [42, 182, 1, 236, 153, 0, 19, 42, 180, 0, 9, 27, 28, 42, 182, 1, 249, 184, 2, 125, 167, 0, 16, 42]
abbrev dktJ7_indexOf_2_0 : List UInt8 := dkwJ7_indexOf_2_0 ++ dktJ7_indexOf_2_1
theorem dksJ7_indexOf_2_0 : cJ7_indexOf_2.data.toList.drop 0 = dktJ7_indexOf_2_0 := by decide +kernel
theorem dksJ7_indexOf_2_1 : cJ7_indexOf_2.data.toList.drop 24 = dktJ7_indexOf_2_1 := dk_seg dksJ7_indexOf_2_0 24 rfl rfl
theorem dJ7_indexOf_2_0 : decode cJ7_indexOf_2 0 = .ok (.aload_n 0, 1) := dk_42 (dk_at dksJ7_indexOf_2_0 0 rfl rfl)
theorem dJ7_indexOf_2_1 : decode cJ7_indexOf_2 1 = .ok (.invokevirtual 492, 3) := dk_182 1 236 (dk_at dksJ7_indexOf_2_0 1 rfl rfl)
theorem dJ7_indexOf_2_4 : decode cJ7_indexOf_2 4 = .ok (.ifCond .eq 19, 3) := dk_153 0 19 (dk_at dksJ7_indexOf_2_0 4 rfl rfl)
theorem dJ7_indexOf_2_7 : decode cJ7_indexOf_2 7 = .ok (.aload_n 0, 1) := dk_42 (dk_at dksJ7_indexOf_2_0 7 rfl rfl)
theorem dJ7_indexOf_2_8 : decode cJ7_indexOf_2 8 = .ok (.getfield 9, 3) := dk_180 0 9 (dk_at dksJ7_indexOf_2_0 8 rfl rfl)
theorem dJ7_indexOf_2_11 : decode cJ7_indexOf_2 11 = .ok (.iload_n 1, 1) := dk_27 (dk_at dksJ7_indexOf_2_0 11 rfl rfl)
theorem dJ7_indexOf_2_12 : decode cJ7_indexOf_2 12 = .ok (.iload_n 2, 1) := dk_28 (dk_at dksJ7_indexOf_2_0 12 rfl rfl)
theorem dJ7_indexOf_2_13 : decode cJ7_indexOf_2 13 = .ok (.aload_n 0, 1) := dk_42 (dk_at dksJ7_indexOf_2_0 13 rfl rfl)
theorem dJ7_indexOf_2_14 : decode cJ7_indexOf_2 14 = .ok (.invokevirtual 505, 3) := dk_182 1 249 (dk_at dksJ7_indexOf_2_0 14 rfl rfl)
theorem dJ7_indexOf_2_17 : decode cJ7_indexOf_2 17 = .ok (.invokestatic 637, 3) := dk_184 2 125 (dk_at dksJ7_indexOf_2_0 17 rfl rfl)
theorem dJ7_indexOf_2_20 : decode cJ7_indexOf_2 20 = .ok (.goto 16, 3) := dk_167 0 16 (dk_at dksJ7_indexOf_2_0 20 rfl rfl)
theorem dJ7_indexOf_2_23 : decode cJ7_indexOf_2 23 = .ok (.aload_n 0, 1) := dk_42 (dk_at dksJ7_indexOf_2_0 23 rfl rfl)
theorem dJ7_indexOf_2_24 : decode cJ7_indexOf_2 24 = .ok (.getfield 9, 3) := dk_180 0 9 (dk_at dksJ7_indexOf_2_1 0 rfl rfl)
theorem dJ7_indexOf_2_27 : decode cJ7_indexOf_2 27 = .ok (.iload_n 1, 1) := dk_27 (dk_at dksJ7_indexOf_2_1 3 rfl rfl)
theorem dJ7_indexOf_2_28 : decode cJ7_indexOf_2 28 = .ok (.iload_n 2, 1) := dk_28 (dk_at dksJ7_indexOf_2_1 4 rfl rfl)
theorem dJ7_indexOf_2_29 : decode cJ7_indexOf_2 29 = .ok (.aload_n 0, 1) := dk_42 (dk_at dksJ7_indexOf_2_1 5 rfl rfl)
theorem dJ7_indexOf_2_30 : decode cJ7_indexOf_2 30 = .ok (.invokevirtual 505, 3) := dk_182 1 249 (dk_at dksJ7_indexOf_2_1 6 rfl rfl)
theorem dJ7_indexOf_2_33 : decode cJ7_indexOf_2 33 = .ok (.invokestatic 640, 3) := dk_184 2 128 (dk_at dksJ7_indexOf_2_1 9 rfl rfl)
theorem dJ7_indexOf_2_36 : decode cJ7_indexOf_2 36 = .ok (.ireturn, 1) := dk_172 (dk_at dksJ7_indexOf_2_1 12 rfl rfl)
abbrev cJ7_isLatin1 : ByteArray := prog_57_method_154_code
def yJ7_isLatin1 : MethodName := ⟨RJ7, "isLatin1", "()Z"⟩
def dkwJ7_isLatin1_0 : List UInt8 := [178, 0, 38, 153, 0, 14, 42, 180, 0, 15, 154, 0, 7, 4, 167, 0, 4, 3, 172]
abbrev dktJ7_isLatin1_0 : List UInt8 := dkwJ7_isLatin1_0 ++ []
theorem dksJ7_isLatin1_0 : cJ7_isLatin1.data.toList.drop 0 = dktJ7_isLatin1_0 := by decide +kernel
theorem dJ7_isLatin1_0 : decode cJ7_isLatin1 0 = .ok (.getstatic 38, 3) := dk_178 0 38 (dk_at dksJ7_isLatin1_0 0 rfl rfl)
theorem dJ7_isLatin1_3 : decode cJ7_isLatin1 3 = .ok (.ifCond .eq 14, 3) := dk_153 0 14 (dk_at dksJ7_isLatin1_0 3 rfl rfl)
theorem dJ7_isLatin1_6 : decode cJ7_isLatin1 6 = .ok (.aload_n 0, 1) := dk_42 (dk_at dksJ7_isLatin1_0 6 rfl rfl)
theorem dJ7_isLatin1_7 : decode cJ7_isLatin1 7 = .ok (.getfield 15, 3) := dk_180 0 15 (dk_at dksJ7_isLatin1_0 7 rfl rfl)
theorem dJ7_isLatin1_10 : decode cJ7_isLatin1 10 = .ok (.ifCond .ne 7, 3) := dk_154 0 7 (dk_at dksJ7_isLatin1_0 10 rfl rfl)
theorem dJ7_isLatin1_13 : decode cJ7_isLatin1 13 = .ok (.iconst 1, 1) := dk_4 (dk_at dksJ7_isLatin1_0 13 rfl rfl)
theorem dJ7_isLatin1_14 : decode cJ7_isLatin1 14 = .ok (.goto 4, 3) := dk_167 0 4 (dk_at dksJ7_isLatin1_0 14 rfl rfl)
theorem dJ7_isLatin1_17 : decode cJ7_isLatin1 17 = .ok (.iconst 0, 1) := dk_3 (dk_at dksJ7_isLatin1_0 17 rfl rfl)
theorem dJ7_isLatin1_18 : decode cJ7_isLatin1 18 = .ok (.ireturn, 1) := dk_172 (dk_at dksJ7_isLatin1_0 18 rfl rfl)
abbrev cJ7_hashCode : ByteArray := prog_57_method_78_code
def yJ7_hashCode : MethodName := ⟨RJ7, "hashCode", "()I"⟩
def dkwJ7_hashCode_2 : List UInt8 := [181, 0, 23, 167, 0, 8, 42, 27, 181, 0, 19, 27, 172]
abbrev dktJ7_hashCode_2 : List UInt8 := dkwJ7_hashCode_2 ++ []
def dkwJ7_hashCode_1 : List UInt8 := [180, 0, 9, 184, 2, 116, 167, 0, 10, 42, 180, 0, 9, 184, 2, 120, 60, 27, 154, 0, 11, 42, 4]
abbrev dktJ7_hashCode_1 : List UInt8 := dkwJ7_hashCode_1 ++ dktJ7_hashCode_2
def dkwJ7_hashCode_0 : List UInt8 := [42, 180, 0, 19, 60, 27, 154, 0, 52, 42, 180, 0, 23, 154, 0, 45, 42, 182, 1, 236, 153, 0, 13, 42]
abbrev dktJ7_hashCode_0 : List UInt8 := dkwJ7_hashCode_0 ++ dktJ7_hashCode_1
theorem dksJ7_hashCode_0 : cJ7_hashCode.data.toList.drop 0 = dktJ7_hashCode_0 := by decide +kernel
theorem dksJ7_hashCode_1 : cJ7_hashCode.data.toList.drop 24 = dktJ7_hashCode_1 := dk_seg dksJ7_hashCode_0 24 rfl rfl
theorem dksJ7_hashCode_2 : cJ7_hashCode.data.toList.drop 47 = dktJ7_hashCode_2 := dk_seg dksJ7_hashCode_1 23 rfl rfl
theorem dJ7_hashCode_0 : decode cJ7_hashCode 0 = .ok (.aload_n 0, 1) := dk_42 (dk_at dksJ7_hashCode_0 0 rfl rfl)
theorem dJ7_hashCode_1 : decode cJ7_hashCode 1 = .ok (.getfield 19, 3) := dk_180 0 19 (dk_at dksJ7_hashCode_0 1 rfl rfl)
theorem dJ7_hashCode_4 : decode cJ7_hashCode 4 = .ok (.istore_n 1, 1) := dk_60 (dk_at dksJ7_hashCode_0 4 rfl rfl)
theorem dJ7_hashCode_5 : decode cJ7_hashCode 5 = .ok (.iload_n 1, 1) := dk_27 (dk_at dksJ7_hashCode_0 5 rfl rfl)
theorem dJ7_hashCode_6 : decode cJ7_hashCode 6 = .ok (.ifCond .ne 52, 3) := dk_154 0 52 (dk_at dksJ7_hashCode_0 6 rfl rfl)
theorem dJ7_hashCode_9 : decode cJ7_hashCode 9 = .ok (.aload_n 0, 1) := dk_42 (dk_at dksJ7_hashCode_0 9 rfl rfl)
theorem dJ7_hashCode_10 : decode cJ7_hashCode 10 = .ok (.getfield 23, 3) := dk_180 0 23 (dk_at dksJ7_hashCode_0 10 rfl rfl)
theorem dJ7_hashCode_13 : decode cJ7_hashCode 13 = .ok (.ifCond .ne 45, 3) := dk_154 0 45 (dk_at dksJ7_hashCode_0 13 rfl rfl)
theorem dJ7_hashCode_16 : decode cJ7_hashCode 16 = .ok (.aload_n 0, 1) := dk_42 (dk_at dksJ7_hashCode_0 16 rfl rfl)
theorem dJ7_hashCode_17 : decode cJ7_hashCode 17 = .ok (.invokevirtual 492, 3) := dk_182 1 236 (dk_at dksJ7_hashCode_0 17 rfl rfl)
theorem dJ7_hashCode_20 : decode cJ7_hashCode 20 = .ok (.ifCond .eq 13, 3) := dk_153 0 13 (dk_at dksJ7_hashCode_0 20 rfl rfl)
theorem dJ7_hashCode_23 : decode cJ7_hashCode 23 = .ok (.aload_n 0, 1) := dk_42 (dk_at dksJ7_hashCode_0 23 rfl rfl)
theorem dJ7_hashCode_24 : decode cJ7_hashCode 24 = .ok (.getfield 9, 3) := dk_180 0 9 (dk_at dksJ7_hashCode_1 0 rfl rfl)
theorem dJ7_hashCode_27 : decode cJ7_hashCode 27 = .ok (.invokestatic 628, 3) := dk_184 2 116 (dk_at dksJ7_hashCode_1 3 rfl rfl)
theorem dJ7_hashCode_30 : decode cJ7_hashCode 30 = .ok (.goto 10, 3) := dk_167 0 10 (dk_at dksJ7_hashCode_1 6 rfl rfl)
theorem dJ7_hashCode_33 : decode cJ7_hashCode 33 = .ok (.aload_n 0, 1) := dk_42 (dk_at dksJ7_hashCode_1 9 rfl rfl)
theorem dJ7_hashCode_34 : decode cJ7_hashCode 34 = .ok (.getfield 9, 3) := dk_180 0 9 (dk_at dksJ7_hashCode_1 10 rfl rfl)
theorem dJ7_hashCode_37 : decode cJ7_hashCode 37 = .ok (.invokestatic 632, 3) := dk_184 2 120 (dk_at dksJ7_hashCode_1 13 rfl rfl)
theorem dJ7_hashCode_40 : decode cJ7_hashCode 40 = .ok (.istore_n 1, 1) := dk_60 (dk_at dksJ7_hashCode_1 16 rfl rfl)
theorem dJ7_hashCode_41 : decode cJ7_hashCode 41 = .ok (.iload_n 1, 1) := dk_27 (dk_at dksJ7_hashCode_1 17 rfl rfl)
theorem dJ7_hashCode_42 : decode cJ7_hashCode 42 = .ok (.ifCond .ne 11, 3) := dk_154 0 11 (dk_at dksJ7_hashCode_1 18 rfl rfl)
theorem dJ7_hashCode_45 : decode cJ7_hashCode 45 = .ok (.aload_n 0, 1) := dk_42 (dk_at dksJ7_hashCode_1 21 rfl rfl)
theorem dJ7_hashCode_46 : decode cJ7_hashCode 46 = .ok (.iconst 1, 1) := dk_4 (dk_at dksJ7_hashCode_1 22 rfl rfl)
theorem dJ7_hashCode_47 : decode cJ7_hashCode 47 = .ok (.putfield 23, 3) := dk_181 0 23 (dk_at dksJ7_hashCode_2 0 rfl rfl)
theorem dJ7_hashCode_50 : decode cJ7_hashCode 50 = .ok (.goto 8, 3) := dk_167 0 8 (dk_at dksJ7_hashCode_2 3 rfl rfl)
theorem dJ7_hashCode_53 : decode cJ7_hashCode 53 = .ok (.aload_n 0, 1) := dk_42 (dk_at dksJ7_hashCode_2 6 rfl rfl)
theorem dJ7_hashCode_54 : decode cJ7_hashCode 54 = .ok (.iload_n 1, 1) := dk_27 (dk_at dksJ7_hashCode_2 7 rfl rfl)
theorem dJ7_hashCode_55 : decode cJ7_hashCode 55 = .ok (.putfield 19, 3) := dk_181 0 19 (dk_at dksJ7_hashCode_2 8 rfl rfl)
theorem dJ7_hashCode_58 : decode cJ7_hashCode 58 = .ok (.iload_n 1, 1) := dk_27 (dk_at dksJ7_hashCode_2 11 rfl rfl)
theorem dJ7_hashCode_59 : decode cJ7_hashCode 59 = .ok (.ireturn, 1) := dk_172 (dk_at dksJ7_hashCode_2 12 rfl rfl)
abbrev cJ7_charAt : ByteArray := prog_57_method_56_code
def yJ7_charAt : MethodName := ⟨RJ7, "charAt", "(I)C"⟩
def dkwJ7_charAt_1 : List UInt8 := [172]
abbrev dktJ7_charAt_1 : List UInt8 := dkwJ7_charAt_1 ++ []
def dkwJ7_charAt_0 : List UInt8 := [42, 182, 1, 236, 153, 0, 12, 42, 180, 0, 9, 27, 184, 1, 239, 172, 42, 180, 0, 9, 27, 184, 1, 242]
abbrev dktJ7_charAt_0 : List UInt8 := dkwJ7_charAt_0 ++ dktJ7_charAt_1
theorem dksJ7_charAt_0 : cJ7_charAt.data.toList.drop 0 = dktJ7_charAt_0 := by decide +kernel
theorem dksJ7_charAt_1 : cJ7_charAt.data.toList.drop 24 = dktJ7_charAt_1 := dk_seg dksJ7_charAt_0 24 rfl rfl
theorem dJ7_charAt_0 : decode cJ7_charAt 0 = .ok (.aload_n 0, 1) := dk_42 (dk_at dksJ7_charAt_0 0 rfl rfl)
theorem dJ7_charAt_1 : decode cJ7_charAt 1 = .ok (.invokevirtual 492, 3) := dk_182 1 236 (dk_at dksJ7_charAt_0 1 rfl rfl)
theorem dJ7_charAt_4 : decode cJ7_charAt 4 = .ok (.ifCond .eq 12, 3) := dk_153 0 12 (dk_at dksJ7_charAt_0 4 rfl rfl)
theorem dJ7_charAt_7 : decode cJ7_charAt 7 = .ok (.aload_n 0, 1) := dk_42 (dk_at dksJ7_charAt_0 7 rfl rfl)
theorem dJ7_charAt_8 : decode cJ7_charAt 8 = .ok (.getfield 9, 3) := dk_180 0 9 (dk_at dksJ7_charAt_0 8 rfl rfl)
theorem dJ7_charAt_11 : decode cJ7_charAt 11 = .ok (.iload_n 1, 1) := dk_27 (dk_at dksJ7_charAt_0 11 rfl rfl)
theorem dJ7_charAt_12 : decode cJ7_charAt 12 = .ok (.invokestatic 495, 3) := dk_184 1 239 (dk_at dksJ7_charAt_0 12 rfl rfl)
theorem dJ7_charAt_15 : decode cJ7_charAt 15 = .ok (.ireturn, 1) := dk_172 (dk_at dksJ7_charAt_0 15 rfl rfl)
theorem dJ7_charAt_16 : decode cJ7_charAt 16 = .ok (.aload_n 0, 1) := dk_42 (dk_at dksJ7_charAt_0 16 rfl rfl)
theorem dJ7_charAt_17 : decode cJ7_charAt 17 = .ok (.getfield 9, 3) := dk_180 0 9 (dk_at dksJ7_charAt_0 17 rfl rfl)
theorem dJ7_charAt_20 : decode cJ7_charAt 20 = .ok (.iload_n 1, 1) := dk_27 (dk_at dksJ7_charAt_0 20 rfl rfl)
theorem dJ7_charAt_21 : decode cJ7_charAt 21 = .ok (.invokestatic 498, 3) := dk_184 1 242 (dk_at dksJ7_charAt_0 21 rfl rfl)
theorem dJ7_charAt_24 : decode cJ7_charAt 24 = .ok (.ireturn, 1) := dk_172 (dk_at dksJ7_charAt_1 0 rfl rfl)
theorem q140 : (Jvm.Cond.initialized "java/lang/String") ∈ lw_all := lw_g (lw_at lw_m1 10 rfl) rfl
theorem q341 : (Jvm.Cond.laysStatic "java/lang/String" "COMPACT_STRINGS" "Z") ∈ lw_tbl := lw_at lw_m1 211 rfl
theorem q375 : (Jvm.Cond.fieldLink "java/lang/String" (1048 : Nat) "java/lang/AbstractStringBuilder" "maybeLatin1" "Z") ∈ lw_all := lw_g (lw_at lw_m2 5 rfl) rfl
theorem q448 : (Jvm.Cond.static ({ cls := "java/lang/String", name := "checkBoundsBeginEnd", desc := "(III)V" } : Jvm.MethodName)) ∈ lw_all := lw_g (lw_at lw_m2 78 rfl) rfl
theorem q449 : (Jvm.Cond.code ({ cls := "java/lang/String", name := "checkBoundsBeginEnd", desc := "(III)V" } : Jvm.MethodName) prog_57_method_158_code (3 : Nat) (Option.none : Option Jvm.ClassFile.FieldType)) ∈ lw_all := lw_g (lw_at lw_m2 79 rfl) rfl
theorem q450 : (Jvm.Cond.fieldLink "java/lang/String" (1053 : Nat) "jdk/internal/util/Preconditions" "SIOOBE_FORMATTER" "Ljava/util/function/BiFunction;") ∈ lw_all := lw_g (lw_at lw_m2 80 rfl) rfl
theorem q452 : (Jvm.Cond.methodLink "java/lang/String" (1062 : Nat) ({ cls := "jdk/internal/util/Preconditions", name := "checkFromToIndex", desc := "(IIILjava/util/function/BiFunction;)I" } : Jvm.MethodName)) ∈ lw_all := lw_g (lw_at lw_m2 82 rfl) rfl
theorem q465 : (Jvm.Cond.instanceMethod ({ cls := "java/lang/String", name := "length", desc := "()I" } : Jvm.MethodName)) ∈ lw_all := lw_g (lw_at lw_m2 95 rfl) rfl
theorem q466 : (Jvm.Cond.selects "java/lang/String" ({ cls := "java/lang/String", name := "length", desc := "()I" } : Jvm.MethodName) ({ cls := "java/lang/String", name := "length", desc := "()I" } : Jvm.MethodName)) ∈ lw_all := lw_g (lw_at lw_m2 96 rfl) rfl
theorem q467 : (Jvm.Cond.code ({ cls := "java/lang/String", name := "length", desc := "()I" } : Jvm.MethodName) prog_57_method_54_code (1 : Nat) (Option.some Jvm.ClassFile.FieldType.int)) ∈ lw_all := lw_g (lw_at lw_m2 97 rfl) rfl
theorem q468 : (Jvm.Cond.methodLink "java/lang/String" (335 : Nat) ({ cls := "java/lang/String", name := "coder", desc := "()B" } : Jvm.MethodName)) ∈ lw_all := lw_g (lw_at lw_m2 98 rfl) rfl
theorem q469 : (Jvm.Cond.instanceMethod ({ cls := "java/lang/String", name := "coder", desc := "()B" } : Jvm.MethodName)) ∈ lw_all := lw_g (lw_at lw_m2 99 rfl) rfl
theorem q470 : (Jvm.Cond.selects "java/lang/String" ({ cls := "java/lang/String", name := "coder", desc := "()B" } : Jvm.MethodName) ({ cls := "java/lang/String", name := "coder", desc := "()B" } : Jvm.MethodName)) ∈ lw_all := lw_g (lw_at lw_m2 100 rfl) rfl
theorem q471 : (Jvm.Cond.code ({ cls := "java/lang/String", name := "coder", desc := "()B" } : Jvm.MethodName) prog_57_method_152_code (1 : Nat) (Option.some Jvm.ClassFile.FieldType.byte)) ∈ lw_all := lw_g (lw_at lw_m2 101 rfl) rfl
theorem q472 : (Jvm.Cond.fieldLink "java/lang/String" (38 : Nat) "java/lang/String" "COMPACT_STRINGS" "Z") ∈ lw_all := lw_g (lw_at lw_m2 102 rfl) rfl
theorem q496 : (Jvm.Cond.static ({ cls := "java/lang/String", name := "checkBoundsOffCount", desc := "(III)I" } : Jvm.MethodName)) ∈ lw_all := lw_g (lw_at lw_m2 126 rfl) rfl
theorem q497 : (Jvm.Cond.code ({ cls := "java/lang/String", name := "checkBoundsOffCount", desc := "(III)I" } : Jvm.MethodName) prog_57_method_157_code (3 : Nat) (Option.some Jvm.ClassFile.FieldType.int)) ∈ lw_all := lw_g (lw_at lw_m2 127 rfl) rfl
theorem q498 : (Jvm.Cond.methodLink "java/lang/String" (1065 : Nat) ({ cls := "jdk/internal/util/Preconditions", name := "checkFromIndexSize", desc := "(IIILjava/util/function/BiFunction;)I" } : Jvm.MethodName)) ∈ lw_all := lw_g (lw_at lw_m2 128 rfl) rfl
theorem q502 : (Jvm.Cond.instanceMethod ({ cls := "java/lang/String", name := "getBytes", desc := "([BIB)V" } : Jvm.MethodName)) ∈ lw_all := lw_g (lw_at lw_m2 132 rfl) rfl
theorem q503 : (Jvm.Cond.selects "java/lang/String" ({ cls := "java/lang/String", name := "getBytes", desc := "([BIB)V" } : Jvm.MethodName) ({ cls := "java/lang/String", name := "getBytes", desc := "([BIB)V" } : Jvm.MethodName)) ∈ lw_all := lw_g (lw_at lw_m2 133 rfl) rfl
theorem q504 : (Jvm.Cond.code ({ cls := "java/lang/String", name := "getBytes", desc := "([BIB)V" } : Jvm.MethodName) prog_57_method_147_code (4 : Nat) (Option.none : Option Jvm.ClassFile.FieldType)) ∈ lw_all := lw_g (lw_at lw_m2 134 rfl) rfl
theorem q505 : (Jvm.Cond.methodLink "java/lang/String" (212 : Nat) ({ cls := "java/lang/System", name := "arraycopy", desc := "(Ljava/lang/Object;ILjava/lang/Object;II)V" } : Jvm.MethodName)) ∈ lw_all := lw_g (lw_at lw_m2 135 rfl) rfl
theorem q506 : (Jvm.Cond.methodLink "java/lang/String" (106 : Nat) ({ cls := "java/lang/StringLatin1", name := "inflate", desc := "([BI[BII)V" } : Jvm.MethodName)) ∈ lw_all := lw_g (lw_at lw_m2 136 rfl) rfl
theorem q537 : (Jvm.Cond.instantiable "java/lang/String" (4 : Nat)) ∈ lw_all := lw_g (lw_at lw_m2 167 rfl) rfl
theorem q539 : (Jvm.Cond.instanceMethod ({ cls := "java/lang/String", name := "<init>", desc := "(Ljava/lang/StringBuilder;)V" } : Jvm.MethodName)) ∈ lw_all := lw_g (lw_at lw_m2 169 rfl) rfl
theorem q540 : (Jvm.Cond.code ({ cls := "java/lang/String", name := "<init>", desc := "(Ljava/lang/StringBuilder;)V" } : Jvm.MethodName) prog_57_method_53_code (2 : Nat) (Option.none : Option Jvm.ClassFile.FieldType)) ∈ lw_all := lw_g (lw_at lw_m2 170 rfl) rfl
theorem q541 : (Jvm.Cond.methodLink "java/lang/String" (489 : Nat) ({ cls := "java/lang/String", name := "<init>", desc := "(Ljava/lang/AbstractStringBuilder;Ljava/lang/Void;)V" } : Jvm.MethodName)) ∈ lw_all := lw_g (lw_at lw_m2 171 rfl) rfl
theorem q542 : (Jvm.Cond.instanceMethod ({ cls := "java/lang/String", name := "<init>", desc := "(Ljava/lang/AbstractStringBuilder;Ljava/lang/Void;)V" } : Jvm.MethodName)) ∈ lw_all := lw_g (lw_at lw_m2 172 rfl) rfl
theorem q543 : (Jvm.Cond.code ({ cls := "java/lang/String", name := "<init>", desc := "(Ljava/lang/AbstractStringBuilder;Ljava/lang/Void;)V" } : Jvm.MethodName) prog_57_method_150_code (5 : Nat) (Option.none : Option Jvm.ClassFile.FieldType)) ∈ lw_all := lw_g (lw_at lw_m2 173 rfl) rfl
theorem q544 : (Jvm.Cond.methodLink "java/lang/String" (1 : Nat) ({ cls := "java/lang/Object", name := "<init>", desc := "()V" } : Jvm.MethodName)) ∈ lw_all := lw_g (lw_at lw_m2 174 rfl) rfl
theorem q545 : (Jvm.Cond.methodLink "java/lang/String" (552 : Nat) ({ cls := "java/lang/AbstractStringBuilder", name := "getValue", desc := "()[B" } : Jvm.MethodName)) ∈ lw_all := lw_g (lw_at lw_m2 175 rfl) rfl
theorem q550 : (Jvm.Cond.methodLink "java/lang/String" (549 : Nat) ({ cls := "java/lang/AbstractStringBuilder", name := "length", desc := "()I" } : Jvm.MethodName)) ∈ lw_all := lw_g (lw_at lw_m2 180 rfl) rfl
theorem q558 : (Jvm.Cond.methodLink "java/lang/String" (1047 : Nat) ({ cls := "java/lang/AbstractStringBuilder", name := "isLatin1", desc := "()Z" } : Jvm.MethodName)) ∈ lw_all := lw_g (lw_at lw_m2 188 rfl) rfl
theorem q559 : (Jvm.Cond.methodLink "java/lang/String" (54 : Nat) ({ cls := "java/util/Arrays", name := "copyOfRange", desc := "([BII)[B" } : Jvm.MethodName)) ∈ lw_all := lw_g (lw_at lw_m2 189 rfl) rfl
theorem q568 : (Jvm.Cond.methodLink "java/lang/String" (1051 : Nat) ({ cls := "java/lang/StringUTF16", name := "compress", desc := "([BII)[B" } : Jvm.MethodName)) ∈ lw_all := lw_g (lw_at lw_m2 198 rfl) rfl
theorem q578 : (Jvm.Cond.methodLink "java/lang/String" (47 : Nat) ({ cls := "java/lang/StringUTF16", name := "coderFromArrayLen", desc := "([BI)B" } : Jvm.MethodName)) ∈ lw_all := lw_g (lw_at lw_m2 208 rfl) rfl
theorem q581 : (Jvm.Cond.fieldLink "java/lang/String" (9 : Nat) "java/lang/String" "value" "[B") ∈ lw_all := lw_g (lw_at lw_m2 211 rfl) rfl
theorem q582 : (Jvm.Cond.fieldLink "java/lang/String" (15 : Nat) "java/lang/String" "coder" "B") ∈ lw_all := lw_g (lw_at lw_m2 212 rfl) rfl
theorem q583 : (Jvm.Cond.fieldLink "java/lang/String" (19 : Nat) "java/lang/String" "hash" "I") ∈ lw_all := lw_g (lw_at lw_m2 213 rfl) rfl
theorem q584 : (Jvm.Cond.fieldLink "java/lang/String" (23 : Nat) "java/lang/String" "hashIsZero" "Z") ∈ lw_all := lw_g (lw_at lw_m2 214 rfl) rfl
theorem q585 : (Jvm.Cond.laysFinal "java/lang/String" "java/lang/String" "value" "[B") ∈ lw_all := lw_g (lw_at lw_m2 215 rfl) rfl
theorem q586 : (Jvm.Cond.soleField "java/lang/String" "value") ∈ lw_all := lw_g (lw_at lw_m2 216 rfl) rfl
theorem q587 : (Jvm.Cond.laysFinal "java/lang/String" "java/lang/String" "coder" "B") ∈ lw_all := lw_g (lw_at lw_m2 217 rfl) rfl
theorem q588 : (Jvm.Cond.soleField "java/lang/String" "coder") ∈ lw_all := lw_g (lw_at lw_m2 218 rfl) rfl
theorem q589 : (Jvm.Cond.lays "java/lang/String" "java/lang/String" "hash" "I") ∈ lw_all := lw_g (lw_at lw_m2 219 rfl) rfl
theorem q590 : (Jvm.Cond.soleField "java/lang/String" "hash") ∈ lw_all := lw_g (lw_at lw_m2 220 rfl) rfl
theorem q591 : (Jvm.Cond.lays "java/lang/String" "java/lang/String" "hashIsZero" "Z") ∈ lw_all := lw_g (lw_at lw_m2 221 rfl) rfl
theorem q592 : (Jvm.Cond.soleField "java/lang/String" "hashIsZero") ∈ lw_all := lw_g (lw_at lw_m2 222 rfl) rfl
theorem q593 : (Jvm.Cond.superclass "java/lang/String" "java/lang/Object") ∈ lw_all := lw_g (lw_at lw_m2 223 rfl) rfl
theorem q810 : (Jvm.Cond.selects "java/lang/String" ({ cls := "java/lang/Object", name := "equals", desc := "(Ljava/lang/Object;)Z" } : Jvm.MethodName) ({ cls := "java/lang/String", name := "equals", desc := "(Ljava/lang/Object;)Z" } : Jvm.MethodName)) ∈ lw_all := lw_g (lw_at lw_m3 200 rfl) rfl
theorem q811 : (Jvm.Cond.instanceMethod ({ cls := "java/lang/String", name := "equals", desc := "(Ljava/lang/Object;)Z" } : Jvm.MethodName)) ∈ lw_all := lw_g (lw_at lw_m3 201 rfl) rfl
theorem q812 : (Jvm.Cond.code ({ cls := "java/lang/String", name := "equals", desc := "(Ljava/lang/Object;)Z" } : Jvm.MethodName) prog_57_method_66_code (3 : Nat) (Option.some Jvm.ClassFile.FieldType.boolean)) ∈ lw_all := lw_g (lw_at lw_m3 202 rfl) rfl
theorem q813 : (Jvm.Cond.classLink "java/lang/String" (10 : Nat) "java/lang/String") ∈ lw_all := lw_g (lw_at lw_m3 203 rfl) rfl
theorem q814 : (Jvm.Cond.methodLink "java/lang/String" (541 : Nat) ({ cls := "java/lang/StringLatin1", name := "equals", desc := "([B[B)Z" } : Jvm.MethodName)) ∈ lw_all := lw_g (lw_at lw_m3 204 rfl) rfl
theorem q881 : (Jvm.Cond.selects "java/lang/String" ({ cls := "java/lang/Object", name := "getClass", desc := "()Ljava/lang/Class;" } : Jvm.MethodName) ({ cls := "java/lang/Object", name := "getClass", desc := "()Ljava/lang/Class;" } : Jvm.MethodName)) ∈ lw_all := lw_g (lw_at lw_m4 31 rfl) rfl
theorem q1430 : (Jvm.Cond.static ({ cls := "java/lang/String", name := "checkIndex", desc := "(II)V" } : Jvm.MethodName)) ∈ lw_all := lw_g (lw_at lw_m6 100 rfl) rfl
theorem q1431 : (Jvm.Cond.code ({ cls := "java/lang/String", name := "checkIndex", desc := "(II)V" } : Jvm.MethodName) prog_57_method_155_code (2 : Nat) (Option.none : Option Jvm.ClassFile.FieldType)) ∈ lw_all := lw_g (lw_at lw_m6 101 rfl) rfl
theorem q1432 : (Jvm.Cond.methodLink "java/lang/String" (1059 : Nat) ({ cls := "jdk/internal/util/Preconditions", name := "checkIndex", desc := "(IILjava/util/function/BiFunction;)I" } : Jvm.MethodName)) ∈ lw_all := lw_g (lw_at lw_m6 102 rfl) rfl
theorem q1474 : (Jvm.Cond.instanceMethod ({ cls := "java/lang/String", name := "indexOf", desc := "(I)I" } : Jvm.MethodName)) ∈ lw_all := lw_g (lw_at lw_m6 144 rfl) rfl
theorem q1475 : (Jvm.Cond.selects "java/lang/String" ({ cls := "java/lang/String", name := "indexOf", desc := "(I)I" } : Jvm.MethodName) ({ cls := "java/lang/String", name := "indexOf", desc := "(I)I" } : Jvm.MethodName)) ∈ lw_all := lw_g (lw_at lw_m6 145 rfl) rfl
theorem q1476 : (Jvm.Cond.code ({ cls := "java/lang/String", name := "indexOf", desc := "(I)I" } : Jvm.MethodName) prog_57_method_79_code (2 : Nat) (Option.some Jvm.ClassFile.FieldType.int)) ∈ lw_all := lw_g (lw_at lw_m6 146 rfl) rfl
theorem q1477 : (Jvm.Cond.methodLink "java/lang/String" (633 : Nat) ({ cls := "java/lang/String", name := "indexOf", desc := "(II)I" } : Jvm.MethodName)) ∈ lw_all := lw_g (lw_at lw_m6 147 rfl) rfl
theorem q1478 : (Jvm.Cond.instanceMethod ({ cls := "java/lang/String", name := "indexOf", desc := "(II)I" } : Jvm.MethodName)) ∈ lw_all := lw_g (lw_at lw_m6 148 rfl) rfl
theorem q1479 : (Jvm.Cond.selects "java/lang/String" ({ cls := "java/lang/String", name := "indexOf", desc := "(II)I" } : Jvm.MethodName) ({ cls := "java/lang/String", name := "indexOf", desc := "(II)I" } : Jvm.MethodName)) ∈ lw_all := lw_g (lw_at lw_m6 149 rfl) rfl
theorem q1480 : (Jvm.Cond.code ({ cls := "java/lang/String", name := "indexOf", desc := "(II)I" } : Jvm.MethodName) prog_57_method_80_code (3 : Nat) (Option.some Jvm.ClassFile.FieldType.int)) ∈ lw_all := lw_g (lw_at lw_m6 150 rfl) rfl
theorem q1481 : (Jvm.Cond.methodLink "java/lang/String" (492 : Nat) ({ cls := "java/lang/String", name := "isLatin1", desc := "()Z" } : Jvm.MethodName)) ∈ lw_all := lw_g (lw_at lw_m6 151 rfl) rfl
theorem q1482 : (Jvm.Cond.instanceMethod ({ cls := "java/lang/String", name := "isLatin1", desc := "()Z" } : Jvm.MethodName)) ∈ lw_all := lw_g (lw_at lw_m6 152 rfl) rfl
theorem q1483 : (Jvm.Cond.selects "java/lang/String" ({ cls := "java/lang/String", name := "isLatin1", desc := "()Z" } : Jvm.MethodName) ({ cls := "java/lang/String", name := "isLatin1", desc := "()Z" } : Jvm.MethodName)) ∈ lw_all := lw_g (lw_at lw_m6 153 rfl) rfl
theorem q1484 : (Jvm.Cond.code ({ cls := "java/lang/String", name := "isLatin1", desc := "()Z" } : Jvm.MethodName) prog_57_method_154_code (1 : Nat) (Option.some Jvm.ClassFile.FieldType.boolean)) ∈ lw_all := lw_g (lw_at lw_m6 154 rfl) rfl
theorem q1485 : (Jvm.Cond.methodLink "java/lang/String" (505 : Nat) ({ cls := "java/lang/String", name := "length", desc := "()I" } : Jvm.MethodName)) ∈ lw_all := lw_g (lw_at lw_m6 155 rfl) rfl
theorem q1486 : (Jvm.Cond.methodLink "java/lang/String" (637 : Nat) ({ cls := "java/lang/StringLatin1", name := "indexOf", desc := "([BIII)I" } : Jvm.MethodName)) ∈ lw_all := lw_g (lw_at lw_m6 156 rfl) rfl
theorem q1497 : (Jvm.Cond.methodLink "java/lang/String" (640 : Nat) ({ cls := "java/lang/StringUTF16", name := "indexOf", desc := "([BIII)I" } : Jvm.MethodName)) ∈ lw_all := lw_g (lw_at lw_m6 167 rfl) rfl
theorem q1678 : (Jvm.Cond.instanceMethod ({ cls := "java/lang/String", name := "hashCode", desc := "()I" } : Jvm.MethodName)) ∈ lw_all := lw_g (lw_at lw_m7 108 rfl) rfl
theorem q1679 : (Jvm.Cond.selects "java/lang/String" ({ cls := "java/lang/String", name := "hashCode", desc := "()I" } : Jvm.MethodName) ({ cls := "java/lang/String", name := "hashCode", desc := "()I" } : Jvm.MethodName)) ∈ lw_all := lw_g (lw_at lw_m7 109 rfl) rfl
theorem q1680 : (Jvm.Cond.code ({ cls := "java/lang/String", name := "hashCode", desc := "()I" } : Jvm.MethodName) prog_57_method_78_code (2 : Nat) (Option.some Jvm.ClassFile.FieldType.int)) ∈ lw_all := lw_g (lw_at lw_m7 110 rfl) rfl
theorem q1681 : (Jvm.Cond.methodLink "java/lang/String" (628 : Nat) ({ cls := "java/lang/StringLatin1", name := "hashCode", desc := "([B)I" } : Jvm.MethodName)) ∈ lw_all := lw_g (lw_at lw_m7 111 rfl) rfl
theorem q1722 : (Jvm.Cond.methodLink "java/lang/String" (632 : Nat) ({ cls := "java/lang/StringUTF16", name := "hashCode", desc := "([B)I" } : Jvm.MethodName)) ∈ lw_all := lw_g (lw_at lw_m7 152 rfl) rfl
theorem q1803 : (Jvm.Cond.instanceMethod ({ cls := "java/lang/String", name := "charAt", desc := "(I)C" } : Jvm.MethodName)) ∈ lw_all := lw_g (lw_at lw_m7 233 rfl) rfl
theorem q1804 : (Jvm.Cond.selects "java/lang/String" ({ cls := "java/lang/String", name := "charAt", desc := "(I)C" } : Jvm.MethodName) ({ cls := "java/lang/String", name := "charAt", desc := "(I)C" } : Jvm.MethodName)) ∈ lw_all := lw_g (lw_at lw_m7 234 rfl) rfl
theorem q1805 : (Jvm.Cond.code ({ cls := "java/lang/String", name := "charAt", desc := "(I)C" } : Jvm.MethodName) prog_57_method_56_code (2 : Nat) (Option.some Jvm.ClassFile.FieldType.char)) ∈ lw_all := lw_g (lw_at lw_m7 235 rfl) rfl
theorem q1806 : (Jvm.Cond.methodLink "java/lang/String" (495 : Nat) ({ cls := "java/lang/StringLatin1", name := "charAt", desc := "([BI)C" } : Jvm.MethodName)) ∈ lw_all := lw_g (lw_at lw_m7 236 rfl) rfl
theorem q1810 : (Jvm.Cond.methodLink "java/lang/String" (498 : Nat) ({ cls := "java/lang/StringUTF16", name := "charAt", desc := "([BI)C" } : Jvm.MethodName)) ∈ lw_all := lw_g (lw_at lw_m8 0 rfl) rfl
theorem q3358 : (Jvm.Cond.selects "java/lang/String" ({ cls := "java/lang/String", name := "equals", desc := "(Ljava/lang/Object;)Z" } : Jvm.MethodName) ({ cls := "java/lang/String", name := "equals", desc := "(Ljava/lang/Object;)Z" } : Jvm.MethodName)) ∈ lw_all := lw_g (lw_at lw_m14 108 rfl) rfl
theorem q3400 : (Jvm.Cond.castable "java/lang/String" "java/lang/Object") ∈ lw_tbl := lw_at lw_m14 150 rfl
theorem in_J7 : ∀ w ∈ wsJ70, w ∈ lw_all := lw_in wsJ70 [585, 587, 589, 591] (by decide +kernel) (by decide +kernel)
/-! java/lang/StringUTF16 -/
set_option maxRecDepth 100000
def RJ8 : String := "java/lang/StringUTF16"
abbrev cJ8_newBytesFor : ByteArray := prog_60_method_2_code
def yJ8_newBytesFor : MethodName := ⟨RJ8, "newBytesFor", "(I)[B"⟩
def dkwJ8_newBytesFor_0 : List UInt8 := [26, 184, 0, 11, 188, 8, 176]
abbrev dktJ8_newBytesFor_0 : List UInt8 := dkwJ8_newBytesFor_0 ++ []
theorem dksJ8_newBytesFor_0 : cJ8_newBytesFor.data.toList.drop 0 = dktJ8_newBytesFor_0 := by decide +kernel
theorem dJ8_newBytesFor_0 : decode cJ8_newBytesFor 0 = .ok (.iload_n 0, 1) := dk_26 (dk_at dksJ8_newBytesFor_0 0 rfl rfl)
theorem dJ8_newBytesFor_1 : decode cJ8_newBytesFor 1 = .ok (.invokestatic 11, 3) := dk_184 0 11 (dk_at dksJ8_newBytesFor_0 1 rfl rfl)
theorem dJ8_newBytesFor_4 : decode cJ8_newBytesFor 4 = .ok (.newarray .byte, 2) := dk_188_8 (dk_at dksJ8_newBytesFor_0 4 rfl rfl)
theorem dJ8_newBytesFor_6 : decode cJ8_newBytesFor 6 = .ok (.areturn, 1) := dk_176 (dk_at dksJ8_newBytesFor_0 6 rfl rfl)
abbrev cJ8_newBytesLength : ByteArray := prog_60_method_3_code
def yJ8_newBytesLength : MethodName := ⟨RJ8, "newBytesLength", "(I)I"⟩
def dkwJ8_newBytesLength_2 : List UInt8 := [182, 0, 32, 182, 0, 37, 183, 0, 41, 191, 26, 4, 120, 172]
abbrev dktJ8_newBytesLength_2 : List UInt8 := dkwJ8_newBytesLength_2 ++ []
def dkwJ8_newBytesLength_1 : List UInt8 := [187, 0, 23, 89, 183, 0, 25, 18, 26, 182, 0, 28, 26, 182, 0, 32, 18, 35, 182, 0, 28, 18, 20]
abbrev dktJ8_newBytesLength_1 : List UInt8 := dkwJ8_newBytesLength_1 ++ dktJ8_newBytesLength_2
def dkwJ8_newBytesLength_0 : List UInt8 := [26, 156, 0, 11, 187, 0, 17, 89, 183, 0, 19, 191, 26, 18, 20, 161, 0, 40, 187, 0, 21, 89]
abbrev dktJ8_newBytesLength_0 : List UInt8 := dkwJ8_newBytesLength_0 ++ dktJ8_newBytesLength_1
theorem dksJ8_newBytesLength_0 : cJ8_newBytesLength.data.toList.drop 0 = dktJ8_newBytesLength_0 := by decide +kernel
theorem dksJ8_newBytesLength_1 : cJ8_newBytesLength.data.toList.drop 22 = dktJ8_newBytesLength_1 := dk_seg dksJ8_newBytesLength_0 22 rfl rfl
theorem dksJ8_newBytesLength_2 : cJ8_newBytesLength.data.toList.drop 45 = dktJ8_newBytesLength_2 := dk_seg dksJ8_newBytesLength_1 23 rfl rfl
theorem dJ8_newBytesLength_0 : decode cJ8_newBytesLength 0 = .ok (.iload_n 0, 1) := dk_26 (dk_at dksJ8_newBytesLength_0 0 rfl rfl)
theorem dJ8_newBytesLength_1 : decode cJ8_newBytesLength 1 = .ok (.ifCond .ge 11, 3) := dk_156 0 11 (dk_at dksJ8_newBytesLength_0 1 rfl rfl)
theorem dJ8_newBytesLength_4 : decode cJ8_newBytesLength 4 = .ok (.new 17, 3) := dk_187 0 17 (dk_at dksJ8_newBytesLength_0 4 rfl rfl)
theorem dJ8_newBytesLength_7 : decode cJ8_newBytesLength 7 = .ok (.dup, 1) := dk_89 (dk_at dksJ8_newBytesLength_0 7 rfl rfl)
theorem dJ8_newBytesLength_8 : decode cJ8_newBytesLength 8 = .ok (.invokespecial 19, 3) := dk_183 0 19 (dk_at dksJ8_newBytesLength_0 8 rfl rfl)
theorem dJ8_newBytesLength_11 : decode cJ8_newBytesLength 11 = .ok (.athrow, 1) := dk_191 (dk_at dksJ8_newBytesLength_0 11 rfl rfl)
theorem dJ8_newBytesLength_12 : decode cJ8_newBytesLength 12 = .ok (.iload_n 0, 1) := dk_26 (dk_at dksJ8_newBytesLength_0 12 rfl rfl)
theorem dJ8_newBytesLength_13 : decode cJ8_newBytesLength 13 = .ok (.ldc 20, 2) := dk_18 20 (dk_at dksJ8_newBytesLength_0 13 rfl rfl)
theorem dJ8_newBytesLength_15 : decode cJ8_newBytesLength 15 = .ok (.if_icmp .lt 40, 3) := dk_161 0 40 (dk_at dksJ8_newBytesLength_0 15 rfl rfl)
theorem dJ8_newBytesLength_18 : decode cJ8_newBytesLength 18 = .ok (.new 21, 3) := dk_187 0 21 (dk_at dksJ8_newBytesLength_0 18 rfl rfl)
theorem dJ8_newBytesLength_21 : decode cJ8_newBytesLength 21 = .ok (.dup, 1) := dk_89 (dk_at dksJ8_newBytesLength_0 21 rfl rfl)
theorem dJ8_newBytesLength_22 : decode cJ8_newBytesLength 22 = .ok (.new 23, 3) := dk_187 0 23 (dk_at dksJ8_newBytesLength_1 0 rfl rfl)
theorem dJ8_newBytesLength_25 : decode cJ8_newBytesLength 25 = .ok (.dup, 1) := dk_89 (dk_at dksJ8_newBytesLength_1 3 rfl rfl)
theorem dJ8_newBytesLength_26 : decode cJ8_newBytesLength 26 = .ok (.invokespecial 25, 3) := dk_183 0 25 (dk_at dksJ8_newBytesLength_1 4 rfl rfl)
theorem dJ8_newBytesLength_29 : decode cJ8_newBytesLength 29 = .ok (.ldc 26, 2) := dk_18 26 (dk_at dksJ8_newBytesLength_1 7 rfl rfl)
theorem dJ8_newBytesLength_31 : decode cJ8_newBytesLength 31 = .ok (.invokevirtual 28, 3) := dk_182 0 28 (dk_at dksJ8_newBytesLength_1 9 rfl rfl)
theorem dJ8_newBytesLength_34 : decode cJ8_newBytesLength 34 = .ok (.iload_n 0, 1) := dk_26 (dk_at dksJ8_newBytesLength_1 12 rfl rfl)
theorem dJ8_newBytesLength_35 : decode cJ8_newBytesLength 35 = .ok (.invokevirtual 32, 3) := dk_182 0 32 (dk_at dksJ8_newBytesLength_1 13 rfl rfl)
theorem dJ8_newBytesLength_38 : decode cJ8_newBytesLength 38 = .ok (.ldc 35, 2) := dk_18 35 (dk_at dksJ8_newBytesLength_1 16 rfl rfl)
theorem dJ8_newBytesLength_40 : decode cJ8_newBytesLength 40 = .ok (.invokevirtual 28, 3) := dk_182 0 28 (dk_at dksJ8_newBytesLength_1 18 rfl rfl)
theorem dJ8_newBytesLength_43 : decode cJ8_newBytesLength 43 = .ok (.ldc 20, 2) := dk_18 20 (dk_at dksJ8_newBytesLength_1 21 rfl rfl)
theorem dJ8_newBytesLength_45 : decode cJ8_newBytesLength 45 = .ok (.invokevirtual 32, 3) := dk_182 0 32 (dk_at dksJ8_newBytesLength_2 0 rfl rfl)
theorem dJ8_newBytesLength_48 : decode cJ8_newBytesLength 48 = .ok (.invokevirtual 37, 3) := dk_182 0 37 (dk_at dksJ8_newBytesLength_2 3 rfl rfl)
theorem dJ8_newBytesLength_51 : decode cJ8_newBytesLength 51 = .ok (.invokespecial 41, 3) := dk_183 0 41 (dk_at dksJ8_newBytesLength_2 6 rfl rfl)
theorem dJ8_newBytesLength_54 : decode cJ8_newBytesLength 54 = .ok (.athrow, 1) := dk_191 (dk_at dksJ8_newBytesLength_2 9 rfl rfl)
theorem dJ8_newBytesLength_55 : decode cJ8_newBytesLength 55 = .ok (.iload_n 0, 1) := dk_26 (dk_at dksJ8_newBytesLength_2 10 rfl rfl)
theorem dJ8_newBytesLength_56 : decode cJ8_newBytesLength 56 = .ok (.iconst 1, 1) := dk_4 (dk_at dksJ8_newBytesLength_2 11 rfl rfl)
theorem dJ8_newBytesLength_57 : decode cJ8_newBytesLength 57 = .ok (.ishl, 1) := dk_120 (dk_at dksJ8_newBytesLength_2 12 rfl rfl)
theorem dJ8_newBytesLength_58 : decode cJ8_newBytesLength 58 = .ok (.ireturn, 1) := dk_172 (dk_at dksJ8_newBytesLength_2 13 rfl rfl)
abbrev cJ8_putCharsAt : ByteArray := prog_60_method_81_code
def yJ8_putCharsAt : MethodName := ⟨RJ8, "putCharsAt", "([BICCCC)I"⟩
def dkwJ8_putCharsAt_3 : List UInt8 := [21, 6, 172]
abbrev dktJ8_putCharsAt_3 : List UInt8 := dkwJ8_putCharsAt_3 ++ []
def dkwJ8_putCharsAt_2 : List UInt8 := [184, 0, 111, 178, 0, 44, 154, 0, 17, 27, 21, 6, 159, 0, 11, 187, 0, 52, 89, 183, 0, 66, 191]
abbrev dktJ8_putCharsAt_2 : List UInt8 := dkwJ8_putCharsAt_2 ++ dktJ8_putCharsAt_3
def dkwJ8_putCharsAt_1 : List UInt8 := [132, 1, 1, 29, 184, 0, 111, 42, 27, 132, 1, 1, 21, 4, 184, 0, 111, 42, 27, 132, 1, 1, 21, 5]
abbrev dktJ8_putCharsAt_1 : List UInt8 := dkwJ8_putCharsAt_1 ++ dktJ8_putCharsAt_2
def dkwJ8_putCharsAt_0 : List UInt8 := [27, 7, 96, 54, 6, 27, 21, 6, 42, 184, 0, 96, 42, 27, 132, 1, 1, 28, 184, 0, 111, 42, 27]
abbrev dktJ8_putCharsAt_0 : List UInt8 := dkwJ8_putCharsAt_0 ++ dktJ8_putCharsAt_1
theorem dksJ8_putCharsAt_0 : cJ8_putCharsAt.data.toList.drop 0 = dktJ8_putCharsAt_0 := by decide +kernel
theorem dksJ8_putCharsAt_1 : cJ8_putCharsAt.data.toList.drop 23 = dktJ8_putCharsAt_1 := dk_seg dksJ8_putCharsAt_0 23 rfl rfl
theorem dksJ8_putCharsAt_2 : cJ8_putCharsAt.data.toList.drop 47 = dktJ8_putCharsAt_2 := dk_seg dksJ8_putCharsAt_1 24 rfl rfl
theorem dksJ8_putCharsAt_3 : cJ8_putCharsAt.data.toList.drop 70 = dktJ8_putCharsAt_3 := dk_seg dksJ8_putCharsAt_2 23 rfl rfl
theorem dJ8_putCharsAt_0 : decode cJ8_putCharsAt 0 = .ok (.iload_n 1, 1) := dk_27 (dk_at dksJ8_putCharsAt_0 0 rfl rfl)
theorem dJ8_putCharsAt_1 : decode cJ8_putCharsAt 1 = .ok (.iconst 4, 1) := dk_7 (dk_at dksJ8_putCharsAt_0 1 rfl rfl)
theorem dJ8_putCharsAt_2 : decode cJ8_putCharsAt 2 = .ok (.iadd, 1) := dk_96 (dk_at dksJ8_putCharsAt_0 2 rfl rfl)
theorem dJ8_putCharsAt_3 : decode cJ8_putCharsAt 3 = .ok (.istore 6, 2) := dk_54 6 (dk_at dksJ8_putCharsAt_0 3 rfl rfl)
theorem dJ8_putCharsAt_5 : decode cJ8_putCharsAt 5 = .ok (.iload_n 1, 1) := dk_27 (dk_at dksJ8_putCharsAt_0 5 rfl rfl)
theorem dJ8_putCharsAt_6 : decode cJ8_putCharsAt 6 = .ok (.iload 6, 2) := dk_21 6 (dk_at dksJ8_putCharsAt_0 6 rfl rfl)
theorem dJ8_putCharsAt_8 : decode cJ8_putCharsAt 8 = .ok (.aload_n 0, 1) := dk_42 (dk_at dksJ8_putCharsAt_0 8 rfl rfl)
theorem dJ8_putCharsAt_9 : decode cJ8_putCharsAt 9 = .ok (.invokestatic 96, 3) := dk_184 0 96 (dk_at dksJ8_putCharsAt_0 9 rfl rfl)
theorem dJ8_putCharsAt_12 : decode cJ8_putCharsAt 12 = .ok (.aload_n 0, 1) := dk_42 (dk_at dksJ8_putCharsAt_0 12 rfl rfl)
theorem dJ8_putCharsAt_13 : decode cJ8_putCharsAt 13 = .ok (.iload_n 1, 1) := dk_27 (dk_at dksJ8_putCharsAt_0 13 rfl rfl)
theorem dJ8_putCharsAt_14 : decode cJ8_putCharsAt 14 = .ok (.iinc 1 1, 3) := dk_132 1 1 (dk_at dksJ8_putCharsAt_0 14 rfl rfl)
theorem dJ8_putCharsAt_17 : decode cJ8_putCharsAt 17 = .ok (.iload_n 2, 1) := dk_28 (dk_at dksJ8_putCharsAt_0 17 rfl rfl)
theorem dJ8_putCharsAt_18 : decode cJ8_putCharsAt 18 = .ok (.invokestatic 111, 3) := dk_184 0 111 (dk_at dksJ8_putCharsAt_0 18 rfl rfl)
theorem dJ8_putCharsAt_21 : decode cJ8_putCharsAt 21 = .ok (.aload_n 0, 1) := dk_42 (dk_at dksJ8_putCharsAt_0 21 rfl rfl)
theorem dJ8_putCharsAt_22 : decode cJ8_putCharsAt 22 = .ok (.iload_n 1, 1) := dk_27 (dk_at dksJ8_putCharsAt_0 22 rfl rfl)
theorem dJ8_putCharsAt_23 : decode cJ8_putCharsAt 23 = .ok (.iinc 1 1, 3) := dk_132 1 1 (dk_at dksJ8_putCharsAt_1 0 rfl rfl)
theorem dJ8_putCharsAt_26 : decode cJ8_putCharsAt 26 = .ok (.iload_n 3, 1) := dk_29 (dk_at dksJ8_putCharsAt_1 3 rfl rfl)
theorem dJ8_putCharsAt_27 : decode cJ8_putCharsAt 27 = .ok (.invokestatic 111, 3) := dk_184 0 111 (dk_at dksJ8_putCharsAt_1 4 rfl rfl)
theorem dJ8_putCharsAt_30 : decode cJ8_putCharsAt 30 = .ok (.aload_n 0, 1) := dk_42 (dk_at dksJ8_putCharsAt_1 7 rfl rfl)
theorem dJ8_putCharsAt_31 : decode cJ8_putCharsAt 31 = .ok (.iload_n 1, 1) := dk_27 (dk_at dksJ8_putCharsAt_1 8 rfl rfl)
theorem dJ8_putCharsAt_32 : decode cJ8_putCharsAt 32 = .ok (.iinc 1 1, 3) := dk_132 1 1 (dk_at dksJ8_putCharsAt_1 9 rfl rfl)
theorem dJ8_putCharsAt_35 : decode cJ8_putCharsAt 35 = .ok (.iload 4, 2) := dk_21 4 (dk_at dksJ8_putCharsAt_1 12 rfl rfl)
theorem dJ8_putCharsAt_37 : decode cJ8_putCharsAt 37 = .ok (.invokestatic 111, 3) := dk_184 0 111 (dk_at dksJ8_putCharsAt_1 14 rfl rfl)
theorem dJ8_putCharsAt_40 : decode cJ8_putCharsAt 40 = .ok (.aload_n 0, 1) := dk_42 (dk_at dksJ8_putCharsAt_1 17 rfl rfl)
theorem dJ8_putCharsAt_41 : decode cJ8_putCharsAt 41 = .ok (.iload_n 1, 1) := dk_27 (dk_at dksJ8_putCharsAt_1 18 rfl rfl)
theorem dJ8_putCharsAt_42 : decode cJ8_putCharsAt 42 = .ok (.iinc 1 1, 3) := dk_132 1 1 (dk_at dksJ8_putCharsAt_1 19 rfl rfl)
theorem dJ8_putCharsAt_45 : decode cJ8_putCharsAt 45 = .ok (.iload 5, 2) := dk_21 5 (dk_at dksJ8_putCharsAt_1 22 rfl rfl)
theorem dJ8_putCharsAt_47 : decode cJ8_putCharsAt 47 = .ok (.invokestatic 111, 3) := dk_184 0 111 (dk_at dksJ8_putCharsAt_2 0 rfl rfl)
theorem dJ8_putCharsAt_50 : decode cJ8_putCharsAt 50 = .ok (.getstatic 44, 3) := dk_178 0 44 (dk_at dksJ8_putCharsAt_2 3 rfl rfl)
theorem dJ8_putCharsAt_53 : decode cJ8_putCharsAt 53 = .ok (.ifCond .ne 17, 3) := dk_154 0 17 (dk_at dksJ8_putCharsAt_2 6 rfl rfl)
theorem dJ8_putCharsAt_56 : decode cJ8_putCharsAt 56 = .ok (.iload_n 1, 1) := dk_27 (dk_at dksJ8_putCharsAt_2 9 rfl rfl)
theorem dJ8_putCharsAt_57 : decode cJ8_putCharsAt 57 = .ok (.iload 6, 2) := dk_21 6 (dk_at dksJ8_putCharsAt_2 10 rfl rfl)
theorem dJ8_putCharsAt_59 : decode cJ8_putCharsAt 59 = .ok (.if_icmp .eq 11, 3) := dk_159 0 11 (dk_at dksJ8_putCharsAt_2 12 rfl rfl)
theorem dJ8_putCharsAt_62 : decode cJ8_putCharsAt 62 = .ok (.new 52, 3) := dk_187 0 52 (dk_at dksJ8_putCharsAt_2 15 rfl rfl)
theorem dJ8_putCharsAt_65 : decode cJ8_putCharsAt 65 = .ok (.dup, 1) := dk_89 (dk_at dksJ8_putCharsAt_2 18 rfl rfl)
theorem dJ8_putCharsAt_66 : decode cJ8_putCharsAt 66 = .ok (.invokespecial 66, 3) := dk_183 0 66 (dk_at dksJ8_putCharsAt_2 19 rfl rfl)
theorem dJ8_putCharsAt_69 : decode cJ8_putCharsAt 69 = .ok (.athrow, 1) := dk_191 (dk_at dksJ8_putCharsAt_2 22 rfl rfl)
theorem dJ8_putCharsAt_70 : decode cJ8_putCharsAt 70 = .ok (.iload 6, 2) := dk_21 6 (dk_at dksJ8_putCharsAt_3 0 rfl rfl)
theorem dJ8_putCharsAt_72 : decode cJ8_putCharsAt 72 = .ok (.ireturn, 1) := dk_172 (dk_at dksJ8_putCharsAt_3 2 rfl rfl)
abbrev cJ8_checkBoundsBeginEnd : ByteArray := prog_60_method_93_code
def yJ8_checkBoundsBeginEnd : MethodName := ⟨RJ8, "checkBoundsBeginEnd", "(II[B)V"⟩
def dkwJ8_checkBoundsBeginEnd_0 : List UInt8 := [26, 27, 44, 184, 0, 48, 184, 0, 241, 177]
abbrev dktJ8_checkBoundsBeginEnd_0 : List UInt8 := dkwJ8_checkBoundsBeginEnd_0 ++ []
theorem dksJ8_checkBoundsBeginEnd_0 : cJ8_checkBoundsBeginEnd.data.toList.drop 0 = dktJ8_checkBoundsBeginEnd_0 := by decide +kernel
theorem dJ8_checkBoundsBeginEnd_0 : decode cJ8_checkBoundsBeginEnd 0 = .ok (.iload_n 0, 1) := dk_26 (dk_at dksJ8_checkBoundsBeginEnd_0 0 rfl rfl)
theorem dJ8_checkBoundsBeginEnd_1 : decode cJ8_checkBoundsBeginEnd 1 = .ok (.iload_n 1, 1) := dk_27 (dk_at dksJ8_checkBoundsBeginEnd_0 1 rfl rfl)
theorem dJ8_checkBoundsBeginEnd_2 : decode cJ8_checkBoundsBeginEnd 2 = .ok (.aload_n 2, 1) := dk_44 (dk_at dksJ8_checkBoundsBeginEnd_0 2 rfl rfl)
theorem dJ8_checkBoundsBeginEnd_3 : decode cJ8_checkBoundsBeginEnd 3 = .ok (.invokestatic 48, 3) := dk_184 0 48 (dk_at dksJ8_checkBoundsBeginEnd_0 3 rfl rfl)
theorem dJ8_checkBoundsBeginEnd_6 : decode cJ8_checkBoundsBeginEnd 6 = .ok (.invokestatic 241, 3) := dk_184 0 241 (dk_at dksJ8_checkBoundsBeginEnd_0 6 rfl rfl)
theorem dJ8_checkBoundsBeginEnd_9 : decode cJ8_checkBoundsBeginEnd 9 = .ok (.return_, 1) := dk_177 (dk_at dksJ8_checkBoundsBeginEnd_0 9 rfl rfl)
abbrev cJ8_length : ByteArray := prog_60_method_6_code
def yJ8_length : MethodName := ⟨RJ8, "length", "([B)I"⟩
def dkwJ8_length_0 : List UInt8 := [42, 190, 4, 122, 172]
abbrev dktJ8_length_0 : List UInt8 := dkwJ8_length_0 ++ []
theorem dksJ8_length_0 : cJ8_length.data.toList.drop 0 = dktJ8_length_0 := by decide +kernel
theorem dJ8_length_0 : decode cJ8_length 0 = .ok (.aload_n 0, 1) := dk_42 (dk_at dksJ8_length_0 0 rfl rfl)
theorem dJ8_length_1 : decode cJ8_length 1 = .ok (.arraylength, 1) := dk_190 (dk_at dksJ8_length_0 1 rfl rfl)
theorem dJ8_length_2 : decode cJ8_length 2 = .ok (.iconst 1, 1) := dk_4 (dk_at dksJ8_length_0 2 rfl rfl)
theorem dJ8_length_3 : decode cJ8_length 3 = .ok (.ishr, 1) := dk_122 (dk_at dksJ8_length_0 3 rfl rfl)
theorem dJ8_length_4 : decode cJ8_length 4 = .ok (.ireturn, 1) := dk_172 (dk_at dksJ8_length_0 4 rfl rfl)
abbrev cJ8_putChar : ByteArray := prog_60_method_4_code
def yJ8_putChar : MethodName := ⟨RJ8, "putChar", "([BII)V"⟩
def dkwJ8_putChar_2 : List UInt8 := [178, 0, 63, 122, 145, 84, 177]
abbrev dktJ8_putChar_2 : List UInt8 := dkwJ8_putChar_2 ++ []
def dkwJ8_putChar_1 : List UInt8 := [183, 0, 56, 191, 27, 4, 120, 60, 42, 27, 132, 1, 1, 28, 178, 0, 59, 122, 145, 84, 42, 27, 28]
abbrev dktJ8_putChar_1 : List UInt8 := dkwJ8_putChar_1 ++ dktJ8_putChar_2
def dkwJ8_putChar_0 : List UInt8 := [178, 0, 44, 154, 0, 25, 27, 155, 0, 11, 27, 42, 184, 0, 48, 161, 0, 13, 187, 0, 52, 89, 18, 54]
abbrev dktJ8_putChar_0 : List UInt8 := dkwJ8_putChar_0 ++ dktJ8_putChar_1
theorem dksJ8_putChar_0 : cJ8_putChar.data.toList.drop 0 = dktJ8_putChar_0 := by decide +kernel
theorem dksJ8_putChar_1 : cJ8_putChar.data.toList.drop 24 = dktJ8_putChar_1 := dk_seg dksJ8_putChar_0 24 rfl rfl
theorem dksJ8_putChar_2 : cJ8_putChar.data.toList.drop 47 = dktJ8_putChar_2 := dk_seg dksJ8_putChar_1 23 rfl rfl
theorem dJ8_putChar_0 : decode cJ8_putChar 0 = .ok (.getstatic 44, 3) := dk_178 0 44 (dk_at dksJ8_putChar_0 0 rfl rfl)
theorem dJ8_putChar_3 : decode cJ8_putChar 3 = .ok (.ifCond .ne 25, 3) := dk_154 0 25 (dk_at dksJ8_putChar_0 3 rfl rfl)
theorem dJ8_putChar_6 : decode cJ8_putChar 6 = .ok (.iload_n 1, 1) := dk_27 (dk_at dksJ8_putChar_0 6 rfl rfl)
theorem dJ8_putChar_7 : decode cJ8_putChar 7 = .ok (.ifCond .lt 11, 3) := dk_155 0 11 (dk_at dksJ8_putChar_0 7 rfl rfl)
theorem dJ8_putChar_10 : decode cJ8_putChar 10 = .ok (.iload_n 1, 1) := dk_27 (dk_at dksJ8_putChar_0 10 rfl rfl)
theorem dJ8_putChar_11 : decode cJ8_putChar 11 = .ok (.aload_n 0, 1) := dk_42 (dk_at dksJ8_putChar_0 11 rfl rfl)
theorem dJ8_putChar_12 : decode cJ8_putChar 12 = .ok (.invokestatic 48, 3) := dk_184 0 48 (dk_at dksJ8_putChar_0 12 rfl rfl)
theorem dJ8_putChar_15 : decode cJ8_putChar 15 = .ok (.if_icmp .lt 13, 3) := dk_161 0 13 (dk_at dksJ8_putChar_0 15 rfl rfl)
theorem dJ8_putChar_18 : decode cJ8_putChar 18 = .ok (.new 52, 3) := dk_187 0 52 (dk_at dksJ8_putChar_0 18 rfl rfl)
theorem dJ8_putChar_21 : decode cJ8_putChar 21 = .ok (.dup, 1) := dk_89 (dk_at dksJ8_putChar_0 21 rfl rfl)
theorem dJ8_putChar_22 : decode cJ8_putChar 22 = .ok (.ldc 54, 2) := dk_18 54 (dk_at dksJ8_putChar_0 22 rfl rfl)
theorem dJ8_putChar_24 : decode cJ8_putChar 24 = .ok (.invokespecial 56, 3) := dk_183 0 56 (dk_at dksJ8_putChar_1 0 rfl rfl)
theorem dJ8_putChar_27 : decode cJ8_putChar 27 = .ok (.athrow, 1) := dk_191 (dk_at dksJ8_putChar_1 3 rfl rfl)
theorem dJ8_putChar_28 : decode cJ8_putChar 28 = .ok (.iload_n 1, 1) := dk_27 (dk_at dksJ8_putChar_1 4 rfl rfl)
theorem dJ8_putChar_29 : decode cJ8_putChar 29 = .ok (.iconst 1, 1) := dk_4 (dk_at dksJ8_putChar_1 5 rfl rfl)
theorem dJ8_putChar_30 : decode cJ8_putChar 30 = .ok (.ishl, 1) := dk_120 (dk_at dksJ8_putChar_1 6 rfl rfl)
theorem dJ8_putChar_31 : decode cJ8_putChar 31 = .ok (.istore_n 1, 1) := dk_60 (dk_at dksJ8_putChar_1 7 rfl rfl)
theorem dJ8_putChar_32 : decode cJ8_putChar 32 = .ok (.aload_n 0, 1) := dk_42 (dk_at dksJ8_putChar_1 8 rfl rfl)
theorem dJ8_putChar_33 : decode cJ8_putChar 33 = .ok (.iload_n 1, 1) := dk_27 (dk_at dksJ8_putChar_1 9 rfl rfl)
theorem dJ8_putChar_34 : decode cJ8_putChar 34 = .ok (.iinc 1 1, 3) := dk_132 1 1 (dk_at dksJ8_putChar_1 10 rfl rfl)
theorem dJ8_putChar_37 : decode cJ8_putChar 37 = .ok (.iload_n 2, 1) := dk_28 (dk_at dksJ8_putChar_1 13 rfl rfl)
theorem dJ8_putChar_38 : decode cJ8_putChar 38 = .ok (.getstatic 59, 3) := dk_178 0 59 (dk_at dksJ8_putChar_1 14 rfl rfl)
theorem dJ8_putChar_41 : decode cJ8_putChar 41 = .ok (.ishr, 1) := dk_122 (dk_at dksJ8_putChar_1 17 rfl rfl)
theorem dJ8_putChar_42 : decode cJ8_putChar 42 = .ok (.i2b, 1) := dk_145 (dk_at dksJ8_putChar_1 18 rfl rfl)
theorem dJ8_putChar_43 : decode cJ8_putChar 43 = .ok (.bastore, 1) := dk_84 (dk_at dksJ8_putChar_1 19 rfl rfl)
theorem dJ8_putChar_44 : decode cJ8_putChar 44 = .ok (.aload_n 0, 1) := dk_42 (dk_at dksJ8_putChar_1 20 rfl rfl)
theorem dJ8_putChar_45 : decode cJ8_putChar 45 = .ok (.iload_n 1, 1) := dk_27 (dk_at dksJ8_putChar_1 21 rfl rfl)
theorem dJ8_putChar_46 : decode cJ8_putChar 46 = .ok (.iload_n 2, 1) := dk_28 (dk_at dksJ8_putChar_1 22 rfl rfl)
theorem dJ8_putChar_47 : decode cJ8_putChar 47 = .ok (.getstatic 63, 3) := dk_178 0 63 (dk_at dksJ8_putChar_2 0 rfl rfl)
theorem dJ8_putChar_50 : decode cJ8_putChar 50 = .ok (.ishr, 1) := dk_122 (dk_at dksJ8_putChar_2 3 rfl rfl)
theorem dJ8_putChar_51 : decode cJ8_putChar 51 = .ok (.i2b, 1) := dk_145 (dk_at dksJ8_putChar_2 4 rfl rfl)
theorem dJ8_putChar_52 : decode cJ8_putChar 52 = .ok (.bastore, 1) := dk_84 (dk_at dksJ8_putChar_2 5 rfl rfl)
theorem dJ8_putChar_53 : decode cJ8_putChar 53 = .ok (.return_, 1) := dk_177 (dk_at dksJ8_putChar_2 6 rfl rfl)
abbrev cJ8_inflate : ByteArray := prog_60_method_86_code
def yJ8_inflate : MethodName := ⟨RJ8, "inflate", "([BI[BII)V"⟩
def dkwJ8_inflate_1 : List UInt8 := [132, 1, 1, 51, 17, 0, 255, 126, 184, 0, 111, 132, 5, 1, 167, 255, 228, 177]
abbrev dktJ8_inflate_1 : List UInt8 := dkwJ8_inflate_1 ++ []
def dkwJ8_inflate_0 : List UInt8 := [29, 21, 4, 44, 184, 0, 173, 3, 54, 5, 21, 5, 21, 4, 162, 0, 27, 44, 29, 132, 3, 1, 42, 27]
abbrev dktJ8_inflate_0 : List UInt8 := dkwJ8_inflate_0 ++ dktJ8_inflate_1
theorem dksJ8_inflate_0 : cJ8_inflate.data.toList.drop 0 = dktJ8_inflate_0 := by decide +kernel
theorem dksJ8_inflate_1 : cJ8_inflate.data.toList.drop 24 = dktJ8_inflate_1 := dk_seg dksJ8_inflate_0 24 rfl rfl
theorem dJ8_inflate_0 : decode cJ8_inflate 0 = .ok (.iload_n 3, 1) := dk_29 (dk_at dksJ8_inflate_0 0 rfl rfl)
theorem dJ8_inflate_1 : decode cJ8_inflate 1 = .ok (.iload 4, 2) := dk_21 4 (dk_at dksJ8_inflate_0 1 rfl rfl)
theorem dJ8_inflate_3 : decode cJ8_inflate 3 = .ok (.aload_n 2, 1) := dk_44 (dk_at dksJ8_inflate_0 3 rfl rfl)
theorem dJ8_inflate_4 : decode cJ8_inflate 4 = .ok (.invokestatic 173, 3) := dk_184 0 173 (dk_at dksJ8_inflate_0 4 rfl rfl)
theorem dJ8_inflate_7 : decode cJ8_inflate 7 = .ok (.iconst 0, 1) := dk_3 (dk_at dksJ8_inflate_0 7 rfl rfl)
theorem dJ8_inflate_8 : decode cJ8_inflate 8 = .ok (.istore 5, 2) := dk_54 5 (dk_at dksJ8_inflate_0 8 rfl rfl)
theorem dJ8_inflate_10 : decode cJ8_inflate 10 = .ok (.iload 5, 2) := dk_21 5 (dk_at dksJ8_inflate_0 10 rfl rfl)
theorem dJ8_inflate_12 : decode cJ8_inflate 12 = .ok (.iload 4, 2) := dk_21 4 (dk_at dksJ8_inflate_0 12 rfl rfl)
theorem dJ8_inflate_14 : decode cJ8_inflate 14 = .ok (.if_icmp .ge 27, 3) := dk_162 0 27 (dk_at dksJ8_inflate_0 14 rfl rfl)
theorem dJ8_inflate_17 : decode cJ8_inflate 17 = .ok (.aload_n 2, 1) := dk_44 (dk_at dksJ8_inflate_0 17 rfl rfl)
theorem dJ8_inflate_18 : decode cJ8_inflate 18 = .ok (.iload_n 3, 1) := dk_29 (dk_at dksJ8_inflate_0 18 rfl rfl)
theorem dJ8_inflate_19 : decode cJ8_inflate 19 = .ok (.iinc 3 1, 3) := dk_132 3 1 (dk_at dksJ8_inflate_0 19 rfl rfl)
theorem dJ8_inflate_22 : decode cJ8_inflate 22 = .ok (.aload_n 0, 1) := dk_42 (dk_at dksJ8_inflate_0 22 rfl rfl)
theorem dJ8_inflate_23 : decode cJ8_inflate 23 = .ok (.iload_n 1, 1) := dk_27 (dk_at dksJ8_inflate_0 23 rfl rfl)
theorem dJ8_inflate_24 : decode cJ8_inflate 24 = .ok (.iinc 1 1, 3) := dk_132 1 1 (dk_at dksJ8_inflate_1 0 rfl rfl)
theorem dJ8_inflate_27 : decode cJ8_inflate 27 = .ok (.baload, 1) := dk_51 (dk_at dksJ8_inflate_1 3 rfl rfl)
theorem dJ8_inflate_28 : decode cJ8_inflate 28 = .ok (.sipush 255, 3) := dk_17 0 255 (dk_at dksJ8_inflate_1 4 rfl rfl)
theorem dJ8_inflate_31 : decode cJ8_inflate 31 = .ok (.iand, 1) := dk_126 (dk_at dksJ8_inflate_1 7 rfl rfl)
theorem dJ8_inflate_32 : decode cJ8_inflate 32 = .ok (.invokestatic 111, 3) := dk_184 0 111 (dk_at dksJ8_inflate_1 8 rfl rfl)
theorem dJ8_inflate_35 : decode cJ8_inflate 35 = .ok (.iinc 5 1, 3) := dk_132 5 1 (dk_at dksJ8_inflate_1 11 rfl rfl)
theorem dJ8_inflate_38 : decode cJ8_inflate 38 = .ok (.goto (-28), 3) := dk_167 255 228 (dk_at dksJ8_inflate_1 14 rfl rfl)
theorem dJ8_inflate_41 : decode cJ8_inflate 41 = .ok (.return_, 1) := dk_177 (dk_at dksJ8_inflate_1 17 rfl rfl)
abbrev cJ8_checkBoundsOffCount : ByteArray := prog_60_method_94_code
def yJ8_checkBoundsOffCount : MethodName := ⟨RJ8, "checkBoundsOffCount", "(II[B)V"⟩
def dkwJ8_checkBoundsOffCount_0 : List UInt8 := [26, 27, 44, 184, 0, 48, 184, 1, 163, 87, 177]
abbrev dktJ8_checkBoundsOffCount_0 : List UInt8 := dkwJ8_checkBoundsOffCount_0 ++ []
theorem dksJ8_checkBoundsOffCount_0 : cJ8_checkBoundsOffCount.data.toList.drop 0 = dktJ8_checkBoundsOffCount_0 := by decide +kernel
theorem dJ8_checkBoundsOffCount_0 : decode cJ8_checkBoundsOffCount 0 = .ok (.iload_n 0, 1) := dk_26 (dk_at dksJ8_checkBoundsOffCount_0 0 rfl rfl)
theorem dJ8_checkBoundsOffCount_1 : decode cJ8_checkBoundsOffCount 1 = .ok (.iload_n 1, 1) := dk_27 (dk_at dksJ8_checkBoundsOffCount_0 1 rfl rfl)
theorem dJ8_checkBoundsOffCount_2 : decode cJ8_checkBoundsOffCount 2 = .ok (.aload_n 2, 1) := dk_44 (dk_at dksJ8_checkBoundsOffCount_0 2 rfl rfl)
theorem dJ8_checkBoundsOffCount_3 : decode cJ8_checkBoundsOffCount 3 = .ok (.invokestatic 48, 3) := dk_184 0 48 (dk_at dksJ8_checkBoundsOffCount_0 3 rfl rfl)
theorem dJ8_checkBoundsOffCount_6 : decode cJ8_checkBoundsOffCount 6 = .ok (.invokestatic 419, 3) := dk_184 1 163 (dk_at dksJ8_checkBoundsOffCount_0 6 rfl rfl)
theorem dJ8_checkBoundsOffCount_9 : decode cJ8_checkBoundsOffCount 9 = .ok (.pop, 1) := dk_87 (dk_at dksJ8_checkBoundsOffCount_0 9 rfl rfl)
theorem dJ8_checkBoundsOffCount_10 : decode cJ8_checkBoundsOffCount 10 = .ok (.return_, 1) := dk_177 (dk_at dksJ8_checkBoundsOffCount_0 10 rfl rfl)
abbrev cJ8_getChars : ByteArray := prog_60_method_77_code
def yJ8_getChars : MethodName := ⟨RJ8, "getChars", "(III[B)I"⟩
def dkwJ8_getChars_1 : List UInt8 := [159, 0, 11, 187, 0, 52, 89, 183, 0, 66, 191, 21, 4, 172]
abbrev dktJ8_getChars_1 : List UInt8 := dkwJ8_getChars_1 ++ []
def dkwJ8_getChars_0 : List UInt8 := [27, 28, 45, 184, 0, 96, 26, 28, 45, 184, 1, 137, 54, 4, 178, 0, 44, 154, 0, 17, 27, 21, 4]
abbrev dktJ8_getChars_0 : List UInt8 := dkwJ8_getChars_0 ++ dktJ8_getChars_1
theorem dksJ8_getChars_0 : cJ8_getChars.data.toList.drop 0 = dktJ8_getChars_0 := by decide +kernel
theorem dksJ8_getChars_1 : cJ8_getChars.data.toList.drop 23 = dktJ8_getChars_1 := dk_seg dksJ8_getChars_0 23 rfl rfl
theorem dJ8_getChars_0 : decode cJ8_getChars 0 = .ok (.iload_n 1, 1) := dk_27 (dk_at dksJ8_getChars_0 0 rfl rfl)
theorem dJ8_getChars_1 : decode cJ8_getChars 1 = .ok (.iload_n 2, 1) := dk_28 (dk_at dksJ8_getChars_0 1 rfl rfl)
theorem dJ8_getChars_2 : decode cJ8_getChars 2 = .ok (.aload_n 3, 1) := dk_45 (dk_at dksJ8_getChars_0 2 rfl rfl)
theorem dJ8_getChars_3 : decode cJ8_getChars 3 = .ok (.invokestatic 96, 3) := dk_184 0 96 (dk_at dksJ8_getChars_0 3 rfl rfl)
theorem dJ8_getChars_6 : decode cJ8_getChars 6 = .ok (.iload_n 0, 1) := dk_26 (dk_at dksJ8_getChars_0 6 rfl rfl)
theorem dJ8_getChars_7 : decode cJ8_getChars 7 = .ok (.iload_n 2, 1) := dk_28 (dk_at dksJ8_getChars_0 7 rfl rfl)
theorem dJ8_getChars_8 : decode cJ8_getChars 8 = .ok (.aload_n 3, 1) := dk_45 (dk_at dksJ8_getChars_0 8 rfl rfl)
theorem dJ8_getChars_9 : decode cJ8_getChars 9 = .ok (.invokestatic 393, 3) := dk_184 1 137 (dk_at dksJ8_getChars_0 9 rfl rfl)
theorem dJ8_getChars_12 : decode cJ8_getChars 12 = .ok (.istore 4, 2) := dk_54 4 (dk_at dksJ8_getChars_0 12 rfl rfl)
theorem dJ8_getChars_14 : decode cJ8_getChars 14 = .ok (.getstatic 44, 3) := dk_178 0 44 (dk_at dksJ8_getChars_0 14 rfl rfl)
theorem dJ8_getChars_17 : decode cJ8_getChars 17 = .ok (.ifCond .ne 17, 3) := dk_154 0 17 (dk_at dksJ8_getChars_0 17 rfl rfl)
theorem dJ8_getChars_20 : decode cJ8_getChars 20 = .ok (.iload_n 1, 1) := dk_27 (dk_at dksJ8_getChars_0 20 rfl rfl)
theorem dJ8_getChars_21 : decode cJ8_getChars 21 = .ok (.iload 4, 2) := dk_21 4 (dk_at dksJ8_getChars_0 21 rfl rfl)
theorem dJ8_getChars_23 : decode cJ8_getChars 23 = .ok (.if_icmp .eq 11, 3) := dk_159 0 11 (dk_at dksJ8_getChars_1 0 rfl rfl)
theorem dJ8_getChars_26 : decode cJ8_getChars 26 = .ok (.new 52, 3) := dk_187 0 52 (dk_at dksJ8_getChars_1 3 rfl rfl)
theorem dJ8_getChars_29 : decode cJ8_getChars 29 = .ok (.dup, 1) := dk_89 (dk_at dksJ8_getChars_1 6 rfl rfl)
theorem dJ8_getChars_30 : decode cJ8_getChars 30 = .ok (.invokespecial 66, 3) := dk_183 0 66 (dk_at dksJ8_getChars_1 7 rfl rfl)
theorem dJ8_getChars_33 : decode cJ8_getChars 33 = .ok (.athrow, 1) := dk_191 (dk_at dksJ8_getChars_1 10 rfl rfl)
theorem dJ8_getChars_34 : decode cJ8_getChars 34 = .ok (.iload 4, 2) := dk_21 4 (dk_at dksJ8_getChars_1 11 rfl rfl)
theorem dJ8_getChars_36 : decode cJ8_getChars 36 = .ok (.ireturn, 1) := dk_172 (dk_at dksJ8_getChars_1 13 rfl rfl)
abbrev cJ8_getChars_2 : ByteArray := prog_60_method_89_code
def yJ8_getChars_2 : MethodName := ⟨RJ8, "getChars", "(II[B)I"⟩
def dkwJ8_getChars_2_5 : List UInt8 := [132, 5, 255, 21, 5, 16, 45, 184, 0, 111, 21, 5, 172]
abbrev dktJ8_getChars_2_5 : List UInt8 := dkwJ8_getChars_2_5 ++ []
def dkwJ8_getChars_2_4 : List UInt8 := [162, 0, 18, 44, 132, 5, 255, 21, 5, 178, 1, 151, 26, 116, 51, 184, 0, 111, 21, 6, 153, 0, 14, 44]
abbrev dktJ8_getChars_2_4 : List UInt8 := dkwJ8_getChars_2_4 ++ dktJ8_getChars_2_5
def dkwJ8_getChars_2_3 : List UInt8 := [184, 0, 111, 167, 255, 205, 44, 132, 5, 255, 21, 5, 178, 1, 147, 26, 116, 51, 184, 0, 111, 26, 16, 247]
abbrev dktJ8_getChars_2_3 : List UInt8 := dkwJ8_getChars_2_3 ++ dktJ8_getChars_2_4
def dkwJ8_getChars_2_2 : List UInt8 := [21, 5, 178, 1, 147, 21, 4, 51, 184, 0, 111, 44, 132, 5, 255, 21, 5, 178, 1, 151, 21, 4, 51]
abbrev dktJ8_getChars_2_2 : List UInt8 := dkwJ8_getChars_2_2 ++ dktJ8_getChars_2_3
def dkwJ8_getChars_2_1 : List UInt8 := [16, 156, 163, 0, 51, 26, 16, 100, 108, 62, 29, 16, 100, 104, 26, 100, 54, 4, 29, 59, 44, 132, 5, 255]
abbrev dktJ8_getChars_2_1 : List UInt8 := dkwJ8_getChars_2_1 ++ dktJ8_getChars_2_2
def dkwJ8_getChars_2_0 : List UInt8 := [27, 54, 5, 26, 156, 0, 7, 4, 167, 0, 4, 3, 54, 6, 21, 6, 154, 0, 6, 26, 116, 59, 26]
abbrev dktJ8_getChars_2_0 : List UInt8 := dkwJ8_getChars_2_0 ++ dktJ8_getChars_2_1
theorem dksJ8_getChars_2_0 : cJ8_getChars_2.data.toList.drop 0 = dktJ8_getChars_2_0 := by decide +kernel
theorem dksJ8_getChars_2_1 : cJ8_getChars_2.data.toList.drop 23 = dktJ8_getChars_2_1 := dk_seg dksJ8_getChars_2_0 23 rfl rfl
theorem dksJ8_getChars_2_2 : cJ8_getChars_2.data.toList.drop 47 = dktJ8_getChars_2_2 := dk_seg dksJ8_getChars_2_1 24 rfl rfl
theorem dksJ8_getChars_2_3 : cJ8_getChars_2.data.toList.drop 70 = dktJ8_getChars_2_3 := dk_seg dksJ8_getChars_2_2 23 rfl rfl
theorem dksJ8_getChars_2_4 : cJ8_getChars_2.data.toList.drop 94 = dktJ8_getChars_2_4 := dk_seg dksJ8_getChars_2_3 24 rfl rfl
theorem dksJ8_getChars_2_5 : cJ8_getChars_2.data.toList.drop 118 = dktJ8_getChars_2_5 := dk_seg dksJ8_getChars_2_4 24 rfl rfl
theorem dJ8_getChars_2_0 : decode cJ8_getChars_2 0 = .ok (.iload_n 1, 1) := dk_27 (dk_at dksJ8_getChars_2_0 0 rfl rfl)
theorem dJ8_getChars_2_1 : decode cJ8_getChars_2 1 = .ok (.istore 5, 2) := dk_54 5 (dk_at dksJ8_getChars_2_0 1 rfl rfl)
theorem dJ8_getChars_2_3 : decode cJ8_getChars_2 3 = .ok (.iload_n 0, 1) := dk_26 (dk_at dksJ8_getChars_2_0 3 rfl rfl)
theorem dJ8_getChars_2_4 : decode cJ8_getChars_2 4 = .ok (.ifCond .ge 7, 3) := dk_156 0 7 (dk_at dksJ8_getChars_2_0 4 rfl rfl)
theorem dJ8_getChars_2_7 : decode cJ8_getChars_2 7 = .ok (.iconst 1, 1) := dk_4 (dk_at dksJ8_getChars_2_0 7 rfl rfl)
theorem dJ8_getChars_2_8 : decode cJ8_getChars_2 8 = .ok (.goto 4, 3) := dk_167 0 4 (dk_at dksJ8_getChars_2_0 8 rfl rfl)
theorem dJ8_getChars_2_11 : decode cJ8_getChars_2 11 = .ok (.iconst 0, 1) := dk_3 (dk_at dksJ8_getChars_2_0 11 rfl rfl)
theorem dJ8_getChars_2_12 : decode cJ8_getChars_2 12 = .ok (.istore 6, 2) := dk_54 6 (dk_at dksJ8_getChars_2_0 12 rfl rfl)
theorem dJ8_getChars_2_14 : decode cJ8_getChars_2 14 = .ok (.iload 6, 2) := dk_21 6 (dk_at dksJ8_getChars_2_0 14 rfl rfl)
theorem dJ8_getChars_2_16 : decode cJ8_getChars_2 16 = .ok (.ifCond .ne 6, 3) := dk_154 0 6 (dk_at dksJ8_getChars_2_0 16 rfl rfl)
theorem dJ8_getChars_2_19 : decode cJ8_getChars_2 19 = .ok (.iload_n 0, 1) := dk_26 (dk_at dksJ8_getChars_2_0 19 rfl rfl)
theorem dJ8_getChars_2_20 : decode cJ8_getChars_2 20 = .ok (.ineg, 1) := dk_116 (dk_at dksJ8_getChars_2_0 20 rfl rfl)
theorem dJ8_getChars_2_21 : decode cJ8_getChars_2 21 = .ok (.istore_n 0, 1) := dk_59 (dk_at dksJ8_getChars_2_0 21 rfl rfl)
theorem dJ8_getChars_2_22 : decode cJ8_getChars_2 22 = .ok (.iload_n 0, 1) := dk_26 (dk_at dksJ8_getChars_2_0 22 rfl rfl)
theorem dJ8_getChars_2_23 : decode cJ8_getChars_2 23 = .ok (.bipush (-100), 2) := dk_16 156 (dk_at dksJ8_getChars_2_1 0 rfl rfl)
theorem dJ8_getChars_2_25 : decode cJ8_getChars_2 25 = .ok (.if_icmp .gt 51, 3) := dk_163 0 51 (dk_at dksJ8_getChars_2_1 2 rfl rfl)
theorem dJ8_getChars_2_28 : decode cJ8_getChars_2 28 = .ok (.iload_n 0, 1) := dk_26 (dk_at dksJ8_getChars_2_1 5 rfl rfl)
theorem dJ8_getChars_2_29 : decode cJ8_getChars_2 29 = .ok (.bipush 100, 2) := dk_16 100 (dk_at dksJ8_getChars_2_1 6 rfl rfl)
theorem dJ8_getChars_2_31 : decode cJ8_getChars_2 31 = .ok (.idiv, 1) := dk_108 (dk_at dksJ8_getChars_2_1 8 rfl rfl)
theorem dJ8_getChars_2_32 : decode cJ8_getChars_2 32 = .ok (.istore_n 3, 1) := dk_62 (dk_at dksJ8_getChars_2_1 9 rfl rfl)
theorem dJ8_getChars_2_33 : decode cJ8_getChars_2 33 = .ok (.iload_n 3, 1) := dk_29 (dk_at dksJ8_getChars_2_1 10 rfl rfl)
theorem dJ8_getChars_2_34 : decode cJ8_getChars_2 34 = .ok (.bipush 100, 2) := dk_16 100 (dk_at dksJ8_getChars_2_1 11 rfl rfl)
theorem dJ8_getChars_2_36 : decode cJ8_getChars_2 36 = .ok (.imul, 1) := dk_104 (dk_at dksJ8_getChars_2_1 13 rfl rfl)
theorem dJ8_getChars_2_37 : decode cJ8_getChars_2 37 = .ok (.iload_n 0, 1) := dk_26 (dk_at dksJ8_getChars_2_1 14 rfl rfl)
theorem dJ8_getChars_2_38 : decode cJ8_getChars_2 38 = .ok (.isub, 1) := dk_100 (dk_at dksJ8_getChars_2_1 15 rfl rfl)
theorem dJ8_getChars_2_39 : decode cJ8_getChars_2 39 = .ok (.istore 4, 2) := dk_54 4 (dk_at dksJ8_getChars_2_1 16 rfl rfl)
theorem dJ8_getChars_2_41 : decode cJ8_getChars_2 41 = .ok (.iload_n 3, 1) := dk_29 (dk_at dksJ8_getChars_2_1 18 rfl rfl)
theorem dJ8_getChars_2_42 : decode cJ8_getChars_2 42 = .ok (.istore_n 0, 1) := dk_59 (dk_at dksJ8_getChars_2_1 19 rfl rfl)
theorem dJ8_getChars_2_43 : decode cJ8_getChars_2 43 = .ok (.aload_n 2, 1) := dk_44 (dk_at dksJ8_getChars_2_1 20 rfl rfl)
theorem dJ8_getChars_2_44 : decode cJ8_getChars_2 44 = .ok (.iinc 5 (-1), 3) := dk_132 5 255 (dk_at dksJ8_getChars_2_1 21 rfl rfl)
theorem dJ8_getChars_2_47 : decode cJ8_getChars_2 47 = .ok (.iload 5, 2) := dk_21 5 (dk_at dksJ8_getChars_2_2 0 rfl rfl)
theorem dJ8_getChars_2_49 : decode cJ8_getChars_2 49 = .ok (.getstatic 403, 3) := dk_178 1 147 (dk_at dksJ8_getChars_2_2 2 rfl rfl)
theorem dJ8_getChars_2_52 : decode cJ8_getChars_2 52 = .ok (.iload 4, 2) := dk_21 4 (dk_at dksJ8_getChars_2_2 5 rfl rfl)
theorem dJ8_getChars_2_54 : decode cJ8_getChars_2 54 = .ok (.baload, 1) := dk_51 (dk_at dksJ8_getChars_2_2 7 rfl rfl)
theorem dJ8_getChars_2_55 : decode cJ8_getChars_2 55 = .ok (.invokestatic 111, 3) := dk_184 0 111 (dk_at dksJ8_getChars_2_2 8 rfl rfl)
theorem dJ8_getChars_2_58 : decode cJ8_getChars_2 58 = .ok (.aload_n 2, 1) := dk_44 (dk_at dksJ8_getChars_2_2 11 rfl rfl)
theorem dJ8_getChars_2_59 : decode cJ8_getChars_2 59 = .ok (.iinc 5 (-1), 3) := dk_132 5 255 (dk_at dksJ8_getChars_2_2 12 rfl rfl)
theorem dJ8_getChars_2_62 : decode cJ8_getChars_2 62 = .ok (.iload 5, 2) := dk_21 5 (dk_at dksJ8_getChars_2_2 15 rfl rfl)
theorem dJ8_getChars_2_64 : decode cJ8_getChars_2 64 = .ok (.getstatic 407, 3) := dk_178 1 151 (dk_at dksJ8_getChars_2_2 17 rfl rfl)
theorem dJ8_getChars_2_67 : decode cJ8_getChars_2 67 = .ok (.iload 4, 2) := dk_21 4 (dk_at dksJ8_getChars_2_2 20 rfl rfl)
theorem dJ8_getChars_2_69 : decode cJ8_getChars_2 69 = .ok (.baload, 1) := dk_51 (dk_at dksJ8_getChars_2_2 22 rfl rfl)
theorem dJ8_getChars_2_70 : decode cJ8_getChars_2 70 = .ok (.invokestatic 111, 3) := dk_184 0 111 (dk_at dksJ8_getChars_2_3 0 rfl rfl)
theorem dJ8_getChars_2_73 : decode cJ8_getChars_2 73 = .ok (.goto (-51), 3) := dk_167 255 205 (dk_at dksJ8_getChars_2_3 3 rfl rfl)
theorem dJ8_getChars_2_76 : decode cJ8_getChars_2 76 = .ok (.aload_n 2, 1) := dk_44 (dk_at dksJ8_getChars_2_3 6 rfl rfl)
theorem dJ8_getChars_2_77 : decode cJ8_getChars_2 77 = .ok (.iinc 5 (-1), 3) := dk_132 5 255 (dk_at dksJ8_getChars_2_3 7 rfl rfl)
theorem dJ8_getChars_2_80 : decode cJ8_getChars_2 80 = .ok (.iload 5, 2) := dk_21 5 (dk_at dksJ8_getChars_2_3 10 rfl rfl)
theorem dJ8_getChars_2_82 : decode cJ8_getChars_2 82 = .ok (.getstatic 403, 3) := dk_178 1 147 (dk_at dksJ8_getChars_2_3 12 rfl rfl)
theorem dJ8_getChars_2_85 : decode cJ8_getChars_2 85 = .ok (.iload_n 0, 1) := dk_26 (dk_at dksJ8_getChars_2_3 15 rfl rfl)
theorem dJ8_getChars_2_86 : decode cJ8_getChars_2 86 = .ok (.ineg, 1) := dk_116 (dk_at dksJ8_getChars_2_3 16 rfl rfl)
theorem dJ8_getChars_2_87 : decode cJ8_getChars_2 87 = .ok (.baload, 1) := dk_51 (dk_at dksJ8_getChars_2_3 17 rfl rfl)
theorem dJ8_getChars_2_88 : decode cJ8_getChars_2 88 = .ok (.invokestatic 111, 3) := dk_184 0 111 (dk_at dksJ8_getChars_2_3 18 rfl rfl)
theorem dJ8_getChars_2_91 : decode cJ8_getChars_2 91 = .ok (.iload_n 0, 1) := dk_26 (dk_at dksJ8_getChars_2_3 21 rfl rfl)
theorem dJ8_getChars_2_92 : decode cJ8_getChars_2 92 = .ok (.bipush (-9), 2) := dk_16 247 (dk_at dksJ8_getChars_2_3 22 rfl rfl)
theorem dJ8_getChars_2_94 : decode cJ8_getChars_2 94 = .ok (.if_icmp .ge 18, 3) := dk_162 0 18 (dk_at dksJ8_getChars_2_4 0 rfl rfl)
theorem dJ8_getChars_2_97 : decode cJ8_getChars_2 97 = .ok (.aload_n 2, 1) := dk_44 (dk_at dksJ8_getChars_2_4 3 rfl rfl)
theorem dJ8_getChars_2_98 : decode cJ8_getChars_2 98 = .ok (.iinc 5 (-1), 3) := dk_132 5 255 (dk_at dksJ8_getChars_2_4 4 rfl rfl)
theorem dJ8_getChars_2_101 : decode cJ8_getChars_2 101 = .ok (.iload 5, 2) := dk_21 5 (dk_at dksJ8_getChars_2_4 7 rfl rfl)
theorem dJ8_getChars_2_103 : decode cJ8_getChars_2 103 = .ok (.getstatic 407, 3) := dk_178 1 151 (dk_at dksJ8_getChars_2_4 9 rfl rfl)
theorem dJ8_getChars_2_106 : decode cJ8_getChars_2 106 = .ok (.iload_n 0, 1) := dk_26 (dk_at dksJ8_getChars_2_4 12 rfl rfl)
theorem dJ8_getChars_2_107 : decode cJ8_getChars_2 107 = .ok (.ineg, 1) := dk_116 (dk_at dksJ8_getChars_2_4 13 rfl rfl)
theorem dJ8_getChars_2_108 : decode cJ8_getChars_2 108 = .ok (.baload, 1) := dk_51 (dk_at dksJ8_getChars_2_4 14 rfl rfl)
theorem dJ8_getChars_2_109 : decode cJ8_getChars_2 109 = .ok (.invokestatic 111, 3) := dk_184 0 111 (dk_at dksJ8_getChars_2_4 15 rfl rfl)
theorem dJ8_getChars_2_112 : decode cJ8_getChars_2 112 = .ok (.iload 6, 2) := dk_21 6 (dk_at dksJ8_getChars_2_4 18 rfl rfl)
theorem dJ8_getChars_2_114 : decode cJ8_getChars_2 114 = .ok (.ifCond .eq 14, 3) := dk_153 0 14 (dk_at dksJ8_getChars_2_4 20 rfl rfl)
theorem dJ8_getChars_2_117 : decode cJ8_getChars_2 117 = .ok (.aload_n 2, 1) := dk_44 (dk_at dksJ8_getChars_2_4 23 rfl rfl)
theorem dJ8_getChars_2_118 : decode cJ8_getChars_2 118 = .ok (.iinc 5 (-1), 3) := dk_132 5 255 (dk_at dksJ8_getChars_2_5 0 rfl rfl)
theorem dJ8_getChars_2_121 : decode cJ8_getChars_2 121 = .ok (.iload 5, 2) := dk_21 5 (dk_at dksJ8_getChars_2_5 3 rfl rfl)
theorem dJ8_getChars_2_123 : decode cJ8_getChars_2 123 = .ok (.bipush 45, 2) := dk_16 45 (dk_at dksJ8_getChars_2_5 5 rfl rfl)
theorem dJ8_getChars_2_125 : decode cJ8_getChars_2 125 = .ok (.invokestatic 111, 3) := dk_184 0 111 (dk_at dksJ8_getChars_2_5 7 rfl rfl)
theorem dJ8_getChars_2_128 : decode cJ8_getChars_2 128 = .ok (.iload 5, 2) := dk_21 5 (dk_at dksJ8_getChars_2_5 10 rfl rfl)
theorem dJ8_getChars_2_130 : decode cJ8_getChars_2 130 = .ok (.ireturn, 1) := dk_172 (dk_at dksJ8_getChars_2_5 12 rfl rfl)
abbrev cJ8_compress : ByteArray := prog_60_method_17_code
def yJ8_compress : MethodName := ⟨RJ8, "compress", "([BII)[B"⟩
def dkwJ8_compress_2 : List UInt8 := [25, 5, 3, 45, 3, 28, 184, 0, 123, 28, 159, 0, 6, 25, 5, 176, 45, 176]
abbrev dktJ8_compress_2 : List UInt8 := dkwJ8_compress_2 ++ []
def dkwJ8_compress_1 : List UInt8 := [27, 28, 96, 184, 0, 11, 184, 0, 126, 58, 5, 25, 5, 21, 4, 184, 0, 71, 17, 0, 255, 163, 0, 16]
abbrev dktJ8_compress_1 : List UInt8 := dkwJ8_compress_1 ++ dktJ8_compress_2
def dkwJ8_compress_0 : List UInt8 := [28, 188, 8, 78, 42, 27, 45, 3, 28, 184, 0, 123, 54, 4, 21, 4, 28, 159, 0, 47, 42, 27, 4, 120]
abbrev dktJ8_compress_0 : List UInt8 := dkwJ8_compress_0 ++ dktJ8_compress_1
theorem dksJ8_compress_0 : cJ8_compress.data.toList.drop 0 = dktJ8_compress_0 := by decide +kernel
theorem dksJ8_compress_1 : cJ8_compress.data.toList.drop 24 = dktJ8_compress_1 := dk_seg dksJ8_compress_0 24 rfl rfl
theorem dksJ8_compress_2 : cJ8_compress.data.toList.drop 48 = dktJ8_compress_2 := dk_seg dksJ8_compress_1 24 rfl rfl
theorem dJ8_compress_0 : decode cJ8_compress 0 = .ok (.iload_n 2, 1) := dk_28 (dk_at dksJ8_compress_0 0 rfl rfl)
theorem dJ8_compress_1 : decode cJ8_compress 1 = .ok (.newarray .byte, 2) := dk_188_8 (dk_at dksJ8_compress_0 1 rfl rfl)
theorem dJ8_compress_3 : decode cJ8_compress 3 = .ok (.astore_n 3, 1) := dk_78 (dk_at dksJ8_compress_0 3 rfl rfl)
theorem dJ8_compress_4 : decode cJ8_compress 4 = .ok (.aload_n 0, 1) := dk_42 (dk_at dksJ8_compress_0 4 rfl rfl)
theorem dJ8_compress_5 : decode cJ8_compress 5 = .ok (.iload_n 1, 1) := dk_27 (dk_at dksJ8_compress_0 5 rfl rfl)
theorem dJ8_compress_6 : decode cJ8_compress 6 = .ok (.aload_n 3, 1) := dk_45 (dk_at dksJ8_compress_0 6 rfl rfl)
theorem dJ8_compress_7 : decode cJ8_compress 7 = .ok (.iconst 0, 1) := dk_3 (dk_at dksJ8_compress_0 7 rfl rfl)
theorem dJ8_compress_8 : decode cJ8_compress 8 = .ok (.iload_n 2, 1) := dk_28 (dk_at dksJ8_compress_0 8 rfl rfl)
theorem dJ8_compress_9 : decode cJ8_compress 9 = .ok (.invokestatic 123, 3) := dk_184 0 123 (dk_at dksJ8_compress_0 9 rfl rfl)
theorem dJ8_compress_12 : decode cJ8_compress 12 = .ok (.istore 4, 2) := dk_54 4 (dk_at dksJ8_compress_0 12 rfl rfl)
theorem dJ8_compress_14 : decode cJ8_compress 14 = .ok (.iload 4, 2) := dk_21 4 (dk_at dksJ8_compress_0 14 rfl rfl)
theorem dJ8_compress_16 : decode cJ8_compress 16 = .ok (.iload_n 2, 1) := dk_28 (dk_at dksJ8_compress_0 16 rfl rfl)
theorem dJ8_compress_17 : decode cJ8_compress 17 = .ok (.if_icmp .eq 47, 3) := dk_159 0 47 (dk_at dksJ8_compress_0 17 rfl rfl)
theorem dJ8_compress_20 : decode cJ8_compress 20 = .ok (.aload_n 0, 1) := dk_42 (dk_at dksJ8_compress_0 20 rfl rfl)
theorem dJ8_compress_21 : decode cJ8_compress 21 = .ok (.iload_n 1, 1) := dk_27 (dk_at dksJ8_compress_0 21 rfl rfl)
theorem dJ8_compress_22 : decode cJ8_compress 22 = .ok (.iconst 1, 1) := dk_4 (dk_at dksJ8_compress_0 22 rfl rfl)
theorem dJ8_compress_23 : decode cJ8_compress 23 = .ok (.ishl, 1) := dk_120 (dk_at dksJ8_compress_0 23 rfl rfl)
theorem dJ8_compress_24 : decode cJ8_compress 24 = .ok (.iload_n 1, 1) := dk_27 (dk_at dksJ8_compress_1 0 rfl rfl)
theorem dJ8_compress_25 : decode cJ8_compress 25 = .ok (.iload_n 2, 1) := dk_28 (dk_at dksJ8_compress_1 1 rfl rfl)
theorem dJ8_compress_26 : decode cJ8_compress 26 = .ok (.iadd, 1) := dk_96 (dk_at dksJ8_compress_1 2 rfl rfl)
theorem dJ8_compress_27 : decode cJ8_compress 27 = .ok (.invokestatic 11, 3) := dk_184 0 11 (dk_at dksJ8_compress_1 3 rfl rfl)
theorem dJ8_compress_30 : decode cJ8_compress 30 = .ok (.invokestatic 126, 3) := dk_184 0 126 (dk_at dksJ8_compress_1 6 rfl rfl)
theorem dJ8_compress_33 : decode cJ8_compress 33 = .ok (.astore 5, 2) := dk_58 5 (dk_at dksJ8_compress_1 9 rfl rfl)
theorem dJ8_compress_35 : decode cJ8_compress 35 = .ok (.aload 5, 2) := dk_25 5 (dk_at dksJ8_compress_1 11 rfl rfl)
theorem dJ8_compress_37 : decode cJ8_compress 37 = .ok (.iload 4, 2) := dk_21 4 (dk_at dksJ8_compress_1 13 rfl rfl)
theorem dJ8_compress_39 : decode cJ8_compress 39 = .ok (.invokestatic 71, 3) := dk_184 0 71 (dk_at dksJ8_compress_1 15 rfl rfl)
theorem dJ8_compress_42 : decode cJ8_compress 42 = .ok (.sipush 255, 3) := dk_17 0 255 (dk_at dksJ8_compress_1 18 rfl rfl)
theorem dJ8_compress_45 : decode cJ8_compress 45 = .ok (.if_icmp .gt 16, 3) := dk_163 0 16 (dk_at dksJ8_compress_1 21 rfl rfl)
theorem dJ8_compress_48 : decode cJ8_compress 48 = .ok (.aload 5, 2) := dk_25 5 (dk_at dksJ8_compress_2 0 rfl rfl)
theorem dJ8_compress_50 : decode cJ8_compress 50 = .ok (.iconst 0, 1) := dk_3 (dk_at dksJ8_compress_2 2 rfl rfl)
theorem dJ8_compress_51 : decode cJ8_compress 51 = .ok (.aload_n 3, 1) := dk_45 (dk_at dksJ8_compress_2 3 rfl rfl)
theorem dJ8_compress_52 : decode cJ8_compress 52 = .ok (.iconst 0, 1) := dk_3 (dk_at dksJ8_compress_2 4 rfl rfl)
theorem dJ8_compress_53 : decode cJ8_compress 53 = .ok (.iload_n 2, 1) := dk_28 (dk_at dksJ8_compress_2 5 rfl rfl)
theorem dJ8_compress_54 : decode cJ8_compress 54 = .ok (.invokestatic 123, 3) := dk_184 0 123 (dk_at dksJ8_compress_2 6 rfl rfl)
theorem dJ8_compress_57 : decode cJ8_compress 57 = .ok (.iload_n 2, 1) := dk_28 (dk_at dksJ8_compress_2 9 rfl rfl)
theorem dJ8_compress_58 : decode cJ8_compress 58 = .ok (.if_icmp .eq 6, 3) := dk_159 0 6 (dk_at dksJ8_compress_2 10 rfl rfl)
theorem dJ8_compress_61 : decode cJ8_compress 61 = .ok (.aload 5, 2) := dk_25 5 (dk_at dksJ8_compress_2 13 rfl rfl)
theorem dJ8_compress_63 : decode cJ8_compress 63 = .ok (.areturn, 1) := dk_176 (dk_at dksJ8_compress_2 15 rfl rfl)
theorem dJ8_compress_64 : decode cJ8_compress 64 = .ok (.aload_n 3, 1) := dk_45 (dk_at dksJ8_compress_2 16 rfl rfl)
theorem dJ8_compress_65 : decode cJ8_compress 65 = .ok (.areturn, 1) := dk_176 (dk_at dksJ8_compress_2 17 rfl rfl)
abbrev cJ8_compress_2 : ByteArray := prog_60_method_22_code
def yJ8_compress_2 : MethodName := ⟨RJ8, "compress", "([BI[BII)I"⟩
def dkwJ8_compress_2_2 : List UInt8 := [132, 5, 1, 167, 255, 216, 21, 4, 172]
abbrev dktJ8_compress_2_2 : List UInt8 := dkwJ8_compress_2_2 ++ []
def dkwJ8_compress_2_1 : List UInt8 := [21, 6, 17, 0, 255, 164, 0, 6, 21, 5, 172, 44, 29, 21, 6, 145, 84, 132, 1, 1, 132, 3, 1]
abbrev dktJ8_compress_2_1 : List UInt8 := dkwJ8_compress_2_1 ++ dktJ8_compress_2_2
def dkwJ8_compress_2_0 : List UInt8 := [27, 21, 4, 42, 184, 0, 173, 3, 54, 5, 21, 5, 21, 4, 162, 0, 39, 42, 27, 184, 0, 71, 54, 6]
abbrev dktJ8_compress_2_0 : List UInt8 := dkwJ8_compress_2_0 ++ dktJ8_compress_2_1
theorem dksJ8_compress_2_0 : cJ8_compress_2.data.toList.drop 0 = dktJ8_compress_2_0 := by decide +kernel
theorem dksJ8_compress_2_1 : cJ8_compress_2.data.toList.drop 24 = dktJ8_compress_2_1 := dk_seg dksJ8_compress_2_0 24 rfl rfl
theorem dksJ8_compress_2_2 : cJ8_compress_2.data.toList.drop 47 = dktJ8_compress_2_2 := dk_seg dksJ8_compress_2_1 23 rfl rfl
theorem dJ8_compress_2_0 : decode cJ8_compress_2 0 = .ok (.iload_n 1, 1) := dk_27 (dk_at dksJ8_compress_2_0 0 rfl rfl)
theorem dJ8_compress_2_1 : decode cJ8_compress_2 1 = .ok (.iload 4, 2) := dk_21 4 (dk_at dksJ8_compress_2_0 1 rfl rfl)
theorem dJ8_compress_2_3 : decode cJ8_compress_2 3 = .ok (.aload_n 0, 1) := dk_42 (dk_at dksJ8_compress_2_0 3 rfl rfl)
theorem dJ8_compress_2_4 : decode cJ8_compress_2 4 = .ok (.invokestatic 173, 3) := dk_184 0 173 (dk_at dksJ8_compress_2_0 4 rfl rfl)
theorem dJ8_compress_2_7 : decode cJ8_compress_2 7 = .ok (.iconst 0, 1) := dk_3 (dk_at dksJ8_compress_2_0 7 rfl rfl)
theorem dJ8_compress_2_8 : decode cJ8_compress_2 8 = .ok (.istore 5, 2) := dk_54 5 (dk_at dksJ8_compress_2_0 8 rfl rfl)
theorem dJ8_compress_2_10 : decode cJ8_compress_2 10 = .ok (.iload 5, 2) := dk_21 5 (dk_at dksJ8_compress_2_0 10 rfl rfl)
theorem dJ8_compress_2_12 : decode cJ8_compress_2 12 = .ok (.iload 4, 2) := dk_21 4 (dk_at dksJ8_compress_2_0 12 rfl rfl)
theorem dJ8_compress_2_14 : decode cJ8_compress_2 14 = .ok (.if_icmp .ge 39, 3) := dk_162 0 39 (dk_at dksJ8_compress_2_0 14 rfl rfl)
theorem dJ8_compress_2_17 : decode cJ8_compress_2 17 = .ok (.aload_n 0, 1) := dk_42 (dk_at dksJ8_compress_2_0 17 rfl rfl)
theorem dJ8_compress_2_18 : decode cJ8_compress_2 18 = .ok (.iload_n 1, 1) := dk_27 (dk_at dksJ8_compress_2_0 18 rfl rfl)
theorem dJ8_compress_2_19 : decode cJ8_compress_2 19 = .ok (.invokestatic 71, 3) := dk_184 0 71 (dk_at dksJ8_compress_2_0 19 rfl rfl)
theorem dJ8_compress_2_22 : decode cJ8_compress_2 22 = .ok (.istore 6, 2) := dk_54 6 (dk_at dksJ8_compress_2_0 22 rfl rfl)
theorem dJ8_compress_2_24 : decode cJ8_compress_2 24 = .ok (.iload 6, 2) := dk_21 6 (dk_at dksJ8_compress_2_1 0 rfl rfl)
theorem dJ8_compress_2_26 : decode cJ8_compress_2 26 = .ok (.sipush 255, 3) := dk_17 0 255 (dk_at dksJ8_compress_2_1 2 rfl rfl)
theorem dJ8_compress_2_29 : decode cJ8_compress_2 29 = .ok (.if_icmp .le 6, 3) := dk_164 0 6 (dk_at dksJ8_compress_2_1 5 rfl rfl)
theorem dJ8_compress_2_32 : decode cJ8_compress_2 32 = .ok (.iload 5, 2) := dk_21 5 (dk_at dksJ8_compress_2_1 8 rfl rfl)
theorem dJ8_compress_2_34 : decode cJ8_compress_2 34 = .ok (.ireturn, 1) := dk_172 (dk_at dksJ8_compress_2_1 10 rfl rfl)
theorem dJ8_compress_2_35 : decode cJ8_compress_2 35 = .ok (.aload_n 2, 1) := dk_44 (dk_at dksJ8_compress_2_1 11 rfl rfl)
theorem dJ8_compress_2_36 : decode cJ8_compress_2 36 = .ok (.iload_n 3, 1) := dk_29 (dk_at dksJ8_compress_2_1 12 rfl rfl)
theorem dJ8_compress_2_37 : decode cJ8_compress_2 37 = .ok (.iload 6, 2) := dk_21 6 (dk_at dksJ8_compress_2_1 13 rfl rfl)
theorem dJ8_compress_2_39 : decode cJ8_compress_2 39 = .ok (.i2b, 1) := dk_145 (dk_at dksJ8_compress_2_1 15 rfl rfl)
theorem dJ8_compress_2_40 : decode cJ8_compress_2 40 = .ok (.bastore, 1) := dk_84 (dk_at dksJ8_compress_2_1 16 rfl rfl)
theorem dJ8_compress_2_41 : decode cJ8_compress_2 41 = .ok (.iinc 1 1, 3) := dk_132 1 1 (dk_at dksJ8_compress_2_1 17 rfl rfl)
theorem dJ8_compress_2_44 : decode cJ8_compress_2 44 = .ok (.iinc 3 1, 3) := dk_132 3 1 (dk_at dksJ8_compress_2_1 20 rfl rfl)
theorem dJ8_compress_2_47 : decode cJ8_compress_2 47 = .ok (.iinc 5 1, 3) := dk_132 5 1 (dk_at dksJ8_compress_2_2 0 rfl rfl)
theorem dJ8_compress_2_50 : decode cJ8_compress_2 50 = .ok (.goto (-40), 3) := dk_167 255 216 (dk_at dksJ8_compress_2_2 3 rfl rfl)
theorem dJ8_compress_2_53 : decode cJ8_compress_2 53 = .ok (.iload 4, 2) := dk_21 4 (dk_at dksJ8_compress_2_2 6 rfl rfl)
theorem dJ8_compress_2_55 : decode cJ8_compress_2 55 = .ok (.ireturn, 1) := dk_172 (dk_at dksJ8_compress_2_2 8 rfl rfl)
abbrev cJ8_getChar : ByteArray := prog_60_method_5_code
def yJ8_getChar : MethodName := ⟨RJ8, "getChar", "([BI)C"⟩
def dkwJ8_getChar_2 : List UInt8 := [51, 17, 0, 255, 126, 178, 0, 63, 120, 128, 146, 172]
abbrev dktJ8_getChar_2 : List UInt8 := dkwJ8_getChar_2 ++ []
def dkwJ8_getChar_1 : List UInt8 := [183, 0, 56, 191, 27, 4, 120, 60, 42, 27, 132, 1, 1, 51, 17, 0, 255, 126, 178, 0, 59, 120, 42, 27]
abbrev dktJ8_getChar_1 : List UInt8 := dkwJ8_getChar_1 ++ dktJ8_getChar_2
def dkwJ8_getChar_0 : List UInt8 := [178, 0, 44, 154, 0, 25, 27, 155, 0, 11, 27, 42, 184, 0, 48, 161, 0, 13, 187, 0, 52, 89, 18, 54]
abbrev dktJ8_getChar_0 : List UInt8 := dkwJ8_getChar_0 ++ dktJ8_getChar_1
theorem dksJ8_getChar_0 : cJ8_getChar.data.toList.drop 0 = dktJ8_getChar_0 := by decide +kernel
theorem dksJ8_getChar_1 : cJ8_getChar.data.toList.drop 24 = dktJ8_getChar_1 := dk_seg dksJ8_getChar_0 24 rfl rfl
theorem dksJ8_getChar_2 : cJ8_getChar.data.toList.drop 48 = dktJ8_getChar_2 := dk_seg dksJ8_getChar_1 24 rfl rfl
theorem dJ8_getChar_0 : decode cJ8_getChar 0 = .ok (.getstatic 44, 3) := dk_178 0 44 (dk_at dksJ8_getChar_0 0 rfl rfl)
theorem dJ8_getChar_3 : decode cJ8_getChar 3 = .ok (.ifCond .ne 25, 3) := dk_154 0 25 (dk_at dksJ8_getChar_0 3 rfl rfl)
theorem dJ8_getChar_6 : decode cJ8_getChar 6 = .ok (.iload_n 1, 1) := dk_27 (dk_at dksJ8_getChar_0 6 rfl rfl)
theorem dJ8_getChar_7 : decode cJ8_getChar 7 = .ok (.ifCond .lt 11, 3) := dk_155 0 11 (dk_at dksJ8_getChar_0 7 rfl rfl)
theorem dJ8_getChar_10 : decode cJ8_getChar 10 = .ok (.iload_n 1, 1) := dk_27 (dk_at dksJ8_getChar_0 10 rfl rfl)
theorem dJ8_getChar_11 : decode cJ8_getChar 11 = .ok (.aload_n 0, 1) := dk_42 (dk_at dksJ8_getChar_0 11 rfl rfl)
theorem dJ8_getChar_12 : decode cJ8_getChar 12 = .ok (.invokestatic 48, 3) := dk_184 0 48 (dk_at dksJ8_getChar_0 12 rfl rfl)
theorem dJ8_getChar_15 : decode cJ8_getChar 15 = .ok (.if_icmp .lt 13, 3) := dk_161 0 13 (dk_at dksJ8_getChar_0 15 rfl rfl)
theorem dJ8_getChar_18 : decode cJ8_getChar 18 = .ok (.new 52, 3) := dk_187 0 52 (dk_at dksJ8_getChar_0 18 rfl rfl)
theorem dJ8_getChar_21 : decode cJ8_getChar 21 = .ok (.dup, 1) := dk_89 (dk_at dksJ8_getChar_0 21 rfl rfl)
theorem dJ8_getChar_22 : decode cJ8_getChar 22 = .ok (.ldc 54, 2) := dk_18 54 (dk_at dksJ8_getChar_0 22 rfl rfl)
theorem dJ8_getChar_24 : decode cJ8_getChar 24 = .ok (.invokespecial 56, 3) := dk_183 0 56 (dk_at dksJ8_getChar_1 0 rfl rfl)
theorem dJ8_getChar_27 : decode cJ8_getChar 27 = .ok (.athrow, 1) := dk_191 (dk_at dksJ8_getChar_1 3 rfl rfl)
theorem dJ8_getChar_28 : decode cJ8_getChar 28 = .ok (.iload_n 1, 1) := dk_27 (dk_at dksJ8_getChar_1 4 rfl rfl)
theorem dJ8_getChar_29 : decode cJ8_getChar 29 = .ok (.iconst 1, 1) := dk_4 (dk_at dksJ8_getChar_1 5 rfl rfl)
theorem dJ8_getChar_30 : decode cJ8_getChar 30 = .ok (.ishl, 1) := dk_120 (dk_at dksJ8_getChar_1 6 rfl rfl)
theorem dJ8_getChar_31 : decode cJ8_getChar 31 = .ok (.istore_n 1, 1) := dk_60 (dk_at dksJ8_getChar_1 7 rfl rfl)
theorem dJ8_getChar_32 : decode cJ8_getChar 32 = .ok (.aload_n 0, 1) := dk_42 (dk_at dksJ8_getChar_1 8 rfl rfl)
theorem dJ8_getChar_33 : decode cJ8_getChar 33 = .ok (.iload_n 1, 1) := dk_27 (dk_at dksJ8_getChar_1 9 rfl rfl)
theorem dJ8_getChar_34 : decode cJ8_getChar 34 = .ok (.iinc 1 1, 3) := dk_132 1 1 (dk_at dksJ8_getChar_1 10 rfl rfl)
theorem dJ8_getChar_37 : decode cJ8_getChar 37 = .ok (.baload, 1) := dk_51 (dk_at dksJ8_getChar_1 13 rfl rfl)
theorem dJ8_getChar_38 : decode cJ8_getChar 38 = .ok (.sipush 255, 3) := dk_17 0 255 (dk_at dksJ8_getChar_1 14 rfl rfl)
theorem dJ8_getChar_41 : decode cJ8_getChar 41 = .ok (.iand, 1) := dk_126 (dk_at dksJ8_getChar_1 17 rfl rfl)
theorem dJ8_getChar_42 : decode cJ8_getChar 42 = .ok (.getstatic 59, 3) := dk_178 0 59 (dk_at dksJ8_getChar_1 18 rfl rfl)
theorem dJ8_getChar_45 : decode cJ8_getChar 45 = .ok (.ishl, 1) := dk_120 (dk_at dksJ8_getChar_1 21 rfl rfl)
theorem dJ8_getChar_46 : decode cJ8_getChar 46 = .ok (.aload_n 0, 1) := dk_42 (dk_at dksJ8_getChar_1 22 rfl rfl)
theorem dJ8_getChar_47 : decode cJ8_getChar 47 = .ok (.iload_n 1, 1) := dk_27 (dk_at dksJ8_getChar_1 23 rfl rfl)
theorem dJ8_getChar_48 : decode cJ8_getChar 48 = .ok (.baload, 1) := dk_51 (dk_at dksJ8_getChar_2 0 rfl rfl)
theorem dJ8_getChar_49 : decode cJ8_getChar 49 = .ok (.sipush 255, 3) := dk_17 0 255 (dk_at dksJ8_getChar_2 1 rfl rfl)
theorem dJ8_getChar_52 : decode cJ8_getChar 52 = .ok (.iand, 1) := dk_126 (dk_at dksJ8_getChar_2 4 rfl rfl)
theorem dJ8_getChar_53 : decode cJ8_getChar 53 = .ok (.getstatic 63, 3) := dk_178 0 63 (dk_at dksJ8_getChar_2 5 rfl rfl)
theorem dJ8_getChar_56 : decode cJ8_getChar 56 = .ok (.ishl, 1) := dk_120 (dk_at dksJ8_getChar_2 8 rfl rfl)
theorem dJ8_getChar_57 : decode cJ8_getChar 57 = .ok (.ior, 1) := dk_128 (dk_at dksJ8_getChar_2 9 rfl rfl)
theorem dJ8_getChar_58 : decode cJ8_getChar 58 = .ok (.i2c, 1) := dk_146 (dk_at dksJ8_getChar_2 10 rfl rfl)
theorem dJ8_getChar_59 : decode cJ8_getChar 59 = .ok (.ireturn, 1) := dk_172 (dk_at dksJ8_getChar_2 11 rfl rfl)
abbrev cJ8_coderFromArrayLen : ByteArray := prog_60_method_15_code
def yJ8_coderFromArrayLen : MethodName := ⟨RJ8, "coderFromArrayLen", "([BI)B"⟩
def dkwJ8_coderFromArrayLen_0 : List UInt8 := [27, 42, 190, 100, 16, 31, 124, 145, 172]
abbrev dktJ8_coderFromArrayLen_0 : List UInt8 := dkwJ8_coderFromArrayLen_0 ++ []
theorem dksJ8_coderFromArrayLen_0 : cJ8_coderFromArrayLen.data.toList.drop 0 = dktJ8_coderFromArrayLen_0 := by decide +kernel
theorem dJ8_coderFromArrayLen_0 : decode cJ8_coderFromArrayLen 0 = .ok (.iload_n 1, 1) := dk_27 (dk_at dksJ8_coderFromArrayLen_0 0 rfl rfl)
theorem dJ8_coderFromArrayLen_1 : decode cJ8_coderFromArrayLen 1 = .ok (.aload_n 0, 1) := dk_42 (dk_at dksJ8_coderFromArrayLen_0 1 rfl rfl)
theorem dJ8_coderFromArrayLen_2 : decode cJ8_coderFromArrayLen 2 = .ok (.arraylength, 1) := dk_190 (dk_at dksJ8_coderFromArrayLen_0 2 rfl rfl)
theorem dJ8_coderFromArrayLen_3 : decode cJ8_coderFromArrayLen 3 = .ok (.isub, 1) := dk_100 (dk_at dksJ8_coderFromArrayLen_0 3 rfl rfl)
theorem dJ8_coderFromArrayLen_4 : decode cJ8_coderFromArrayLen 4 = .ok (.bipush 31, 2) := dk_16 31 (dk_at dksJ8_coderFromArrayLen_0 4 rfl rfl)
theorem dJ8_coderFromArrayLen_6 : decode cJ8_coderFromArrayLen 6 = .ok (.iushr, 1) := dk_124 (dk_at dksJ8_coderFromArrayLen_0 6 rfl rfl)
theorem dJ8_coderFromArrayLen_7 : decode cJ8_coderFromArrayLen 7 = .ok (.i2b, 1) := dk_145 (dk_at dksJ8_coderFromArrayLen_0 7 rfl rfl)
theorem dJ8_coderFromArrayLen_8 : decode cJ8_coderFromArrayLen 8 = .ok (.ireturn, 1) := dk_172 (dk_at dksJ8_coderFromArrayLen_0 8 rfl rfl)
abbrev cJ8_putCharSB : ByteArray := prog_60_method_71_code
def yJ8_putCharSB : MethodName := ⟨RJ8, "putCharSB", "([BII)V"⟩
def dkwJ8_putCharSB_0 : List UInt8 := [27, 42, 184, 0, 67, 42, 27, 28, 184, 0, 111, 177]
abbrev dktJ8_putCharSB_0 : List UInt8 := dkwJ8_putCharSB_0 ++ []
theorem dksJ8_putCharSB_0 : cJ8_putCharSB.data.toList.drop 0 = dktJ8_putCharSB_0 := by decide +kernel
theorem dJ8_putCharSB_0 : decode cJ8_putCharSB 0 = .ok (.iload_n 1, 1) := dk_27 (dk_at dksJ8_putCharSB_0 0 rfl rfl)
theorem dJ8_putCharSB_1 : decode cJ8_putCharSB 1 = .ok (.aload_n 0, 1) := dk_42 (dk_at dksJ8_putCharSB_0 1 rfl rfl)
theorem dJ8_putCharSB_2 : decode cJ8_putCharSB 2 = .ok (.invokestatic 67, 3) := dk_184 0 67 (dk_at dksJ8_putCharSB_0 2 rfl rfl)
theorem dJ8_putCharSB_5 : decode cJ8_putCharSB 5 = .ok (.aload_n 0, 1) := dk_42 (dk_at dksJ8_putCharSB_0 5 rfl rfl)
theorem dJ8_putCharSB_6 : decode cJ8_putCharSB 6 = .ok (.iload_n 1, 1) := dk_27 (dk_at dksJ8_putCharSB_0 6 rfl rfl)
theorem dJ8_putCharSB_7 : decode cJ8_putCharSB 7 = .ok (.iload_n 2, 1) := dk_28 (dk_at dksJ8_putCharSB_0 7 rfl rfl)
theorem dJ8_putCharSB_8 : decode cJ8_putCharSB 8 = .ok (.invokestatic 111, 3) := dk_184 0 111 (dk_at dksJ8_putCharSB_0 8 rfl rfl)
theorem dJ8_putCharSB_11 : decode cJ8_putCharSB 11 = .ok (.return_, 1) := dk_177 (dk_at dksJ8_putCharSB_0 11 rfl rfl)
abbrev cJ8_checkIndex : ByteArray := prog_60_method_91_code
def yJ8_checkIndex : MethodName := ⟨RJ8, "checkIndex", "(I[B)V"⟩
def dkwJ8_checkIndex_0 : List UInt8 := [26, 43, 184, 0, 48, 184, 1, 158, 177]
abbrev dktJ8_checkIndex_0 : List UInt8 := dkwJ8_checkIndex_0 ++ []
theorem dksJ8_checkIndex_0 : cJ8_checkIndex.data.toList.drop 0 = dktJ8_checkIndex_0 := by decide +kernel
theorem dJ8_checkIndex_0 : decode cJ8_checkIndex 0 = .ok (.iload_n 0, 1) := dk_26 (dk_at dksJ8_checkIndex_0 0 rfl rfl)
theorem dJ8_checkIndex_1 : decode cJ8_checkIndex 1 = .ok (.aload_n 1, 1) := dk_43 (dk_at dksJ8_checkIndex_0 1 rfl rfl)
theorem dJ8_checkIndex_2 : decode cJ8_checkIndex 2 = .ok (.invokestatic 48, 3) := dk_184 0 48 (dk_at dksJ8_checkIndex_0 2 rfl rfl)
theorem dJ8_checkIndex_5 : decode cJ8_checkIndex 5 = .ok (.invokestatic 414, 3) := dk_184 1 158 (dk_at dksJ8_checkIndex_0 5 rfl rfl)
theorem dJ8_checkIndex_8 : decode cJ8_checkIndex 8 = .ok (.return_, 1) := dk_177 (dk_at dksJ8_checkIndex_0 8 rfl rfl)
abbrev cJ8_indexOf : ByteArray := prog_60_method_40_code
def yJ8_indexOf : MethodName := ⟨RJ8, "indexOf", "([BIII)I"⟩
def dkwJ8_indexOf_1 : List UInt8 := [18, 227, 162, 0, 11, 42, 27, 28, 29, 184, 0, 228, 172, 42, 27, 28, 29, 184, 0, 232, 172]
abbrev dktJ8_indexOf_1 : List UInt8 := dkwJ8_indexOf_1 ++ []
def dkwJ8_indexOf_0 : List UInt8 := [28, 3, 184, 0, 224, 61, 29, 42, 190, 4, 122, 184, 0, 183, 62, 28, 29, 161, 0, 5, 2, 172, 27]
abbrev dktJ8_indexOf_0 : List UInt8 := dkwJ8_indexOf_0 ++ dktJ8_indexOf_1
theorem dksJ8_indexOf_0 : cJ8_indexOf.data.toList.drop 0 = dktJ8_indexOf_0 := by decide +kernel
theorem dksJ8_indexOf_1 : cJ8_indexOf.data.toList.drop 23 = dktJ8_indexOf_1 := dk_seg dksJ8_indexOf_0 23 rfl rfl
theorem dJ8_indexOf_0 : decode cJ8_indexOf 0 = .ok (.iload_n 2, 1) := dk_28 (dk_at dksJ8_indexOf_0 0 rfl rfl)
theorem dJ8_indexOf_1 : decode cJ8_indexOf 1 = .ok (.iconst 0, 1) := dk_3 (dk_at dksJ8_indexOf_0 1 rfl rfl)
theorem dJ8_indexOf_2 : decode cJ8_indexOf 2 = .ok (.invokestatic 224, 3) := dk_184 0 224 (dk_at dksJ8_indexOf_0 2 rfl rfl)
theorem dJ8_indexOf_5 : decode cJ8_indexOf 5 = .ok (.istore_n 2, 1) := dk_61 (dk_at dksJ8_indexOf_0 5 rfl rfl)
theorem dJ8_indexOf_6 : decode cJ8_indexOf 6 = .ok (.iload_n 3, 1) := dk_29 (dk_at dksJ8_indexOf_0 6 rfl rfl)
theorem dJ8_indexOf_7 : decode cJ8_indexOf 7 = .ok (.aload_n 0, 1) := dk_42 (dk_at dksJ8_indexOf_0 7 rfl rfl)
theorem dJ8_indexOf_8 : decode cJ8_indexOf 8 = .ok (.arraylength, 1) := dk_190 (dk_at dksJ8_indexOf_0 8 rfl rfl)
theorem dJ8_indexOf_9 : decode cJ8_indexOf 9 = .ok (.iconst 1, 1) := dk_4 (dk_at dksJ8_indexOf_0 9 rfl rfl)
theorem dJ8_indexOf_10 : decode cJ8_indexOf 10 = .ok (.ishr, 1) := dk_122 (dk_at dksJ8_indexOf_0 10 rfl rfl)
theorem dJ8_indexOf_11 : decode cJ8_indexOf 11 = .ok (.invokestatic 183, 3) := dk_184 0 183 (dk_at dksJ8_indexOf_0 11 rfl rfl)
theorem dJ8_indexOf_14 : decode cJ8_indexOf 14 = .ok (.istore_n 3, 1) := dk_62 (dk_at dksJ8_indexOf_0 14 rfl rfl)
theorem dJ8_indexOf_15 : decode cJ8_indexOf 15 = .ok (.iload_n 2, 1) := dk_28 (dk_at dksJ8_indexOf_0 15 rfl rfl)
theorem dJ8_indexOf_16 : decode cJ8_indexOf 16 = .ok (.iload_n 3, 1) := dk_29 (dk_at dksJ8_indexOf_0 16 rfl rfl)
theorem dJ8_indexOf_17 : decode cJ8_indexOf 17 = .ok (.if_icmp .lt 5, 3) := dk_161 0 5 (dk_at dksJ8_indexOf_0 17 rfl rfl)
theorem dJ8_indexOf_20 : decode cJ8_indexOf 20 = .ok (.iconst (-1), 1) := dk_2 (dk_at dksJ8_indexOf_0 20 rfl rfl)
theorem dJ8_indexOf_21 : decode cJ8_indexOf 21 = .ok (.ireturn, 1) := dk_172 (dk_at dksJ8_indexOf_0 21 rfl rfl)
theorem dJ8_indexOf_22 : decode cJ8_indexOf 22 = .ok (.iload_n 1, 1) := dk_27 (dk_at dksJ8_indexOf_0 22 rfl rfl)
theorem dJ8_indexOf_23 : decode cJ8_indexOf 23 = .ok (.ldc 227, 2) := dk_18 227 (dk_at dksJ8_indexOf_1 0 rfl rfl)
theorem dJ8_indexOf_25 : decode cJ8_indexOf 25 = .ok (.if_icmp .ge 11, 3) := dk_162 0 11 (dk_at dksJ8_indexOf_1 2 rfl rfl)
theorem dJ8_indexOf_28 : decode cJ8_indexOf 28 = .ok (.aload_n 0, 1) := dk_42 (dk_at dksJ8_indexOf_1 5 rfl rfl)
theorem dJ8_indexOf_29 : decode cJ8_indexOf 29 = .ok (.iload_n 1, 1) := dk_27 (dk_at dksJ8_indexOf_1 6 rfl rfl)
theorem dJ8_indexOf_30 : decode cJ8_indexOf 30 = .ok (.iload_n 2, 1) := dk_28 (dk_at dksJ8_indexOf_1 7 rfl rfl)
theorem dJ8_indexOf_31 : decode cJ8_indexOf 31 = .ok (.iload_n 3, 1) := dk_29 (dk_at dksJ8_indexOf_1 8 rfl rfl)
theorem dJ8_indexOf_32 : decode cJ8_indexOf 32 = .ok (.invokestatic 228, 3) := dk_184 0 228 (dk_at dksJ8_indexOf_1 9 rfl rfl)
theorem dJ8_indexOf_35 : decode cJ8_indexOf 35 = .ok (.ireturn, 1) := dk_172 (dk_at dksJ8_indexOf_1 12 rfl rfl)
theorem dJ8_indexOf_36 : decode cJ8_indexOf 36 = .ok (.aload_n 0, 1) := dk_42 (dk_at dksJ8_indexOf_1 13 rfl rfl)
theorem dJ8_indexOf_37 : decode cJ8_indexOf 37 = .ok (.iload_n 1, 1) := dk_27 (dk_at dksJ8_indexOf_1 14 rfl rfl)
theorem dJ8_indexOf_38 : decode cJ8_indexOf 38 = .ok (.iload_n 2, 1) := dk_28 (dk_at dksJ8_indexOf_1 15 rfl rfl)
theorem dJ8_indexOf_39 : decode cJ8_indexOf 39 = .ok (.iload_n 3, 1) := dk_29 (dk_at dksJ8_indexOf_1 16 rfl rfl)
theorem dJ8_indexOf_40 : decode cJ8_indexOf 40 = .ok (.invokestatic 232, 3) := dk_184 0 232 (dk_at dksJ8_indexOf_1 17 rfl rfl)
theorem dJ8_indexOf_43 : decode cJ8_indexOf 43 = .ok (.ireturn, 1) := dk_172 (dk_at dksJ8_indexOf_1 20 rfl rfl)
abbrev cJ8_indexOfChar : ByteArray := prog_60_method_47_code
def yJ8_indexOfChar : MethodName := ⟨RJ8, "indexOfChar", "([BIII)I"⟩
def dkwJ8_indexOfChar_0 : List UInt8 := [28, 29, 42, 184, 0, 96, 42, 27, 28, 29, 184, 0, 244, 172]
abbrev dktJ8_indexOfChar_0 : List UInt8 := dkwJ8_indexOfChar_0 ++ []
theorem dksJ8_indexOfChar_0 : cJ8_indexOfChar.data.toList.drop 0 = dktJ8_indexOfChar_0 := by decide +kernel
theorem dJ8_indexOfChar_0 : decode cJ8_indexOfChar 0 = .ok (.iload_n 2, 1) := dk_28 (dk_at dksJ8_indexOfChar_0 0 rfl rfl)
theorem dJ8_indexOfChar_1 : decode cJ8_indexOfChar 1 = .ok (.iload_n 3, 1) := dk_29 (dk_at dksJ8_indexOfChar_0 1 rfl rfl)
theorem dJ8_indexOfChar_2 : decode cJ8_indexOfChar 2 = .ok (.aload_n 0, 1) := dk_42 (dk_at dksJ8_indexOfChar_0 2 rfl rfl)
theorem dJ8_indexOfChar_3 : decode cJ8_indexOfChar 3 = .ok (.invokestatic 96, 3) := dk_184 0 96 (dk_at dksJ8_indexOfChar_0 3 rfl rfl)
theorem dJ8_indexOfChar_6 : decode cJ8_indexOfChar 6 = .ok (.aload_n 0, 1) := dk_42 (dk_at dksJ8_indexOfChar_0 6 rfl rfl)
theorem dJ8_indexOfChar_7 : decode cJ8_indexOfChar 7 = .ok (.iload_n 1, 1) := dk_27 (dk_at dksJ8_indexOfChar_0 7 rfl rfl)
theorem dJ8_indexOfChar_8 : decode cJ8_indexOfChar 8 = .ok (.iload_n 2, 1) := dk_28 (dk_at dksJ8_indexOfChar_0 8 rfl rfl)
theorem dJ8_indexOfChar_9 : decode cJ8_indexOfChar 9 = .ok (.iload_n 3, 1) := dk_29 (dk_at dksJ8_indexOfChar_0 9 rfl rfl)
theorem dJ8_indexOfChar_10 : decode cJ8_indexOfChar 10 = .ok (.invokestatic 244, 3) := dk_184 0 244 (dk_at dksJ8_indexOfChar_0 10 rfl rfl)
theorem dJ8_indexOfChar_13 : decode cJ8_indexOfChar 13 = .ok (.ireturn, 1) := dk_172 (dk_at dksJ8_indexOfChar_0 13 rfl rfl)
abbrev cJ8_indexOfCharUnsafe : ByteArray := prog_60_method_48_code
def yJ8_indexOfCharUnsafe : MethodName := ⟨RJ8, "indexOfCharUnsafe", "([BIII)I"⟩
def dkwJ8_indexOfCharUnsafe_1 : List UInt8 := [132, 4, 1, 167, 255, 234, 2, 172]
abbrev dktJ8_indexOfCharUnsafe_1 : List UInt8 := dkwJ8_indexOfCharUnsafe_1 ++ []
def dkwJ8_indexOfCharUnsafe_0 : List UInt8 := [28, 54, 4, 21, 4, 29, 162, 0, 22, 42, 21, 4, 184, 0, 71, 27, 160, 0, 6, 21, 4, 172]
abbrev dktJ8_indexOfCharUnsafe_0 : List UInt8 := dkwJ8_indexOfCharUnsafe_0 ++ dktJ8_indexOfCharUnsafe_1
theorem dksJ8_indexOfCharUnsafe_0 : cJ8_indexOfCharUnsafe.data.toList.drop 0 = dktJ8_indexOfCharUnsafe_0 := by decide +kernel
theorem dksJ8_indexOfCharUnsafe_1 : cJ8_indexOfCharUnsafe.data.toList.drop 22 = dktJ8_indexOfCharUnsafe_1 := dk_seg dksJ8_indexOfCharUnsafe_0 22 rfl rfl
theorem dJ8_indexOfCharUnsafe_0 : decode cJ8_indexOfCharUnsafe 0 = .ok (.iload_n 2, 1) := dk_28 (dk_at dksJ8_indexOfCharUnsafe_0 0 rfl rfl)
theorem dJ8_indexOfCharUnsafe_1 : decode cJ8_indexOfCharUnsafe 1 = .ok (.istore 4, 2) := dk_54 4 (dk_at dksJ8_indexOfCharUnsafe_0 1 rfl rfl)
theorem dJ8_indexOfCharUnsafe_3 : decode cJ8_indexOfCharUnsafe 3 = .ok (.iload 4, 2) := dk_21 4 (dk_at dksJ8_indexOfCharUnsafe_0 3 rfl rfl)
theorem dJ8_indexOfCharUnsafe_5 : decode cJ8_indexOfCharUnsafe 5 = .ok (.iload_n 3, 1) := dk_29 (dk_at dksJ8_indexOfCharUnsafe_0 5 rfl rfl)
theorem dJ8_indexOfCharUnsafe_6 : decode cJ8_indexOfCharUnsafe 6 = .ok (.if_icmp .ge 22, 3) := dk_162 0 22 (dk_at dksJ8_indexOfCharUnsafe_0 6 rfl rfl)
theorem dJ8_indexOfCharUnsafe_9 : decode cJ8_indexOfCharUnsafe 9 = .ok (.aload_n 0, 1) := dk_42 (dk_at dksJ8_indexOfCharUnsafe_0 9 rfl rfl)
theorem dJ8_indexOfCharUnsafe_10 : decode cJ8_indexOfCharUnsafe 10 = .ok (.iload 4, 2) := dk_21 4 (dk_at dksJ8_indexOfCharUnsafe_0 10 rfl rfl)
theorem dJ8_indexOfCharUnsafe_12 : decode cJ8_indexOfCharUnsafe 12 = .ok (.invokestatic 71, 3) := dk_184 0 71 (dk_at dksJ8_indexOfCharUnsafe_0 12 rfl rfl)
theorem dJ8_indexOfCharUnsafe_15 : decode cJ8_indexOfCharUnsafe 15 = .ok (.iload_n 1, 1) := dk_27 (dk_at dksJ8_indexOfCharUnsafe_0 15 rfl rfl)
theorem dJ8_indexOfCharUnsafe_16 : decode cJ8_indexOfCharUnsafe 16 = .ok (.if_icmp .ne 6, 3) := dk_160 0 6 (dk_at dksJ8_indexOfCharUnsafe_0 16 rfl rfl)
theorem dJ8_indexOfCharUnsafe_19 : decode cJ8_indexOfCharUnsafe 19 = .ok (.iload 4, 2) := dk_21 4 (dk_at dksJ8_indexOfCharUnsafe_0 19 rfl rfl)
theorem dJ8_indexOfCharUnsafe_21 : decode cJ8_indexOfCharUnsafe 21 = .ok (.ireturn, 1) := dk_172 (dk_at dksJ8_indexOfCharUnsafe_0 21 rfl rfl)
theorem dJ8_indexOfCharUnsafe_22 : decode cJ8_indexOfCharUnsafe 22 = .ok (.iinc 4 1, 3) := dk_132 4 1 (dk_at dksJ8_indexOfCharUnsafe_1 0 rfl rfl)
theorem dJ8_indexOfCharUnsafe_25 : decode cJ8_indexOfCharUnsafe 25 = .ok (.goto (-22), 3) := dk_167 255 234 (dk_at dksJ8_indexOfCharUnsafe_1 3 rfl rfl)
theorem dJ8_indexOfCharUnsafe_28 : decode cJ8_indexOfCharUnsafe 28 = .ok (.iconst (-1), 1) := dk_2 (dk_at dksJ8_indexOfCharUnsafe_1 6 rfl rfl)
theorem dJ8_indexOfCharUnsafe_29 : decode cJ8_indexOfCharUnsafe 29 = .ok (.ireturn, 1) := dk_172 (dk_at dksJ8_indexOfCharUnsafe_1 7 rfl rfl)
abbrev cJ8_indexOfSupplementary : ByteArray := prog_60_method_49_code
def yJ8_indexOfSupplementary : MethodName := ⟨RJ8, "indexOfSupplementary", "([BIII)I"⟩
def dkwJ8_indexOfSupplementary_3 : List UInt8 := [167, 255, 218, 2, 172]
abbrev dktJ8_indexOfSupplementary_3 : List UInt8 := dkwJ8_indexOfSupplementary_3 ++ []
def dkwJ8_indexOfSupplementary_2 : List UInt8 := [160, 0, 19, 42, 21, 6, 4, 96, 184, 0, 71, 21, 5, 160, 0, 6, 21, 6, 172, 132, 6, 1]
abbrev dktJ8_indexOfSupplementary_2 : List UInt8 := dkwJ8_indexOfSupplementary_2 ++ dktJ8_indexOfSupplementary_3
def dkwJ8_indexOfSupplementary_1 : List UInt8 := [184, 0, 96, 28, 54, 6, 21, 6, 29, 4, 100, 162, 0, 36, 42, 21, 6, 184, 0, 71, 21, 4]
abbrev dktJ8_indexOfSupplementary_1 : List UInt8 := dkwJ8_indexOfSupplementary_1 ++ dktJ8_indexOfSupplementary_2
def dkwJ8_indexOfSupplementary_0 : List UInt8 := [27, 184, 0, 164, 153, 0, 65, 27, 184, 0, 157, 54, 4, 27, 184, 0, 161, 54, 5, 28, 29, 42]
abbrev dktJ8_indexOfSupplementary_0 : List UInt8 := dkwJ8_indexOfSupplementary_0 ++ dktJ8_indexOfSupplementary_1
theorem dksJ8_indexOfSupplementary_0 : cJ8_indexOfSupplementary.data.toList.drop 0 = dktJ8_indexOfSupplementary_0 := by decide +kernel
theorem dksJ8_indexOfSupplementary_1 : cJ8_indexOfSupplementary.data.toList.drop 22 = dktJ8_indexOfSupplementary_1 := dk_seg dksJ8_indexOfSupplementary_0 22 rfl rfl
theorem dksJ8_indexOfSupplementary_2 : cJ8_indexOfSupplementary.data.toList.drop 44 = dktJ8_indexOfSupplementary_2 := dk_seg dksJ8_indexOfSupplementary_1 22 rfl rfl
theorem dksJ8_indexOfSupplementary_3 : cJ8_indexOfSupplementary.data.toList.drop 66 = dktJ8_indexOfSupplementary_3 := dk_seg dksJ8_indexOfSupplementary_2 22 rfl rfl
theorem dJ8_indexOfSupplementary_0 : decode cJ8_indexOfSupplementary 0 = .ok (.iload_n 1, 1) := dk_27 (dk_at dksJ8_indexOfSupplementary_0 0 rfl rfl)
theorem dJ8_indexOfSupplementary_1 : decode cJ8_indexOfSupplementary 1 = .ok (.invokestatic 164, 3) := dk_184 0 164 (dk_at dksJ8_indexOfSupplementary_0 1 rfl rfl)
theorem dJ8_indexOfSupplementary_4 : decode cJ8_indexOfSupplementary 4 = .ok (.ifCond .eq 65, 3) := dk_153 0 65 (dk_at dksJ8_indexOfSupplementary_0 4 rfl rfl)
theorem dJ8_indexOfSupplementary_7 : decode cJ8_indexOfSupplementary 7 = .ok (.iload_n 1, 1) := dk_27 (dk_at dksJ8_indexOfSupplementary_0 7 rfl rfl)
theorem dJ8_indexOfSupplementary_8 : decode cJ8_indexOfSupplementary 8 = .ok (.invokestatic 157, 3) := dk_184 0 157 (dk_at dksJ8_indexOfSupplementary_0 8 rfl rfl)
theorem dJ8_indexOfSupplementary_11 : decode cJ8_indexOfSupplementary 11 = .ok (.istore 4, 2) := dk_54 4 (dk_at dksJ8_indexOfSupplementary_0 11 rfl rfl)
theorem dJ8_indexOfSupplementary_13 : decode cJ8_indexOfSupplementary 13 = .ok (.iload_n 1, 1) := dk_27 (dk_at dksJ8_indexOfSupplementary_0 13 rfl rfl)
theorem dJ8_indexOfSupplementary_14 : decode cJ8_indexOfSupplementary 14 = .ok (.invokestatic 161, 3) := dk_184 0 161 (dk_at dksJ8_indexOfSupplementary_0 14 rfl rfl)
theorem dJ8_indexOfSupplementary_17 : decode cJ8_indexOfSupplementary 17 = .ok (.istore 5, 2) := dk_54 5 (dk_at dksJ8_indexOfSupplementary_0 17 rfl rfl)
theorem dJ8_indexOfSupplementary_19 : decode cJ8_indexOfSupplementary 19 = .ok (.iload_n 2, 1) := dk_28 (dk_at dksJ8_indexOfSupplementary_0 19 rfl rfl)
theorem dJ8_indexOfSupplementary_20 : decode cJ8_indexOfSupplementary 20 = .ok (.iload_n 3, 1) := dk_29 (dk_at dksJ8_indexOfSupplementary_0 20 rfl rfl)
theorem dJ8_indexOfSupplementary_21 : decode cJ8_indexOfSupplementary 21 = .ok (.aload_n 0, 1) := dk_42 (dk_at dksJ8_indexOfSupplementary_0 21 rfl rfl)
theorem dJ8_indexOfSupplementary_22 : decode cJ8_indexOfSupplementary 22 = .ok (.invokestatic 96, 3) := dk_184 0 96 (dk_at dksJ8_indexOfSupplementary_1 0 rfl rfl)
theorem dJ8_indexOfSupplementary_25 : decode cJ8_indexOfSupplementary 25 = .ok (.iload_n 2, 1) := dk_28 (dk_at dksJ8_indexOfSupplementary_1 3 rfl rfl)
theorem dJ8_indexOfSupplementary_26 : decode cJ8_indexOfSupplementary 26 = .ok (.istore 6, 2) := dk_54 6 (dk_at dksJ8_indexOfSupplementary_1 4 rfl rfl)
theorem dJ8_indexOfSupplementary_28 : decode cJ8_indexOfSupplementary 28 = .ok (.iload 6, 2) := dk_21 6 (dk_at dksJ8_indexOfSupplementary_1 6 rfl rfl)
theorem dJ8_indexOfSupplementary_30 : decode cJ8_indexOfSupplementary 30 = .ok (.iload_n 3, 1) := dk_29 (dk_at dksJ8_indexOfSupplementary_1 8 rfl rfl)
theorem dJ8_indexOfSupplementary_31 : decode cJ8_indexOfSupplementary 31 = .ok (.iconst 1, 1) := dk_4 (dk_at dksJ8_indexOfSupplementary_1 9 rfl rfl)
theorem dJ8_indexOfSupplementary_32 : decode cJ8_indexOfSupplementary 32 = .ok (.isub, 1) := dk_100 (dk_at dksJ8_indexOfSupplementary_1 10 rfl rfl)
theorem dJ8_indexOfSupplementary_33 : decode cJ8_indexOfSupplementary 33 = .ok (.if_icmp .ge 36, 3) := dk_162 0 36 (dk_at dksJ8_indexOfSupplementary_1 11 rfl rfl)
theorem dJ8_indexOfSupplementary_36 : decode cJ8_indexOfSupplementary 36 = .ok (.aload_n 0, 1) := dk_42 (dk_at dksJ8_indexOfSupplementary_1 14 rfl rfl)
theorem dJ8_indexOfSupplementary_37 : decode cJ8_indexOfSupplementary 37 = .ok (.iload 6, 2) := dk_21 6 (dk_at dksJ8_indexOfSupplementary_1 15 rfl rfl)
theorem dJ8_indexOfSupplementary_39 : decode cJ8_indexOfSupplementary 39 = .ok (.invokestatic 71, 3) := dk_184 0 71 (dk_at dksJ8_indexOfSupplementary_1 17 rfl rfl)
theorem dJ8_indexOfSupplementary_42 : decode cJ8_indexOfSupplementary 42 = .ok (.iload 4, 2) := dk_21 4 (dk_at dksJ8_indexOfSupplementary_1 20 rfl rfl)
theorem dJ8_indexOfSupplementary_44 : decode cJ8_indexOfSupplementary 44 = .ok (.if_icmp .ne 19, 3) := dk_160 0 19 (dk_at dksJ8_indexOfSupplementary_2 0 rfl rfl)
theorem dJ8_indexOfSupplementary_47 : decode cJ8_indexOfSupplementary 47 = .ok (.aload_n 0, 1) := dk_42 (dk_at dksJ8_indexOfSupplementary_2 3 rfl rfl)
theorem dJ8_indexOfSupplementary_48 : decode cJ8_indexOfSupplementary 48 = .ok (.iload 6, 2) := dk_21 6 (dk_at dksJ8_indexOfSupplementary_2 4 rfl rfl)
theorem dJ8_indexOfSupplementary_50 : decode cJ8_indexOfSupplementary 50 = .ok (.iconst 1, 1) := dk_4 (dk_at dksJ8_indexOfSupplementary_2 6 rfl rfl)
theorem dJ8_indexOfSupplementary_51 : decode cJ8_indexOfSupplementary 51 = .ok (.iadd, 1) := dk_96 (dk_at dksJ8_indexOfSupplementary_2 7 rfl rfl)
theorem dJ8_indexOfSupplementary_52 : decode cJ8_indexOfSupplementary 52 = .ok (.invokestatic 71, 3) := dk_184 0 71 (dk_at dksJ8_indexOfSupplementary_2 8 rfl rfl)
theorem dJ8_indexOfSupplementary_55 : decode cJ8_indexOfSupplementary 55 = .ok (.iload 5, 2) := dk_21 5 (dk_at dksJ8_indexOfSupplementary_2 11 rfl rfl)
theorem dJ8_indexOfSupplementary_57 : decode cJ8_indexOfSupplementary 57 = .ok (.if_icmp .ne 6, 3) := dk_160 0 6 (dk_at dksJ8_indexOfSupplementary_2 13 rfl rfl)
theorem dJ8_indexOfSupplementary_60 : decode cJ8_indexOfSupplementary 60 = .ok (.iload 6, 2) := dk_21 6 (dk_at dksJ8_indexOfSupplementary_2 16 rfl rfl)
theorem dJ8_indexOfSupplementary_62 : decode cJ8_indexOfSupplementary 62 = .ok (.ireturn, 1) := dk_172 (dk_at dksJ8_indexOfSupplementary_2 18 rfl rfl)
theorem dJ8_indexOfSupplementary_63 : decode cJ8_indexOfSupplementary 63 = .ok (.iinc 6 1, 3) := dk_132 6 1 (dk_at dksJ8_indexOfSupplementary_2 19 rfl rfl)
theorem dJ8_indexOfSupplementary_66 : decode cJ8_indexOfSupplementary 66 = .ok (.goto (-38), 3) := dk_167 255 218 (dk_at dksJ8_indexOfSupplementary_3 0 rfl rfl)
theorem dJ8_indexOfSupplementary_69 : decode cJ8_indexOfSupplementary 69 = .ok (.iconst (-1), 1) := dk_2 (dk_at dksJ8_indexOfSupplementary_3 3 rfl rfl)
theorem dJ8_indexOfSupplementary_70 : decode cJ8_indexOfSupplementary 70 = .ok (.ireturn, 1) := dk_172 (dk_at dksJ8_indexOfSupplementary_3 4 rfl rfl)
abbrev cJ8_hashCode : ByteArray := prog_60_method_39_code
def yJ8_hashCode : MethodName := ⟨RJ8, "hashCode", "([B)I"⟩
def dkwJ8_hashCode_2 : List UInt8 := [3, 167, 0, 22, 42, 3, 184, 0, 71, 167, 0, 14, 42, 3, 42, 190, 4, 122, 3, 8, 184, 0, 220, 172]
abbrev dktJ8_hashCode_2 : List UInt8 := dkwJ8_hashCode_2 ++ []
def dkwJ8_hashCode_1 : List UInt8 := [171, 0, 0, 0, 0, 38, 0, 0, 0, 2, 0, 0, 0, 0, 0, 0, 0, 26, 0, 0, 0, 2, 0, 0, 0, 30]
abbrev dktJ8_hashCode_1 : List UInt8 := dkwJ8_hashCode_1 ++ dktJ8_hashCode_2
def dkwJ8_hashCode_0 : List UInt8 := [42, 190]
abbrev dktJ8_hashCode_0 : List UInt8 := dkwJ8_hashCode_0 ++ dktJ8_hashCode_1
theorem dksJ8_hashCode_0 : cJ8_hashCode.data.toList.drop 0 = dktJ8_hashCode_0 := by decide +kernel
theorem dksJ8_hashCode_1 : cJ8_hashCode.data.toList.drop 2 = dktJ8_hashCode_1 := dk_seg dksJ8_hashCode_0 2 rfl rfl
theorem dksJ8_hashCode_2 : cJ8_hashCode.data.toList.drop 28 = dktJ8_hashCode_2 := dk_seg dksJ8_hashCode_1 26 rfl rfl
theorem dJ8_hashCode_0 : decode cJ8_hashCode 0 = .ok (.aload_n 0, 1) := dk_42 (dk_at dksJ8_hashCode_0 0 rfl rfl)
theorem dJ8_hashCode_1 : decode cJ8_hashCode 1 = .ok (.arraylength, 1) := dk_190 (dk_at dksJ8_hashCode_0 1 rfl rfl)
theorem dJ8_hashCode_2 : decode cJ8_hashCode 2 = .ok (.lookupswitch 38 #[(0, 26), (2, 30)], 26) := by decide +kernel
theorem dJ8_hashCode_28 : decode cJ8_hashCode 28 = .ok (.iconst 0, 1) := dk_3 (dk_at dksJ8_hashCode_2 0 rfl rfl)
theorem dJ8_hashCode_29 : decode cJ8_hashCode 29 = .ok (.goto 22, 3) := dk_167 0 22 (dk_at dksJ8_hashCode_2 1 rfl rfl)
theorem dJ8_hashCode_32 : decode cJ8_hashCode 32 = .ok (.aload_n 0, 1) := dk_42 (dk_at dksJ8_hashCode_2 4 rfl rfl)
theorem dJ8_hashCode_33 : decode cJ8_hashCode 33 = .ok (.iconst 0, 1) := dk_3 (dk_at dksJ8_hashCode_2 5 rfl rfl)
theorem dJ8_hashCode_34 : decode cJ8_hashCode 34 = .ok (.invokestatic 71, 3) := dk_184 0 71 (dk_at dksJ8_hashCode_2 6 rfl rfl)
theorem dJ8_hashCode_37 : decode cJ8_hashCode 37 = .ok (.goto 14, 3) := dk_167 0 14 (dk_at dksJ8_hashCode_2 9 rfl rfl)
theorem dJ8_hashCode_40 : decode cJ8_hashCode 40 = .ok (.aload_n 0, 1) := dk_42 (dk_at dksJ8_hashCode_2 12 rfl rfl)
theorem dJ8_hashCode_41 : decode cJ8_hashCode 41 = .ok (.iconst 0, 1) := dk_3 (dk_at dksJ8_hashCode_2 13 rfl rfl)
theorem dJ8_hashCode_42 : decode cJ8_hashCode 42 = .ok (.aload_n 0, 1) := dk_42 (dk_at dksJ8_hashCode_2 14 rfl rfl)
theorem dJ8_hashCode_43 : decode cJ8_hashCode 43 = .ok (.arraylength, 1) := dk_190 (dk_at dksJ8_hashCode_2 15 rfl rfl)
theorem dJ8_hashCode_44 : decode cJ8_hashCode 44 = .ok (.iconst 1, 1) := dk_4 (dk_at dksJ8_hashCode_2 16 rfl rfl)
theorem dJ8_hashCode_45 : decode cJ8_hashCode 45 = .ok (.ishr, 1) := dk_122 (dk_at dksJ8_hashCode_2 17 rfl rfl)
theorem dJ8_hashCode_46 : decode cJ8_hashCode 46 = .ok (.iconst 0, 1) := dk_3 (dk_at dksJ8_hashCode_2 18 rfl rfl)
theorem dJ8_hashCode_47 : decode cJ8_hashCode 47 = .ok (.iconst 5, 1) := dk_8 (dk_at dksJ8_hashCode_2 19 rfl rfl)
theorem dJ8_hashCode_48 : decode cJ8_hashCode 48 = .ok (.invokestatic 220, 3) := dk_184 0 220 (dk_at dksJ8_hashCode_2 20 rfl rfl)
theorem dJ8_hashCode_51 : decode cJ8_hashCode 51 = .ok (.ireturn, 1) := dk_172 (dk_at dksJ8_hashCode_2 23 rfl rfl)
abbrev cJ8_charAt : ByteArray := prog_60_method_83_code
def yJ8_charAt : MethodName := ⟨RJ8, "charAt", "([BI)C"⟩
def dkwJ8_charAt_0 : List UInt8 := [27, 42, 184, 0, 67, 42, 27, 184, 0, 71, 172]
abbrev dktJ8_charAt_0 : List UInt8 := dkwJ8_charAt_0 ++ []
theorem dksJ8_charAt_0 : cJ8_charAt.data.toList.drop 0 = dktJ8_charAt_0 := by decide +kernel
theorem dJ8_charAt_0 : decode cJ8_charAt 0 = .ok (.iload_n 1, 1) := dk_27 (dk_at dksJ8_charAt_0 0 rfl rfl)
theorem dJ8_charAt_1 : decode cJ8_charAt 1 = .ok (.aload_n 0, 1) := dk_42 (dk_at dksJ8_charAt_0 1 rfl rfl)
theorem dJ8_charAt_2 : decode cJ8_charAt 2 = .ok (.invokestatic 67, 3) := dk_184 0 67 (dk_at dksJ8_charAt_0 2 rfl rfl)
theorem dJ8_charAt_5 : decode cJ8_charAt 5 = .ok (.aload_n 0, 1) := dk_42 (dk_at dksJ8_charAt_0 5 rfl rfl)
theorem dJ8_charAt_6 : decode cJ8_charAt 6 = .ok (.iload_n 1, 1) := dk_27 (dk_at dksJ8_charAt_0 6 rfl rfl)
theorem dJ8_charAt_7 : decode cJ8_charAt 7 = .ok (.invokestatic 71, 3) := dk_184 0 71 (dk_at dksJ8_charAt_0 7 rfl rfl)
theorem dJ8_charAt_10 : decode cJ8_charAt 10 = .ok (.ireturn, 1) := dk_172 (dk_at dksJ8_charAt_0 10 rfl rfl)
theorem q141 : (Jvm.Cond.initialized "java/lang/StringUTF16") ∈ lw_all := lw_g (lw_at lw_m1 11 rfl) rfl
theorem q343 : (Jvm.Cond.static ({ cls := "java/lang/StringUTF16", name := "newBytesFor", desc := "(I)[B" } : Jvm.MethodName)) ∈ lw_all := lw_g (lw_at lw_m1 213 rfl) rfl
theorem q344 : (Jvm.Cond.code ({ cls := "java/lang/StringUTF16", name := "newBytesFor", desc := "(I)[B" } : Jvm.MethodName) prog_60_method_2_code (1 : Nat) (Option.some (Jvm.ClassFile.FieldType.array Jvm.ClassFile.FieldType.byte))) ∈ lw_all := lw_g (lw_at lw_m1 214 rfl) rfl
theorem q345 : (Jvm.Cond.methodLink "java/lang/StringUTF16" (11 : Nat) ({ cls := "java/lang/StringUTF16", name := "newBytesLength", desc := "(I)I" } : Jvm.MethodName)) ∈ lw_all := lw_g (lw_at lw_m1 215 rfl) rfl
theorem q346 : (Jvm.Cond.static ({ cls := "java/lang/StringUTF16", name := "newBytesLength", desc := "(I)I" } : Jvm.MethodName)) ∈ lw_all := lw_g (lw_at lw_m1 216 rfl) rfl
theorem q347 : (Jvm.Cond.code ({ cls := "java/lang/StringUTF16", name := "newBytesLength", desc := "(I)I" } : Jvm.MethodName) prog_60_method_3_code (1 : Nat) (Option.some Jvm.ClassFile.FieldType.int)) ∈ lw_all := lw_g (lw_at lw_m1 217 rfl) rfl
theorem q348 : (Jvm.Cond.classLink "java/lang/StringUTF16" (17 : Nat) "java/lang/NegativeArraySizeException") ∈ lw_all := lw_g (lw_at lw_m1 218 rfl) rfl
theorem q349 : (Jvm.Cond.methodLink "java/lang/StringUTF16" (19 : Nat) ({ cls := "java/lang/NegativeArraySizeException", name := "<init>", desc := "()V" } : Jvm.MethodName)) ∈ lw_all := lw_g (lw_at lw_m1 219 rfl) rfl
theorem q372 : (Jvm.Cond.constant "java/lang/StringUTF16" (20 : Nat) (1073741823 : Int32)) ∈ lw_all := lw_g (lw_at lw_m2 2 rfl) rfl
theorem q439 : (Jvm.Cond.static ({ cls := "java/lang/StringUTF16", name := "putCharsAt", desc := "([BICCCC)I" } : Jvm.MethodName)) ∈ lw_all := lw_g (lw_at lw_m2 69 rfl) rfl
theorem q440 : (Jvm.Cond.code ({ cls := "java/lang/StringUTF16", name := "putCharsAt", desc := "([BICCCC)I" } : Jvm.MethodName) prog_60_method_81_code (7 : Nat) (Option.some Jvm.ClassFile.FieldType.int)) ∈ lw_all := lw_g (lw_at lw_m2 70 rfl) rfl
theorem q441 : (Jvm.Cond.methodLink "java/lang/StringUTF16" (96 : Nat) ({ cls := "java/lang/StringUTF16", name := "checkBoundsBeginEnd", desc := "(II[B)V" } : Jvm.MethodName)) ∈ lw_all := lw_g (lw_at lw_m2 71 rfl) rfl
theorem q442 : (Jvm.Cond.static ({ cls := "java/lang/StringUTF16", name := "checkBoundsBeginEnd", desc := "(II[B)V" } : Jvm.MethodName)) ∈ lw_all := lw_g (lw_at lw_m2 72 rfl) rfl
theorem q443 : (Jvm.Cond.code ({ cls := "java/lang/StringUTF16", name := "checkBoundsBeginEnd", desc := "(II[B)V" } : Jvm.MethodName) prog_60_method_93_code (3 : Nat) (Option.none : Option Jvm.ClassFile.FieldType)) ∈ lw_all := lw_g (lw_at lw_m2 73 rfl) rfl
theorem q444 : (Jvm.Cond.methodLink "java/lang/StringUTF16" (48 : Nat) ({ cls := "java/lang/StringUTF16", name := "length", desc := "([B)I" } : Jvm.MethodName)) ∈ lw_all := lw_g (lw_at lw_m2 74 rfl) rfl
theorem q445 : (Jvm.Cond.static ({ cls := "java/lang/StringUTF16", name := "length", desc := "([B)I" } : Jvm.MethodName)) ∈ lw_all := lw_g (lw_at lw_m2 75 rfl) rfl
theorem q446 : (Jvm.Cond.code ({ cls := "java/lang/StringUTF16", name := "length", desc := "([B)I" } : Jvm.MethodName) prog_60_method_6_code (1 : Nat) (Option.some Jvm.ClassFile.FieldType.int)) ∈ lw_all := lw_g (lw_at lw_m2 76 rfl) rfl
theorem q447 : (Jvm.Cond.methodLink "java/lang/StringUTF16" (241 : Nat) ({ cls := "java/lang/String", name := "checkBoundsBeginEnd", desc := "(III)V" } : Jvm.MethodName)) ∈ lw_all := lw_g (lw_at lw_m2 77 rfl) rfl
theorem q455 : (Jvm.Cond.methodLink "java/lang/StringUTF16" (111 : Nat) ({ cls := "java/lang/StringUTF16", name := "putChar", desc := "([BII)V" } : Jvm.MethodName)) ∈ lw_all := lw_g (lw_at lw_m2 85 rfl) rfl
theorem q456 : (Jvm.Cond.static ({ cls := "java/lang/StringUTF16", name := "putChar", desc := "([BII)V" } : Jvm.MethodName)) ∈ lw_all := lw_g (lw_at lw_m2 86 rfl) rfl
theorem q457 : (Jvm.Cond.code ({ cls := "java/lang/StringUTF16", name := "putChar", desc := "([BII)V" } : Jvm.MethodName) prog_60_method_4_code (3 : Nat) (Option.none : Option Jvm.ClassFile.FieldType)) ∈ lw_all := lw_g (lw_at lw_m2 87 rfl) rfl
theorem q458 : (Jvm.Cond.fieldLink "java/lang/StringUTF16" (44 : Nat) "java/lang/StringUTF16" "$assertionsDisabled" "Z") ∈ lw_all := lw_g (lw_at lw_m2 88 rfl) rfl
theorem q459 : (Jvm.Cond.laysStatic "java/lang/StringUTF16" "$assertionsDisabled" "Z") ∈ lw_tbl := lw_at lw_m2 89 rfl
theorem q460 : (Jvm.Cond.fieldLink "java/lang/StringUTF16" (59 : Nat) "java/lang/StringUTF16" "HI_BYTE_SHIFT" "I") ∈ lw_all := lw_g (lw_at lw_m2 90 rfl) rfl
theorem q461 : (Jvm.Cond.laysStatic "java/lang/StringUTF16" "HI_BYTE_SHIFT" "I") ∈ lw_tbl := lw_at lw_m2 91 rfl
theorem q462 : (Jvm.Cond.fieldLink "java/lang/StringUTF16" (63 : Nat) "java/lang/StringUTF16" "LO_BYTE_SHIFT" "I") ∈ lw_all := lw_g (lw_at lw_m2 92 rfl) rfl
theorem q463 : (Jvm.Cond.laysStatic "java/lang/StringUTF16" "LO_BYTE_SHIFT" "I") ∈ lw_tbl := lw_at lw_m2 93 rfl
theorem q490 : (Jvm.Cond.static ({ cls := "java/lang/StringUTF16", name := "inflate", desc := "([BI[BII)V" } : Jvm.MethodName)) ∈ lw_all := lw_g (lw_at lw_m2 120 rfl) rfl
theorem q491 : (Jvm.Cond.code ({ cls := "java/lang/StringUTF16", name := "inflate", desc := "([BI[BII)V" } : Jvm.MethodName) prog_60_method_86_code (6 : Nat) (Option.none : Option Jvm.ClassFile.FieldType)) ∈ lw_all := lw_g (lw_at lw_m2 121 rfl) rfl
theorem q492 : (Jvm.Cond.methodLink "java/lang/StringUTF16" (173 : Nat) ({ cls := "java/lang/StringUTF16", name := "checkBoundsOffCount", desc := "(II[B)V" } : Jvm.MethodName)) ∈ lw_all := lw_g (lw_at lw_m2 122 rfl) rfl
theorem q493 : (Jvm.Cond.static ({ cls := "java/lang/StringUTF16", name := "checkBoundsOffCount", desc := "(II[B)V" } : Jvm.MethodName)) ∈ lw_all := lw_g (lw_at lw_m2 123 rfl) rfl
theorem q494 : (Jvm.Cond.code ({ cls := "java/lang/StringUTF16", name := "checkBoundsOffCount", desc := "(II[B)V" } : Jvm.MethodName) prog_60_method_94_code (3 : Nat) (Option.none : Option Jvm.ClassFile.FieldType)) ∈ lw_all := lw_g (lw_at lw_m2 124 rfl) rfl
theorem q495 : (Jvm.Cond.methodLink "java/lang/StringUTF16" (419 : Nat) ({ cls := "java/lang/String", name := "checkBoundsOffCount", desc := "(III)I" } : Jvm.MethodName)) ∈ lw_all := lw_g (lw_at lw_m2 125 rfl) rfl
theorem q525 : (Jvm.Cond.static ({ cls := "java/lang/StringUTF16", name := "getChars", desc := "(III[B)I" } : Jvm.MethodName)) ∈ lw_all := lw_g (lw_at lw_m2 155 rfl) rfl
theorem q526 : (Jvm.Cond.code ({ cls := "java/lang/StringUTF16", name := "getChars", desc := "(III[B)I" } : Jvm.MethodName) prog_60_method_77_code (5 : Nat) (Option.some Jvm.ClassFile.FieldType.int)) ∈ lw_all := lw_g (lw_at lw_m2 156 rfl) rfl
theorem q527 : (Jvm.Cond.methodLink "java/lang/StringUTF16" (393 : Nat) ({ cls := "java/lang/StringUTF16", name := "getChars", desc := "(II[B)I" } : Jvm.MethodName)) ∈ lw_all := lw_g (lw_at lw_m2 157 rfl) rfl
theorem q528 : (Jvm.Cond.static ({ cls := "java/lang/StringUTF16", name := "getChars", desc := "(II[B)I" } : Jvm.MethodName)) ∈ lw_all := lw_g (lw_at lw_m2 158 rfl) rfl
theorem q529 : (Jvm.Cond.code ({ cls := "java/lang/StringUTF16", name := "getChars", desc := "(II[B)I" } : Jvm.MethodName) prog_60_method_89_code (7 : Nat) (Option.some Jvm.ClassFile.FieldType.int)) ∈ lw_all := lw_g (lw_at lw_m2 159 rfl) rfl
theorem q530 : (Jvm.Cond.fieldLink "java/lang/StringUTF16" (403 : Nat) "java/lang/Integer" "DigitOnes" "[B") ∈ lw_all := lw_g (lw_at lw_m2 160 rfl) rfl
theorem q531 : (Jvm.Cond.fieldLink "java/lang/StringUTF16" (407 : Nat) "java/lang/Integer" "DigitTens" "[B") ∈ lw_all := lw_g (lw_at lw_m2 161 rfl) rfl
theorem q569 : (Jvm.Cond.static ({ cls := "java/lang/StringUTF16", name := "compress", desc := "([BII)[B" } : Jvm.MethodName)) ∈ lw_all := lw_g (lw_at lw_m2 199 rfl) rfl
theorem q570 : (Jvm.Cond.code ({ cls := "java/lang/StringUTF16", name := "compress", desc := "([BII)[B" } : Jvm.MethodName) prog_60_method_17_code (6 : Nat) (Option.some (Jvm.ClassFile.FieldType.array Jvm.ClassFile.FieldType.byte))) ∈ lw_all := lw_g (lw_at lw_m2 200 rfl) rfl
theorem q571 : (Jvm.Cond.methodLink "java/lang/StringUTF16" (123 : Nat) ({ cls := "java/lang/StringUTF16", name := "compress", desc := "([BI[BII)I" } : Jvm.MethodName)) ∈ lw_all := lw_g (lw_at lw_m2 201 rfl) rfl
theorem q572 : (Jvm.Cond.static ({ cls := "java/lang/StringUTF16", name := "compress", desc := "([BI[BII)I" } : Jvm.MethodName)) ∈ lw_all := lw_g (lw_at lw_m2 202 rfl) rfl
theorem q573 : (Jvm.Cond.code ({ cls := "java/lang/StringUTF16", name := "compress", desc := "([BI[BII)I" } : Jvm.MethodName) prog_60_method_22_code (7 : Nat) (Option.some Jvm.ClassFile.FieldType.int)) ∈ lw_all := lw_g (lw_at lw_m2 203 rfl) rfl
theorem q574 : (Jvm.Cond.methodLink "java/lang/StringUTF16" (71 : Nat) ({ cls := "java/lang/StringUTF16", name := "getChar", desc := "([BI)C" } : Jvm.MethodName)) ∈ lw_all := lw_g (lw_at lw_m2 204 rfl) rfl
theorem q575 : (Jvm.Cond.static ({ cls := "java/lang/StringUTF16", name := "getChar", desc := "([BI)C" } : Jvm.MethodName)) ∈ lw_all := lw_g (lw_at lw_m2 205 rfl) rfl
theorem q576 : (Jvm.Cond.code ({ cls := "java/lang/StringUTF16", name := "getChar", desc := "([BI)C" } : Jvm.MethodName) prog_60_method_5_code (2 : Nat) (Option.some Jvm.ClassFile.FieldType.char)) ∈ lw_all := lw_g (lw_at lw_m2 206 rfl) rfl
theorem q577 : (Jvm.Cond.methodLink "java/lang/StringUTF16" (126 : Nat) ({ cls := "java/util/Arrays", name := "copyOfRange", desc := "([BII)[B" } : Jvm.MethodName)) ∈ lw_all := lw_g (lw_at lw_m2 207 rfl) rfl
theorem q579 : (Jvm.Cond.static ({ cls := "java/lang/StringUTF16", name := "coderFromArrayLen", desc := "([BI)B" } : Jvm.MethodName)) ∈ lw_all := lw_g (lw_at lw_m2 209 rfl) rfl
theorem q580 : (Jvm.Cond.code ({ cls := "java/lang/StringUTF16", name := "coderFromArrayLen", desc := "([BI)B" } : Jvm.MethodName) prog_60_method_15_code (2 : Nat) (Option.some Jvm.ClassFile.FieldType.byte)) ∈ lw_all := lw_g (lw_at lw_m2 210 rfl) rfl
theorem q1424 : (Jvm.Cond.static ({ cls := "java/lang/StringUTF16", name := "putCharSB", desc := "([BII)V" } : Jvm.MethodName)) ∈ lw_all := lw_g (lw_at lw_m6 94 rfl) rfl
theorem q1425 : (Jvm.Cond.code ({ cls := "java/lang/StringUTF16", name := "putCharSB", desc := "([BII)V" } : Jvm.MethodName) prog_60_method_71_code (3 : Nat) (Option.none : Option Jvm.ClassFile.FieldType)) ∈ lw_all := lw_g (lw_at lw_m6 95 rfl) rfl
theorem q1426 : (Jvm.Cond.methodLink "java/lang/StringUTF16" (67 : Nat) ({ cls := "java/lang/StringUTF16", name := "checkIndex", desc := "(I[B)V" } : Jvm.MethodName)) ∈ lw_all := lw_g (lw_at lw_m6 96 rfl) rfl
theorem q1427 : (Jvm.Cond.static ({ cls := "java/lang/StringUTF16", name := "checkIndex", desc := "(I[B)V" } : Jvm.MethodName)) ∈ lw_all := lw_g (lw_at lw_m6 97 rfl) rfl
theorem q1428 : (Jvm.Cond.code ({ cls := "java/lang/StringUTF16", name := "checkIndex", desc := "(I[B)V" } : Jvm.MethodName) prog_60_method_91_code (2 : Nat) (Option.none : Option Jvm.ClassFile.FieldType)) ∈ lw_all := lw_g (lw_at lw_m6 98 rfl) rfl
theorem q1429 : (Jvm.Cond.methodLink "java/lang/StringUTF16" (414 : Nat) ({ cls := "java/lang/String", name := "checkIndex", desc := "(II)V" } : Jvm.MethodName)) ∈ lw_all := lw_g (lw_at lw_m6 99 rfl) rfl
theorem q1498 : (Jvm.Cond.static ({ cls := "java/lang/StringUTF16", name := "indexOf", desc := "([BIII)I" } : Jvm.MethodName)) ∈ lw_all := lw_g (lw_at lw_m6 168 rfl) rfl
theorem q1499 : (Jvm.Cond.code ({ cls := "java/lang/StringUTF16", name := "indexOf", desc := "([BIII)I" } : Jvm.MethodName) prog_60_method_40_code (4 : Nat) (Option.some Jvm.ClassFile.FieldType.int)) ∈ lw_all := lw_g (lw_at lw_m6 169 rfl) rfl
theorem q1500 : (Jvm.Cond.methodLink "java/lang/StringUTF16" (224 : Nat) ({ cls := "java/lang/Math", name := "max", desc := "(II)I" } : Jvm.MethodName)) ∈ lw_all := lw_g (lw_at lw_m6 170 rfl) rfl
theorem q1501 : (Jvm.Cond.methodLink "java/lang/StringUTF16" (183 : Nat) ({ cls := "java/lang/Math", name := "min", desc := "(II)I" } : Jvm.MethodName)) ∈ lw_all := lw_g (lw_at lw_m6 171 rfl) rfl
theorem q1502 : (Jvm.Cond.constant "java/lang/StringUTF16" (227 : Nat) (65536 : Int32)) ∈ lw_all := lw_g (lw_at lw_m6 172 rfl) rfl
theorem q1503 : (Jvm.Cond.methodLink "java/lang/StringUTF16" (228 : Nat) ({ cls := "java/lang/StringUTF16", name := "indexOfChar", desc := "([BIII)I" } : Jvm.MethodName)) ∈ lw_all := lw_g (lw_at lw_m6 173 rfl) rfl
theorem q1504 : (Jvm.Cond.static ({ cls := "java/lang/StringUTF16", name := "indexOfChar", desc := "([BIII)I" } : Jvm.MethodName)) ∈ lw_all := lw_g (lw_at lw_m6 174 rfl) rfl
theorem q1505 : (Jvm.Cond.code ({ cls := "java/lang/StringUTF16", name := "indexOfChar", desc := "([BIII)I" } : Jvm.MethodName) prog_60_method_47_code (4 : Nat) (Option.some Jvm.ClassFile.FieldType.int)) ∈ lw_all := lw_g (lw_at lw_m6 175 rfl) rfl
theorem q1506 : (Jvm.Cond.methodLink "java/lang/StringUTF16" (244 : Nat) ({ cls := "java/lang/StringUTF16", name := "indexOfCharUnsafe", desc := "([BIII)I" } : Jvm.MethodName)) ∈ lw_all := lw_g (lw_at lw_m6 176 rfl) rfl
theorem q1507 : (Jvm.Cond.static ({ cls := "java/lang/StringUTF16", name := "indexOfCharUnsafe", desc := "([BIII)I" } : Jvm.MethodName)) ∈ lw_all := lw_g (lw_at lw_m6 177 rfl) rfl
theorem q1508 : (Jvm.Cond.code ({ cls := "java/lang/StringUTF16", name := "indexOfCharUnsafe", desc := "([BIII)I" } : Jvm.MethodName) prog_60_method_48_code (5 : Nat) (Option.some Jvm.ClassFile.FieldType.int)) ∈ lw_all := lw_g (lw_at lw_m6 178 rfl) rfl
theorem q1509 : (Jvm.Cond.methodLink "java/lang/StringUTF16" (232 : Nat) ({ cls := "java/lang/StringUTF16", name := "indexOfSupplementary", desc := "([BIII)I" } : Jvm.MethodName)) ∈ lw_all := lw_g (lw_at lw_m6 179 rfl) rfl
theorem q1510 : (Jvm.Cond.static ({ cls := "java/lang/StringUTF16", name := "indexOfSupplementary", desc := "([BIII)I" } : Jvm.MethodName)) ∈ lw_all := lw_g (lw_at lw_m6 180 rfl) rfl
theorem q1511 : (Jvm.Cond.code ({ cls := "java/lang/StringUTF16", name := "indexOfSupplementary", desc := "([BIII)I" } : Jvm.MethodName) prog_60_method_49_code (7 : Nat) (Option.some Jvm.ClassFile.FieldType.int)) ∈ lw_all := lw_g (lw_at lw_m6 181 rfl) rfl
theorem q1512 : (Jvm.Cond.methodLink "java/lang/StringUTF16" (164 : Nat) ({ cls := "java/lang/Character", name := "isValidCodePoint", desc := "(I)Z" } : Jvm.MethodName)) ∈ lw_all := lw_g (lw_at lw_m6 182 rfl) rfl
theorem q1515 : (Jvm.Cond.methodLink "java/lang/StringUTF16" (157 : Nat) ({ cls := "java/lang/Character", name := "highSurrogate", desc := "(I)C" } : Jvm.MethodName)) ∈ lw_all := lw_g (lw_at lw_m6 185 rfl) rfl
theorem q1519 : (Jvm.Cond.methodLink "java/lang/StringUTF16" (161 : Nat) ({ cls := "java/lang/Character", name := "lowSurrogate", desc := "(I)C" } : Jvm.MethodName)) ∈ lw_all := lw_g (lw_at lw_m6 189 rfl) rfl
theorem q1723 : (Jvm.Cond.static ({ cls := "java/lang/StringUTF16", name := "hashCode", desc := "([B)I" } : Jvm.MethodName)) ∈ lw_all := lw_g (lw_at lw_m7 153 rfl) rfl
theorem q1724 : (Jvm.Cond.code ({ cls := "java/lang/StringUTF16", name := "hashCode", desc := "([B)I" } : Jvm.MethodName) prog_60_method_39_code (1 : Nat) (Option.some Jvm.ClassFile.FieldType.int)) ∈ lw_all := lw_g (lw_at lw_m7 154 rfl) rfl
theorem q1725 : (Jvm.Cond.methodLink "java/lang/StringUTF16" (220 : Nat) ({ cls := "jdk/internal/util/ArraysSupport", name := "vectorizedHashCode", desc := "(Ljava/lang/Object;IIII)I" } : Jvm.MethodName)) ∈ lw_all := lw_g (lw_at lw_m7 155 rfl) rfl
theorem q1811 : (Jvm.Cond.static ({ cls := "java/lang/StringUTF16", name := "charAt", desc := "([BI)C" } : Jvm.MethodName)) ∈ lw_all := lw_g (lw_at lw_m8 1 rfl) rfl
theorem q1812 : (Jvm.Cond.code ({ cls := "java/lang/StringUTF16", name := "charAt", desc := "([BI)C" } : Jvm.MethodName) prog_60_method_83_code (2 : Nat) (Option.some Jvm.ClassFile.FieldType.char)) ∈ lw_all := lw_g (lw_at lw_m8 2 rfl) rfl
/-! jdk/internal/util/ArraysSupport -/
set_option maxRecDepth 100000
def RJ9 : String := "jdk/internal/util/ArraysSupport"
abbrev cJ9_newLength : ByteArray := prog_88_method_27_code
def yJ9_newLength : MethodName := ⟨RJ9, "newLength", "(III)I"⟩
def dkwJ9_newLength_1 : List UInt8 := [184, 0, 201, 172]
abbrev dktJ9_newLength_1 : List UInt8 := dkwJ9_newLength_1 ++ []
def dkwJ9_newLength_0 : List UInt8 := [26, 27, 28, 184, 0, 194, 96, 62, 3, 29, 162, 0, 11, 29, 18, 200, 163, 0, 5, 29, 172, 26, 27]
abbrev dktJ9_newLength_0 : List UInt8 := dkwJ9_newLength_0 ++ dktJ9_newLength_1
theorem dksJ9_newLength_0 : cJ9_newLength.data.toList.drop 0 = dktJ9_newLength_0 := by decide +kernel
theorem dksJ9_newLength_1 : cJ9_newLength.data.toList.drop 23 = dktJ9_newLength_1 := dk_seg dksJ9_newLength_0 23 rfl rfl
theorem dJ9_newLength_0 : decode cJ9_newLength 0 = .ok (.iload_n 0, 1) := dk_26 (dk_at dksJ9_newLength_0 0 rfl rfl)
theorem dJ9_newLength_1 : decode cJ9_newLength 1 = .ok (.iload_n 1, 1) := dk_27 (dk_at dksJ9_newLength_0 1 rfl rfl)
theorem dJ9_newLength_2 : decode cJ9_newLength 2 = .ok (.iload_n 2, 1) := dk_28 (dk_at dksJ9_newLength_0 2 rfl rfl)
theorem dJ9_newLength_3 : decode cJ9_newLength 3 = .ok (.invokestatic 194, 3) := dk_184 0 194 (dk_at dksJ9_newLength_0 3 rfl rfl)
theorem dJ9_newLength_6 : decode cJ9_newLength 6 = .ok (.iadd, 1) := dk_96 (dk_at dksJ9_newLength_0 6 rfl rfl)
theorem dJ9_newLength_7 : decode cJ9_newLength 7 = .ok (.istore_n 3, 1) := dk_62 (dk_at dksJ9_newLength_0 7 rfl rfl)
theorem dJ9_newLength_8 : decode cJ9_newLength 8 = .ok (.iconst 0, 1) := dk_3 (dk_at dksJ9_newLength_0 8 rfl rfl)
theorem dJ9_newLength_9 : decode cJ9_newLength 9 = .ok (.iload_n 3, 1) := dk_29 (dk_at dksJ9_newLength_0 9 rfl rfl)
theorem dJ9_newLength_10 : decode cJ9_newLength 10 = .ok (.if_icmp .ge 11, 3) := dk_162 0 11 (dk_at dksJ9_newLength_0 10 rfl rfl)
theorem dJ9_newLength_13 : decode cJ9_newLength 13 = .ok (.iload_n 3, 1) := dk_29 (dk_at dksJ9_newLength_0 13 rfl rfl)
theorem dJ9_newLength_14 : decode cJ9_newLength 14 = .ok (.ldc 200, 2) := dk_18 200 (dk_at dksJ9_newLength_0 14 rfl rfl)
theorem dJ9_newLength_16 : decode cJ9_newLength 16 = .ok (.if_icmp .gt 5, 3) := dk_163 0 5 (dk_at dksJ9_newLength_0 16 rfl rfl)
theorem dJ9_newLength_19 : decode cJ9_newLength 19 = .ok (.iload_n 3, 1) := dk_29 (dk_at dksJ9_newLength_0 19 rfl rfl)
theorem dJ9_newLength_20 : decode cJ9_newLength 20 = .ok (.ireturn, 1) := dk_172 (dk_at dksJ9_newLength_0 20 rfl rfl)
theorem dJ9_newLength_21 : decode cJ9_newLength 21 = .ok (.iload_n 0, 1) := dk_26 (dk_at dksJ9_newLength_0 21 rfl rfl)
theorem dJ9_newLength_22 : decode cJ9_newLength 22 = .ok (.iload_n 1, 1) := dk_27 (dk_at dksJ9_newLength_0 22 rfl rfl)
theorem dJ9_newLength_23 : decode cJ9_newLength 23 = .ok (.invokestatic 201, 3) := dk_184 0 201 (dk_at dksJ9_newLength_1 0 rfl rfl)
theorem dJ9_newLength_26 : decode cJ9_newLength 26 = .ok (.ireturn, 1) := dk_172 (dk_at dksJ9_newLength_1 3 rfl rfl)
abbrev cJ9_hugeLength : ByteArray := prog_88_method_28_code
def yJ9_hugeLength : MethodName := ⟨RJ9, "hugeLength", "(II)I"⟩
def dkwJ9_hugeLength_2 : List UInt8 := [191, 28, 18, 200, 163, 0, 6, 18, 200, 172, 28, 172]
abbrev dktJ9_hugeLength_2 : List UInt8 := dkwJ9_hugeLength_2 ++ []
def dkwJ9_hugeLength_1 : List UInt8 := [26, 182, 0, 98, 18, 208, 182, 0, 94, 27, 182, 0, 98, 18, 210, 182, 0, 94, 182, 0, 101, 183, 0, 212]
abbrev dktJ9_hugeLength_1 : List UInt8 := dkwJ9_hugeLength_1 ++ dktJ9_hugeLength_2
def dkwJ9_hugeLength_0 : List UInt8 := [26, 27, 96, 61, 28, 156, 0, 44, 187, 0, 204, 89, 187, 0, 89, 89, 183, 0, 91, 18, 206, 182, 0, 94]
abbrev dktJ9_hugeLength_0 : List UInt8 := dkwJ9_hugeLength_0 ++ dktJ9_hugeLength_1
theorem dksJ9_hugeLength_0 : cJ9_hugeLength.data.toList.drop 0 = dktJ9_hugeLength_0 := by decide +kernel
theorem dksJ9_hugeLength_1 : cJ9_hugeLength.data.toList.drop 24 = dktJ9_hugeLength_1 := dk_seg dksJ9_hugeLength_0 24 rfl rfl
theorem dksJ9_hugeLength_2 : cJ9_hugeLength.data.toList.drop 48 = dktJ9_hugeLength_2 := dk_seg dksJ9_hugeLength_1 24 rfl rfl
theorem dJ9_hugeLength_0 : decode cJ9_hugeLength 0 = .ok (.iload_n 0, 1) := dk_26 (dk_at dksJ9_hugeLength_0 0 rfl rfl)
theorem dJ9_hugeLength_1 : decode cJ9_hugeLength 1 = .ok (.iload_n 1, 1) := dk_27 (dk_at dksJ9_hugeLength_0 1 rfl rfl)
theorem dJ9_hugeLength_2 : decode cJ9_hugeLength 2 = .ok (.iadd, 1) := dk_96 (dk_at dksJ9_hugeLength_0 2 rfl rfl)
theorem dJ9_hugeLength_3 : decode cJ9_hugeLength 3 = .ok (.istore_n 2, 1) := dk_61 (dk_at dksJ9_hugeLength_0 3 rfl rfl)
theorem dJ9_hugeLength_4 : decode cJ9_hugeLength 4 = .ok (.iload_n 2, 1) := dk_28 (dk_at dksJ9_hugeLength_0 4 rfl rfl)
theorem dJ9_hugeLength_5 : decode cJ9_hugeLength 5 = .ok (.ifCond .ge 44, 3) := dk_156 0 44 (dk_at dksJ9_hugeLength_0 5 rfl rfl)
theorem dJ9_hugeLength_8 : decode cJ9_hugeLength 8 = .ok (.new 204, 3) := dk_187 0 204 (dk_at dksJ9_hugeLength_0 8 rfl rfl)
theorem dJ9_hugeLength_11 : decode cJ9_hugeLength 11 = .ok (.dup, 1) := dk_89 (dk_at dksJ9_hugeLength_0 11 rfl rfl)
theorem dJ9_hugeLength_12 : decode cJ9_hugeLength 12 = .ok (.new 89, 3) := dk_187 0 89 (dk_at dksJ9_hugeLength_0 12 rfl rfl)
theorem dJ9_hugeLength_15 : decode cJ9_hugeLength 15 = .ok (.dup, 1) := dk_89 (dk_at dksJ9_hugeLength_0 15 rfl rfl)
theorem dJ9_hugeLength_16 : decode cJ9_hugeLength 16 = .ok (.invokespecial 91, 3) := dk_183 0 91 (dk_at dksJ9_hugeLength_0 16 rfl rfl)
theorem dJ9_hugeLength_19 : decode cJ9_hugeLength 19 = .ok (.ldc 206, 2) := dk_18 206 (dk_at dksJ9_hugeLength_0 19 rfl rfl)
theorem dJ9_hugeLength_21 : decode cJ9_hugeLength 21 = .ok (.invokevirtual 94, 3) := dk_182 0 94 (dk_at dksJ9_hugeLength_0 21 rfl rfl)
theorem dJ9_hugeLength_24 : decode cJ9_hugeLength 24 = .ok (.iload_n 0, 1) := dk_26 (dk_at dksJ9_hugeLength_1 0 rfl rfl)
theorem dJ9_hugeLength_25 : decode cJ9_hugeLength 25 = .ok (.invokevirtual 98, 3) := dk_182 0 98 (dk_at dksJ9_hugeLength_1 1 rfl rfl)
theorem dJ9_hugeLength_28 : decode cJ9_hugeLength 28 = .ok (.ldc 208, 2) := dk_18 208 (dk_at dksJ9_hugeLength_1 4 rfl rfl)
theorem dJ9_hugeLength_30 : decode cJ9_hugeLength 30 = .ok (.invokevirtual 94, 3) := dk_182 0 94 (dk_at dksJ9_hugeLength_1 6 rfl rfl)
theorem dJ9_hugeLength_33 : decode cJ9_hugeLength 33 = .ok (.iload_n 1, 1) := dk_27 (dk_at dksJ9_hugeLength_1 9 rfl rfl)
theorem dJ9_hugeLength_34 : decode cJ9_hugeLength 34 = .ok (.invokevirtual 98, 3) := dk_182 0 98 (dk_at dksJ9_hugeLength_1 10 rfl rfl)
theorem dJ9_hugeLength_37 : decode cJ9_hugeLength 37 = .ok (.ldc 210, 2) := dk_18 210 (dk_at dksJ9_hugeLength_1 13 rfl rfl)
theorem dJ9_hugeLength_39 : decode cJ9_hugeLength 39 = .ok (.invokevirtual 94, 3) := dk_182 0 94 (dk_at dksJ9_hugeLength_1 15 rfl rfl)
theorem dJ9_hugeLength_42 : decode cJ9_hugeLength 42 = .ok (.invokevirtual 101, 3) := dk_182 0 101 (dk_at dksJ9_hugeLength_1 18 rfl rfl)
theorem dJ9_hugeLength_45 : decode cJ9_hugeLength 45 = .ok (.invokespecial 212, 3) := dk_183 0 212 (dk_at dksJ9_hugeLength_1 21 rfl rfl)
theorem dJ9_hugeLength_48 : decode cJ9_hugeLength 48 = .ok (.athrow, 1) := dk_191 (dk_at dksJ9_hugeLength_2 0 rfl rfl)
theorem dJ9_hugeLength_49 : decode cJ9_hugeLength 49 = .ok (.iload_n 2, 1) := dk_28 (dk_at dksJ9_hugeLength_2 1 rfl rfl)
theorem dJ9_hugeLength_50 : decode cJ9_hugeLength 50 = .ok (.ldc 200, 2) := dk_18 200 (dk_at dksJ9_hugeLength_2 2 rfl rfl)
theorem dJ9_hugeLength_52 : decode cJ9_hugeLength 52 = .ok (.if_icmp .gt 6, 3) := dk_163 0 6 (dk_at dksJ9_hugeLength_2 4 rfl rfl)
theorem dJ9_hugeLength_55 : decode cJ9_hugeLength 55 = .ok (.ldc 200, 2) := dk_18 200 (dk_at dksJ9_hugeLength_2 7 rfl rfl)
theorem dJ9_hugeLength_57 : decode cJ9_hugeLength 57 = .ok (.ireturn, 1) := dk_172 (dk_at dksJ9_hugeLength_2 9 rfl rfl)
theorem dJ9_hugeLength_58 : decode cJ9_hugeLength 58 = .ok (.iload_n 2, 1) := dk_28 (dk_at dksJ9_hugeLength_2 10 rfl rfl)
theorem dJ9_hugeLength_59 : decode cJ9_hugeLength 59 = .ok (.ireturn, 1) := dk_172 (dk_at dksJ9_hugeLength_2 11 rfl rfl)
abbrev cJ9_vectorizedHashCode : ByteArray := prog_88_method_4_code
def yJ9_vectorizedHashCode : MethodName := ⟨RJ9, "vectorizedHashCode", "(Ljava/lang/Object;IIII)I"⟩
def dkwJ9_vectorizedHashCode_6 : List UInt8 := [183, 0, 91, 18, 92, 182, 0, 94, 21, 4, 182, 0, 98, 182, 0, 101, 183, 0, 105, 191, 172]
abbrev dktJ9_vectorizedHashCode_6 : List UInt8 := dkwJ9_vectorizedHashCode_6 ++ []
def dkwJ9_vectorizedHashCode_5 : List UInt8 := [167, 0, 44, 29, 42, 192, 0, 82, 27, 28, 184, 0, 84, 167, 0, 31, 187, 0, 87, 89, 187, 0, 89, 89]
abbrev dktJ9_vectorizedHashCode_5 : List UInt8 := dkwJ9_vectorizedHashCode_5 ++ dktJ9_vectorizedHashCode_6
def dkwJ9_vectorizedHashCode_4 : List UInt8 := [29, 42, 192, 0, 60, 27, 28, 184, 0, 75, 167, 0, 57, 29, 42, 192, 0, 77, 27, 28, 184, 0, 79]
abbrev dktJ9_vectorizedHashCode_4 : List UInt8 := dkwJ9_vectorizedHashCode_4 ++ dktJ9_vectorizedHashCode_5
def dkwJ9_vectorizedHashCode_3 : List UInt8 := [192, 0, 60, 27, 28, 184, 0, 66, 167, 0, 83, 29, 42, 192, 0, 69, 27, 28, 184, 0, 71, 167, 0, 70]
abbrev dktJ9_vectorizedHashCode_3 : List UInt8 := dkwJ9_vectorizedHashCode_3 ++ dktJ9_vectorizedHashCode_4
def dkwJ9_vectorizedHashCode_2 : List UInt8 := [29, 42, 192, 0, 60, 27, 28, 184, 0, 62, 167, 0, 103, 42, 193, 0, 60, 153, 0, 16, 29, 42]
abbrev dktJ9_vectorizedHashCode_2 : List UInt8 := dkwJ9_vectorizedHashCode_2 ++ dktJ9_vectorizedHashCode_3
def dkwJ9_vectorizedHashCode_1 : List UInt8 := [170, 0, 0, 0, 0, 127, 0, 0, 0, 4, 0, 0, 0, 10, 0, 0, 0, 42, 0, 0, 0, 55, 0, 0, 0, 127, 0, 0, 0, 127, 0, 0, 0, 88, 0, 0, 0, 101, 0, 0, 0, 114]
abbrev dktJ9_vectorizedHashCode_1 : List UInt8 := dkwJ9_vectorizedHashCode_1 ++ dktJ9_vectorizedHashCode_2
def dkwJ9_vectorizedHashCode_0 : List UInt8 := [21, 4]
abbrev dktJ9_vectorizedHashCode_0 : List UInt8 := dkwJ9_vectorizedHashCode_0 ++ dktJ9_vectorizedHashCode_1
theorem dksJ9_vectorizedHashCode_0 : cJ9_vectorizedHashCode.data.toList.drop 0 = dktJ9_vectorizedHashCode_0 := by decide +kernel
theorem dksJ9_vectorizedHashCode_1 : cJ9_vectorizedHashCode.data.toList.drop 2 = dktJ9_vectorizedHashCode_1 := dk_seg dksJ9_vectorizedHashCode_0 2 rfl rfl
theorem dksJ9_vectorizedHashCode_2 : cJ9_vectorizedHashCode.data.toList.drop 44 = dktJ9_vectorizedHashCode_2 := dk_seg dksJ9_vectorizedHashCode_1 42 rfl rfl
theorem dksJ9_vectorizedHashCode_3 : cJ9_vectorizedHashCode.data.toList.drop 66 = dktJ9_vectorizedHashCode_3 := dk_seg dksJ9_vectorizedHashCode_2 22 rfl rfl
theorem dksJ9_vectorizedHashCode_4 : cJ9_vectorizedHashCode.data.toList.drop 90 = dktJ9_vectorizedHashCode_4 := dk_seg dksJ9_vectorizedHashCode_3 24 rfl rfl
theorem dksJ9_vectorizedHashCode_5 : cJ9_vectorizedHashCode.data.toList.drop 113 = dktJ9_vectorizedHashCode_5 := dk_seg dksJ9_vectorizedHashCode_4 23 rfl rfl
theorem dksJ9_vectorizedHashCode_6 : cJ9_vectorizedHashCode.data.toList.drop 137 = dktJ9_vectorizedHashCode_6 := dk_seg dksJ9_vectorizedHashCode_5 24 rfl rfl
theorem dJ9_vectorizedHashCode_0 : decode cJ9_vectorizedHashCode 0 = .ok (.iload 4, 2) := dk_21 4 (dk_at dksJ9_vectorizedHashCode_0 0 rfl rfl)
theorem dJ9_vectorizedHashCode_2 : decode cJ9_vectorizedHashCode 2 = .ok (.tableswitch 127 4 10 #[42, 55, 127, 127, 88, 101, 114], 42) := by decide +kernel
theorem dJ9_vectorizedHashCode_44 : decode cJ9_vectorizedHashCode 44 = .ok (.iload_n 3, 1) := dk_29 (dk_at dksJ9_vectorizedHashCode_2 0 rfl rfl)
theorem dJ9_vectorizedHashCode_45 : decode cJ9_vectorizedHashCode 45 = .ok (.aload_n 0, 1) := dk_42 (dk_at dksJ9_vectorizedHashCode_2 1 rfl rfl)
theorem dJ9_vectorizedHashCode_46 : decode cJ9_vectorizedHashCode 46 = .ok (.checkcast 60, 3) := dk_192 0 60 (dk_at dksJ9_vectorizedHashCode_2 2 rfl rfl)
theorem dJ9_vectorizedHashCode_49 : decode cJ9_vectorizedHashCode 49 = .ok (.iload_n 1, 1) := dk_27 (dk_at dksJ9_vectorizedHashCode_2 5 rfl rfl)
theorem dJ9_vectorizedHashCode_50 : decode cJ9_vectorizedHashCode 50 = .ok (.iload_n 2, 1) := dk_28 (dk_at dksJ9_vectorizedHashCode_2 6 rfl rfl)
theorem dJ9_vectorizedHashCode_51 : decode cJ9_vectorizedHashCode 51 = .ok (.invokestatic 62, 3) := dk_184 0 62 (dk_at dksJ9_vectorizedHashCode_2 7 rfl rfl)
theorem dJ9_vectorizedHashCode_54 : decode cJ9_vectorizedHashCode 54 = .ok (.goto 103, 3) := dk_167 0 103 (dk_at dksJ9_vectorizedHashCode_2 10 rfl rfl)
theorem dJ9_vectorizedHashCode_57 : decode cJ9_vectorizedHashCode 57 = .ok (.aload_n 0, 1) := dk_42 (dk_at dksJ9_vectorizedHashCode_2 13 rfl rfl)
theorem dJ9_vectorizedHashCode_58 : decode cJ9_vectorizedHashCode 58 = .ok (.instanceof 60, 3) := dk_193 0 60 (dk_at dksJ9_vectorizedHashCode_2 14 rfl rfl)
theorem dJ9_vectorizedHashCode_61 : decode cJ9_vectorizedHashCode 61 = .ok (.ifCond .eq 16, 3) := dk_153 0 16 (dk_at dksJ9_vectorizedHashCode_2 17 rfl rfl)
theorem dJ9_vectorizedHashCode_64 : decode cJ9_vectorizedHashCode 64 = .ok (.iload_n 3, 1) := dk_29 (dk_at dksJ9_vectorizedHashCode_2 20 rfl rfl)
theorem dJ9_vectorizedHashCode_65 : decode cJ9_vectorizedHashCode 65 = .ok (.aload_n 0, 1) := dk_42 (dk_at dksJ9_vectorizedHashCode_2 21 rfl rfl)
theorem dJ9_vectorizedHashCode_66 : decode cJ9_vectorizedHashCode 66 = .ok (.checkcast 60, 3) := dk_192 0 60 (dk_at dksJ9_vectorizedHashCode_3 0 rfl rfl)
theorem dJ9_vectorizedHashCode_69 : decode cJ9_vectorizedHashCode 69 = .ok (.iload_n 1, 1) := dk_27 (dk_at dksJ9_vectorizedHashCode_3 3 rfl rfl)
theorem dJ9_vectorizedHashCode_70 : decode cJ9_vectorizedHashCode 70 = .ok (.iload_n 2, 1) := dk_28 (dk_at dksJ9_vectorizedHashCode_3 4 rfl rfl)
theorem dJ9_vectorizedHashCode_71 : decode cJ9_vectorizedHashCode 71 = .ok (.invokestatic 66, 3) := dk_184 0 66 (dk_at dksJ9_vectorizedHashCode_3 5 rfl rfl)
theorem dJ9_vectorizedHashCode_74 : decode cJ9_vectorizedHashCode 74 = .ok (.goto 83, 3) := dk_167 0 83 (dk_at dksJ9_vectorizedHashCode_3 8 rfl rfl)
theorem dJ9_vectorizedHashCode_77 : decode cJ9_vectorizedHashCode 77 = .ok (.iload_n 3, 1) := dk_29 (dk_at dksJ9_vectorizedHashCode_3 11 rfl rfl)
theorem dJ9_vectorizedHashCode_78 : decode cJ9_vectorizedHashCode 78 = .ok (.aload_n 0, 1) := dk_42 (dk_at dksJ9_vectorizedHashCode_3 12 rfl rfl)
theorem dJ9_vectorizedHashCode_79 : decode cJ9_vectorizedHashCode 79 = .ok (.checkcast 69, 3) := dk_192 0 69 (dk_at dksJ9_vectorizedHashCode_3 13 rfl rfl)
theorem dJ9_vectorizedHashCode_82 : decode cJ9_vectorizedHashCode 82 = .ok (.iload_n 1, 1) := dk_27 (dk_at dksJ9_vectorizedHashCode_3 16 rfl rfl)
theorem dJ9_vectorizedHashCode_83 : decode cJ9_vectorizedHashCode 83 = .ok (.iload_n 2, 1) := dk_28 (dk_at dksJ9_vectorizedHashCode_3 17 rfl rfl)
theorem dJ9_vectorizedHashCode_84 : decode cJ9_vectorizedHashCode 84 = .ok (.invokestatic 71, 3) := dk_184 0 71 (dk_at dksJ9_vectorizedHashCode_3 18 rfl rfl)
theorem dJ9_vectorizedHashCode_87 : decode cJ9_vectorizedHashCode 87 = .ok (.goto 70, 3) := dk_167 0 70 (dk_at dksJ9_vectorizedHashCode_3 21 rfl rfl)
theorem dJ9_vectorizedHashCode_90 : decode cJ9_vectorizedHashCode 90 = .ok (.iload_n 3, 1) := dk_29 (dk_at dksJ9_vectorizedHashCode_4 0 rfl rfl)
theorem dJ9_vectorizedHashCode_91 : decode cJ9_vectorizedHashCode 91 = .ok (.aload_n 0, 1) := dk_42 (dk_at dksJ9_vectorizedHashCode_4 1 rfl rfl)
theorem dJ9_vectorizedHashCode_92 : decode cJ9_vectorizedHashCode 92 = .ok (.checkcast 60, 3) := dk_192 0 60 (dk_at dksJ9_vectorizedHashCode_4 2 rfl rfl)
theorem dJ9_vectorizedHashCode_95 : decode cJ9_vectorizedHashCode 95 = .ok (.iload_n 1, 1) := dk_27 (dk_at dksJ9_vectorizedHashCode_4 5 rfl rfl)
theorem dJ9_vectorizedHashCode_96 : decode cJ9_vectorizedHashCode 96 = .ok (.iload_n 2, 1) := dk_28 (dk_at dksJ9_vectorizedHashCode_4 6 rfl rfl)
theorem dJ9_vectorizedHashCode_97 : decode cJ9_vectorizedHashCode 97 = .ok (.invokestatic 75, 3) := dk_184 0 75 (dk_at dksJ9_vectorizedHashCode_4 7 rfl rfl)
theorem dJ9_vectorizedHashCode_100 : decode cJ9_vectorizedHashCode 100 = .ok (.goto 57, 3) := dk_167 0 57 (dk_at dksJ9_vectorizedHashCode_4 10 rfl rfl)
theorem dJ9_vectorizedHashCode_103 : decode cJ9_vectorizedHashCode 103 = .ok (.iload_n 3, 1) := dk_29 (dk_at dksJ9_vectorizedHashCode_4 13 rfl rfl)
theorem dJ9_vectorizedHashCode_104 : decode cJ9_vectorizedHashCode 104 = .ok (.aload_n 0, 1) := dk_42 (dk_at dksJ9_vectorizedHashCode_4 14 rfl rfl)
theorem dJ9_vectorizedHashCode_105 : decode cJ9_vectorizedHashCode 105 = .ok (.checkcast 77, 3) := dk_192 0 77 (dk_at dksJ9_vectorizedHashCode_4 15 rfl rfl)
theorem dJ9_vectorizedHashCode_108 : decode cJ9_vectorizedHashCode 108 = .ok (.iload_n 1, 1) := dk_27 (dk_at dksJ9_vectorizedHashCode_4 18 rfl rfl)
theorem dJ9_vectorizedHashCode_109 : decode cJ9_vectorizedHashCode 109 = .ok (.iload_n 2, 1) := dk_28 (dk_at dksJ9_vectorizedHashCode_4 19 rfl rfl)
theorem dJ9_vectorizedHashCode_110 : decode cJ9_vectorizedHashCode 110 = .ok (.invokestatic 79, 3) := dk_184 0 79 (dk_at dksJ9_vectorizedHashCode_4 20 rfl rfl)
theorem dJ9_vectorizedHashCode_113 : decode cJ9_vectorizedHashCode 113 = .ok (.goto 44, 3) := dk_167 0 44 (dk_at dksJ9_vectorizedHashCode_5 0 rfl rfl)
theorem dJ9_vectorizedHashCode_116 : decode cJ9_vectorizedHashCode 116 = .ok (.iload_n 3, 1) := dk_29 (dk_at dksJ9_vectorizedHashCode_5 3 rfl rfl)
theorem dJ9_vectorizedHashCode_117 : decode cJ9_vectorizedHashCode 117 = .ok (.aload_n 0, 1) := dk_42 (dk_at dksJ9_vectorizedHashCode_5 4 rfl rfl)
theorem dJ9_vectorizedHashCode_118 : decode cJ9_vectorizedHashCode 118 = .ok (.checkcast 82, 3) := dk_192 0 82 (dk_at dksJ9_vectorizedHashCode_5 5 rfl rfl)
theorem dJ9_vectorizedHashCode_121 : decode cJ9_vectorizedHashCode 121 = .ok (.iload_n 1, 1) := dk_27 (dk_at dksJ9_vectorizedHashCode_5 8 rfl rfl)
theorem dJ9_vectorizedHashCode_122 : decode cJ9_vectorizedHashCode 122 = .ok (.iload_n 2, 1) := dk_28 (dk_at dksJ9_vectorizedHashCode_5 9 rfl rfl)
theorem dJ9_vectorizedHashCode_123 : decode cJ9_vectorizedHashCode 123 = .ok (.invokestatic 84, 3) := dk_184 0 84 (dk_at dksJ9_vectorizedHashCode_5 10 rfl rfl)
theorem dJ9_vectorizedHashCode_126 : decode cJ9_vectorizedHashCode 126 = .ok (.goto 31, 3) := dk_167 0 31 (dk_at dksJ9_vectorizedHashCode_5 13 rfl rfl)
theorem dJ9_vectorizedHashCode_129 : decode cJ9_vectorizedHashCode 129 = .ok (.new 87, 3) := dk_187 0 87 (dk_at dksJ9_vectorizedHashCode_5 16 rfl rfl)
theorem dJ9_vectorizedHashCode_132 : decode cJ9_vectorizedHashCode 132 = .ok (.dup, 1) := dk_89 (dk_at dksJ9_vectorizedHashCode_5 19 rfl rfl)
theorem dJ9_vectorizedHashCode_133 : decode cJ9_vectorizedHashCode 133 = .ok (.new 89, 3) := dk_187 0 89 (dk_at dksJ9_vectorizedHashCode_5 20 rfl rfl)
theorem dJ9_vectorizedHashCode_136 : decode cJ9_vectorizedHashCode 136 = .ok (.dup, 1) := dk_89 (dk_at dksJ9_vectorizedHashCode_5 23 rfl rfl)
theorem dJ9_vectorizedHashCode_137 : decode cJ9_vectorizedHashCode 137 = .ok (.invokespecial 91, 3) := dk_183 0 91 (dk_at dksJ9_vectorizedHashCode_6 0 rfl rfl)
theorem dJ9_vectorizedHashCode_140 : decode cJ9_vectorizedHashCode 140 = .ok (.ldc 92, 2) := dk_18 92 (dk_at dksJ9_vectorizedHashCode_6 3 rfl rfl)
theorem dJ9_vectorizedHashCode_142 : decode cJ9_vectorizedHashCode 142 = .ok (.invokevirtual 94, 3) := dk_182 0 94 (dk_at dksJ9_vectorizedHashCode_6 5 rfl rfl)
theorem dJ9_vectorizedHashCode_145 : decode cJ9_vectorizedHashCode 145 = .ok (.iload 4, 2) := dk_21 4 (dk_at dksJ9_vectorizedHashCode_6 8 rfl rfl)
theorem dJ9_vectorizedHashCode_147 : decode cJ9_vectorizedHashCode 147 = .ok (.invokevirtual 98, 3) := dk_182 0 98 (dk_at dksJ9_vectorizedHashCode_6 10 rfl rfl)
theorem dJ9_vectorizedHashCode_150 : decode cJ9_vectorizedHashCode 150 = .ok (.invokevirtual 101, 3) := dk_182 0 101 (dk_at dksJ9_vectorizedHashCode_6 13 rfl rfl)
theorem dJ9_vectorizedHashCode_153 : decode cJ9_vectorizedHashCode 153 = .ok (.invokespecial 105, 3) := dk_183 0 105 (dk_at dksJ9_vectorizedHashCode_6 16 rfl rfl)
theorem dJ9_vectorizedHashCode_156 : decode cJ9_vectorizedHashCode 156 = .ok (.athrow, 1) := dk_191 (dk_at dksJ9_vectorizedHashCode_6 19 rfl rfl)
theorem dJ9_vectorizedHashCode_157 : decode cJ9_vectorizedHashCode 157 = .ok (.ireturn, 1) := dk_172 (dk_at dksJ9_vectorizedHashCode_6 20 rfl rfl)
abbrev cJ9_signedHashCode : ByteArray := prog_88_method_5_code
def yJ9_signedHashCode : MethodName := ⟨RJ9, "signedHashCode", "(I[BII)I"⟩
def dkwJ9_signedHashCode_1 : List UInt8 := [17, 0, 255, 126, 96, 59, 132, 5, 1, 167, 255, 232, 26, 172]
abbrev dktJ9_signedHashCode_1 : List UInt8 := dkwJ9_signedHashCode_1 ++ []
def dkwJ9_signedHashCode_0 : List UInt8 := [28, 29, 96, 54, 4, 28, 54, 5, 21, 5, 21, 4, 162, 0, 23, 16, 31, 26, 104, 43, 21, 5, 51]
abbrev dktJ9_signedHashCode_0 : List UInt8 := dkwJ9_signedHashCode_0 ++ dktJ9_signedHashCode_1
theorem dksJ9_signedHashCode_0 : cJ9_signedHashCode.data.toList.drop 0 = dktJ9_signedHashCode_0 := by decide +kernel
theorem dksJ9_signedHashCode_1 : cJ9_signedHashCode.data.toList.drop 23 = dktJ9_signedHashCode_1 := dk_seg dksJ9_signedHashCode_0 23 rfl rfl
theorem dJ9_signedHashCode_0 : decode cJ9_signedHashCode 0 = .ok (.iload_n 2, 1) := dk_28 (dk_at dksJ9_signedHashCode_0 0 rfl rfl)
theorem dJ9_signedHashCode_1 : decode cJ9_signedHashCode 1 = .ok (.iload_n 3, 1) := dk_29 (dk_at dksJ9_signedHashCode_0 1 rfl rfl)
theorem dJ9_signedHashCode_2 : decode cJ9_signedHashCode 2 = .ok (.iadd, 1) := dk_96 (dk_at dksJ9_signedHashCode_0 2 rfl rfl)
theorem dJ9_signedHashCode_3 : decode cJ9_signedHashCode 3 = .ok (.istore 4, 2) := dk_54 4 (dk_at dksJ9_signedHashCode_0 3 rfl rfl)
theorem dJ9_signedHashCode_5 : decode cJ9_signedHashCode 5 = .ok (.iload_n 2, 1) := dk_28 (dk_at dksJ9_signedHashCode_0 5 rfl rfl)
theorem dJ9_signedHashCode_6 : decode cJ9_signedHashCode 6 = .ok (.istore 5, 2) := dk_54 5 (dk_at dksJ9_signedHashCode_0 6 rfl rfl)
theorem dJ9_signedHashCode_8 : decode cJ9_signedHashCode 8 = .ok (.iload 5, 2) := dk_21 5 (dk_at dksJ9_signedHashCode_0 8 rfl rfl)
theorem dJ9_signedHashCode_10 : decode cJ9_signedHashCode 10 = .ok (.iload 4, 2) := dk_21 4 (dk_at dksJ9_signedHashCode_0 10 rfl rfl)
theorem dJ9_signedHashCode_12 : decode cJ9_signedHashCode 12 = .ok (.if_icmp .ge 23, 3) := dk_162 0 23 (dk_at dksJ9_signedHashCode_0 12 rfl rfl)
theorem dJ9_signedHashCode_15 : decode cJ9_signedHashCode 15 = .ok (.bipush 31, 2) := dk_16 31 (dk_at dksJ9_signedHashCode_0 15 rfl rfl)
theorem dJ9_signedHashCode_17 : decode cJ9_signedHashCode 17 = .ok (.iload_n 0, 1) := dk_26 (dk_at dksJ9_signedHashCode_0 17 rfl rfl)
theorem dJ9_signedHashCode_18 : decode cJ9_signedHashCode 18 = .ok (.imul, 1) := dk_104 (dk_at dksJ9_signedHashCode_0 18 rfl rfl)
theorem dJ9_signedHashCode_19 : decode cJ9_signedHashCode 19 = .ok (.aload_n 1, 1) := dk_43 (dk_at dksJ9_signedHashCode_0 19 rfl rfl)
theorem dJ9_signedHashCode_20 : decode cJ9_signedHashCode 20 = .ok (.iload 5, 2) := dk_21 5 (dk_at dksJ9_signedHashCode_0 20 rfl rfl)
theorem dJ9_signedHashCode_22 : decode cJ9_signedHashCode 22 = .ok (.baload, 1) := dk_51 (dk_at dksJ9_signedHashCode_0 22 rfl rfl)
theorem dJ9_signedHashCode_23 : decode cJ9_signedHashCode 23 = .ok (.sipush 255, 3) := dk_17 0 255 (dk_at dksJ9_signedHashCode_1 0 rfl rfl)
theorem dJ9_signedHashCode_26 : decode cJ9_signedHashCode 26 = .ok (.iand, 1) := dk_126 (dk_at dksJ9_signedHashCode_1 3 rfl rfl)
theorem dJ9_signedHashCode_27 : decode cJ9_signedHashCode 27 = .ok (.iadd, 1) := dk_96 (dk_at dksJ9_signedHashCode_1 4 rfl rfl)
theorem dJ9_signedHashCode_28 : decode cJ9_signedHashCode 28 = .ok (.istore_n 0, 1) := dk_59 (dk_at dksJ9_signedHashCode_1 5 rfl rfl)
theorem dJ9_signedHashCode_29 : decode cJ9_signedHashCode 29 = .ok (.iinc 5 1, 3) := dk_132 5 1 (dk_at dksJ9_signedHashCode_1 6 rfl rfl)
theorem dJ9_signedHashCode_32 : decode cJ9_signedHashCode 32 = .ok (.goto (-24), 3) := dk_167 255 232 (dk_at dksJ9_signedHashCode_1 9 rfl rfl)
theorem dJ9_signedHashCode_35 : decode cJ9_signedHashCode 35 = .ok (.iload_n 0, 1) := dk_26 (dk_at dksJ9_signedHashCode_1 12 rfl rfl)
theorem dJ9_signedHashCode_36 : decode cJ9_signedHashCode 36 = .ok (.ireturn, 1) := dk_172 (dk_at dksJ9_signedHashCode_1 13 rfl rfl)
abbrev cJ9_utf16hashCode : ByteArray := prog_88_method_10_code
def yJ9_utf16hashCode : MethodName := ⟨RJ9, "utf16hashCode", "(I[BII)I"⟩
def dkwJ9_utf16hashCode_1 : List UInt8 := [21, 5, 185, 0, 110, 3, 0, 96, 59, 132, 5, 1, 167, 255, 229, 26, 172]
abbrev dktJ9_utf16hashCode_1 : List UInt8 := dkwJ9_utf16hashCode_1 ++ []
def dkwJ9_utf16hashCode_0 : List UInt8 := [28, 29, 96, 54, 4, 28, 54, 5, 21, 5, 21, 4, 162, 0, 26, 16, 31, 26, 104, 178, 0, 106, 43]
abbrev dktJ9_utf16hashCode_0 : List UInt8 := dkwJ9_utf16hashCode_0 ++ dktJ9_utf16hashCode_1
theorem dksJ9_utf16hashCode_0 : cJ9_utf16hashCode.data.toList.drop 0 = dktJ9_utf16hashCode_0 := by decide +kernel
theorem dksJ9_utf16hashCode_1 : cJ9_utf16hashCode.data.toList.drop 23 = dktJ9_utf16hashCode_1 := dk_seg dksJ9_utf16hashCode_0 23 rfl rfl
theorem dJ9_utf16hashCode_0 : decode cJ9_utf16hashCode 0 = .ok (.iload_n 2, 1) := dk_28 (dk_at dksJ9_utf16hashCode_0 0 rfl rfl)
theorem dJ9_utf16hashCode_1 : decode cJ9_utf16hashCode 1 = .ok (.iload_n 3, 1) := dk_29 (dk_at dksJ9_utf16hashCode_0 1 rfl rfl)
theorem dJ9_utf16hashCode_2 : decode cJ9_utf16hashCode 2 = .ok (.iadd, 1) := dk_96 (dk_at dksJ9_utf16hashCode_0 2 rfl rfl)
theorem dJ9_utf16hashCode_3 : decode cJ9_utf16hashCode 3 = .ok (.istore 4, 2) := dk_54 4 (dk_at dksJ9_utf16hashCode_0 3 rfl rfl)
theorem dJ9_utf16hashCode_5 : decode cJ9_utf16hashCode 5 = .ok (.iload_n 2, 1) := dk_28 (dk_at dksJ9_utf16hashCode_0 5 rfl rfl)
theorem dJ9_utf16hashCode_6 : decode cJ9_utf16hashCode 6 = .ok (.istore 5, 2) := dk_54 5 (dk_at dksJ9_utf16hashCode_0 6 rfl rfl)
theorem dJ9_utf16hashCode_8 : decode cJ9_utf16hashCode 8 = .ok (.iload 5, 2) := dk_21 5 (dk_at dksJ9_utf16hashCode_0 8 rfl rfl)
theorem dJ9_utf16hashCode_10 : decode cJ9_utf16hashCode 10 = .ok (.iload 4, 2) := dk_21 4 (dk_at dksJ9_utf16hashCode_0 10 rfl rfl)
theorem dJ9_utf16hashCode_12 : decode cJ9_utf16hashCode 12 = .ok (.if_icmp .ge 26, 3) := dk_162 0 26 (dk_at dksJ9_utf16hashCode_0 12 rfl rfl)
theorem dJ9_utf16hashCode_15 : decode cJ9_utf16hashCode 15 = .ok (.bipush 31, 2) := dk_16 31 (dk_at dksJ9_utf16hashCode_0 15 rfl rfl)
theorem dJ9_utf16hashCode_17 : decode cJ9_utf16hashCode 17 = .ok (.iload_n 0, 1) := dk_26 (dk_at dksJ9_utf16hashCode_0 17 rfl rfl)
theorem dJ9_utf16hashCode_18 : decode cJ9_utf16hashCode 18 = .ok (.imul, 1) := dk_104 (dk_at dksJ9_utf16hashCode_0 18 rfl rfl)
theorem dJ9_utf16hashCode_19 : decode cJ9_utf16hashCode 19 = .ok (.getstatic 106, 3) := dk_178 0 106 (dk_at dksJ9_utf16hashCode_0 19 rfl rfl)
theorem dJ9_utf16hashCode_22 : decode cJ9_utf16hashCode 22 = .ok (.aload_n 1, 1) := dk_43 (dk_at dksJ9_utf16hashCode_0 22 rfl rfl)
theorem dJ9_utf16hashCode_23 : decode cJ9_utf16hashCode 23 = .ok (.iload 5, 2) := dk_21 5 (dk_at dksJ9_utf16hashCode_1 0 rfl rfl)
theorem dJ9_utf16hashCode_25 : decode cJ9_utf16hashCode 25 = .ok (.invokeinterface 110 3, 5) := by decide +kernel
theorem dJ9_utf16hashCode_30 : decode cJ9_utf16hashCode 30 = .ok (.iadd, 1) := dk_96 (dk_at dksJ9_utf16hashCode_1 7 rfl rfl)
theorem dJ9_utf16hashCode_31 : decode cJ9_utf16hashCode 31 = .ok (.istore_n 0, 1) := dk_59 (dk_at dksJ9_utf16hashCode_1 8 rfl rfl)
theorem dJ9_utf16hashCode_32 : decode cJ9_utf16hashCode 32 = .ok (.iinc 5 1, 3) := dk_132 5 1 (dk_at dksJ9_utf16hashCode_1 9 rfl rfl)
theorem dJ9_utf16hashCode_35 : decode cJ9_utf16hashCode 35 = .ok (.goto (-27), 3) := dk_167 255 229 (dk_at dksJ9_utf16hashCode_1 12 rfl rfl)
theorem dJ9_utf16hashCode_38 : decode cJ9_utf16hashCode 38 = .ok (.iload_n 0, 1) := dk_26 (dk_at dksJ9_utf16hashCode_1 15 rfl rfl)
theorem dJ9_utf16hashCode_39 : decode cJ9_utf16hashCode 39 = .ok (.ireturn, 1) := dk_172 (dk_at dksJ9_utf16hashCode_1 16 rfl rfl)
abbrev cJ9_hashCode : ByteArray := prog_88_method_7_code
def yJ9_hashCode : MethodName := ⟨RJ9, "hashCode", "(I[CII)I"⟩
def dkwJ9_hashCode_1 : List UInt8 := [59, 132, 5, 1, 167, 255, 236, 26, 172]
abbrev dktJ9_hashCode_1 : List UInt8 := dkwJ9_hashCode_1 ++ []
def dkwJ9_hashCode_0 : List UInt8 := [28, 29, 96, 54, 4, 28, 54, 5, 21, 5, 21, 4, 162, 0, 19, 16, 31, 26, 104, 43, 21, 5, 52, 96]
abbrev dktJ9_hashCode_0 : List UInt8 := dkwJ9_hashCode_0 ++ dktJ9_hashCode_1
theorem dksJ9_hashCode_0 : cJ9_hashCode.data.toList.drop 0 = dktJ9_hashCode_0 := by decide +kernel
theorem dksJ9_hashCode_1 : cJ9_hashCode.data.toList.drop 24 = dktJ9_hashCode_1 := dk_seg dksJ9_hashCode_0 24 rfl rfl
theorem dJ9_hashCode_0 : decode cJ9_hashCode 0 = .ok (.iload_n 2, 1) := dk_28 (dk_at dksJ9_hashCode_0 0 rfl rfl)
theorem dJ9_hashCode_1 : decode cJ9_hashCode 1 = .ok (.iload_n 3, 1) := dk_29 (dk_at dksJ9_hashCode_0 1 rfl rfl)
theorem dJ9_hashCode_2 : decode cJ9_hashCode 2 = .ok (.iadd, 1) := dk_96 (dk_at dksJ9_hashCode_0 2 rfl rfl)
theorem dJ9_hashCode_3 : decode cJ9_hashCode 3 = .ok (.istore 4, 2) := dk_54 4 (dk_at dksJ9_hashCode_0 3 rfl rfl)
theorem dJ9_hashCode_5 : decode cJ9_hashCode 5 = .ok (.iload_n 2, 1) := dk_28 (dk_at dksJ9_hashCode_0 5 rfl rfl)
theorem dJ9_hashCode_6 : decode cJ9_hashCode 6 = .ok (.istore 5, 2) := dk_54 5 (dk_at dksJ9_hashCode_0 6 rfl rfl)
theorem dJ9_hashCode_8 : decode cJ9_hashCode 8 = .ok (.iload 5, 2) := dk_21 5 (dk_at dksJ9_hashCode_0 8 rfl rfl)
theorem dJ9_hashCode_10 : decode cJ9_hashCode 10 = .ok (.iload 4, 2) := dk_21 4 (dk_at dksJ9_hashCode_0 10 rfl rfl)
theorem dJ9_hashCode_12 : decode cJ9_hashCode 12 = .ok (.if_icmp .ge 19, 3) := dk_162 0 19 (dk_at dksJ9_hashCode_0 12 rfl rfl)
theorem dJ9_hashCode_15 : decode cJ9_hashCode 15 = .ok (.bipush 31, 2) := dk_16 31 (dk_at dksJ9_hashCode_0 15 rfl rfl)
theorem dJ9_hashCode_17 : decode cJ9_hashCode 17 = .ok (.iload_n 0, 1) := dk_26 (dk_at dksJ9_hashCode_0 17 rfl rfl)
theorem dJ9_hashCode_18 : decode cJ9_hashCode 18 = .ok (.imul, 1) := dk_104 (dk_at dksJ9_hashCode_0 18 rfl rfl)
theorem dJ9_hashCode_19 : decode cJ9_hashCode 19 = .ok (.aload_n 1, 1) := dk_43 (dk_at dksJ9_hashCode_0 19 rfl rfl)
theorem dJ9_hashCode_20 : decode cJ9_hashCode 20 = .ok (.iload 5, 2) := dk_21 5 (dk_at dksJ9_hashCode_0 20 rfl rfl)
theorem dJ9_hashCode_22 : decode cJ9_hashCode 22 = .ok (.caload, 1) := dk_52 (dk_at dksJ9_hashCode_0 22 rfl rfl)
theorem dJ9_hashCode_23 : decode cJ9_hashCode 23 = .ok (.iadd, 1) := dk_96 (dk_at dksJ9_hashCode_0 23 rfl rfl)
theorem dJ9_hashCode_24 : decode cJ9_hashCode 24 = .ok (.istore_n 0, 1) := dk_59 (dk_at dksJ9_hashCode_1 0 rfl rfl)
theorem dJ9_hashCode_25 : decode cJ9_hashCode 25 = .ok (.iinc 5 1, 3) := dk_132 5 1 (dk_at dksJ9_hashCode_1 1 rfl rfl)
theorem dJ9_hashCode_28 : decode cJ9_hashCode 28 = .ok (.goto (-20), 3) := dk_167 255 236 (dk_at dksJ9_hashCode_1 4 rfl rfl)
theorem dJ9_hashCode_31 : decode cJ9_hashCode 31 = .ok (.iload_n 0, 1) := dk_26 (dk_at dksJ9_hashCode_1 7 rfl rfl)
theorem dJ9_hashCode_32 : decode cJ9_hashCode 32 = .ok (.ireturn, 1) := dk_172 (dk_at dksJ9_hashCode_1 8 rfl rfl)
abbrev cJ9_hashCode_2 : ByteArray := prog_88_method_6_code
def yJ9_hashCode_2 : MethodName := ⟨RJ9, "hashCode", "(I[BII)I"⟩
def dkwJ9_hashCode_2_1 : List UInt8 := [59, 132, 5, 1, 167, 255, 236, 26, 172]
abbrev dktJ9_hashCode_2_1 : List UInt8 := dkwJ9_hashCode_2_1 ++ []
def dkwJ9_hashCode_2_0 : List UInt8 := [28, 29, 96, 54, 4, 28, 54, 5, 21, 5, 21, 4, 162, 0, 19, 16, 31, 26, 104, 43, 21, 5, 51, 96]
abbrev dktJ9_hashCode_2_0 : List UInt8 := dkwJ9_hashCode_2_0 ++ dktJ9_hashCode_2_1
theorem dksJ9_hashCode_2_0 : cJ9_hashCode_2.data.toList.drop 0 = dktJ9_hashCode_2_0 := by decide +kernel
theorem dksJ9_hashCode_2_1 : cJ9_hashCode_2.data.toList.drop 24 = dktJ9_hashCode_2_1 := dk_seg dksJ9_hashCode_2_0 24 rfl rfl
theorem dJ9_hashCode_2_0 : decode cJ9_hashCode_2 0 = .ok (.iload_n 2, 1) := dk_28 (dk_at dksJ9_hashCode_2_0 0 rfl rfl)
theorem dJ9_hashCode_2_1 : decode cJ9_hashCode_2 1 = .ok (.iload_n 3, 1) := dk_29 (dk_at dksJ9_hashCode_2_0 1 rfl rfl)
theorem dJ9_hashCode_2_2 : decode cJ9_hashCode_2 2 = .ok (.iadd, 1) := dk_96 (dk_at dksJ9_hashCode_2_0 2 rfl rfl)
theorem dJ9_hashCode_2_3 : decode cJ9_hashCode_2 3 = .ok (.istore 4, 2) := dk_54 4 (dk_at dksJ9_hashCode_2_0 3 rfl rfl)
theorem dJ9_hashCode_2_5 : decode cJ9_hashCode_2 5 = .ok (.iload_n 2, 1) := dk_28 (dk_at dksJ9_hashCode_2_0 5 rfl rfl)
theorem dJ9_hashCode_2_6 : decode cJ9_hashCode_2 6 = .ok (.istore 5, 2) := dk_54 5 (dk_at dksJ9_hashCode_2_0 6 rfl rfl)
theorem dJ9_hashCode_2_8 : decode cJ9_hashCode_2 8 = .ok (.iload 5, 2) := dk_21 5 (dk_at dksJ9_hashCode_2_0 8 rfl rfl)
theorem dJ9_hashCode_2_10 : decode cJ9_hashCode_2 10 = .ok (.iload 4, 2) := dk_21 4 (dk_at dksJ9_hashCode_2_0 10 rfl rfl)
theorem dJ9_hashCode_2_12 : decode cJ9_hashCode_2 12 = .ok (.if_icmp .ge 19, 3) := dk_162 0 19 (dk_at dksJ9_hashCode_2_0 12 rfl rfl)
theorem dJ9_hashCode_2_15 : decode cJ9_hashCode_2 15 = .ok (.bipush 31, 2) := dk_16 31 (dk_at dksJ9_hashCode_2_0 15 rfl rfl)
theorem dJ9_hashCode_2_17 : decode cJ9_hashCode_2 17 = .ok (.iload_n 0, 1) := dk_26 (dk_at dksJ9_hashCode_2_0 17 rfl rfl)
theorem dJ9_hashCode_2_18 : decode cJ9_hashCode_2 18 = .ok (.imul, 1) := dk_104 (dk_at dksJ9_hashCode_2_0 18 rfl rfl)
theorem dJ9_hashCode_2_19 : decode cJ9_hashCode_2 19 = .ok (.aload_n 1, 1) := dk_43 (dk_at dksJ9_hashCode_2_0 19 rfl rfl)
theorem dJ9_hashCode_2_20 : decode cJ9_hashCode_2 20 = .ok (.iload 5, 2) := dk_21 5 (dk_at dksJ9_hashCode_2_0 20 rfl rfl)
theorem dJ9_hashCode_2_22 : decode cJ9_hashCode_2 22 = .ok (.baload, 1) := dk_51 (dk_at dksJ9_hashCode_2_0 22 rfl rfl)
theorem dJ9_hashCode_2_23 : decode cJ9_hashCode_2 23 = .ok (.iadd, 1) := dk_96 (dk_at dksJ9_hashCode_2_0 23 rfl rfl)
theorem dJ9_hashCode_2_24 : decode cJ9_hashCode_2 24 = .ok (.istore_n 0, 1) := dk_59 (dk_at dksJ9_hashCode_2_1 0 rfl rfl)
theorem dJ9_hashCode_2_25 : decode cJ9_hashCode_2 25 = .ok (.iinc 5 1, 3) := dk_132 5 1 (dk_at dksJ9_hashCode_2_1 1 rfl rfl)
theorem dJ9_hashCode_2_28 : decode cJ9_hashCode_2 28 = .ok (.goto (-20), 3) := dk_167 255 236 (dk_at dksJ9_hashCode_2_1 4 rfl rfl)
theorem dJ9_hashCode_2_31 : decode cJ9_hashCode_2 31 = .ok (.iload_n 0, 1) := dk_26 (dk_at dksJ9_hashCode_2_1 7 rfl rfl)
theorem dJ9_hashCode_2_32 : decode cJ9_hashCode_2 32 = .ok (.ireturn, 1) := dk_172 (dk_at dksJ9_hashCode_2_1 8 rfl rfl)
abbrev cJ9_hashCode_3 : ByteArray := prog_88_method_8_code
def yJ9_hashCode_3 : MethodName := ⟨RJ9, "hashCode", "(I[SII)I"⟩
def dkwJ9_hashCode_3_1 : List UInt8 := [59, 132, 5, 1, 167, 255, 236, 26, 172]
abbrev dktJ9_hashCode_3_1 : List UInt8 := dkwJ9_hashCode_3_1 ++ []
def dkwJ9_hashCode_3_0 : List UInt8 := [28, 29, 96, 54, 4, 28, 54, 5, 21, 5, 21, 4, 162, 0, 19, 16, 31, 26, 104, 43, 21, 5, 53, 96]
abbrev dktJ9_hashCode_3_0 : List UInt8 := dkwJ9_hashCode_3_0 ++ dktJ9_hashCode_3_1
theorem dksJ9_hashCode_3_0 : cJ9_hashCode_3.data.toList.drop 0 = dktJ9_hashCode_3_0 := by decide +kernel
theorem dksJ9_hashCode_3_1 : cJ9_hashCode_3.data.toList.drop 24 = dktJ9_hashCode_3_1 := dk_seg dksJ9_hashCode_3_0 24 rfl rfl
theorem dJ9_hashCode_3_0 : decode cJ9_hashCode_3 0 = .ok (.iload_n 2, 1) := dk_28 (dk_at dksJ9_hashCode_3_0 0 rfl rfl)
theorem dJ9_hashCode_3_1 : decode cJ9_hashCode_3 1 = .ok (.iload_n 3, 1) := dk_29 (dk_at dksJ9_hashCode_3_0 1 rfl rfl)
theorem dJ9_hashCode_3_2 : decode cJ9_hashCode_3 2 = .ok (.iadd, 1) := dk_96 (dk_at dksJ9_hashCode_3_0 2 rfl rfl)
theorem dJ9_hashCode_3_3 : decode cJ9_hashCode_3 3 = .ok (.istore 4, 2) := dk_54 4 (dk_at dksJ9_hashCode_3_0 3 rfl rfl)
theorem dJ9_hashCode_3_5 : decode cJ9_hashCode_3 5 = .ok (.iload_n 2, 1) := dk_28 (dk_at dksJ9_hashCode_3_0 5 rfl rfl)
theorem dJ9_hashCode_3_6 : decode cJ9_hashCode_3 6 = .ok (.istore 5, 2) := dk_54 5 (dk_at dksJ9_hashCode_3_0 6 rfl rfl)
theorem dJ9_hashCode_3_8 : decode cJ9_hashCode_3 8 = .ok (.iload 5, 2) := dk_21 5 (dk_at dksJ9_hashCode_3_0 8 rfl rfl)
theorem dJ9_hashCode_3_10 : decode cJ9_hashCode_3 10 = .ok (.iload 4, 2) := dk_21 4 (dk_at dksJ9_hashCode_3_0 10 rfl rfl)
theorem dJ9_hashCode_3_12 : decode cJ9_hashCode_3 12 = .ok (.if_icmp .ge 19, 3) := dk_162 0 19 (dk_at dksJ9_hashCode_3_0 12 rfl rfl)
theorem dJ9_hashCode_3_15 : decode cJ9_hashCode_3 15 = .ok (.bipush 31, 2) := dk_16 31 (dk_at dksJ9_hashCode_3_0 15 rfl rfl)
theorem dJ9_hashCode_3_17 : decode cJ9_hashCode_3 17 = .ok (.iload_n 0, 1) := dk_26 (dk_at dksJ9_hashCode_3_0 17 rfl rfl)
theorem dJ9_hashCode_3_18 : decode cJ9_hashCode_3 18 = .ok (.imul, 1) := dk_104 (dk_at dksJ9_hashCode_3_0 18 rfl rfl)
theorem dJ9_hashCode_3_19 : decode cJ9_hashCode_3 19 = .ok (.aload_n 1, 1) := dk_43 (dk_at dksJ9_hashCode_3_0 19 rfl rfl)
theorem dJ9_hashCode_3_20 : decode cJ9_hashCode_3 20 = .ok (.iload 5, 2) := dk_21 5 (dk_at dksJ9_hashCode_3_0 20 rfl rfl)
theorem dJ9_hashCode_3_22 : decode cJ9_hashCode_3 22 = .ok (.saload, 1) := dk_53 (dk_at dksJ9_hashCode_3_0 22 rfl rfl)
theorem dJ9_hashCode_3_23 : decode cJ9_hashCode_3 23 = .ok (.iadd, 1) := dk_96 (dk_at dksJ9_hashCode_3_0 23 rfl rfl)
theorem dJ9_hashCode_3_24 : decode cJ9_hashCode_3 24 = .ok (.istore_n 0, 1) := dk_59 (dk_at dksJ9_hashCode_3_1 0 rfl rfl)
theorem dJ9_hashCode_3_25 : decode cJ9_hashCode_3 25 = .ok (.iinc 5 1, 3) := dk_132 5 1 (dk_at dksJ9_hashCode_3_1 1 rfl rfl)
theorem dJ9_hashCode_3_28 : decode cJ9_hashCode_3 28 = .ok (.goto (-20), 3) := dk_167 255 236 (dk_at dksJ9_hashCode_3_1 4 rfl rfl)
theorem dJ9_hashCode_3_31 : decode cJ9_hashCode_3 31 = .ok (.iload_n 0, 1) := dk_26 (dk_at dksJ9_hashCode_3_1 7 rfl rfl)
theorem dJ9_hashCode_3_32 : decode cJ9_hashCode_3 32 = .ok (.ireturn, 1) := dk_172 (dk_at dksJ9_hashCode_3_1 8 rfl rfl)
abbrev cJ9_hashCode_4 : ByteArray := prog_88_method_9_code
def yJ9_hashCode_4 : MethodName := ⟨RJ9, "hashCode", "(I[III)I"⟩
def dkwJ9_hashCode_4_1 : List UInt8 := [59, 132, 5, 1, 167, 255, 236, 26, 172]
abbrev dktJ9_hashCode_4_1 : List UInt8 := dkwJ9_hashCode_4_1 ++ []
def dkwJ9_hashCode_4_0 : List UInt8 := [28, 29, 96, 54, 4, 28, 54, 5, 21, 5, 21, 4, 162, 0, 19, 16, 31, 26, 104, 43, 21, 5, 46, 96]
abbrev dktJ9_hashCode_4_0 : List UInt8 := dkwJ9_hashCode_4_0 ++ dktJ9_hashCode_4_1
theorem dksJ9_hashCode_4_0 : cJ9_hashCode_4.data.toList.drop 0 = dktJ9_hashCode_4_0 := by decide +kernel
theorem dksJ9_hashCode_4_1 : cJ9_hashCode_4.data.toList.drop 24 = dktJ9_hashCode_4_1 := dk_seg dksJ9_hashCode_4_0 24 rfl rfl
theorem dJ9_hashCode_4_0 : decode cJ9_hashCode_4 0 = .ok (.iload_n 2, 1) := dk_28 (dk_at dksJ9_hashCode_4_0 0 rfl rfl)
theorem dJ9_hashCode_4_1 : decode cJ9_hashCode_4 1 = .ok (.iload_n 3, 1) := dk_29 (dk_at dksJ9_hashCode_4_0 1 rfl rfl)
theorem dJ9_hashCode_4_2 : decode cJ9_hashCode_4 2 = .ok (.iadd, 1) := dk_96 (dk_at dksJ9_hashCode_4_0 2 rfl rfl)
theorem dJ9_hashCode_4_3 : decode cJ9_hashCode_4 3 = .ok (.istore 4, 2) := dk_54 4 (dk_at dksJ9_hashCode_4_0 3 rfl rfl)
theorem dJ9_hashCode_4_5 : decode cJ9_hashCode_4 5 = .ok (.iload_n 2, 1) := dk_28 (dk_at dksJ9_hashCode_4_0 5 rfl rfl)
theorem dJ9_hashCode_4_6 : decode cJ9_hashCode_4 6 = .ok (.istore 5, 2) := dk_54 5 (dk_at dksJ9_hashCode_4_0 6 rfl rfl)
theorem dJ9_hashCode_4_8 : decode cJ9_hashCode_4 8 = .ok (.iload 5, 2) := dk_21 5 (dk_at dksJ9_hashCode_4_0 8 rfl rfl)
theorem dJ9_hashCode_4_10 : decode cJ9_hashCode_4 10 = .ok (.iload 4, 2) := dk_21 4 (dk_at dksJ9_hashCode_4_0 10 rfl rfl)
theorem dJ9_hashCode_4_12 : decode cJ9_hashCode_4 12 = .ok (.if_icmp .ge 19, 3) := dk_162 0 19 (dk_at dksJ9_hashCode_4_0 12 rfl rfl)
theorem dJ9_hashCode_4_15 : decode cJ9_hashCode_4 15 = .ok (.bipush 31, 2) := dk_16 31 (dk_at dksJ9_hashCode_4_0 15 rfl rfl)
theorem dJ9_hashCode_4_17 : decode cJ9_hashCode_4 17 = .ok (.iload_n 0, 1) := dk_26 (dk_at dksJ9_hashCode_4_0 17 rfl rfl)
theorem dJ9_hashCode_4_18 : decode cJ9_hashCode_4 18 = .ok (.imul, 1) := dk_104 (dk_at dksJ9_hashCode_4_0 18 rfl rfl)
theorem dJ9_hashCode_4_19 : decode cJ9_hashCode_4 19 = .ok (.aload_n 1, 1) := dk_43 (dk_at dksJ9_hashCode_4_0 19 rfl rfl)
theorem dJ9_hashCode_4_20 : decode cJ9_hashCode_4 20 = .ok (.iload 5, 2) := dk_21 5 (dk_at dksJ9_hashCode_4_0 20 rfl rfl)
theorem dJ9_hashCode_4_22 : decode cJ9_hashCode_4 22 = .ok (.iaload, 1) := dk_46 (dk_at dksJ9_hashCode_4_0 22 rfl rfl)
theorem dJ9_hashCode_4_23 : decode cJ9_hashCode_4 23 = .ok (.iadd, 1) := dk_96 (dk_at dksJ9_hashCode_4_0 23 rfl rfl)
theorem dJ9_hashCode_4_24 : decode cJ9_hashCode_4 24 = .ok (.istore_n 0, 1) := dk_59 (dk_at dksJ9_hashCode_4_1 0 rfl rfl)
theorem dJ9_hashCode_4_25 : decode cJ9_hashCode_4 25 = .ok (.iinc 5 1, 3) := dk_132 5 1 (dk_at dksJ9_hashCode_4_1 1 rfl rfl)
theorem dJ9_hashCode_4_28 : decode cJ9_hashCode_4 28 = .ok (.goto (-20), 3) := dk_167 255 236 (dk_at dksJ9_hashCode_4_1 4 rfl rfl)
theorem dJ9_hashCode_4_31 : decode cJ9_hashCode_4 31 = .ok (.iload_n 0, 1) := dk_26 (dk_at dksJ9_hashCode_4_1 7 rfl rfl)
theorem dJ9_hashCode_4_32 : decode cJ9_hashCode_4 32 = .ok (.ireturn, 1) := dk_172 (dk_at dksJ9_hashCode_4_1 8 rfl rfl)
theorem q142 : (Jvm.Cond.initialized "jdk/internal/util/ArraysSupport") ∈ lw_all := lw_g (lw_at lw_m1 12 rfl) rfl
theorem q407 : (Jvm.Cond.static ({ cls := "jdk/internal/util/ArraysSupport", name := "newLength", desc := "(III)I" } : Jvm.MethodName)) ∈ lw_all := lw_g (lw_at lw_m2 37 rfl) rfl
theorem q408 : (Jvm.Cond.code ({ cls := "jdk/internal/util/ArraysSupport", name := "newLength", desc := "(III)I" } : Jvm.MethodName) prog_88_method_27_code (4 : Nat) (Option.some Jvm.ClassFile.FieldType.int)) ∈ lw_all := lw_g (lw_at lw_m2 38 rfl) rfl
theorem q409 : (Jvm.Cond.methodLink "jdk/internal/util/ArraysSupport" (194 : Nat) ({ cls := "java/lang/Math", name := "max", desc := "(II)I" } : Jvm.MethodName)) ∈ lw_all := lw_g (lw_at lw_m2 39 rfl) rfl
theorem q412 : (Jvm.Cond.constant "jdk/internal/util/ArraysSupport" (200 : Nat) (2147483639 : Int32)) ∈ lw_all := lw_g (lw_at lw_m2 42 rfl) rfl
theorem q413 : (Jvm.Cond.methodLink "jdk/internal/util/ArraysSupport" (201 : Nat) ({ cls := "jdk/internal/util/ArraysSupport", name := "hugeLength", desc := "(II)I" } : Jvm.MethodName)) ∈ lw_all := lw_g (lw_at lw_m2 43 rfl) rfl
theorem q414 : (Jvm.Cond.static ({ cls := "jdk/internal/util/ArraysSupport", name := "hugeLength", desc := "(II)I" } : Jvm.MethodName)) ∈ lw_all := lw_g (lw_at lw_m2 44 rfl) rfl
theorem q415 : (Jvm.Cond.code ({ cls := "jdk/internal/util/ArraysSupport", name := "hugeLength", desc := "(II)I" } : Jvm.MethodName) prog_88_method_28_code (3 : Nat) (Option.some Jvm.ClassFile.FieldType.int)) ∈ lw_all := lw_g (lw_at lw_m2 45 rfl) rfl
theorem q1685 : (Jvm.Cond.static ({ cls := "jdk/internal/util/ArraysSupport", name := "vectorizedHashCode", desc := "(Ljava/lang/Object;IIII)I" } : Jvm.MethodName)) ∈ lw_all := lw_g (lw_at lw_m7 115 rfl) rfl
theorem q1686 : (Jvm.Cond.code ({ cls := "jdk/internal/util/ArraysSupport", name := "vectorizedHashCode", desc := "(Ljava/lang/Object;IIII)I" } : Jvm.MethodName) prog_88_method_4_code (5 : Nat) (Option.some Jvm.ClassFile.FieldType.int)) ∈ lw_all := lw_g (lw_at lw_m7 116 rfl) rfl
theorem q1687 : (Jvm.Cond.classLink "jdk/internal/util/ArraysSupport" (60 : Nat) "[B") ∈ lw_all := lw_g (lw_at lw_m7 117 rfl) rfl
theorem q1688 : (Jvm.Cond.methodLink "jdk/internal/util/ArraysSupport" (62 : Nat) ({ cls := "jdk/internal/util/ArraysSupport", name := "signedHashCode", desc := "(I[BII)I" } : Jvm.MethodName)) ∈ lw_all := lw_g (lw_at lw_m7 118 rfl) rfl
theorem q1689 : (Jvm.Cond.static ({ cls := "jdk/internal/util/ArraysSupport", name := "signedHashCode", desc := "(I[BII)I" } : Jvm.MethodName)) ∈ lw_all := lw_g (lw_at lw_m7 119 rfl) rfl
theorem q1690 : (Jvm.Cond.code ({ cls := "jdk/internal/util/ArraysSupport", name := "signedHashCode", desc := "(I[BII)I" } : Jvm.MethodName) prog_88_method_5_code (6 : Nat) (Option.some Jvm.ClassFile.FieldType.int)) ∈ lw_all := lw_g (lw_at lw_m7 120 rfl) rfl
theorem q1691 : (Jvm.Cond.methodLink "jdk/internal/util/ArraysSupport" (66 : Nat) ({ cls := "jdk/internal/util/ArraysSupport", name := "utf16hashCode", desc := "(I[BII)I" } : Jvm.MethodName)) ∈ lw_all := lw_g (lw_at lw_m7 121 rfl) rfl
theorem q1692 : (Jvm.Cond.static ({ cls := "jdk/internal/util/ArraysSupport", name := "utf16hashCode", desc := "(I[BII)I" } : Jvm.MethodName)) ∈ lw_all := lw_g (lw_at lw_m7 122 rfl) rfl
theorem q1693 : (Jvm.Cond.code ({ cls := "jdk/internal/util/ArraysSupport", name := "utf16hashCode", desc := "(I[BII)I" } : Jvm.MethodName) prog_88_method_10_code (6 : Nat) (Option.some Jvm.ClassFile.FieldType.int)) ∈ lw_all := lw_g (lw_at lw_m7 123 rfl) rfl
theorem q1694 : (Jvm.Cond.fieldLink "jdk/internal/util/ArraysSupport" (106 : Nat) "jdk/internal/util/ArraysSupport" "JLA" "Ljdk/internal/access/JavaLangAccess;") ∈ lw_all := lw_g (lw_at lw_m7 124 rfl) rfl
theorem q1695 : (Jvm.Cond.laysStatic "jdk/internal/util/ArraysSupport" "JLA" "Ljdk/internal/access/JavaLangAccess;") ∈ lw_tbl := lw_at lw_m7 125 rfl
theorem q1696 : (Jvm.Cond.interfaceEntry "jdk/internal/util/ArraysSupport" (110 : Nat)) ∈ lw_tbl := lw_at lw_m7 126 rfl
theorem q1697 : (Jvm.Cond.methodLink "jdk/internal/util/ArraysSupport" (110 : Nat) ({ cls := "jdk/internal/access/JavaLangAccess", name := "getUTF16Char", desc := "([BI)C" } : Jvm.MethodName)) ∈ lw_all := lw_g (lw_at lw_m7 127 rfl) rfl
theorem q1707 : (Jvm.Cond.classLink "jdk/internal/util/ArraysSupport" (69 : Nat) "[C") ∈ lw_all := lw_g (lw_at lw_m7 137 rfl) rfl
theorem q1708 : (Jvm.Cond.methodLink "jdk/internal/util/ArraysSupport" (71 : Nat) ({ cls := "jdk/internal/util/ArraysSupport", name := "hashCode", desc := "(I[CII)I" } : Jvm.MethodName)) ∈ lw_all := lw_g (lw_at lw_m7 138 rfl) rfl
theorem q1709 : (Jvm.Cond.static ({ cls := "jdk/internal/util/ArraysSupport", name := "hashCode", desc := "(I[CII)I" } : Jvm.MethodName)) ∈ lw_all := lw_g (lw_at lw_m7 139 rfl) rfl
theorem q1710 : (Jvm.Cond.code ({ cls := "jdk/internal/util/ArraysSupport", name := "hashCode", desc := "(I[CII)I" } : Jvm.MethodName) prog_88_method_7_code (6 : Nat) (Option.some Jvm.ClassFile.FieldType.int)) ∈ lw_all := lw_g (lw_at lw_m7 140 rfl) rfl
theorem q1711 : (Jvm.Cond.methodLink "jdk/internal/util/ArraysSupport" (75 : Nat) ({ cls := "jdk/internal/util/ArraysSupport", name := "hashCode", desc := "(I[BII)I" } : Jvm.MethodName)) ∈ lw_all := lw_g (lw_at lw_m7 141 rfl) rfl
theorem q1712 : (Jvm.Cond.static ({ cls := "jdk/internal/util/ArraysSupport", name := "hashCode", desc := "(I[BII)I" } : Jvm.MethodName)) ∈ lw_all := lw_g (lw_at lw_m7 142 rfl) rfl
theorem q1713 : (Jvm.Cond.code ({ cls := "jdk/internal/util/ArraysSupport", name := "hashCode", desc := "(I[BII)I" } : Jvm.MethodName) prog_88_method_6_code (6 : Nat) (Option.some Jvm.ClassFile.FieldType.int)) ∈ lw_all := lw_g (lw_at lw_m7 143 rfl) rfl
theorem q1714 : (Jvm.Cond.classLink "jdk/internal/util/ArraysSupport" (77 : Nat) "[S") ∈ lw_all := lw_g (lw_at lw_m7 144 rfl) rfl
theorem q1715 : (Jvm.Cond.methodLink "jdk/internal/util/ArraysSupport" (79 : Nat) ({ cls := "jdk/internal/util/ArraysSupport", name := "hashCode", desc := "(I[SII)I" } : Jvm.MethodName)) ∈ lw_all := lw_g (lw_at lw_m7 145 rfl) rfl
theorem q1716 : (Jvm.Cond.static ({ cls := "jdk/internal/util/ArraysSupport", name := "hashCode", desc := "(I[SII)I" } : Jvm.MethodName)) ∈ lw_all := lw_g (lw_at lw_m7 146 rfl) rfl
theorem q1717 : (Jvm.Cond.code ({ cls := "jdk/internal/util/ArraysSupport", name := "hashCode", desc := "(I[SII)I" } : Jvm.MethodName) prog_88_method_8_code (6 : Nat) (Option.some Jvm.ClassFile.FieldType.int)) ∈ lw_all := lw_g (lw_at lw_m7 147 rfl) rfl
theorem q1718 : (Jvm.Cond.classLink "jdk/internal/util/ArraysSupport" (82 : Nat) "[I") ∈ lw_all := lw_g (lw_at lw_m7 148 rfl) rfl
theorem q1719 : (Jvm.Cond.methodLink "jdk/internal/util/ArraysSupport" (84 : Nat) ({ cls := "jdk/internal/util/ArraysSupport", name := "hashCode", desc := "(I[III)I" } : Jvm.MethodName)) ∈ lw_all := lw_g (lw_at lw_m7 149 rfl) rfl
theorem q1720 : (Jvm.Cond.static ({ cls := "jdk/internal/util/ArraysSupport", name := "hashCode", desc := "(I[III)I" } : Jvm.MethodName)) ∈ lw_all := lw_g (lw_at lw_m7 150 rfl) rfl
theorem q1721 : (Jvm.Cond.code ({ cls := "jdk/internal/util/ArraysSupport", name := "hashCode", desc := "(I[III)I" } : Jvm.MethodName) prog_88_method_9_code (6 : Nat) (Option.some Jvm.ClassFile.FieldType.int)) ∈ lw_all := lw_g (lw_at lw_m7 151 rfl) rfl
