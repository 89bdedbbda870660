set_option maxRecDepth 100000
/-! java/util/BitSet -/
def RJ31 : String := "java/util/BitSet"
def TJ31 : u_T := fun k => match k with
  | 0 => ("java/util/BitSet", "words", "[J", false)
  | 1 => ("java/util/BitSet", "wordsInUse", "I", false)
  | _ => ("java/util/BitSet", "sizeIsSticky", "Z", false)
def tyJ31 : Nat → FieldType := fun k => match k with
  | 0 => .array .long
  | 1 => .int
  | _ => .boolean
abbrev wsJ310 : List Cond := u_ws RJ31 TJ31 3
theorem nmJ31 : ∀ a, a < 3 → ∀ b, b < 3 → a ≠ b → (TJ31 a).2.1 ≠ (TJ31 b).2.1 := by decide +kernel
theorem tyJ31_ok : ∀ k, k < 3 → parseFieldDescriptor (TJ31 k).2.2.1 = some (tyJ31 k) := by decide +kernel
abbrev cJ31_init : ByteArray := prog_66_method_5_code
def yJ31_init : MethodName := ⟨RJ31, "<init>", "(I)V"⟩
def dkwJ31_init_2 : List UInt8 := [27, 182, 0, 27, 42, 4, 181, 0, 24, 177]
abbrev dktJ31_init_2 : List UInt8 := dkwJ31_init_2 ++ []
def dkwJ31_init_1 : List UInt8 := [187, 0, 33, 89, 183, 0, 35, 18, 36, 182, 0, 38, 27, 182, 0, 42, 182, 0, 45, 183, 0, 49, 191, 42]
abbrev dktJ31_init_1 : List UInt8 := dkwJ31_init_1 ++ dktJ31_init_2
def dkwJ31_init_0 : List UInt8 := [42, 183, 0, 21, 42, 3, 181, 0, 7, 42, 3, 181, 0, 24, 27, 156, 0, 30, 187, 0, 31, 89]
abbrev dktJ31_init_0 : List UInt8 := dkwJ31_init_0 ++ dktJ31_init_1
theorem dksJ31_init_0 : cJ31_init.data.toList.drop 0 = dktJ31_init_0 := by decide +kernel
theorem dksJ31_init_1 : cJ31_init.data.toList.drop 22 = dktJ31_init_1 := dk_seg dksJ31_init_0 22 rfl rfl
theorem dksJ31_init_2 : cJ31_init.data.toList.drop 46 = dktJ31_init_2 := dk_seg dksJ31_init_1 24 rfl rfl
theorem dJ31_init_0 : decode cJ31_init 0 = .ok (.aload_n 0, 1) := dk_42 (dk_at dksJ31_init_0 0 rfl rfl)
theorem dJ31_init_1 : decode cJ31_init 1 = .ok (.invokespecial 21, 3) := dk_183 0 21 (dk_at dksJ31_init_0 1 rfl rfl)
theorem dJ31_init_4 : decode cJ31_init 4 = .ok (.aload_n 0, 1) := dk_42 (dk_at dksJ31_init_0 4 rfl rfl)
theorem dJ31_init_5 : decode cJ31_init 5 = .ok (.iconst 0, 1) := dk_3 (dk_at dksJ31_init_0 5 rfl rfl)
theorem dJ31_init_6 : decode cJ31_init 6 = .ok (.putfield 7, 3) := dk_181 0 7 (dk_at dksJ31_init_0 6 rfl rfl)
theorem dJ31_init_9 : decode cJ31_init 9 = .ok (.aload_n 0, 1) := dk_42 (dk_at dksJ31_init_0 9 rfl rfl)
theorem dJ31_init_10 : decode cJ31_init 10 = .ok (.iconst 0, 1) := dk_3 (dk_at dksJ31_init_0 10 rfl rfl)
theorem dJ31_init_11 : decode cJ31_init 11 = .ok (.putfield 24, 3) := dk_181 0 24 (dk_at dksJ31_init_0 11 rfl rfl)
theorem dJ31_init_14 : decode cJ31_init 14 = .ok (.iload_n 1, 1) := dk_27 (dk_at dksJ31_init_0 14 rfl rfl)
theorem dJ31_init_15 : decode cJ31_init 15 = .ok (.ifCond .ge 30, 3) := dk_156 0 30 (dk_at dksJ31_init_0 15 rfl rfl)
theorem dJ31_init_18 : decode cJ31_init 18 = .ok (.new 31, 3) := dk_187 0 31 (dk_at dksJ31_init_0 18 rfl rfl)
theorem dJ31_init_21 : decode cJ31_init 21 = .ok (.dup, 1) := dk_89 (dk_at dksJ31_init_0 21 rfl rfl)
theorem dJ31_init_22 : decode cJ31_init 22 = .ok (.new 33, 3) := dk_187 0 33 (dk_at dksJ31_init_1 0 rfl rfl)
theorem dJ31_init_25 : decode cJ31_init 25 = .ok (.dup, 1) := dk_89 (dk_at dksJ31_init_1 3 rfl rfl)
theorem dJ31_init_26 : decode cJ31_init 26 = .ok (.invokespecial 35, 3) := dk_183 0 35 (dk_at dksJ31_init_1 4 rfl rfl)
theorem dJ31_init_29 : decode cJ31_init 29 = .ok (.ldc 36, 2) := dk_18 36 (dk_at dksJ31_init_1 7 rfl rfl)
theorem dJ31_init_31 : decode cJ31_init 31 = .ok (.invokevirtual 38, 3) := dk_182 0 38 (dk_at dksJ31_init_1 9 rfl rfl)
theorem dJ31_init_34 : decode cJ31_init 34 = .ok (.iload_n 1, 1) := dk_27 (dk_at dksJ31_init_1 12 rfl rfl)
theorem dJ31_init_35 : decode cJ31_init 35 = .ok (.invokevirtual 42, 3) := dk_182 0 42 (dk_at dksJ31_init_1 13 rfl rfl)
theorem dJ31_init_38 : decode cJ31_init 38 = .ok (.invokevirtual 45, 3) := dk_182 0 45 (dk_at dksJ31_init_1 16 rfl rfl)
theorem dJ31_init_41 : decode cJ31_init 41 = .ok (.invokespecial 49, 3) := dk_183 0 49 (dk_at dksJ31_init_1 19 rfl rfl)
theorem dJ31_init_44 : decode cJ31_init 44 = .ok (.athrow, 1) := dk_191 (dk_at dksJ31_init_1 22 rfl rfl)
theorem dJ31_init_45 : decode cJ31_init 45 = .ok (.aload_n 0, 1) := dk_42 (dk_at dksJ31_init_1 23 rfl rfl)
theorem dJ31_init_46 : decode cJ31_init 46 = .ok (.iload_n 1, 1) := dk_27 (dk_at dksJ31_init_2 0 rfl rfl)
theorem dJ31_init_47 : decode cJ31_init 47 = .ok (.invokevirtual 27, 3) := dk_182 0 27 (dk_at dksJ31_init_2 1 rfl rfl)
theorem dJ31_init_50 : decode cJ31_init 50 = .ok (.aload_n 0, 1) := dk_42 (dk_at dksJ31_init_2 4 rfl rfl)
theorem dJ31_init_51 : decode cJ31_init 51 = .ok (.iconst 1, 1) := dk_4 (dk_at dksJ31_init_2 5 rfl rfl)
theorem dJ31_init_52 : decode cJ31_init 52 = .ok (.putfield 24, 3) := dk_181 0 24 (dk_at dksJ31_init_2 6 rfl rfl)
theorem dJ31_init_55 : decode cJ31_init 55 = .ok (.return_, 1) := dk_177 (dk_at dksJ31_init_2 9 rfl rfl)
abbrev cJ31_initWords : ByteArray := prog_66_method_6_code
def yJ31_initWords : MethodName := ⟨RJ31, "initWords", "(I)V"⟩
def dkwJ31_initWords_0 : List UInt8 := [42, 27, 4, 100, 184, 0, 52, 4, 96, 188, 11, 181, 0, 11, 177]
abbrev dktJ31_initWords_0 : List UInt8 := dkwJ31_initWords_0 ++ []
theorem dksJ31_initWords_0 : cJ31_initWords.data.toList.drop 0 = dktJ31_initWords_0 := by decide +kernel
theorem dJ31_initWords_0 : decode cJ31_initWords 0 = .ok (.aload_n 0, 1) := dk_42 (dk_at dksJ31_initWords_0 0 rfl rfl)
theorem dJ31_initWords_1 : decode cJ31_initWords 1 = .ok (.iload_n 1, 1) := dk_27 (dk_at dksJ31_initWords_0 1 rfl rfl)
theorem dJ31_initWords_2 : decode cJ31_initWords 2 = .ok (.iconst 1, 1) := dk_4 (dk_at dksJ31_initWords_0 2 rfl rfl)
theorem dJ31_initWords_3 : decode cJ31_initWords 3 = .ok (.isub, 1) := dk_100 (dk_at dksJ31_initWords_0 3 rfl rfl)
theorem dJ31_initWords_4 : decode cJ31_initWords 4 = .ok (.invokestatic 52, 3) := dk_184 0 52 (dk_at dksJ31_initWords_0 4 rfl rfl)
theorem dJ31_initWords_7 : decode cJ31_initWords 7 = .ok (.iconst 1, 1) := dk_4 (dk_at dksJ31_initWords_0 7 rfl rfl)
theorem dJ31_initWords_8 : decode cJ31_initWords 8 = .ok (.iadd, 1) := dk_96 (dk_at dksJ31_initWords_0 8 rfl rfl)
theorem dJ31_initWords_9 : decode cJ31_initWords 9 = .ok (.newarray .long, 2) := dk_188_11 (dk_at dksJ31_initWords_0 9 rfl rfl)
theorem dJ31_initWords_11 : decode cJ31_initWords 11 = .ok (.putfield 11, 3) := dk_181 0 11 (dk_at dksJ31_initWords_0 11 rfl rfl)
theorem dJ31_initWords_14 : decode cJ31_initWords 14 = .ok (.return_, 1) := dk_177 (dk_at dksJ31_initWords_0 14 rfl rfl)
abbrev cJ31_wordIndex : ByteArray := prog_66_method_1_code
def yJ31_wordIndex : MethodName := ⟨RJ31, "wordIndex", "(I)I"⟩
def dkwJ31_wordIndex_0 : List UInt8 := [26, 16, 6, 122, 172]
abbrev dktJ31_wordIndex_0 : List UInt8 := dkwJ31_wordIndex_0 ++ []
theorem dksJ31_wordIndex_0 : cJ31_wordIndex.data.toList.drop 0 = dktJ31_wordIndex_0 := by decide +kernel
theorem dJ31_wordIndex_0 : decode cJ31_wordIndex 0 = .ok (.iload_n 0, 1) := dk_26 (dk_at dksJ31_wordIndex_0 0 rfl rfl)
theorem dJ31_wordIndex_1 : decode cJ31_wordIndex 1 = .ok (.bipush 6, 2) := dk_16 6 (dk_at dksJ31_wordIndex_0 1 rfl rfl)
theorem dJ31_wordIndex_3 : decode cJ31_wordIndex 3 = .ok (.ishr, 1) := dk_122 (dk_at dksJ31_wordIndex_0 3 rfl rfl)
theorem dJ31_wordIndex_4 : decode cJ31_wordIndex 4 = .ok (.ireturn, 1) := dk_172 (dk_at dksJ31_wordIndex_0 4 rfl rfl)
abbrev cJ31_set : ByteArray := prog_66_method_21_code
def yJ31_set : MethodName := ⟨RJ31, "set", "(II)V"⟩
def dkwJ31_set_5 : List UInt8 := [42, 182, 0, 56, 177]
abbrev dktJ31_set_5 : List UInt8 := dkwJ31_set_5 ++ []
def dkwJ31_set_4 : List UInt8 := [21, 9, 20, 0, 165, 80, 132, 9, 1, 167, 255, 236, 42, 180, 0, 11, 21, 4, 92, 47, 22, 7, 129, 80]
abbrev dktJ31_set_4 : List UInt8 := dkwJ31_set_4 ++ dktJ31_set_5
def dkwJ31_set_3 : List UInt8 := [29, 92, 47, 22, 5, 129, 80, 29, 4, 96, 54, 9, 21, 9, 21, 4, 162, 0, 19, 42, 180, 0, 11]
abbrev dktJ31_set_3 : List UInt8 := dkwJ31_set_3 ++ dktJ31_set_4
def dkwJ31_set_2 : List UInt8 := [160, 0, 20, 42, 180, 0, 11, 29, 92, 47, 22, 5, 22, 7, 127, 129, 80, 167, 0, 54, 42, 180, 0, 11]
abbrev dktJ31_set_2 : List UInt8 := dkwJ31_set_2 ++ dktJ31_set_3
def dkwJ31_set_1 : List UInt8 := [42, 21, 4, 182, 0, 155, 20, 0, 165, 27, 121, 55, 5, 20, 0, 165, 28, 116, 125, 55, 7, 29, 21, 4]
abbrev dktJ31_set_1 : List UInt8 := dkwJ31_set_1 ++ dktJ31_set_2
def dkwJ31_set_0 : List UInt8 := [27, 28, 184, 0, 161, 27, 28, 160, 0, 4, 177, 27, 184, 0, 52, 62, 28, 4, 100, 184, 0, 52, 54, 4]
abbrev dktJ31_set_0 : List UInt8 := dkwJ31_set_0 ++ dktJ31_set_1
theorem dksJ31_set_0 : cJ31_set.data.toList.drop 0 = dktJ31_set_0 := by decide +kernel
theorem dksJ31_set_1 : cJ31_set.data.toList.drop 24 = dktJ31_set_1 := dk_seg dksJ31_set_0 24 rfl rfl
theorem dksJ31_set_2 : cJ31_set.data.toList.drop 48 = dktJ31_set_2 := dk_seg dksJ31_set_1 24 rfl rfl
theorem dksJ31_set_3 : cJ31_set.data.toList.drop 72 = dktJ31_set_3 := dk_seg dksJ31_set_2 24 rfl rfl
theorem dksJ31_set_4 : cJ31_set.data.toList.drop 95 = dktJ31_set_4 := dk_seg dksJ31_set_3 23 rfl rfl
theorem dksJ31_set_5 : cJ31_set.data.toList.drop 119 = dktJ31_set_5 := dk_seg dksJ31_set_4 24 rfl rfl
theorem dJ31_set_0 : decode cJ31_set 0 = .ok (.iload_n 1, 1) := dk_27 (dk_at dksJ31_set_0 0 rfl rfl)
theorem dJ31_set_1 : decode cJ31_set 1 = .ok (.iload_n 2, 1) := dk_28 (dk_at dksJ31_set_0 1 rfl rfl)
theorem dJ31_set_2 : decode cJ31_set 2 = .ok (.invokestatic 161, 3) := dk_184 0 161 (dk_at dksJ31_set_0 2 rfl rfl)
theorem dJ31_set_5 : decode cJ31_set 5 = .ok (.iload_n 1, 1) := dk_27 (dk_at dksJ31_set_0 5 rfl rfl)
theorem dJ31_set_6 : decode cJ31_set 6 = .ok (.iload_n 2, 1) := dk_28 (dk_at dksJ31_set_0 6 rfl rfl)
theorem dJ31_set_7 : decode cJ31_set 7 = .ok (.if_icmp .ne 4, 3) := dk_160 0 4 (dk_at dksJ31_set_0 7 rfl rfl)
theorem dJ31_set_10 : decode cJ31_set 10 = .ok (.return_, 1) := dk_177 (dk_at dksJ31_set_0 10 rfl rfl)
theorem dJ31_set_11 : decode cJ31_set 11 = .ok (.iload_n 1, 1) := dk_27 (dk_at dksJ31_set_0 11 rfl rfl)
theorem dJ31_set_12 : decode cJ31_set 12 = .ok (.invokestatic 52, 3) := dk_184 0 52 (dk_at dksJ31_set_0 12 rfl rfl)
theorem dJ31_set_15 : decode cJ31_set 15 = .ok (.istore_n 3, 1) := dk_62 (dk_at dksJ31_set_0 15 rfl rfl)
theorem dJ31_set_16 : decode cJ31_set 16 = .ok (.iload_n 2, 1) := dk_28 (dk_at dksJ31_set_0 16 rfl rfl)
theorem dJ31_set_17 : decode cJ31_set 17 = .ok (.iconst 1, 1) := dk_4 (dk_at dksJ31_set_0 17 rfl rfl)
theorem dJ31_set_18 : decode cJ31_set 18 = .ok (.isub, 1) := dk_100 (dk_at dksJ31_set_0 18 rfl rfl)
theorem dJ31_set_19 : decode cJ31_set 19 = .ok (.invokestatic 52, 3) := dk_184 0 52 (dk_at dksJ31_set_0 19 rfl rfl)
theorem dJ31_set_22 : decode cJ31_set 22 = .ok (.istore 4, 2) := dk_54 4 (dk_at dksJ31_set_0 22 rfl rfl)
theorem dJ31_set_24 : decode cJ31_set 24 = .ok (.aload_n 0, 1) := dk_42 (dk_at dksJ31_set_1 0 rfl rfl)
theorem dJ31_set_25 : decode cJ31_set 25 = .ok (.iload 4, 2) := dk_21 4 (dk_at dksJ31_set_1 1 rfl rfl)
theorem dJ31_set_27 : decode cJ31_set 27 = .ok (.invokevirtual 155, 3) := dk_182 0 155 (dk_at dksJ31_set_1 3 rfl rfl)
theorem dJ31_set_30 : decode cJ31_set 30 = .ok (.ldc2_w 165, 3) := dk_20 0 165 (dk_at dksJ31_set_1 6 rfl rfl)
theorem dJ31_set_33 : decode cJ31_set 33 = .ok (.iload_n 1, 1) := dk_27 (dk_at dksJ31_set_1 9 rfl rfl)
theorem dJ31_set_34 : decode cJ31_set 34 = .ok (.lshl, 1) := dk_121 (dk_at dksJ31_set_1 10 rfl rfl)
theorem dJ31_set_35 : decode cJ31_set 35 = .ok (.lstore 5, 2) := dk_55 5 (dk_at dksJ31_set_1 11 rfl rfl)
theorem dJ31_set_37 : decode cJ31_set 37 = .ok (.ldc2_w 165, 3) := dk_20 0 165 (dk_at dksJ31_set_1 13 rfl rfl)
theorem dJ31_set_40 : decode cJ31_set 40 = .ok (.iload_n 2, 1) := dk_28 (dk_at dksJ31_set_1 16 rfl rfl)
theorem dJ31_set_41 : decode cJ31_set 41 = .ok (.ineg, 1) := dk_116 (dk_at dksJ31_set_1 17 rfl rfl)
theorem dJ31_set_42 : decode cJ31_set 42 = .ok (.lushr, 1) := dk_125 (dk_at dksJ31_set_1 18 rfl rfl)
theorem dJ31_set_43 : decode cJ31_set 43 = .ok (.lstore 7, 2) := dk_55 7 (dk_at dksJ31_set_1 19 rfl rfl)
theorem dJ31_set_45 : decode cJ31_set 45 = .ok (.iload_n 3, 1) := dk_29 (dk_at dksJ31_set_1 21 rfl rfl)
theorem dJ31_set_46 : decode cJ31_set 46 = .ok (.iload 4, 2) := dk_21 4 (dk_at dksJ31_set_1 22 rfl rfl)
theorem dJ31_set_48 : decode cJ31_set 48 = .ok (.if_icmp .ne 20, 3) := dk_160 0 20 (dk_at dksJ31_set_2 0 rfl rfl)
theorem dJ31_set_51 : decode cJ31_set 51 = .ok (.aload_n 0, 1) := dk_42 (dk_at dksJ31_set_2 3 rfl rfl)
theorem dJ31_set_52 : decode cJ31_set 52 = .ok (.getfield 11, 3) := dk_180 0 11 (dk_at dksJ31_set_2 4 rfl rfl)
theorem dJ31_set_55 : decode cJ31_set 55 = .ok (.iload_n 3, 1) := dk_29 (dk_at dksJ31_set_2 7 rfl rfl)
theorem dJ31_set_56 : decode cJ31_set 56 = .ok (.dup2, 1) := dk_92 (dk_at dksJ31_set_2 8 rfl rfl)
theorem dJ31_set_57 : decode cJ31_set 57 = .ok (.laload, 1) := dk_47 (dk_at dksJ31_set_2 9 rfl rfl)
theorem dJ31_set_58 : decode cJ31_set 58 = .ok (.lload 5, 2) := dk_22 5 (dk_at dksJ31_set_2 10 rfl rfl)
theorem dJ31_set_60 : decode cJ31_set 60 = .ok (.lload 7, 2) := dk_22 7 (dk_at dksJ31_set_2 12 rfl rfl)
theorem dJ31_set_62 : decode cJ31_set 62 = .ok (.land, 1) := dk_127 (dk_at dksJ31_set_2 14 rfl rfl)
theorem dJ31_set_63 : decode cJ31_set 63 = .ok (.lor, 1) := dk_129 (dk_at dksJ31_set_2 15 rfl rfl)
theorem dJ31_set_64 : decode cJ31_set 64 = .ok (.lastore, 1) := dk_80 (dk_at dksJ31_set_2 16 rfl rfl)
theorem dJ31_set_65 : decode cJ31_set 65 = .ok (.goto 54, 3) := dk_167 0 54 (dk_at dksJ31_set_2 17 rfl rfl)
theorem dJ31_set_68 : decode cJ31_set 68 = .ok (.aload_n 0, 1) := dk_42 (dk_at dksJ31_set_2 20 rfl rfl)
theorem dJ31_set_69 : decode cJ31_set 69 = .ok (.getfield 11, 3) := dk_180 0 11 (dk_at dksJ31_set_2 21 rfl rfl)
theorem dJ31_set_72 : decode cJ31_set 72 = .ok (.iload_n 3, 1) := dk_29 (dk_at dksJ31_set_3 0 rfl rfl)
theorem dJ31_set_73 : decode cJ31_set 73 = .ok (.dup2, 1) := dk_92 (dk_at dksJ31_set_3 1 rfl rfl)
theorem dJ31_set_74 : decode cJ31_set 74 = .ok (.laload, 1) := dk_47 (dk_at dksJ31_set_3 2 rfl rfl)
theorem dJ31_set_75 : decode cJ31_set 75 = .ok (.lload 5, 2) := dk_22 5 (dk_at dksJ31_set_3 3 rfl rfl)
theorem dJ31_set_77 : decode cJ31_set 77 = .ok (.lor, 1) := dk_129 (dk_at dksJ31_set_3 5 rfl rfl)
theorem dJ31_set_78 : decode cJ31_set 78 = .ok (.lastore, 1) := dk_80 (dk_at dksJ31_set_3 6 rfl rfl)
theorem dJ31_set_79 : decode cJ31_set 79 = .ok (.iload_n 3, 1) := dk_29 (dk_at dksJ31_set_3 7 rfl rfl)
theorem dJ31_set_80 : decode cJ31_set 80 = .ok (.iconst 1, 1) := dk_4 (dk_at dksJ31_set_3 8 rfl rfl)
theorem dJ31_set_81 : decode cJ31_set 81 = .ok (.iadd, 1) := dk_96 (dk_at dksJ31_set_3 9 rfl rfl)
theorem dJ31_set_82 : decode cJ31_set 82 = .ok (.istore 9, 2) := dk_54 9 (dk_at dksJ31_set_3 10 rfl rfl)
theorem dJ31_set_84 : decode cJ31_set 84 = .ok (.iload 9, 2) := dk_21 9 (dk_at dksJ31_set_3 12 rfl rfl)
theorem dJ31_set_86 : decode cJ31_set 86 = .ok (.iload 4, 2) := dk_21 4 (dk_at dksJ31_set_3 14 rfl rfl)
theorem dJ31_set_88 : decode cJ31_set 88 = .ok (.if_icmp .ge 19, 3) := dk_162 0 19 (dk_at dksJ31_set_3 16 rfl rfl)
theorem dJ31_set_91 : decode cJ31_set 91 = .ok (.aload_n 0, 1) := dk_42 (dk_at dksJ31_set_3 19 rfl rfl)
theorem dJ31_set_92 : decode cJ31_set 92 = .ok (.getfield 11, 3) := dk_180 0 11 (dk_at dksJ31_set_3 20 rfl rfl)
theorem dJ31_set_95 : decode cJ31_set 95 = .ok (.iload 9, 2) := dk_21 9 (dk_at dksJ31_set_4 0 rfl rfl)
theorem dJ31_set_97 : decode cJ31_set 97 = .ok (.ldc2_w 165, 3) := dk_20 0 165 (dk_at dksJ31_set_4 2 rfl rfl)
theorem dJ31_set_100 : decode cJ31_set 100 = .ok (.lastore, 1) := dk_80 (dk_at dksJ31_set_4 5 rfl rfl)
theorem dJ31_set_101 : decode cJ31_set 101 = .ok (.iinc 9 1, 3) := dk_132 9 1 (dk_at dksJ31_set_4 6 rfl rfl)
theorem dJ31_set_104 : decode cJ31_set 104 = .ok (.goto (-20), 3) := dk_167 255 236 (dk_at dksJ31_set_4 9 rfl rfl)
theorem dJ31_set_107 : decode cJ31_set 107 = .ok (.aload_n 0, 1) := dk_42 (dk_at dksJ31_set_4 12 rfl rfl)
theorem dJ31_set_108 : decode cJ31_set 108 = .ok (.getfield 11, 3) := dk_180 0 11 (dk_at dksJ31_set_4 13 rfl rfl)
theorem dJ31_set_111 : decode cJ31_set 111 = .ok (.iload 4, 2) := dk_21 4 (dk_at dksJ31_set_4 16 rfl rfl)
theorem dJ31_set_113 : decode cJ31_set 113 = .ok (.dup2, 1) := dk_92 (dk_at dksJ31_set_4 18 rfl rfl)
theorem dJ31_set_114 : decode cJ31_set 114 = .ok (.laload, 1) := dk_47 (dk_at dksJ31_set_4 19 rfl rfl)
theorem dJ31_set_115 : decode cJ31_set 115 = .ok (.lload 7, 2) := dk_22 7 (dk_at dksJ31_set_4 20 rfl rfl)
theorem dJ31_set_117 : decode cJ31_set 117 = .ok (.lor, 1) := dk_129 (dk_at dksJ31_set_4 22 rfl rfl)
theorem dJ31_set_118 : decode cJ31_set 118 = .ok (.lastore, 1) := dk_80 (dk_at dksJ31_set_4 23 rfl rfl)
theorem dJ31_set_119 : decode cJ31_set 119 = .ok (.aload_n 0, 1) := dk_42 (dk_at dksJ31_set_5 0 rfl rfl)
theorem dJ31_set_120 : decode cJ31_set 120 = .ok (.invokevirtual 56, 3) := dk_182 0 56 (dk_at dksJ31_set_5 1 rfl rfl)
theorem dJ31_set_123 : decode cJ31_set 123 = .ok (.return_, 1) := dk_177 (dk_at dksJ31_set_5 4 rfl rfl)
abbrev cJ31_checkRange : ByteArray := prog_66_method_16_code
def yJ31_checkRange : MethodName := ⟨RJ31, "checkRange", "(II)V"⟩
def dkwJ31_checkRange_4 : List UInt8 := [182, 0, 42, 182, 0, 45, 183, 0, 146, 191, 177]
abbrev dktJ31_checkRange_4 : List UInt8 := dkwJ31_checkRange_4 ++ []
def dkwJ31_checkRange_3 : List UInt8 := [187, 0, 33, 89, 183, 0, 35, 18, 149, 182, 0, 38, 26, 182, 0, 42, 18, 151, 182, 0, 38, 27]
abbrev dktJ31_checkRange_3 : List UInt8 := dkwJ31_checkRange_3 ++ dktJ31_checkRange_4
def dkwJ31_checkRange_2 : List UInt8 := [182, 0, 38, 27, 182, 0, 42, 182, 0, 45, 183, 0, 146, 191, 26, 27, 164, 0, 39, 187, 0, 142, 89]
abbrev dktJ31_checkRange_2 : List UInt8 := dkwJ31_checkRange_2 ++ dktJ31_checkRange_3
def dkwJ31_checkRange_1 : List UInt8 := [182, 0, 45, 183, 0, 146, 191, 27, 156, 0, 30, 187, 0, 142, 89, 187, 0, 33, 89, 183, 0, 35, 18, 147]
abbrev dktJ31_checkRange_1 : List UInt8 := dkwJ31_checkRange_1 ++ dktJ31_checkRange_2
def dkwJ31_checkRange_0 : List UInt8 := [26, 156, 0, 30, 187, 0, 142, 89, 187, 0, 33, 89, 183, 0, 35, 18, 144, 182, 0, 38, 26, 182, 0, 42]
abbrev dktJ31_checkRange_0 : List UInt8 := dkwJ31_checkRange_0 ++ dktJ31_checkRange_1
theorem dksJ31_checkRange_0 : cJ31_checkRange.data.toList.drop 0 = dktJ31_checkRange_0 := by decide +kernel
theorem dksJ31_checkRange_1 : cJ31_checkRange.data.toList.drop 24 = dktJ31_checkRange_1 := dk_seg dksJ31_checkRange_0 24 rfl rfl
theorem dksJ31_checkRange_2 : cJ31_checkRange.data.toList.drop 48 = dktJ31_checkRange_2 := dk_seg dksJ31_checkRange_1 24 rfl rfl
theorem dksJ31_checkRange_3 : cJ31_checkRange.data.toList.drop 71 = dktJ31_checkRange_3 := dk_seg dksJ31_checkRange_2 23 rfl rfl
theorem dksJ31_checkRange_4 : cJ31_checkRange.data.toList.drop 93 = dktJ31_checkRange_4 := dk_seg dksJ31_checkRange_3 22 rfl rfl
theorem dJ31_checkRange_0 : decode cJ31_checkRange 0 = .ok (.iload_n 0, 1) := dk_26 (dk_at dksJ31_checkRange_0 0 rfl rfl)
theorem dJ31_checkRange_1 : decode cJ31_checkRange 1 = .ok (.ifCond .ge 30, 3) := dk_156 0 30 (dk_at dksJ31_checkRange_0 1 rfl rfl)
theorem dJ31_checkRange_4 : decode cJ31_checkRange 4 = .ok (.new 142, 3) := dk_187 0 142 (dk_at dksJ31_checkRange_0 4 rfl rfl)
theorem dJ31_checkRange_7 : decode cJ31_checkRange 7 = .ok (.dup, 1) := dk_89 (dk_at dksJ31_checkRange_0 7 rfl rfl)
theorem dJ31_checkRange_8 : decode cJ31_checkRange 8 = .ok (.new 33, 3) := dk_187 0 33 (dk_at dksJ31_checkRange_0 8 rfl rfl)
theorem dJ31_checkRange_11 : decode cJ31_checkRange 11 = .ok (.dup, 1) := dk_89 (dk_at dksJ31_checkRange_0 11 rfl rfl)
theorem dJ31_checkRange_12 : decode cJ31_checkRange 12 = .ok (.invokespecial 35, 3) := dk_183 0 35 (dk_at dksJ31_checkRange_0 12 rfl rfl)
theorem dJ31_checkRange_15 : decode cJ31_checkRange 15 = .ok (.ldc 144, 2) := dk_18 144 (dk_at dksJ31_checkRange_0 15 rfl rfl)
theorem dJ31_checkRange_17 : decode cJ31_checkRange 17 = .ok (.invokevirtual 38, 3) := dk_182 0 38 (dk_at dksJ31_checkRange_0 17 rfl rfl)
theorem dJ31_checkRange_20 : decode cJ31_checkRange 20 = .ok (.iload_n 0, 1) := dk_26 (dk_at dksJ31_checkRange_0 20 rfl rfl)
theorem dJ31_checkRange_21 : decode cJ31_checkRange 21 = .ok (.invokevirtual 42, 3) := dk_182 0 42 (dk_at dksJ31_checkRange_0 21 rfl rfl)
theorem dJ31_checkRange_24 : decode cJ31_checkRange 24 = .ok (.invokevirtual 45, 3) := dk_182 0 45 (dk_at dksJ31_checkRange_1 0 rfl rfl)
theorem dJ31_checkRange_27 : decode cJ31_checkRange 27 = .ok (.invokespecial 146, 3) := dk_183 0 146 (dk_at dksJ31_checkRange_1 3 rfl rfl)
theorem dJ31_checkRange_30 : decode cJ31_checkRange 30 = .ok (.athrow, 1) := dk_191 (dk_at dksJ31_checkRange_1 6 rfl rfl)
theorem dJ31_checkRange_31 : decode cJ31_checkRange 31 = .ok (.iload_n 1, 1) := dk_27 (dk_at dksJ31_checkRange_1 7 rfl rfl)
theorem dJ31_checkRange_32 : decode cJ31_checkRange 32 = .ok (.ifCond .ge 30, 3) := dk_156 0 30 (dk_at dksJ31_checkRange_1 8 rfl rfl)
theorem dJ31_checkRange_35 : decode cJ31_checkRange 35 = .ok (.new 142, 3) := dk_187 0 142 (dk_at dksJ31_checkRange_1 11 rfl rfl)
theorem dJ31_checkRange_38 : decode cJ31_checkRange 38 = .ok (.dup, 1) := dk_89 (dk_at dksJ31_checkRange_1 14 rfl rfl)
theorem dJ31_checkRange_39 : decode cJ31_checkRange 39 = .ok (.new 33, 3) := dk_187 0 33 (dk_at dksJ31_checkRange_1 15 rfl rfl)
theorem dJ31_checkRange_42 : decode cJ31_checkRange 42 = .ok (.dup, 1) := dk_89 (dk_at dksJ31_checkRange_1 18 rfl rfl)
theorem dJ31_checkRange_43 : decode cJ31_checkRange 43 = .ok (.invokespecial 35, 3) := dk_183 0 35 (dk_at dksJ31_checkRange_1 19 rfl rfl)
theorem dJ31_checkRange_46 : decode cJ31_checkRange 46 = .ok (.ldc 147, 2) := dk_18 147 (dk_at dksJ31_checkRange_1 22 rfl rfl)
theorem dJ31_checkRange_48 : decode cJ31_checkRange 48 = .ok (.invokevirtual 38, 3) := dk_182 0 38 (dk_at dksJ31_checkRange_2 0 rfl rfl)
theorem dJ31_checkRange_51 : decode cJ31_checkRange 51 = .ok (.iload_n 1, 1) := dk_27 (dk_at dksJ31_checkRange_2 3 rfl rfl)
theorem dJ31_checkRange_52 : decode cJ31_checkRange 52 = .ok (.invokevirtual 42, 3) := dk_182 0 42 (dk_at dksJ31_checkRange_2 4 rfl rfl)
theorem dJ31_checkRange_55 : decode cJ31_checkRange 55 = .ok (.invokevirtual 45, 3) := dk_182 0 45 (dk_at dksJ31_checkRange_2 7 rfl rfl)
theorem dJ31_checkRange_58 : decode cJ31_checkRange 58 = .ok (.invokespecial 146, 3) := dk_183 0 146 (dk_at dksJ31_checkRange_2 10 rfl rfl)
theorem dJ31_checkRange_61 : decode cJ31_checkRange 61 = .ok (.athrow, 1) := dk_191 (dk_at dksJ31_checkRange_2 13 rfl rfl)
theorem dJ31_checkRange_62 : decode cJ31_checkRange 62 = .ok (.iload_n 0, 1) := dk_26 (dk_at dksJ31_checkRange_2 14 rfl rfl)
theorem dJ31_checkRange_63 : decode cJ31_checkRange 63 = .ok (.iload_n 1, 1) := dk_27 (dk_at dksJ31_checkRange_2 15 rfl rfl)
theorem dJ31_checkRange_64 : decode cJ31_checkRange 64 = .ok (.if_icmp .le 39, 3) := dk_164 0 39 (dk_at dksJ31_checkRange_2 16 rfl rfl)
theorem dJ31_checkRange_67 : decode cJ31_checkRange 67 = .ok (.new 142, 3) := dk_187 0 142 (dk_at dksJ31_checkRange_2 19 rfl rfl)
theorem dJ31_checkRange_70 : decode cJ31_checkRange 70 = .ok (.dup, 1) := dk_89 (dk_at dksJ31_checkRange_2 22 rfl rfl)
theorem dJ31_checkRange_71 : decode cJ31_checkRange 71 = .ok (.new 33, 3) := dk_187 0 33 (dk_at dksJ31_checkRange_3 0 rfl rfl)
theorem dJ31_checkRange_74 : decode cJ31_checkRange 74 = .ok (.dup, 1) := dk_89 (dk_at dksJ31_checkRange_3 3 rfl rfl)
theorem dJ31_checkRange_75 : decode cJ31_checkRange 75 = .ok (.invokespecial 35, 3) := dk_183 0 35 (dk_at dksJ31_checkRange_3 4 rfl rfl)
theorem dJ31_checkRange_78 : decode cJ31_checkRange 78 = .ok (.ldc 149, 2) := dk_18 149 (dk_at dksJ31_checkRange_3 7 rfl rfl)
theorem dJ31_checkRange_80 : decode cJ31_checkRange 80 = .ok (.invokevirtual 38, 3) := dk_182 0 38 (dk_at dksJ31_checkRange_3 9 rfl rfl)
theorem dJ31_checkRange_83 : decode cJ31_checkRange 83 = .ok (.iload_n 0, 1) := dk_26 (dk_at dksJ31_checkRange_3 12 rfl rfl)
theorem dJ31_checkRange_84 : decode cJ31_checkRange 84 = .ok (.invokevirtual 42, 3) := dk_182 0 42 (dk_at dksJ31_checkRange_3 13 rfl rfl)
theorem dJ31_checkRange_87 : decode cJ31_checkRange 87 = .ok (.ldc 151, 2) := dk_18 151 (dk_at dksJ31_checkRange_3 16 rfl rfl)
theorem dJ31_checkRange_89 : decode cJ31_checkRange 89 = .ok (.invokevirtual 38, 3) := dk_182 0 38 (dk_at dksJ31_checkRange_3 18 rfl rfl)
theorem dJ31_checkRange_92 : decode cJ31_checkRange 92 = .ok (.iload_n 1, 1) := dk_27 (dk_at dksJ31_checkRange_3 21 rfl rfl)
theorem dJ31_checkRange_93 : decode cJ31_checkRange 93 = .ok (.invokevirtual 42, 3) := dk_182 0 42 (dk_at dksJ31_checkRange_4 0 rfl rfl)
theorem dJ31_checkRange_96 : decode cJ31_checkRange 96 = .ok (.invokevirtual 45, 3) := dk_182 0 45 (dk_at dksJ31_checkRange_4 3 rfl rfl)
theorem dJ31_checkRange_99 : decode cJ31_checkRange 99 = .ok (.invokespecial 146, 3) := dk_183 0 146 (dk_at dksJ31_checkRange_4 6 rfl rfl)
theorem dJ31_checkRange_102 : decode cJ31_checkRange 102 = .ok (.athrow, 1) := dk_191 (dk_at dksJ31_checkRange_4 9 rfl rfl)
theorem dJ31_checkRange_103 : decode cJ31_checkRange 103 = .ok (.return_, 1) := dk_177 (dk_at dksJ31_checkRange_4 10 rfl rfl)
abbrev cJ31_expandTo : ByteArray := prog_66_method_15_code
def yJ31_expandTo : MethodName := ⟨RJ31, "expandTo", "(I)V"⟩
def dkwJ31_expandTo_0 : List UInt8 := [27, 4, 96, 61, 42, 180, 0, 7, 28, 162, 0, 13, 42, 28, 182, 0, 139, 42, 28, 181, 0, 7, 177]
abbrev dktJ31_expandTo_0 : List UInt8 := dkwJ31_expandTo_0 ++ []
theorem dksJ31_expandTo_0 : cJ31_expandTo.data.toList.drop 0 = dktJ31_expandTo_0 := by decide +kernel
theorem dJ31_expandTo_0 : decode cJ31_expandTo 0 = .ok (.iload_n 1, 1) := dk_27 (dk_at dksJ31_expandTo_0 0 rfl rfl)
theorem dJ31_expandTo_1 : decode cJ31_expandTo 1 = .ok (.iconst 1, 1) := dk_4 (dk_at dksJ31_expandTo_0 1 rfl rfl)
theorem dJ31_expandTo_2 : decode cJ31_expandTo 2 = .ok (.iadd, 1) := dk_96 (dk_at dksJ31_expandTo_0 2 rfl rfl)
theorem dJ31_expandTo_3 : decode cJ31_expandTo 3 = .ok (.istore_n 2, 1) := dk_61 (dk_at dksJ31_expandTo_0 3 rfl rfl)
theorem dJ31_expandTo_4 : decode cJ31_expandTo 4 = .ok (.aload_n 0, 1) := dk_42 (dk_at dksJ31_expandTo_0 4 rfl rfl)
theorem dJ31_expandTo_5 : decode cJ31_expandTo 5 = .ok (.getfield 7, 3) := dk_180 0 7 (dk_at dksJ31_expandTo_0 5 rfl rfl)
theorem dJ31_expandTo_8 : decode cJ31_expandTo 8 = .ok (.iload_n 2, 1) := dk_28 (dk_at dksJ31_expandTo_0 8 rfl rfl)
theorem dJ31_expandTo_9 : decode cJ31_expandTo 9 = .ok (.if_icmp .ge 13, 3) := dk_162 0 13 (dk_at dksJ31_expandTo_0 9 rfl rfl)
theorem dJ31_expandTo_12 : decode cJ31_expandTo 12 = .ok (.aload_n 0, 1) := dk_42 (dk_at dksJ31_expandTo_0 12 rfl rfl)
theorem dJ31_expandTo_13 : decode cJ31_expandTo 13 = .ok (.iload_n 2, 1) := dk_28 (dk_at dksJ31_expandTo_0 13 rfl rfl)
theorem dJ31_expandTo_14 : decode cJ31_expandTo 14 = .ok (.invokevirtual 139, 3) := dk_182 0 139 (dk_at dksJ31_expandTo_0 14 rfl rfl)
theorem dJ31_expandTo_17 : decode cJ31_expandTo 17 = .ok (.aload_n 0, 1) := dk_42 (dk_at dksJ31_expandTo_0 17 rfl rfl)
theorem dJ31_expandTo_18 : decode cJ31_expandTo 18 = .ok (.iload_n 2, 1) := dk_28 (dk_at dksJ31_expandTo_0 18 rfl rfl)
theorem dJ31_expandTo_19 : decode cJ31_expandTo 19 = .ok (.putfield 7, 3) := dk_181 0 7 (dk_at dksJ31_expandTo_0 19 rfl rfl)
theorem dJ31_expandTo_22 : decode cJ31_expandTo 22 = .ok (.return_, 1) := dk_177 (dk_at dksJ31_expandTo_0 22 rfl rfl)
abbrev cJ31_ensureCapacity : ByteArray := prog_66_method_14_code
def yJ31_ensureCapacity : MethodName := ⟨RJ31, "ensureCapacity", "(I)V"⟩
def dkwJ31_ensureCapacity_1 : List UInt8 := [180, 0, 11, 28, 184, 0, 59, 181, 0, 11, 42, 3, 181, 0, 24, 177]
abbrev dktJ31_ensureCapacity_1 : List UInt8 := dkwJ31_ensureCapacity_1 ++ []
def dkwJ31_ensureCapacity_0 : List UInt8 := [42, 180, 0, 11, 190, 27, 162, 0, 32, 5, 42, 180, 0, 11, 190, 104, 27, 184, 0, 133, 61, 42, 42]
abbrev dktJ31_ensureCapacity_0 : List UInt8 := dkwJ31_ensureCapacity_0 ++ dktJ31_ensureCapacity_1
theorem dksJ31_ensureCapacity_0 : cJ31_ensureCapacity.data.toList.drop 0 = dktJ31_ensureCapacity_0 := by decide +kernel
theorem dksJ31_ensureCapacity_1 : cJ31_ensureCapacity.data.toList.drop 23 = dktJ31_ensureCapacity_1 := dk_seg dksJ31_ensureCapacity_0 23 rfl rfl
theorem dJ31_ensureCapacity_0 : decode cJ31_ensureCapacity 0 = .ok (.aload_n 0, 1) := dk_42 (dk_at dksJ31_ensureCapacity_0 0 rfl rfl)
theorem dJ31_ensureCapacity_1 : decode cJ31_ensureCapacity 1 = .ok (.getfield 11, 3) := dk_180 0 11 (dk_at dksJ31_ensureCapacity_0 1 rfl rfl)
theorem dJ31_ensureCapacity_4 : decode cJ31_ensureCapacity 4 = .ok (.arraylength, 1) := dk_190 (dk_at dksJ31_ensureCapacity_0 4 rfl rfl)
theorem dJ31_ensureCapacity_5 : decode cJ31_ensureCapacity 5 = .ok (.iload_n 1, 1) := dk_27 (dk_at dksJ31_ensureCapacity_0 5 rfl rfl)
theorem dJ31_ensureCapacity_6 : decode cJ31_ensureCapacity 6 = .ok (.if_icmp .ge 32, 3) := dk_162 0 32 (dk_at dksJ31_ensureCapacity_0 6 rfl rfl)
theorem dJ31_ensureCapacity_9 : decode cJ31_ensureCapacity 9 = .ok (.iconst 2, 1) := dk_5 (dk_at dksJ31_ensureCapacity_0 9 rfl rfl)
theorem dJ31_ensureCapacity_10 : decode cJ31_ensureCapacity 10 = .ok (.aload_n 0, 1) := dk_42 (dk_at dksJ31_ensureCapacity_0 10 rfl rfl)
theorem dJ31_ensureCapacity_11 : decode cJ31_ensureCapacity 11 = .ok (.getfield 11, 3) := dk_180 0 11 (dk_at dksJ31_ensureCapacity_0 11 rfl rfl)
theorem dJ31_ensureCapacity_14 : decode cJ31_ensureCapacity 14 = .ok (.arraylength, 1) := dk_190 (dk_at dksJ31_ensureCapacity_0 14 rfl rfl)
theorem dJ31_ensureCapacity_15 : decode cJ31_ensureCapacity 15 = .ok (.imul, 1) := dk_104 (dk_at dksJ31_ensureCapacity_0 15 rfl rfl)
theorem dJ31_ensureCapacity_16 : decode cJ31_ensureCapacity 16 = .ok (.iload_n 1, 1) := dk_27 (dk_at dksJ31_ensureCapacity_0 16 rfl rfl)
theorem dJ31_ensureCapacity_17 : decode cJ31_ensureCapacity 17 = .ok (.invokestatic 133, 3) := dk_184 0 133 (dk_at dksJ31_ensureCapacity_0 17 rfl rfl)
theorem dJ31_ensureCapacity_20 : decode cJ31_ensureCapacity 20 = .ok (.istore_n 2, 1) := dk_61 (dk_at dksJ31_ensureCapacity_0 20 rfl rfl)
theorem dJ31_ensureCapacity_21 : decode cJ31_ensureCapacity 21 = .ok (.aload_n 0, 1) := dk_42 (dk_at dksJ31_ensureCapacity_0 21 rfl rfl)
theorem dJ31_ensureCapacity_22 : decode cJ31_ensureCapacity 22 = .ok (.aload_n 0, 1) := dk_42 (dk_at dksJ31_ensureCapacity_0 22 rfl rfl)
theorem dJ31_ensureCapacity_23 : decode cJ31_ensureCapacity 23 = .ok (.getfield 11, 3) := dk_180 0 11 (dk_at dksJ31_ensureCapacity_1 0 rfl rfl)
theorem dJ31_ensureCapacity_26 : decode cJ31_ensureCapacity 26 = .ok (.iload_n 2, 1) := dk_28 (dk_at dksJ31_ensureCapacity_1 3 rfl rfl)
theorem dJ31_ensureCapacity_27 : decode cJ31_ensureCapacity 27 = .ok (.invokestatic 59, 3) := dk_184 0 59 (dk_at dksJ31_ensureCapacity_1 4 rfl rfl)
theorem dJ31_ensureCapacity_30 : decode cJ31_ensureCapacity 30 = .ok (.putfield 11, 3) := dk_181 0 11 (dk_at dksJ31_ensureCapacity_1 7 rfl rfl)
theorem dJ31_ensureCapacity_33 : decode cJ31_ensureCapacity 33 = .ok (.aload_n 0, 1) := dk_42 (dk_at dksJ31_ensureCapacity_1 10 rfl rfl)
theorem dJ31_ensureCapacity_34 : decode cJ31_ensureCapacity 34 = .ok (.iconst 0, 1) := dk_3 (dk_at dksJ31_ensureCapacity_1 11 rfl rfl)
theorem dJ31_ensureCapacity_35 : decode cJ31_ensureCapacity 35 = .ok (.putfield 24, 3) := dk_181 0 24 (dk_at dksJ31_ensureCapacity_1 12 rfl rfl)
theorem dJ31_ensureCapacity_38 : decode cJ31_ensureCapacity 38 = .ok (.return_, 1) := dk_177 (dk_at dksJ31_ensureCapacity_1 15 rfl rfl)
abbrev cJ31_checkInvariants : ByteArray := prog_66_method_2_code
def yJ31_checkInvariants : MethodName := ⟨RJ31, "checkInvariants", "()V"⟩
def dkwJ31_checkInvariants_4 : List UInt8 := [180, 0, 7, 47, 9, 148, 153, 0, 11, 187, 0, 15, 89, 183, 0, 17, 191, 177]
abbrev dktJ31_checkInvariants_4 : List UInt8 := dkwJ31_checkInvariants_4 ++ []
def dkwJ31_checkInvariants_3 : List UInt8 := [178, 0, 3, 154, 0, 37, 42, 180, 0, 7, 42, 180, 0, 11, 190, 159, 0, 25, 42, 180, 0, 11, 42]
abbrev dktJ31_checkInvariants_3 : List UInt8 := dkwJ31_checkInvariants_3 ++ dktJ31_checkInvariants_4
def dkwJ31_checkInvariants_2 : List UInt8 := [155, 0, 15, 42, 180, 0, 7, 42, 180, 0, 11, 190, 164, 0, 11, 187, 0, 15, 89, 183, 0, 17, 191]
abbrev dktJ31_checkInvariants_2 : List UInt8 := dkwJ31_checkInvariants_2 ++ dktJ31_checkInvariants_3
def dkwJ31_checkInvariants_1 : List UInt8 := [9, 148, 154, 0, 11, 187, 0, 15, 89, 183, 0, 17, 191, 178, 0, 3, 154, 0, 30, 42, 180, 0, 7]
abbrev dktJ31_checkInvariants_1 : List UInt8 := dkwJ31_checkInvariants_1 ++ dktJ31_checkInvariants_2
def dkwJ31_checkInvariants_0 : List UInt8 := [178, 0, 3, 154, 0, 34, 42, 180, 0, 7, 153, 0, 27, 42, 180, 0, 11, 42, 180, 0, 7, 4, 100, 47]
abbrev dktJ31_checkInvariants_0 : List UInt8 := dkwJ31_checkInvariants_0 ++ dktJ31_checkInvariants_1
theorem dksJ31_checkInvariants_0 : cJ31_checkInvariants.data.toList.drop 0 = dktJ31_checkInvariants_0 := by decide +kernel
theorem dksJ31_checkInvariants_1 : cJ31_checkInvariants.data.toList.drop 24 = dktJ31_checkInvariants_1 := dk_seg dksJ31_checkInvariants_0 24 rfl rfl
theorem dksJ31_checkInvariants_2 : cJ31_checkInvariants.data.toList.drop 47 = dktJ31_checkInvariants_2 := dk_seg dksJ31_checkInvariants_1 23 rfl rfl
theorem dksJ31_checkInvariants_3 : cJ31_checkInvariants.data.toList.drop 70 = dktJ31_checkInvariants_3 := dk_seg dksJ31_checkInvariants_2 23 rfl rfl
theorem dksJ31_checkInvariants_4 : cJ31_checkInvariants.data.toList.drop 93 = dktJ31_checkInvariants_4 := dk_seg dksJ31_checkInvariants_3 23 rfl rfl
theorem dJ31_checkInvariants_0 : decode cJ31_checkInvariants 0 = .ok (.getstatic 3, 3) := dk_178 0 3 (dk_at dksJ31_checkInvariants_0 0 rfl rfl)
theorem dJ31_checkInvariants_3 : decode cJ31_checkInvariants 3 = .ok (.ifCond .ne 34, 3) := dk_154 0 34 (dk_at dksJ31_checkInvariants_0 3 rfl rfl)
theorem dJ31_checkInvariants_6 : decode cJ31_checkInvariants 6 = .ok (.aload_n 0, 1) := dk_42 (dk_at dksJ31_checkInvariants_0 6 rfl rfl)
theorem dJ31_checkInvariants_7 : decode cJ31_checkInvariants 7 = .ok (.getfield 7, 3) := dk_180 0 7 (dk_at dksJ31_checkInvariants_0 7 rfl rfl)
theorem dJ31_checkInvariants_10 : decode cJ31_checkInvariants 10 = .ok (.ifCond .eq 27, 3) := dk_153 0 27 (dk_at dksJ31_checkInvariants_0 10 rfl rfl)
theorem dJ31_checkInvariants_13 : decode cJ31_checkInvariants 13 = .ok (.aload_n 0, 1) := dk_42 (dk_at dksJ31_checkInvariants_0 13 rfl rfl)
theorem dJ31_checkInvariants_14 : decode cJ31_checkInvariants 14 = .ok (.getfield 11, 3) := dk_180 0 11 (dk_at dksJ31_checkInvariants_0 14 rfl rfl)
theorem dJ31_checkInvariants_17 : decode cJ31_checkInvariants 17 = .ok (.aload_n 0, 1) := dk_42 (dk_at dksJ31_checkInvariants_0 17 rfl rfl)
theorem dJ31_checkInvariants_18 : decode cJ31_checkInvariants 18 = .ok (.getfield 7, 3) := dk_180 0 7 (dk_at dksJ31_checkInvariants_0 18 rfl rfl)
theorem dJ31_checkInvariants_21 : decode cJ31_checkInvariants 21 = .ok (.iconst 1, 1) := dk_4 (dk_at dksJ31_checkInvariants_0 21 rfl rfl)
theorem dJ31_checkInvariants_22 : decode cJ31_checkInvariants 22 = .ok (.isub, 1) := dk_100 (dk_at dksJ31_checkInvariants_0 22 rfl rfl)
theorem dJ31_checkInvariants_23 : decode cJ31_checkInvariants 23 = .ok (.laload, 1) := dk_47 (dk_at dksJ31_checkInvariants_0 23 rfl rfl)
theorem dJ31_checkInvariants_24 : decode cJ31_checkInvariants 24 = .ok (.lconst 0, 1) := dk_9 (dk_at dksJ31_checkInvariants_1 0 rfl rfl)
theorem dJ31_checkInvariants_25 : decode cJ31_checkInvariants 25 = .ok (.lcmp, 1) := dk_148 (dk_at dksJ31_checkInvariants_1 1 rfl rfl)
theorem dJ31_checkInvariants_26 : decode cJ31_checkInvariants 26 = .ok (.ifCond .ne 11, 3) := dk_154 0 11 (dk_at dksJ31_checkInvariants_1 2 rfl rfl)
theorem dJ31_checkInvariants_29 : decode cJ31_checkInvariants 29 = .ok (.new 15, 3) := dk_187 0 15 (dk_at dksJ31_checkInvariants_1 5 rfl rfl)
theorem dJ31_checkInvariants_32 : decode cJ31_checkInvariants 32 = .ok (.dup, 1) := dk_89 (dk_at dksJ31_checkInvariants_1 8 rfl rfl)
theorem dJ31_checkInvariants_33 : decode cJ31_checkInvariants 33 = .ok (.invokespecial 17, 3) := dk_183 0 17 (dk_at dksJ31_checkInvariants_1 9 rfl rfl)
theorem dJ31_checkInvariants_36 : decode cJ31_checkInvariants 36 = .ok (.athrow, 1) := dk_191 (dk_at dksJ31_checkInvariants_1 12 rfl rfl)
theorem dJ31_checkInvariants_37 : decode cJ31_checkInvariants 37 = .ok (.getstatic 3, 3) := dk_178 0 3 (dk_at dksJ31_checkInvariants_1 13 rfl rfl)
theorem dJ31_checkInvariants_40 : decode cJ31_checkInvariants 40 = .ok (.ifCond .ne 30, 3) := dk_154 0 30 (dk_at dksJ31_checkInvariants_1 16 rfl rfl)
theorem dJ31_checkInvariants_43 : decode cJ31_checkInvariants 43 = .ok (.aload_n 0, 1) := dk_42 (dk_at dksJ31_checkInvariants_1 19 rfl rfl)
theorem dJ31_checkInvariants_44 : decode cJ31_checkInvariants 44 = .ok (.getfield 7, 3) := dk_180 0 7 (dk_at dksJ31_checkInvariants_1 20 rfl rfl)
theorem dJ31_checkInvariants_47 : decode cJ31_checkInvariants 47 = .ok (.ifCond .lt 15, 3) := dk_155 0 15 (dk_at dksJ31_checkInvariants_2 0 rfl rfl)
theorem dJ31_checkInvariants_50 : decode cJ31_checkInvariants 50 = .ok (.aload_n 0, 1) := dk_42 (dk_at dksJ31_checkInvariants_2 3 rfl rfl)
theorem dJ31_checkInvariants_51 : decode cJ31_checkInvariants 51 = .ok (.getfield 7, 3) := dk_180 0 7 (dk_at dksJ31_checkInvariants_2 4 rfl rfl)
theorem dJ31_checkInvariants_54 : decode cJ31_checkInvariants 54 = .ok (.aload_n 0, 1) := dk_42 (dk_at dksJ31_checkInvariants_2 7 rfl rfl)
theorem dJ31_checkInvariants_55 : decode cJ31_checkInvariants 55 = .ok (.getfield 11, 3) := dk_180 0 11 (dk_at dksJ31_checkInvariants_2 8 rfl rfl)
theorem dJ31_checkInvariants_58 : decode cJ31_checkInvariants 58 = .ok (.arraylength, 1) := dk_190 (dk_at dksJ31_checkInvariants_2 11 rfl rfl)
theorem dJ31_checkInvariants_59 : decode cJ31_checkInvariants 59 = .ok (.if_icmp .le 11, 3) := dk_164 0 11 (dk_at dksJ31_checkInvariants_2 12 rfl rfl)
theorem dJ31_checkInvariants_62 : decode cJ31_checkInvariants 62 = .ok (.new 15, 3) := dk_187 0 15 (dk_at dksJ31_checkInvariants_2 15 rfl rfl)
theorem dJ31_checkInvariants_65 : decode cJ31_checkInvariants 65 = .ok (.dup, 1) := dk_89 (dk_at dksJ31_checkInvariants_2 18 rfl rfl)
theorem dJ31_checkInvariants_66 : decode cJ31_checkInvariants 66 = .ok (.invokespecial 17, 3) := dk_183 0 17 (dk_at dksJ31_checkInvariants_2 19 rfl rfl)
theorem dJ31_checkInvariants_69 : decode cJ31_checkInvariants 69 = .ok (.athrow, 1) := dk_191 (dk_at dksJ31_checkInvariants_2 22 rfl rfl)
theorem dJ31_checkInvariants_70 : decode cJ31_checkInvariants 70 = .ok (.getstatic 3, 3) := dk_178 0 3 (dk_at dksJ31_checkInvariants_3 0 rfl rfl)
theorem dJ31_checkInvariants_73 : decode cJ31_checkInvariants 73 = .ok (.ifCond .ne 37, 3) := dk_154 0 37 (dk_at dksJ31_checkInvariants_3 3 rfl rfl)
theorem dJ31_checkInvariants_76 : decode cJ31_checkInvariants 76 = .ok (.aload_n 0, 1) := dk_42 (dk_at dksJ31_checkInvariants_3 6 rfl rfl)
theorem dJ31_checkInvariants_77 : decode cJ31_checkInvariants 77 = .ok (.getfield 7, 3) := dk_180 0 7 (dk_at dksJ31_checkInvariants_3 7 rfl rfl)
theorem dJ31_checkInvariants_80 : decode cJ31_checkInvariants 80 = .ok (.aload_n 0, 1) := dk_42 (dk_at dksJ31_checkInvariants_3 10 rfl rfl)
theorem dJ31_checkInvariants_81 : decode cJ31_checkInvariants 81 = .ok (.getfield 11, 3) := dk_180 0 11 (dk_at dksJ31_checkInvariants_3 11 rfl rfl)
theorem dJ31_checkInvariants_84 : decode cJ31_checkInvariants 84 = .ok (.arraylength, 1) := dk_190 (dk_at dksJ31_checkInvariants_3 14 rfl rfl)
theorem dJ31_checkInvariants_85 : decode cJ31_checkInvariants 85 = .ok (.if_icmp .eq 25, 3) := dk_159 0 25 (dk_at dksJ31_checkInvariants_3 15 rfl rfl)
theorem dJ31_checkInvariants_88 : decode cJ31_checkInvariants 88 = .ok (.aload_n 0, 1) := dk_42 (dk_at dksJ31_checkInvariants_3 18 rfl rfl)
theorem dJ31_checkInvariants_89 : decode cJ31_checkInvariants 89 = .ok (.getfield 11, 3) := dk_180 0 11 (dk_at dksJ31_checkInvariants_3 19 rfl rfl)
theorem dJ31_checkInvariants_92 : decode cJ31_checkInvariants 92 = .ok (.aload_n 0, 1) := dk_42 (dk_at dksJ31_checkInvariants_3 22 rfl rfl)
theorem dJ31_checkInvariants_93 : decode cJ31_checkInvariants 93 = .ok (.getfield 7, 3) := dk_180 0 7 (dk_at dksJ31_checkInvariants_4 0 rfl rfl)
theorem dJ31_checkInvariants_96 : decode cJ31_checkInvariants 96 = .ok (.laload, 1) := dk_47 (dk_at dksJ31_checkInvariants_4 3 rfl rfl)
theorem dJ31_checkInvariants_97 : decode cJ31_checkInvariants 97 = .ok (.lconst 0, 1) := dk_9 (dk_at dksJ31_checkInvariants_4 4 rfl rfl)
theorem dJ31_checkInvariants_98 : decode cJ31_checkInvariants 98 = .ok (.lcmp, 1) := dk_148 (dk_at dksJ31_checkInvariants_4 5 rfl rfl)
theorem dJ31_checkInvariants_99 : decode cJ31_checkInvariants 99 = .ok (.ifCond .eq 11, 3) := dk_153 0 11 (dk_at dksJ31_checkInvariants_4 6 rfl rfl)
theorem dJ31_checkInvariants_102 : decode cJ31_checkInvariants 102 = .ok (.new 15, 3) := dk_187 0 15 (dk_at dksJ31_checkInvariants_4 9 rfl rfl)
theorem dJ31_checkInvariants_105 : decode cJ31_checkInvariants 105 = .ok (.dup, 1) := dk_89 (dk_at dksJ31_checkInvariants_4 12 rfl rfl)
theorem dJ31_checkInvariants_106 : decode cJ31_checkInvariants 106 = .ok (.invokespecial 17, 3) := dk_183 0 17 (dk_at dksJ31_checkInvariants_4 13 rfl rfl)
theorem dJ31_checkInvariants_109 : decode cJ31_checkInvariants 109 = .ok (.athrow, 1) := dk_191 (dk_at dksJ31_checkInvariants_4 16 rfl rfl)
theorem dJ31_checkInvariants_110 : decode cJ31_checkInvariants 110 = .ok (.return_, 1) := dk_177 (dk_at dksJ31_checkInvariants_4 17 rfl rfl)
abbrev cJ31_get : ByteArray := prog_66_method_26_code
def yJ31_get : MethodName := ⟨RJ31, "get", "(I)Z"⟩
def dkwJ31_get_2 : List UInt8 := [42, 180, 0, 11, 28, 47, 10, 27, 121, 127, 9, 148, 153, 0, 7, 4, 167, 0, 4, 3, 172]
abbrev dktJ31_get_2 : List UInt8 := dkwJ31_get_2 ++ []
def dkwJ31_get_1 : List UInt8 := [182, 0, 45, 183, 0, 146, 191, 42, 182, 0, 56, 27, 184, 0, 52, 61, 28, 42, 180, 0, 7, 162, 0, 22]
abbrev dktJ31_get_1 : List UInt8 := dkwJ31_get_1 ++ dktJ31_get_2
def dkwJ31_get_0 : List UInt8 := [27, 156, 0, 30, 187, 0, 142, 89, 187, 0, 33, 89, 183, 0, 35, 18, 153, 182, 0, 38, 27, 182, 0, 42]
abbrev dktJ31_get_0 : List UInt8 := dkwJ31_get_0 ++ dktJ31_get_1
theorem dksJ31_get_0 : cJ31_get.data.toList.drop 0 = dktJ31_get_0 := by decide +kernel
theorem dksJ31_get_1 : cJ31_get.data.toList.drop 24 = dktJ31_get_1 := dk_seg dksJ31_get_0 24 rfl rfl
theorem dksJ31_get_2 : cJ31_get.data.toList.drop 48 = dktJ31_get_2 := dk_seg dksJ31_get_1 24 rfl rfl
theorem dJ31_get_0 : decode cJ31_get 0 = .ok (.iload_n 1, 1) := dk_27 (dk_at dksJ31_get_0 0 rfl rfl)
theorem dJ31_get_1 : decode cJ31_get 1 = .ok (.ifCond .ge 30, 3) := dk_156 0 30 (dk_at dksJ31_get_0 1 rfl rfl)
theorem dJ31_get_4 : decode cJ31_get 4 = .ok (.new 142, 3) := dk_187 0 142 (dk_at dksJ31_get_0 4 rfl rfl)
theorem dJ31_get_7 : decode cJ31_get 7 = .ok (.dup, 1) := dk_89 (dk_at dksJ31_get_0 7 rfl rfl)
theorem dJ31_get_8 : decode cJ31_get 8 = .ok (.new 33, 3) := dk_187 0 33 (dk_at dksJ31_get_0 8 rfl rfl)
theorem dJ31_get_11 : decode cJ31_get 11 = .ok (.dup, 1) := dk_89 (dk_at dksJ31_get_0 11 rfl rfl)
theorem dJ31_get_12 : decode cJ31_get 12 = .ok (.invokespecial 35, 3) := dk_183 0 35 (dk_at dksJ31_get_0 12 rfl rfl)
theorem dJ31_get_15 : decode cJ31_get 15 = .ok (.ldc 153, 2) := dk_18 153 (dk_at dksJ31_get_0 15 rfl rfl)
theorem dJ31_get_17 : decode cJ31_get 17 = .ok (.invokevirtual 38, 3) := dk_182 0 38 (dk_at dksJ31_get_0 17 rfl rfl)
theorem dJ31_get_20 : decode cJ31_get 20 = .ok (.iload_n 1, 1) := dk_27 (dk_at dksJ31_get_0 20 rfl rfl)
theorem dJ31_get_21 : decode cJ31_get 21 = .ok (.invokevirtual 42, 3) := dk_182 0 42 (dk_at dksJ31_get_0 21 rfl rfl)
theorem dJ31_get_24 : decode cJ31_get 24 = .ok (.invokevirtual 45, 3) := dk_182 0 45 (dk_at dksJ31_get_1 0 rfl rfl)
theorem dJ31_get_27 : decode cJ31_get 27 = .ok (.invokespecial 146, 3) := dk_183 0 146 (dk_at dksJ31_get_1 3 rfl rfl)
theorem dJ31_get_30 : decode cJ31_get 30 = .ok (.athrow, 1) := dk_191 (dk_at dksJ31_get_1 6 rfl rfl)
theorem dJ31_get_31 : decode cJ31_get 31 = .ok (.aload_n 0, 1) := dk_42 (dk_at dksJ31_get_1 7 rfl rfl)
theorem dJ31_get_32 : decode cJ31_get 32 = .ok (.invokevirtual 56, 3) := dk_182 0 56 (dk_at dksJ31_get_1 8 rfl rfl)
theorem dJ31_get_35 : decode cJ31_get 35 = .ok (.iload_n 1, 1) := dk_27 (dk_at dksJ31_get_1 11 rfl rfl)
theorem dJ31_get_36 : decode cJ31_get 36 = .ok (.invokestatic 52, 3) := dk_184 0 52 (dk_at dksJ31_get_1 12 rfl rfl)
theorem dJ31_get_39 : decode cJ31_get 39 = .ok (.istore_n 2, 1) := dk_61 (dk_at dksJ31_get_1 15 rfl rfl)
theorem dJ31_get_40 : decode cJ31_get 40 = .ok (.iload_n 2, 1) := dk_28 (dk_at dksJ31_get_1 16 rfl rfl)
theorem dJ31_get_41 : decode cJ31_get 41 = .ok (.aload_n 0, 1) := dk_42 (dk_at dksJ31_get_1 17 rfl rfl)
theorem dJ31_get_42 : decode cJ31_get 42 = .ok (.getfield 7, 3) := dk_180 0 7 (dk_at dksJ31_get_1 18 rfl rfl)
theorem dJ31_get_45 : decode cJ31_get 45 = .ok (.if_icmp .ge 22, 3) := dk_162 0 22 (dk_at dksJ31_get_1 21 rfl rfl)
theorem dJ31_get_48 : decode cJ31_get 48 = .ok (.aload_n 0, 1) := dk_42 (dk_at dksJ31_get_2 0 rfl rfl)
theorem dJ31_get_49 : decode cJ31_get 49 = .ok (.getfield 11, 3) := dk_180 0 11 (dk_at dksJ31_get_2 1 rfl rfl)
theorem dJ31_get_52 : decode cJ31_get 52 = .ok (.iload_n 2, 1) := dk_28 (dk_at dksJ31_get_2 4 rfl rfl)
theorem dJ31_get_53 : decode cJ31_get 53 = .ok (.laload, 1) := dk_47 (dk_at dksJ31_get_2 5 rfl rfl)
theorem dJ31_get_54 : decode cJ31_get 54 = .ok (.lconst 1, 1) := dk_10 (dk_at dksJ31_get_2 6 rfl rfl)
theorem dJ31_get_55 : decode cJ31_get 55 = .ok (.iload_n 1, 1) := dk_27 (dk_at dksJ31_get_2 7 rfl rfl)
theorem dJ31_get_56 : decode cJ31_get 56 = .ok (.lshl, 1) := dk_121 (dk_at dksJ31_get_2 8 rfl rfl)
theorem dJ31_get_57 : decode cJ31_get 57 = .ok (.land, 1) := dk_127 (dk_at dksJ31_get_2 9 rfl rfl)
theorem dJ31_get_58 : decode cJ31_get 58 = .ok (.lconst 0, 1) := dk_9 (dk_at dksJ31_get_2 10 rfl rfl)
theorem dJ31_get_59 : decode cJ31_get 59 = .ok (.lcmp, 1) := dk_148 (dk_at dksJ31_get_2 11 rfl rfl)
theorem dJ31_get_60 : decode cJ31_get 60 = .ok (.ifCond .eq 7, 3) := dk_153 0 7 (dk_at dksJ31_get_2 12 rfl rfl)
theorem dJ31_get_63 : decode cJ31_get 63 = .ok (.iconst 1, 1) := dk_4 (dk_at dksJ31_get_2 15 rfl rfl)
theorem dJ31_get_64 : decode cJ31_get 64 = .ok (.goto 4, 3) := dk_167 0 4 (dk_at dksJ31_get_2 16 rfl rfl)
theorem dJ31_get_67 : decode cJ31_get 67 = .ok (.iconst 0, 1) := dk_3 (dk_at dksJ31_get_2 19 rfl rfl)
theorem dJ31_get_68 : decode cJ31_get 68 = .ok (.ireturn, 1) := dk_172 (dk_at dksJ31_get_2 20 rfl rfl)
abbrev cJ31_set_2 : ByteArray := prog_66_method_19_code
def yJ31_set_2 : MethodName := ⟨RJ31, "set", "(I)V"⟩
def dkwJ31_set_2_2 : List UInt8 := [10, 27, 121, 129, 80, 42, 182, 0, 56, 177]
abbrev dktJ31_set_2_2 : List UInt8 := dkwJ31_set_2_2 ++ []
def dkwJ31_set_2_1 : List UInt8 := [182, 0, 45, 183, 0, 146, 191, 27, 184, 0, 52, 61, 42, 28, 182, 0, 155, 42, 180, 0, 11, 28, 92, 47]
abbrev dktJ31_set_2_1 : List UInt8 := dkwJ31_set_2_1 ++ dktJ31_set_2_2
def dkwJ31_set_2_0 : List UInt8 := [27, 156, 0, 30, 187, 0, 142, 89, 187, 0, 33, 89, 183, 0, 35, 18, 153, 182, 0, 38, 27, 182, 0, 42]
abbrev dktJ31_set_2_0 : List UInt8 := dkwJ31_set_2_0 ++ dktJ31_set_2_1
theorem dksJ31_set_2_0 : cJ31_set_2.data.toList.drop 0 = dktJ31_set_2_0 := by decide +kernel
theorem dksJ31_set_2_1 : cJ31_set_2.data.toList.drop 24 = dktJ31_set_2_1 := dk_seg dksJ31_set_2_0 24 rfl rfl
theorem dksJ31_set_2_2 : cJ31_set_2.data.toList.drop 48 = dktJ31_set_2_2 := dk_seg dksJ31_set_2_1 24 rfl rfl
theorem dJ31_set_2_0 : decode cJ31_set_2 0 = .ok (.iload_n 1, 1) := dk_27 (dk_at dksJ31_set_2_0 0 rfl rfl)
theorem dJ31_set_2_1 : decode cJ31_set_2 1 = .ok (.ifCond .ge 30, 3) := dk_156 0 30 (dk_at dksJ31_set_2_0 1 rfl rfl)
theorem dJ31_set_2_4 : decode cJ31_set_2 4 = .ok (.new 142, 3) := dk_187 0 142 (dk_at dksJ31_set_2_0 4 rfl rfl)
theorem dJ31_set_2_7 : decode cJ31_set_2 7 = .ok (.dup, 1) := dk_89 (dk_at dksJ31_set_2_0 7 rfl rfl)
theorem dJ31_set_2_8 : decode cJ31_set_2 8 = .ok (.new 33, 3) := dk_187 0 33 (dk_at dksJ31_set_2_0 8 rfl rfl)
theorem dJ31_set_2_11 : decode cJ31_set_2 11 = .ok (.dup, 1) := dk_89 (dk_at dksJ31_set_2_0 11 rfl rfl)
theorem dJ31_set_2_12 : decode cJ31_set_2 12 = .ok (.invokespecial 35, 3) := dk_183 0 35 (dk_at dksJ31_set_2_0 12 rfl rfl)
theorem dJ31_set_2_15 : decode cJ31_set_2 15 = .ok (.ldc 153, 2) := dk_18 153 (dk_at dksJ31_set_2_0 15 rfl rfl)
theorem dJ31_set_2_17 : decode cJ31_set_2 17 = .ok (.invokevirtual 38, 3) := dk_182 0 38 (dk_at dksJ31_set_2_0 17 rfl rfl)
theorem dJ31_set_2_20 : decode cJ31_set_2 20 = .ok (.iload_n 1, 1) := dk_27 (dk_at dksJ31_set_2_0 20 rfl rfl)
theorem dJ31_set_2_21 : decode cJ31_set_2 21 = .ok (.invokevirtual 42, 3) := dk_182 0 42 (dk_at dksJ31_set_2_0 21 rfl rfl)
theorem dJ31_set_2_24 : decode cJ31_set_2 24 = .ok (.invokevirtual 45, 3) := dk_182 0 45 (dk_at dksJ31_set_2_1 0 rfl rfl)
theorem dJ31_set_2_27 : decode cJ31_set_2 27 = .ok (.invokespecial 146, 3) := dk_183 0 146 (dk_at dksJ31_set_2_1 3 rfl rfl)
theorem dJ31_set_2_30 : decode cJ31_set_2 30 = .ok (.athrow, 1) := dk_191 (dk_at dksJ31_set_2_1 6 rfl rfl)
theorem dJ31_set_2_31 : decode cJ31_set_2 31 = .ok (.iload_n 1, 1) := dk_27 (dk_at dksJ31_set_2_1 7 rfl rfl)
theorem dJ31_set_2_32 : decode cJ31_set_2 32 = .ok (.invokestatic 52, 3) := dk_184 0 52 (dk_at dksJ31_set_2_1 8 rfl rfl)
theorem dJ31_set_2_35 : decode cJ31_set_2 35 = .ok (.istore_n 2, 1) := dk_61 (dk_at dksJ31_set_2_1 11 rfl rfl)
theorem dJ31_set_2_36 : decode cJ31_set_2 36 = .ok (.aload_n 0, 1) := dk_42 (dk_at dksJ31_set_2_1 12 rfl rfl)
theorem dJ31_set_2_37 : decode cJ31_set_2 37 = .ok (.iload_n 2, 1) := dk_28 (dk_at dksJ31_set_2_1 13 rfl rfl)
theorem dJ31_set_2_38 : decode cJ31_set_2 38 = .ok (.invokevirtual 155, 3) := dk_182 0 155 (dk_at dksJ31_set_2_1 14 rfl rfl)
theorem dJ31_set_2_41 : decode cJ31_set_2 41 = .ok (.aload_n 0, 1) := dk_42 (dk_at dksJ31_set_2_1 17 rfl rfl)
theorem dJ31_set_2_42 : decode cJ31_set_2 42 = .ok (.getfield 11, 3) := dk_180 0 11 (dk_at dksJ31_set_2_1 18 rfl rfl)
theorem dJ31_set_2_45 : decode cJ31_set_2 45 = .ok (.iload_n 2, 1) := dk_28 (dk_at dksJ31_set_2_1 21 rfl rfl)
theorem dJ31_set_2_46 : decode cJ31_set_2 46 = .ok (.dup2, 1) := dk_92 (dk_at dksJ31_set_2_1 22 rfl rfl)
theorem dJ31_set_2_47 : decode cJ31_set_2 47 = .ok (.laload, 1) := dk_47 (dk_at dksJ31_set_2_1 23 rfl rfl)
theorem dJ31_set_2_48 : decode cJ31_set_2 48 = .ok (.lconst 1, 1) := dk_10 (dk_at dksJ31_set_2_2 0 rfl rfl)
theorem dJ31_set_2_49 : decode cJ31_set_2 49 = .ok (.iload_n 1, 1) := dk_27 (dk_at dksJ31_set_2_2 1 rfl rfl)
theorem dJ31_set_2_50 : decode cJ31_set_2 50 = .ok (.lshl, 1) := dk_121 (dk_at dksJ31_set_2_2 2 rfl rfl)
theorem dJ31_set_2_51 : decode cJ31_set_2 51 = .ok (.lor, 1) := dk_129 (dk_at dksJ31_set_2_2 3 rfl rfl)
theorem dJ31_set_2_52 : decode cJ31_set_2 52 = .ok (.lastore, 1) := dk_80 (dk_at dksJ31_set_2_2 4 rfl rfl)
theorem dJ31_set_2_53 : decode cJ31_set_2 53 = .ok (.aload_n 0, 1) := dk_42 (dk_at dksJ31_set_2_2 5 rfl rfl)
theorem dJ31_set_2_54 : decode cJ31_set_2 54 = .ok (.invokevirtual 56, 3) := dk_182 0 56 (dk_at dksJ31_set_2_2 6 rfl rfl)
theorem dJ31_set_2_57 : decode cJ31_set_2 57 = .ok (.return_, 1) := dk_177 (dk_at dksJ31_set_2_2 9 rfl rfl)
theorem q176 : (Jvm.Cond.initialized "java/util/BitSet") ∈ lw_all := lw_g (lw_at lw_m1 59 rfl) rfl
theorem q1084 : (Jvm.Cond.selects "java/util/BitSet" ({ cls := "java/lang/Object", name := "getClass", desc := "()Ljava/lang/Class;" } : Jvm.MethodName) ({ cls := "java/lang/Object", name := "getClass", desc := "()Ljava/lang/Class;" } : Jvm.MethodName)) ∈ lw_all := lw_g (lw_at lw_m5 7 rfl) rfl
theorem q1290 : (Jvm.Cond.instantiable "java/util/BitSet" (3 : Nat)) ∈ lw_all := lw_g (lw_at lw_m5 213 rfl) rfl
theorem q1292 : (Jvm.Cond.instanceMethod ({ cls := "java/util/BitSet", name := "<init>", desc := "(I)V" } : Jvm.MethodName)) ∈ lw_all := lw_g (lw_at lw_m5 215 rfl) rfl
theorem q1293 : (Jvm.Cond.code ({ cls := "java/util/BitSet", name := "<init>", desc := "(I)V" } : Jvm.MethodName) prog_66_method_5_code (2 : Nat) (Option.none : Option Jvm.ClassFile.FieldType)) ∈ lw_all := lw_g (lw_at lw_m5 216 rfl) rfl
theorem q1294 : (Jvm.Cond.methodLink "java/util/BitSet" (21 : Nat) ({ cls := "java/lang/Object", name := "<init>", desc := "()V" } : Jvm.MethodName)) ∈ lw_all := lw_g (lw_at lw_m5 217 rfl) rfl
theorem q1295 : (Jvm.Cond.methodLink "java/util/BitSet" (27 : Nat) ({ cls := "java/util/BitSet", name := "initWords", desc := "(I)V" } : Jvm.MethodName)) ∈ lw_all := lw_g (lw_at lw_m5 218 rfl) rfl
theorem q1296 : (Jvm.Cond.privateMethod ({ cls := "java/util/BitSet", name := "initWords", desc := "(I)V" } : Jvm.MethodName)) ∈ lw_tbl := lw_at lw_m5 219 rfl
theorem q1297 : (Jvm.Cond.instanceMethod ({ cls := "java/util/BitSet", name := "initWords", desc := "(I)V" } : Jvm.MethodName)) ∈ lw_all := lw_g (lw_at lw_m5 220 rfl) rfl
theorem q1298 : (Jvm.Cond.code ({ cls := "java/util/BitSet", name := "initWords", desc := "(I)V" } : Jvm.MethodName) prog_66_method_6_code (2 : Nat) (Option.none : Option Jvm.ClassFile.FieldType)) ∈ lw_all := lw_g (lw_at lw_m5 221 rfl) rfl
theorem q1299 : (Jvm.Cond.methodLink "java/util/BitSet" (52 : Nat) ({ cls := "java/util/BitSet", name := "wordIndex", desc := "(I)I" } : Jvm.MethodName)) ∈ lw_all := lw_g (lw_at lw_m5 222 rfl) rfl
theorem q1300 : (Jvm.Cond.static ({ cls := "java/util/BitSet", name := "wordIndex", desc := "(I)I" } : Jvm.MethodName)) ∈ lw_all := lw_g (lw_at lw_m5 223 rfl) rfl
theorem q1301 : (Jvm.Cond.code ({ cls := "java/util/BitSet", name := "wordIndex", desc := "(I)I" } : Jvm.MethodName) prog_66_method_1_code (1 : Nat) (Option.some Jvm.ClassFile.FieldType.int)) ∈ lw_all := lw_g (lw_at lw_m5 224 rfl) rfl
theorem q1302 : (Jvm.Cond.fieldLink "java/util/BitSet" (11 : Nat) "java/util/BitSet" "words" "[J") ∈ lw_all := lw_g (lw_at lw_m5 225 rfl) rfl
theorem q1303 : (Jvm.Cond.fieldLink "java/util/BitSet" (7 : Nat) "java/util/BitSet" "wordsInUse" "I") ∈ lw_all := lw_g (lw_at lw_m5 226 rfl) rfl
theorem q1304 : (Jvm.Cond.fieldLink "java/util/BitSet" (24 : Nat) "java/util/BitSet" "sizeIsSticky" "Z") ∈ lw_all := lw_g (lw_at lw_m5 227 rfl) rfl
theorem q1305 : (Jvm.Cond.lays "java/util/BitSet" "java/util/BitSet" "words" "[J") ∈ lw_all := lw_g (lw_at lw_m5 228 rfl) rfl
theorem q1306 : (Jvm.Cond.soleField "java/util/BitSet" "words") ∈ lw_all := lw_g (lw_at lw_m5 229 rfl) rfl
theorem q1307 : (Jvm.Cond.lays "java/util/BitSet" "java/util/BitSet" "wordsInUse" "I") ∈ lw_all := lw_g (lw_at lw_m5 230 rfl) rfl
theorem q1308 : (Jvm.Cond.soleField "java/util/BitSet" "wordsInUse") ∈ lw_all := lw_g (lw_at lw_m5 231 rfl) rfl
theorem q1309 : (Jvm.Cond.lays "java/util/BitSet" "java/util/BitSet" "sizeIsSticky" "Z") ∈ lw_all := lw_g (lw_at lw_m5 232 rfl) rfl
theorem q1310 : (Jvm.Cond.soleField "java/util/BitSet" "sizeIsSticky") ∈ lw_all := lw_g (lw_at lw_m5 233 rfl) rfl
theorem q1311 : (Jvm.Cond.superclass "java/util/BitSet" "java/lang/Object") ∈ lw_all := lw_g (lw_at lw_m5 234 rfl) rfl
theorem q1314 : (Jvm.Cond.instanceMethod ({ cls := "java/util/BitSet", name := "set", desc := "(II)V" } : Jvm.MethodName)) ∈ lw_all := lw_g (lw_at lw_m5 237 rfl) rfl
theorem q1315 : (Jvm.Cond.selects "java/util/BitSet" ({ cls := "java/util/BitSet", name := "set", desc := "(II)V" } : Jvm.MethodName) ({ cls := "java/util/BitSet", name := "set", desc := "(II)V" } : Jvm.MethodName)) ∈ lw_all := lw_g (lw_at lw_m5 238 rfl) rfl
theorem q1316 : (Jvm.Cond.code ({ cls := "java/util/BitSet", name := "set", desc := "(II)V" } : Jvm.MethodName) prog_66_method_21_code (10 : Nat) (Option.none : Option Jvm.ClassFile.FieldType)) ∈ lw_all := lw_g (lw_at lw_m5 239 rfl) rfl
theorem q1317 : (Jvm.Cond.methodLink "java/util/BitSet" (161 : Nat) ({ cls := "java/util/BitSet", name := "checkRange", desc := "(II)V" } : Jvm.MethodName)) ∈ lw_all := lw_g (lw_at lw_m6 0 rfl) rfl
theorem q1318 : (Jvm.Cond.static ({ cls := "java/util/BitSet", name := "checkRange", desc := "(II)V" } : Jvm.MethodName)) ∈ lw_all := lw_g (lw_at lw_m6 1 rfl) rfl
theorem q1319 : (Jvm.Cond.code ({ cls := "java/util/BitSet", name := "checkRange", desc := "(II)V" } : Jvm.MethodName) prog_66_method_16_code (2 : Nat) (Option.none : Option Jvm.ClassFile.FieldType)) ∈ lw_all := lw_g (lw_at lw_m6 2 rfl) rfl
theorem q1320 : (Jvm.Cond.classLink "java/util/BitSet" (142 : Nat) "java/lang/IndexOutOfBoundsException") ∈ lw_all := lw_g (lw_at lw_m6 3 rfl) rfl
theorem q1321 : (Jvm.Cond.classLink "java/util/BitSet" (33 : Nat) "java/lang/StringBuilder") ∈ lw_all := lw_g (lw_at lw_m6 4 rfl) rfl
theorem q1322 : (Jvm.Cond.methodLink "java/util/BitSet" (35 : Nat) ({ cls := "java/lang/StringBuilder", name := "<init>", desc := "()V" } : Jvm.MethodName)) ∈ lw_all := lw_g (lw_at lw_m6 5 rfl) rfl
theorem q1323 : (Jvm.Cond.stringRef "java/util/BitSet" (144 : Nat) "fromIndex < 0: ") ∈ lw_tbl := lw_at lw_m6 6 rfl
theorem q1324 : (Jvm.Cond.methodLink "java/util/BitSet" (38 : Nat) ({ cls := "java/lang/StringBuilder", name := "append", desc := "(Ljava/lang/String;)Ljava/lang/StringBuilder;" } : Jvm.MethodName)) ∈ lw_all := lw_g (lw_at lw_m6 7 rfl) rfl
theorem q1325 : (Jvm.Cond.methodLink "java/util/BitSet" (42 : Nat) ({ cls := "java/lang/StringBuilder", name := "append", desc := "(I)Ljava/lang/StringBuilder;" } : Jvm.MethodName)) ∈ lw_all := lw_g (lw_at lw_m6 8 rfl) rfl
theorem q1326 : (Jvm.Cond.methodLink "java/util/BitSet" (45 : Nat) ({ cls := "java/lang/StringBuilder", name := "toString", desc := "()Ljava/lang/String;" } : Jvm.MethodName)) ∈ lw_all := lw_g (lw_at lw_m6 9 rfl) rfl
theorem q1327 : (Jvm.Cond.methodLink "java/util/BitSet" (146 : Nat) ({ cls := "java/lang/IndexOutOfBoundsException", name := "<init>", desc := "(Ljava/lang/String;)V" } : Jvm.MethodName)) ∈ lw_all := lw_g (lw_at lw_m6 10 rfl) rfl
theorem q1328 : (Jvm.Cond.stringRef "java/util/BitSet" (147 : Nat) "toIndex < 0: ") ∈ lw_tbl := lw_at lw_m6 11 rfl
theorem q1329 : (Jvm.Cond.stringRef "java/util/BitSet" (149 : Nat) "fromIndex: ") ∈ lw_tbl := lw_at lw_m6 12 rfl
theorem q1330 : (Jvm.Cond.stringRef "java/util/BitSet" (151 : Nat) " > toIndex: ") ∈ lw_tbl := lw_at lw_m6 13 rfl
theorem q1331 : (Jvm.Cond.methodLink "java/util/BitSet" (155 : Nat) ({ cls := "java/util/BitSet", name := "expandTo", desc := "(I)V" } : Jvm.MethodName)) ∈ lw_all := lw_g (lw_at lw_m6 14 rfl) rfl
theorem q1332 : (Jvm.Cond.privateMethod ({ cls := "java/util/BitSet", name := "expandTo", desc := "(I)V" } : Jvm.MethodName)) ∈ lw_tbl := lw_at lw_m6 15 rfl
theorem q1333 : (Jvm.Cond.instanceMethod ({ cls := "java/util/BitSet", name := "expandTo", desc := "(I)V" } : Jvm.MethodName)) ∈ lw_all := lw_g (lw_at lw_m6 16 rfl) rfl
theorem q1334 : (Jvm.Cond.code ({ cls := "java/util/BitSet", name := "expandTo", desc := "(I)V" } : Jvm.MethodName) prog_66_method_15_code (3 : Nat) (Option.none : Option Jvm.ClassFile.FieldType)) ∈ lw_all := lw_g (lw_at lw_m6 17 rfl) rfl
theorem q1335 : (Jvm.Cond.methodLink "java/util/BitSet" (139 : Nat) ({ cls := "java/util/BitSet", name := "ensureCapacity", desc := "(I)V" } : Jvm.MethodName)) ∈ lw_all := lw_g (lw_at lw_m6 18 rfl) rfl
theorem q1336 : (Jvm.Cond.privateMethod ({ cls := "java/util/BitSet", name := "ensureCapacity", desc := "(I)V" } : Jvm.MethodName)) ∈ lw_tbl := lw_at lw_m6 19 rfl
theorem q1337 : (Jvm.Cond.instanceMethod ({ cls := "java/util/BitSet", name := "ensureCapacity", desc := "(I)V" } : Jvm.MethodName)) ∈ lw_all := lw_g (lw_at lw_m6 20 rfl) rfl
theorem q1338 : (Jvm.Cond.code ({ cls := "java/util/BitSet", name := "ensureCapacity", desc := "(I)V" } : Jvm.MethodName) prog_66_method_14_code (3 : Nat) (Option.none : Option Jvm.ClassFile.FieldType)) ∈ lw_all := lw_g (lw_at lw_m6 21 rfl) rfl
theorem q1339 : (Jvm.Cond.methodLink "java/util/BitSet" (133 : Nat) ({ cls := "java/lang/Math", name := "max", desc := "(II)I" } : Jvm.MethodName)) ∈ lw_all := lw_g (lw_at lw_m6 22 rfl) rfl
theorem q1340 : (Jvm.Cond.methodLink "java/util/BitSet" (59 : Nat) ({ cls := "java/util/Arrays", name := "copyOf", desc := "([JI)[J" } : Jvm.MethodName)) ∈ lw_all := lw_g (lw_at lw_m6 23 rfl) rfl
theorem q1348 : (Jvm.Cond.constantLong "java/util/BitSet" (165 : Nat) (-1 : Int64)) ∈ lw_all := lw_g (lw_at lw_m6 31 rfl) rfl
theorem q1349 : (Jvm.Cond.methodLink "java/util/BitSet" (56 : Nat) ({ cls := "java/util/BitSet", name := "checkInvariants", desc := "()V" } : Jvm.MethodName)) ∈ lw_all := lw_g (lw_at lw_m6 32 rfl) rfl
theorem q1350 : (Jvm.Cond.privateMethod ({ cls := "java/util/BitSet", name := "checkInvariants", desc := "()V" } : Jvm.MethodName)) ∈ lw_tbl := lw_at lw_m6 33 rfl
theorem q1351 : (Jvm.Cond.instanceMethod ({ cls := "java/util/BitSet", name := "checkInvariants", desc := "()V" } : Jvm.MethodName)) ∈ lw_all := lw_g (lw_at lw_m6 34 rfl) rfl
theorem q1352 : (Jvm.Cond.code ({ cls := "java/util/BitSet", name := "checkInvariants", desc := "()V" } : Jvm.MethodName) prog_66_method_2_code (1 : Nat) (Option.none : Option Jvm.ClassFile.FieldType)) ∈ lw_all := lw_g (lw_at lw_m6 35 rfl) rfl
theorem q1353 : (Jvm.Cond.fieldLink "java/util/BitSet" (3 : Nat) "java/util/BitSet" "$assertionsDisabled" "Z") ∈ lw_all := lw_g (lw_at lw_m6 36 rfl) rfl
theorem q1354 : (Jvm.Cond.laysStatic "java/util/BitSet" "$assertionsDisabled" "Z") ∈ lw_tbl := lw_at lw_m6 37 rfl
theorem q1361 : (Jvm.Cond.instanceMethod ({ cls := "java/util/BitSet", name := "get", desc := "(I)Z" } : Jvm.MethodName)) ∈ lw_all := lw_g (lw_at lw_m6 44 rfl) rfl
theorem q1362 : (Jvm.Cond.selects "java/util/BitSet" ({ cls := "java/util/BitSet", name := "get", desc := "(I)Z" } : Jvm.MethodName) ({ cls := "java/util/BitSet", name := "get", desc := "(I)Z" } : Jvm.MethodName)) ∈ lw_all := lw_g (lw_at lw_m6 45 rfl) rfl
theorem q1363 : (Jvm.Cond.code ({ cls := "java/util/BitSet", name := "get", desc := "(I)Z" } : Jvm.MethodName) prog_66_method_26_code (3 : Nat) (Option.some Jvm.ClassFile.FieldType.boolean)) ∈ lw_all := lw_g (lw_at lw_m6 46 rfl) rfl
theorem q1364 : (Jvm.Cond.stringRef "java/util/BitSet" (153 : Nat) "bitIndex < 0: ") ∈ lw_tbl := lw_at lw_m6 47 rfl
theorem q1366 : (Jvm.Cond.instanceMethod ({ cls := "java/util/BitSet", name := "set", desc := "(I)V" } : Jvm.MethodName)) ∈ lw_all := lw_g (lw_at lw_m6 49 rfl) rfl
theorem q1367 : (Jvm.Cond.selects "java/util/BitSet" ({ cls := "java/util/BitSet", name := "set", desc := "(I)V" } : Jvm.MethodName) ({ cls := "java/util/BitSet", name := "set", desc := "(I)V" } : Jvm.MethodName)) ∈ lw_all := lw_g (lw_at lw_m6 50 rfl) rfl
theorem q1368 : (Jvm.Cond.code ({ cls := "java/util/BitSet", name := "set", desc := "(I)V" } : Jvm.MethodName) prog_66_method_19_code (3 : Nat) (Option.none : Option Jvm.ClassFile.FieldType)) ∈ lw_all := lw_g (lw_at lw_m6 51 rfl) rfl
theorem q3513 : (Jvm.Cond.castable "java/util/BitSet" "java/lang/Object") ∈ lw_tbl := lw_at lw_m15 36 rfl
theorem in_J31 : ∀ w ∈ wsJ310, w ∈ lw_all := lw_in wsJ310 [1305, 1307, 1309] (by decide +kernel) (by decide +kernel)

/-! java/util/ArrayList$Itr -/
def RJ32 : String := "java/util/ArrayList$Itr"
def TJ32 : u_T := fun k => match k with
  | 0 => ("java/util/ArrayList$Itr", "cursor", "I", false)
  | 1 => ("java/util/ArrayList$Itr", "lastRet", "I", false)
  | 2 => ("java/util/ArrayList$Itr", "expectedModCount", "I", false)
  | _ => ("java/util/ArrayList$Itr", "this$0", "Ljava/util/ArrayList;", true)
def tyJ32 : Nat → FieldType := fun k => match k with
  | 0 => .int
  | 1 => .int
  | 2 => .int
  | _ => .object "java/util/ArrayList"
abbrev wsJ320 : List Cond := u_ws RJ32 TJ32 4
theorem nmJ32 : ∀ a, a < 4 → ∀ b, b < 4 → a ≠ b → (TJ32 a).2.1 ≠ (TJ32 b).2.1 := by decide +kernel
theorem tyJ32_ok : ∀ k, k < 4 → parseFieldDescriptor (TJ32 k).2.2.1 = some (tyJ32 k) := by decide +kernel
abbrev cJ32_init : ByteArray := prog_63_method_1_code
def yJ32_init : MethodName := ⟨RJ32, "<init>", "(Ljava/util/ArrayList;)V"⟩
def dkwJ32_init_1 : List UInt8 := [181, 0, 22, 177]
abbrev dktJ32_init_1 : List UInt8 := dkwJ32_init_1 ++ []
def dkwJ32_init_0 : List UInt8 := [42, 43, 181, 0, 1, 42, 183, 0, 7, 42, 2, 181, 0, 13, 42, 42, 180, 0, 1, 180, 0, 17]
abbrev dktJ32_init_0 : List UInt8 := dkwJ32_init_0 ++ dktJ32_init_1
theorem dksJ32_init_0 : cJ32_init.data.toList.drop 0 = dktJ32_init_0 := by decide +kernel
theorem dksJ32_init_1 : cJ32_init.data.toList.drop 22 = dktJ32_init_1 := dk_seg dksJ32_init_0 22 rfl rfl
theorem dJ32_init_0 : decode cJ32_init 0 = .ok (.aload_n 0, 1) := dk_42 (dk_at dksJ32_init_0 0 rfl rfl)
theorem dJ32_init_1 : decode cJ32_init 1 = .ok (.aload_n 1, 1) := dk_43 (dk_at dksJ32_init_0 1 rfl rfl)
theorem dJ32_init_2 : decode cJ32_init 2 = .ok (.putfield 1, 3) := dk_181 0 1 (dk_at dksJ32_init_0 2 rfl rfl)
theorem dJ32_init_5 : decode cJ32_init 5 = .ok (.aload_n 0, 1) := dk_42 (dk_at dksJ32_init_0 5 rfl rfl)
theorem dJ32_init_6 : decode cJ32_init 6 = .ok (.invokespecial 7, 3) := dk_183 0 7 (dk_at dksJ32_init_0 6 rfl rfl)
theorem dJ32_init_9 : decode cJ32_init 9 = .ok (.aload_n 0, 1) := dk_42 (dk_at dksJ32_init_0 9 rfl rfl)
theorem dJ32_init_10 : decode cJ32_init 10 = .ok (.iconst (-1), 1) := dk_2 (dk_at dksJ32_init_0 10 rfl rfl)
theorem dJ32_init_11 : decode cJ32_init 11 = .ok (.putfield 13, 3) := dk_181 0 13 (dk_at dksJ32_init_0 11 rfl rfl)
theorem dJ32_init_14 : decode cJ32_init 14 = .ok (.aload_n 0, 1) := dk_42 (dk_at dksJ32_init_0 14 rfl rfl)
theorem dJ32_init_15 : decode cJ32_init 15 = .ok (.aload_n 0, 1) := dk_42 (dk_at dksJ32_init_0 15 rfl rfl)
theorem dJ32_init_16 : decode cJ32_init 16 = .ok (.getfield 1, 3) := dk_180 0 1 (dk_at dksJ32_init_0 16 rfl rfl)
theorem dJ32_init_19 : decode cJ32_init 19 = .ok (.getfield 17, 3) := dk_180 0 17 (dk_at dksJ32_init_0 19 rfl rfl)
theorem dJ32_init_22 : decode cJ32_init 22 = .ok (.putfield 22, 3) := dk_181 0 22 (dk_at dksJ32_init_1 0 rfl rfl)
theorem dJ32_init_25 : decode cJ32_init 25 = .ok (.return_, 1) := dk_177 (dk_at dksJ32_init_1 3 rfl rfl)
abbrev cJ32_hasNext : ByteArray := prog_63_method_2_code
def yJ32_hasNext : MethodName := ⟨RJ32, "hasNext", "()Z"⟩
def dkwJ32_hasNext_0 : List UInt8 := [42, 180, 0, 25, 42, 180, 0, 1, 180, 0, 28, 159, 0, 7, 4, 167, 0, 4, 3, 172]
abbrev dktJ32_hasNext_0 : List UInt8 := dkwJ32_hasNext_0 ++ []
theorem dksJ32_hasNext_0 : cJ32_hasNext.data.toList.drop 0 = dktJ32_hasNext_0 := by decide +kernel
theorem dJ32_hasNext_0 : decode cJ32_hasNext 0 = .ok (.aload_n 0, 1) := dk_42 (dk_at dksJ32_hasNext_0 0 rfl rfl)
theorem dJ32_hasNext_1 : decode cJ32_hasNext 1 = .ok (.getfield 25, 3) := dk_180 0 25 (dk_at dksJ32_hasNext_0 1 rfl rfl)
theorem dJ32_hasNext_4 : decode cJ32_hasNext 4 = .ok (.aload_n 0, 1) := dk_42 (dk_at dksJ32_hasNext_0 4 rfl rfl)
theorem dJ32_hasNext_5 : decode cJ32_hasNext 5 = .ok (.getfield 1, 3) := dk_180 0 1 (dk_at dksJ32_hasNext_0 5 rfl rfl)
theorem dJ32_hasNext_8 : decode cJ32_hasNext 8 = .ok (.getfield 28, 3) := dk_180 0 28 (dk_at dksJ32_hasNext_0 8 rfl rfl)
theorem dJ32_hasNext_11 : decode cJ32_hasNext 11 = .ok (.if_icmp .eq 7, 3) := dk_159 0 7 (dk_at dksJ32_hasNext_0 11 rfl rfl)
theorem dJ32_hasNext_14 : decode cJ32_hasNext 14 = .ok (.iconst 1, 1) := dk_4 (dk_at dksJ32_hasNext_0 14 rfl rfl)
theorem dJ32_hasNext_15 : decode cJ32_hasNext 15 = .ok (.goto 4, 3) := dk_167 0 4 (dk_at dksJ32_hasNext_0 15 rfl rfl)
theorem dJ32_hasNext_18 : decode cJ32_hasNext 18 = .ok (.iconst 0, 1) := dk_3 (dk_at dksJ32_hasNext_0 18 rfl rfl)
theorem dJ32_hasNext_19 : decode cJ32_hasNext 19 = .ok (.ireturn, 1) := dk_172 (dk_at dksJ32_hasNext_0 19 rfl rfl)
abbrev cJ32_next : ByteArray := prog_63_method_3_code
def yJ32_next : MethodName := ⟨RJ32, "next", "()Ljava/lang/Object;"⟩
def dkwJ32_next_2 : List UInt8 := [183, 0, 43, 191, 42, 27, 4, 96, 181, 0, 25, 44, 42, 27, 90, 181, 0, 13, 50, 176]
abbrev dktJ32_next_2 : List UInt8 := dkwJ32_next_2 ++ []
def dkwJ32_next_1 : List UInt8 := [183, 0, 36, 191, 42, 180, 0, 1, 180, 0, 37, 77, 27, 44, 190, 161, 0, 11, 187, 0, 41, 89]
abbrev dktJ32_next_1 : List UInt8 := dkwJ32_next_1 ++ dktJ32_next_2
def dkwJ32_next_0 : List UInt8 := [42, 182, 0, 31, 42, 180, 0, 25, 60, 27, 42, 180, 0, 1, 180, 0, 28, 161, 0, 11, 187, 0, 34, 89]
abbrev dktJ32_next_0 : List UInt8 := dkwJ32_next_0 ++ dktJ32_next_1
theorem dksJ32_next_0 : cJ32_next.data.toList.drop 0 = dktJ32_next_0 := by decide +kernel
theorem dksJ32_next_1 : cJ32_next.data.toList.drop 24 = dktJ32_next_1 := dk_seg dksJ32_next_0 24 rfl rfl
theorem dksJ32_next_2 : cJ32_next.data.toList.drop 46 = dktJ32_next_2 := dk_seg dksJ32_next_1 22 rfl rfl
theorem dJ32_next_0 : decode cJ32_next 0 = .ok (.aload_n 0, 1) := dk_42 (dk_at dksJ32_next_0 0 rfl rfl)
theorem dJ32_next_1 : decode cJ32_next 1 = .ok (.invokevirtual 31, 3) := dk_182 0 31 (dk_at dksJ32_next_0 1 rfl rfl)
theorem dJ32_next_4 : decode cJ32_next 4 = .ok (.aload_n 0, 1) := dk_42 (dk_at dksJ32_next_0 4 rfl rfl)
theorem dJ32_next_5 : decode cJ32_next 5 = .ok (.getfield 25, 3) := dk_180 0 25 (dk_at dksJ32_next_0 5 rfl rfl)
theorem dJ32_next_8 : decode cJ32_next 8 = .ok (.istore_n 1, 1) := dk_60 (dk_at dksJ32_next_0 8 rfl rfl)
theorem dJ32_next_9 : decode cJ32_next 9 = .ok (.iload_n 1, 1) := dk_27 (dk_at dksJ32_next_0 9 rfl rfl)
theorem dJ32_next_10 : decode cJ32_next 10 = .ok (.aload_n 0, 1) := dk_42 (dk_at dksJ32_next_0 10 rfl rfl)
theorem dJ32_next_11 : decode cJ32_next 11 = .ok (.getfield 1, 3) := dk_180 0 1 (dk_at dksJ32_next_0 11 rfl rfl)
theorem dJ32_next_14 : decode cJ32_next 14 = .ok (.getfield 28, 3) := dk_180 0 28 (dk_at dksJ32_next_0 14 rfl rfl)
theorem dJ32_next_17 : decode cJ32_next 17 = .ok (.if_icmp .lt 11, 3) := dk_161 0 11 (dk_at dksJ32_next_0 17 rfl rfl)
theorem dJ32_next_20 : decode cJ32_next 20 = .ok (.new 34, 3) := dk_187 0 34 (dk_at dksJ32_next_0 20 rfl rfl)
theorem dJ32_next_23 : decode cJ32_next 23 = .ok (.dup, 1) := dk_89 (dk_at dksJ32_next_0 23 rfl rfl)
theorem dJ32_next_24 : decode cJ32_next 24 = .ok (.invokespecial 36, 3) := dk_183 0 36 (dk_at dksJ32_next_1 0 rfl rfl)
theorem dJ32_next_27 : decode cJ32_next 27 = .ok (.athrow, 1) := dk_191 (dk_at dksJ32_next_1 3 rfl rfl)
theorem dJ32_next_28 : decode cJ32_next 28 = .ok (.aload_n 0, 1) := dk_42 (dk_at dksJ32_next_1 4 rfl rfl)
theorem dJ32_next_29 : decode cJ32_next 29 = .ok (.getfield 1, 3) := dk_180 0 1 (dk_at dksJ32_next_1 5 rfl rfl)
theorem dJ32_next_32 : decode cJ32_next 32 = .ok (.getfield 37, 3) := dk_180 0 37 (dk_at dksJ32_next_1 8 rfl rfl)
theorem dJ32_next_35 : decode cJ32_next 35 = .ok (.astore_n 2, 1) := dk_77 (dk_at dksJ32_next_1 11 rfl rfl)
theorem dJ32_next_36 : decode cJ32_next 36 = .ok (.iload_n 1, 1) := dk_27 (dk_at dksJ32_next_1 12 rfl rfl)
theorem dJ32_next_37 : decode cJ32_next 37 = .ok (.aload_n 2, 1) := dk_44 (dk_at dksJ32_next_1 13 rfl rfl)
theorem dJ32_next_38 : decode cJ32_next 38 = .ok (.arraylength, 1) := dk_190 (dk_at dksJ32_next_1 14 rfl rfl)
theorem dJ32_next_39 : decode cJ32_next 39 = .ok (.if_icmp .lt 11, 3) := dk_161 0 11 (dk_at dksJ32_next_1 15 rfl rfl)
theorem dJ32_next_42 : decode cJ32_next 42 = .ok (.new 41, 3) := dk_187 0 41 (dk_at dksJ32_next_1 18 rfl rfl)
theorem dJ32_next_45 : decode cJ32_next 45 = .ok (.dup, 1) := dk_89 (dk_at dksJ32_next_1 21 rfl rfl)
theorem dJ32_next_46 : decode cJ32_next 46 = .ok (.invokespecial 43, 3) := dk_183 0 43 (dk_at dksJ32_next_2 0 rfl rfl)
theorem dJ32_next_49 : decode cJ32_next 49 = .ok (.athrow, 1) := dk_191 (dk_at dksJ32_next_2 3 rfl rfl)
theorem dJ32_next_50 : decode cJ32_next 50 = .ok (.aload_n 0, 1) := dk_42 (dk_at dksJ32_next_2 4 rfl rfl)
theorem dJ32_next_51 : decode cJ32_next 51 = .ok (.iload_n 1, 1) := dk_27 (dk_at dksJ32_next_2 5 rfl rfl)
theorem dJ32_next_52 : decode cJ32_next 52 = .ok (.iconst 1, 1) := dk_4 (dk_at dksJ32_next_2 6 rfl rfl)
theorem dJ32_next_53 : decode cJ32_next 53 = .ok (.iadd, 1) := dk_96 (dk_at dksJ32_next_2 7 rfl rfl)
theorem dJ32_next_54 : decode cJ32_next 54 = .ok (.putfield 25, 3) := dk_181 0 25 (dk_at dksJ32_next_2 8 rfl rfl)
theorem dJ32_next_57 : decode cJ32_next 57 = .ok (.aload_n 2, 1) := dk_44 (dk_at dksJ32_next_2 11 rfl rfl)
theorem dJ32_next_58 : decode cJ32_next 58 = .ok (.aload_n 0, 1) := dk_42 (dk_at dksJ32_next_2 12 rfl rfl)
theorem dJ32_next_59 : decode cJ32_next 59 = .ok (.iload_n 1, 1) := dk_27 (dk_at dksJ32_next_2 13 rfl rfl)
theorem dJ32_next_60 : decode cJ32_next 60 = .ok (.dup_x1, 1) := dk_90 (dk_at dksJ32_next_2 14 rfl rfl)
theorem dJ32_next_61 : decode cJ32_next 61 = .ok (.putfield 13, 3) := dk_181 0 13 (dk_at dksJ32_next_2 15 rfl rfl)
theorem dJ32_next_64 : decode cJ32_next 64 = .ok (.aaload, 1) := dk_50 (dk_at dksJ32_next_2 18 rfl rfl)
theorem dJ32_next_65 : decode cJ32_next 65 = .ok (.areturn, 1) := dk_176 (dk_at dksJ32_next_2 19 rfl rfl)
abbrev cJ32_checkForComodification : ByteArray := prog_63_method_6_code
def yJ32_checkForComodification : MethodName := ⟨RJ32, "checkForComodification", "()V"⟩
def dkwJ32_checkForComodification_0 : List UInt8 := [42, 180, 0, 1, 180, 0, 17, 42, 180, 0, 22, 159, 0, 11, 187, 0, 41, 89, 183, 0, 43, 191, 177]
abbrev dktJ32_checkForComodification_0 : List UInt8 := dkwJ32_checkForComodification_0 ++ []
theorem dksJ32_checkForComodification_0 : cJ32_checkForComodification.data.toList.drop 0 = dktJ32_checkForComodification_0 := by decide +kernel
theorem dJ32_checkForComodification_0 : decode cJ32_checkForComodification 0 = .ok (.aload_n 0, 1) := dk_42 (dk_at dksJ32_checkForComodification_0 0 rfl rfl)
theorem dJ32_checkForComodification_1 : decode cJ32_checkForComodification 1 = .ok (.getfield 1, 3) := dk_180 0 1 (dk_at dksJ32_checkForComodification_0 1 rfl rfl)
theorem dJ32_checkForComodification_4 : decode cJ32_checkForComodification 4 = .ok (.getfield 17, 3) := dk_180 0 17 (dk_at dksJ32_checkForComodification_0 4 rfl rfl)
theorem dJ32_checkForComodification_7 : decode cJ32_checkForComodification 7 = .ok (.aload_n 0, 1) := dk_42 (dk_at dksJ32_checkForComodification_0 7 rfl rfl)
theorem dJ32_checkForComodification_8 : decode cJ32_checkForComodification 8 = .ok (.getfield 22, 3) := dk_180 0 22 (dk_at dksJ32_checkForComodification_0 8 rfl rfl)
theorem dJ32_checkForComodification_11 : decode cJ32_checkForComodification 11 = .ok (.if_icmp .eq 11, 3) := dk_159 0 11 (dk_at dksJ32_checkForComodification_0 11 rfl rfl)
theorem dJ32_checkForComodification_14 : decode cJ32_checkForComodification 14 = .ok (.new 41, 3) := dk_187 0 41 (dk_at dksJ32_checkForComodification_0 14 rfl rfl)
theorem dJ32_checkForComodification_17 : decode cJ32_checkForComodification 17 = .ok (.dup, 1) := dk_89 (dk_at dksJ32_checkForComodification_0 17 rfl rfl)
theorem dJ32_checkForComodification_18 : decode cJ32_checkForComodification 18 = .ok (.invokespecial 43, 3) := dk_183 0 43 (dk_at dksJ32_checkForComodification_0 18 rfl rfl)
theorem dJ32_checkForComodification_21 : decode cJ32_checkForComodification 21 = .ok (.athrow, 1) := dk_191 (dk_at dksJ32_checkForComodification_0 21 rfl rfl)
theorem dJ32_checkForComodification_22 : decode cJ32_checkForComodification 22 = .ok (.return_, 1) := dk_177 (dk_at dksJ32_checkForComodification_0 22 rfl rfl)
theorem q179 : (Jvm.Cond.initialized "java/util/ArrayList$Itr") ∈ lw_all := lw_g (lw_at lw_m1 62 rfl) rfl
theorem q206 : (Jvm.Cond.fieldLink "java/util/ArrayList$Itr" (37 : Nat) "java/util/ArrayList" "elementData" "[Ljava/lang/Object;") ∈ lw_all := lw_g (lw_at lw_m1 89 rfl) rfl
theorem q208 : (Jvm.Cond.fieldLinkNest "java/util/ArrayList$Itr" (28 : Nat) "java/util/ArrayList" "size" "I" "java/util/ArrayList") ∈ lw_tbl := lw_at lw_m1 91 rfl
theorem q213 : (Jvm.Cond.fieldLink "java/util/ArrayList$Itr" (17 : Nat) "java/util/ArrayList" "modCount" "I") ∈ lw_all := lw_g (lw_at lw_m1 96 rfl) rfl
theorem q1082 : (Jvm.Cond.selects "java/util/ArrayList$Itr" ({ cls := "java/lang/Object", name := "getClass", desc := "()Ljava/lang/Class;" } : Jvm.MethodName) ({ cls := "java/lang/Object", name := "getClass", desc := "()Ljava/lang/Class;" } : Jvm.MethodName)) ∈ lw_all := lw_g (lw_at lw_m5 5 rfl) rfl
theorem q1388 : (Jvm.Cond.instantiable "java/util/ArrayList$Itr" (4 : Nat)) ∈ lw_all := lw_g (lw_at lw_m6 71 rfl) rfl
theorem q1390 : (Jvm.Cond.instanceMethod ({ cls := "java/util/ArrayList$Itr", name := "<init>", desc := "(Ljava/util/ArrayList;)V" } : Jvm.MethodName)) ∈ lw_all := lw_g (lw_at lw_m6 73 rfl) rfl
theorem q1391 : (Jvm.Cond.code ({ cls := "java/util/ArrayList$Itr", name := "<init>", desc := "(Ljava/util/ArrayList;)V" } : Jvm.MethodName) prog_63_method_1_code (2 : Nat) (Option.none : Option Jvm.ClassFile.FieldType)) ∈ lw_all := lw_g (lw_at lw_m6 74 rfl) rfl
theorem q1392 : (Jvm.Cond.methodLink "java/util/ArrayList$Itr" (7 : Nat) ({ cls := "java/lang/Object", name := "<init>", desc := "()V" } : Jvm.MethodName)) ∈ lw_all := lw_g (lw_at lw_m6 75 rfl) rfl
theorem q1395 : (Jvm.Cond.fieldLink "java/util/ArrayList$Itr" (25 : Nat) "java/util/ArrayList$Itr" "cursor" "I") ∈ lw_all := lw_g (lw_at lw_m6 78 rfl) rfl
theorem q1396 : (Jvm.Cond.fieldLink "java/util/ArrayList$Itr" (13 : Nat) "java/util/ArrayList$Itr" "lastRet" "I") ∈ lw_all := lw_g (lw_at lw_m6 79 rfl) rfl
theorem q1399 : (Jvm.Cond.fieldLink "java/util/ArrayList$Itr" (22 : Nat) "java/util/ArrayList$Itr" "expectedModCount" "I") ∈ lw_all := lw_g (lw_at lw_m6 82 rfl) rfl
theorem q1402 : (Jvm.Cond.fieldLink "java/util/ArrayList$Itr" (1 : Nat) "java/util/ArrayList$Itr" "this$0" "Ljava/util/ArrayList;") ∈ lw_all := lw_g (lw_at lw_m6 85 rfl) rfl
theorem q1403 : (Jvm.Cond.lays "java/util/ArrayList$Itr" "java/util/ArrayList$Itr" "cursor" "I") ∈ lw_all := lw_g (lw_at lw_m6 86 rfl) rfl
theorem q1404 : (Jvm.Cond.soleField "java/util/ArrayList$Itr" "cursor") ∈ lw_all := lw_g (lw_at lw_m6 87 rfl) rfl
theorem q1405 : (Jvm.Cond.lays "java/util/ArrayList$Itr" "java/util/ArrayList$Itr" "lastRet" "I") ∈ lw_all := lw_g (lw_at lw_m6 88 rfl) rfl
theorem q1406 : (Jvm.Cond.soleField "java/util/ArrayList$Itr" "lastRet") ∈ lw_all := lw_g (lw_at lw_m6 89 rfl) rfl
theorem q1407 : (Jvm.Cond.lays "java/util/ArrayList$Itr" "java/util/ArrayList$Itr" "expectedModCount" "I") ∈ lw_all := lw_g (lw_at lw_m6 90 rfl) rfl
theorem q1408 : (Jvm.Cond.soleField "java/util/ArrayList$Itr" "expectedModCount") ∈ lw_all := lw_g (lw_at lw_m6 91 rfl) rfl
theorem q1409 : (Jvm.Cond.laysFinal "java/util/ArrayList$Itr" "java/util/ArrayList$Itr" "this$0" "Ljava/util/ArrayList;") ∈ lw_all := lw_g (lw_at lw_m6 92 rfl) rfl
theorem q1410 : (Jvm.Cond.soleField "java/util/ArrayList$Itr" "this$0") ∈ lw_all := lw_g (lw_at lw_m6 93 rfl) rfl
theorem q1411 : (Jvm.Cond.superclass "java/util/ArrayList$Itr" "java/lang/Object") ∈ lw_all := lw_g (lw_at lw_m6 94 rfl) rfl
theorem q1516 : (Jvm.Cond.castable "java/util/ArrayList$Itr" "java/util/Iterator") ∈ lw_tbl := lw_at lw_m6 199 rfl
theorem q1517 : (Jvm.Cond.selects "java/util/ArrayList$Itr" ({ cls := "java/util/Iterator", name := "hasNext", desc := "()Z" } : Jvm.MethodName) ({ cls := "java/util/ArrayList$Itr", name := "hasNext", desc := "()Z" } : Jvm.MethodName)) ∈ lw_all := lw_g (lw_at lw_m6 200 rfl) rfl
theorem q1518 : (Jvm.Cond.unhidden "java/util/ArrayList$Itr" "hasNext" "()Z") ∈ lw_tbl := lw_at lw_m6 201 rfl
theorem q1519 : (Jvm.Cond.instanceMethod ({ cls := "java/util/ArrayList$Itr", name := "hasNext", desc := "()Z" } : Jvm.MethodName)) ∈ lw_all := lw_g (lw_at lw_m6 202 rfl) rfl
theorem q1520 : (Jvm.Cond.publicMethod ({ cls := "java/util/ArrayList$Itr", name := "hasNext", desc := "()Z" } : Jvm.MethodName)) ∈ lw_tbl := lw_at lw_m6 203 rfl
theorem q1521 : (Jvm.Cond.code ({ cls := "java/util/ArrayList$Itr", name := "hasNext", desc := "()Z" } : Jvm.MethodName) prog_63_method_2_code (1 : Nat) (Option.some Jvm.ClassFile.FieldType.boolean)) ∈ lw_all := lw_g (lw_at lw_m6 204 rfl) rfl
theorem q1646 : (Jvm.Cond.selects "java/util/ArrayList$Itr" ({ cls := "java/util/Iterator", name := "next", desc := "()Ljava/lang/Object;" } : Jvm.MethodName) ({ cls := "java/util/ArrayList$Itr", name := "next", desc := "()Ljava/lang/Object;" } : Jvm.MethodName)) ∈ lw_all := lw_g (lw_at lw_m7 89 rfl) rfl
theorem q1647 : (Jvm.Cond.unhidden "java/util/ArrayList$Itr" "next" "()Ljava/lang/Object;") ∈ lw_tbl := lw_at lw_m7 90 rfl
theorem q1648 : (Jvm.Cond.instanceMethod ({ cls := "java/util/ArrayList$Itr", name := "next", desc := "()Ljava/lang/Object;" } : Jvm.MethodName)) ∈ lw_all := lw_g (lw_at lw_m7 91 rfl) rfl
theorem q1649 : (Jvm.Cond.publicMethod ({ cls := "java/util/ArrayList$Itr", name := "next", desc := "()Ljava/lang/Object;" } : Jvm.MethodName)) ∈ lw_tbl := lw_at lw_m7 92 rfl
theorem q1650 : (Jvm.Cond.code ({ cls := "java/util/ArrayList$Itr", name := "next", desc := "()Ljava/lang/Object;" } : Jvm.MethodName) prog_63_method_3_code (3 : Nat) (Option.some (Jvm.ClassFile.FieldType.object "java/lang/Object"))) ∈ lw_all := lw_g (lw_at lw_m7 93 rfl) rfl
theorem q1651 : (Jvm.Cond.methodLink "java/util/ArrayList$Itr" (31 : Nat) ({ cls := "java/util/ArrayList$Itr", name := "checkForComodification", desc := "()V" } : Jvm.MethodName)) ∈ lw_all := lw_g (lw_at lw_m7 94 rfl) rfl
theorem q1652 : (Jvm.Cond.instanceMethod ({ cls := "java/util/ArrayList$Itr", name := "checkForComodification", desc := "()V" } : Jvm.MethodName)) ∈ lw_all := lw_g (lw_at lw_m7 95 rfl) rfl
theorem q1653 : (Jvm.Cond.selects "java/util/ArrayList$Itr" ({ cls := "java/util/ArrayList$Itr", name := "checkForComodification", desc := "()V" } : Jvm.MethodName) ({ cls := "java/util/ArrayList$Itr", name := "checkForComodification", desc := "()V" } : Jvm.MethodName)) ∈ lw_all := lw_g (lw_at lw_m7 96 rfl) rfl
theorem q1654 : (Jvm.Cond.sameMethod "java/util/ArrayList$Itr" "java/util/ArrayList$Itr" "checkForComodification" "()V") ∈ lw_all := lw_g (lw_at lw_m7 97 rfl) rfl
theorem q1656 : (Jvm.Cond.code ({ cls := "java/util/ArrayList$Itr", name := "checkForComodification", desc := "()V" } : Jvm.MethodName) prog_63_method_6_code (1 : Nat) (Option.none : Option Jvm.ClassFile.FieldType)) ∈ lw_all := lw_g (lw_at lw_m7 99 rfl) rfl
theorem q1657 : (Jvm.Cond.classLink "java/util/ArrayList$Itr" (34 : Nat) "java/util/NoSuchElementException") ∈ lw_all := lw_g (lw_at lw_m7 100 rfl) rfl
theorem q1658 : (Jvm.Cond.methodLink "java/util/ArrayList$Itr" (36 : Nat) ({ cls := "java/util/NoSuchElementException", name := "<init>", desc := "()V" } : Jvm.MethodName)) ∈ lw_all := lw_g (lw_at lw_m7 101 rfl) rfl
theorem q2380 : (Jvm.Cond.declares ({ cls := "java/util/ArrayList$Itr", name := "checkForComodification", desc := "()V" } : Jvm.MethodName)) ∈ lw_tbl := lw_at lw_m10 103 rfl
theorem q3516 : (Jvm.Cond.castable "java/util/ArrayList$Itr" "java/lang/Object") ∈ lw_tbl := lw_at lw_m15 39 rfl
theorem in_J32 : ∀ w ∈ wsJ320, w ∈ lw_all := lw_in wsJ320 [1403, 1405, 1407, 1409] (by decide +kernel) (by decide +kernel)

/-! java/util/AbstractList$Itr -/
def RJ33 : String := "java/util/AbstractList$Itr"
abbrev cJ33_hasNext : ByteArray := prog_56_method_2_code
def yJ33_hasNext : MethodName := ⟨RJ33, "hasNext", "()Z"⟩
def dkwJ33_hasNext_0 : List UInt8 := [42, 180, 0, 13, 42, 180, 0, 1, 182, 0, 28, 159, 0, 7, 4, 167, 0, 4, 3, 172]
abbrev dktJ33_hasNext_0 : List UInt8 := dkwJ33_hasNext_0 ++ []
theorem dksJ33_hasNext_0 : cJ33_hasNext.data.toList.drop 0 = dktJ33_hasNext_0 := by decide +kernel
theorem dJ33_hasNext_0 : decode cJ33_hasNext 0 = .ok (.aload_n 0, 1) := dk_42 (dk_at dksJ33_hasNext_0 0 rfl rfl)
theorem dJ33_hasNext_1 : decode cJ33_hasNext 1 = .ok (.getfield 13, 3) := dk_180 0 13 (dk_at dksJ33_hasNext_0 1 rfl rfl)
theorem dJ33_hasNext_4 : decode cJ33_hasNext 4 = .ok (.aload_n 0, 1) := dk_42 (dk_at dksJ33_hasNext_0 4 rfl rfl)
theorem dJ33_hasNext_5 : decode cJ33_hasNext 5 = .ok (.getfield 1, 3) := dk_180 0 1 (dk_at dksJ33_hasNext_0 5 rfl rfl)
theorem dJ33_hasNext_8 : decode cJ33_hasNext 8 = .ok (.invokevirtual 28, 3) := dk_182 0 28 (dk_at dksJ33_hasNext_0 8 rfl rfl)
theorem dJ33_hasNext_11 : decode cJ33_hasNext 11 = .ok (.if_icmp .eq 7, 3) := dk_159 0 7 (dk_at dksJ33_hasNext_0 11 rfl rfl)
theorem dJ33_hasNext_14 : decode cJ33_hasNext 14 = .ok (.iconst 1, 1) := dk_4 (dk_at dksJ33_hasNext_0 14 rfl rfl)
theorem dJ33_hasNext_15 : decode cJ33_hasNext 15 = .ok (.goto 4, 3) := dk_167 0 4 (dk_at dksJ33_hasNext_0 15 rfl rfl)
theorem dJ33_hasNext_18 : decode cJ33_hasNext 18 = .ok (.iconst 0, 1) := dk_3 (dk_at dksJ33_hasNext_0 18 rfl rfl)
theorem dJ33_hasNext_19 : decode cJ33_hasNext 19 = .ok (.ireturn, 1) := dk_172 (dk_at dksJ33_hasNext_0 19 rfl rfl)
abbrev cJ33_next : ByteArray := prog_56_method_3_code
def yJ33_next : MethodName := ⟨RJ33, "next", "()Ljava/lang/Object;"⟩
def dkwJ33_next_1 : List UInt8 := [27, 4, 96, 181, 0, 13, 44, 176, 76, 42, 182, 0, 32, 187, 0, 41, 89, 43, 183, 0, 43, 191]
abbrev dktJ33_next_1 : List UInt8 := dkwJ33_next_1 ++ []
def dkwJ33_next_0 : List UInt8 := [42, 182, 0, 32, 42, 180, 0, 13, 60, 42, 180, 0, 1, 27, 182, 0, 35, 77, 42, 27, 181, 0, 17, 42]
abbrev dktJ33_next_0 : List UInt8 := dkwJ33_next_0 ++ dktJ33_next_1
theorem dksJ33_next_0 : cJ33_next.data.toList.drop 0 = dktJ33_next_0 := by decide +kernel
theorem dksJ33_next_1 : cJ33_next.data.toList.drop 24 = dktJ33_next_1 := dk_seg dksJ33_next_0 24 rfl rfl
theorem dJ33_next_0 : decode cJ33_next 0 = .ok (.aload_n 0, 1) := dk_42 (dk_at dksJ33_next_0 0 rfl rfl)
theorem dJ33_next_1 : decode cJ33_next 1 = .ok (.invokevirtual 32, 3) := dk_182 0 32 (dk_at dksJ33_next_0 1 rfl rfl)
theorem dJ33_next_4 : decode cJ33_next 4 = .ok (.aload_n 0, 1) := dk_42 (dk_at dksJ33_next_0 4 rfl rfl)
theorem dJ33_next_5 : decode cJ33_next 5 = .ok (.getfield 13, 3) := dk_180 0 13 (dk_at dksJ33_next_0 5 rfl rfl)
theorem dJ33_next_8 : decode cJ33_next 8 = .ok (.istore_n 1, 1) := dk_60 (dk_at dksJ33_next_0 8 rfl rfl)
theorem dJ33_next_9 : decode cJ33_next 9 = .ok (.aload_n 0, 1) := dk_42 (dk_at dksJ33_next_0 9 rfl rfl)
theorem dJ33_next_10 : decode cJ33_next 10 = .ok (.getfield 1, 3) := dk_180 0 1 (dk_at dksJ33_next_0 10 rfl rfl)
theorem dJ33_next_13 : decode cJ33_next 13 = .ok (.iload_n 1, 1) := dk_27 (dk_at dksJ33_next_0 13 rfl rfl)
theorem dJ33_next_14 : decode cJ33_next 14 = .ok (.invokevirtual 35, 3) := dk_182 0 35 (dk_at dksJ33_next_0 14 rfl rfl)
theorem dJ33_next_17 : decode cJ33_next 17 = .ok (.astore_n 2, 1) := dk_77 (dk_at dksJ33_next_0 17 rfl rfl)
theorem dJ33_next_18 : decode cJ33_next 18 = .ok (.aload_n 0, 1) := dk_42 (dk_at dksJ33_next_0 18 rfl rfl)
theorem dJ33_next_19 : decode cJ33_next 19 = .ok (.iload_n 1, 1) := dk_27 (dk_at dksJ33_next_0 19 rfl rfl)
theorem dJ33_next_20 : decode cJ33_next 20 = .ok (.putfield 17, 3) := dk_181 0 17 (dk_at dksJ33_next_0 20 rfl rfl)
theorem dJ33_next_23 : decode cJ33_next 23 = .ok (.aload_n 0, 1) := dk_42 (dk_at dksJ33_next_0 23 rfl rfl)
theorem dJ33_next_24 : decode cJ33_next 24 = .ok (.iload_n 1, 1) := dk_27 (dk_at dksJ33_next_1 0 rfl rfl)
theorem dJ33_next_25 : decode cJ33_next 25 = .ok (.iconst 1, 1) := dk_4 (dk_at dksJ33_next_1 1 rfl rfl)
theorem dJ33_next_26 : decode cJ33_next 26 = .ok (.iadd, 1) := dk_96 (dk_at dksJ33_next_1 2 rfl rfl)
theorem dJ33_next_27 : decode cJ33_next 27 = .ok (.putfield 13, 3) := dk_181 0 13 (dk_at dksJ33_next_1 3 rfl rfl)
theorem dJ33_next_30 : decode cJ33_next 30 = .ok (.aload_n 2, 1) := dk_44 (dk_at dksJ33_next_1 6 rfl rfl)
theorem dJ33_next_31 : decode cJ33_next 31 = .ok (.areturn, 1) := dk_176 (dk_at dksJ33_next_1 7 rfl rfl)
theorem dJ33_next_32 : decode cJ33_next 32 = .ok (.astore_n 1, 1) := dk_76 (dk_at dksJ33_next_1 8 rfl rfl)
theorem dJ33_next_33 : decode cJ33_next 33 = .ok (.aload_n 0, 1) := dk_42 (dk_at dksJ33_next_1 9 rfl rfl)
theorem dJ33_next_34 : decode cJ33_next 34 = .ok (.invokevirtual 32, 3) := dk_182 0 32 (dk_at dksJ33_next_1 10 rfl rfl)
theorem dJ33_next_37 : decode cJ33_next 37 = .ok (.new 41, 3) := dk_187 0 41 (dk_at dksJ33_next_1 13 rfl rfl)
theorem dJ33_next_40 : decode cJ33_next 40 = .ok (.dup, 1) := dk_89 (dk_at dksJ33_next_1 16 rfl rfl)
theorem dJ33_next_41 : decode cJ33_next 41 = .ok (.aload_n 1, 1) := dk_43 (dk_at dksJ33_next_1 17 rfl rfl)
theorem dJ33_next_42 : decode cJ33_next 42 = .ok (.invokespecial 43, 3) := dk_183 0 43 (dk_at dksJ33_next_1 18 rfl rfl)
theorem dJ33_next_45 : decode cJ33_next 45 = .ok (.athrow, 1) := dk_191 (dk_at dksJ33_next_1 21 rfl rfl)
abbrev cJ33_checkForComodification : ByteArray := prog_56_method_5_code
def yJ33_checkForComodification : MethodName := ⟨RJ33, "checkForComodification", "()V"⟩
def dkwJ33_checkForComodification_0 : List UInt8 := [42, 180, 0, 1, 180, 0, 20, 42, 180, 0, 25, 159, 0, 11, 187, 0, 52, 89, 183, 0, 54, 191, 177]
abbrev dktJ33_checkForComodification_0 : List UInt8 := dkwJ33_checkForComodification_0 ++ []
theorem dksJ33_checkForComodification_0 : cJ33_checkForComodification.data.toList.drop 0 = dktJ33_checkForComodification_0 := by decide +kernel
theorem dJ33_checkForComodification_0 : decode cJ33_checkForComodification 0 = .ok (.aload_n 0, 1) := dk_42 (dk_at dksJ33_checkForComodification_0 0 rfl rfl)
theorem dJ33_checkForComodification_1 : decode cJ33_checkForComodification 1 = .ok (.getfield 1, 3) := dk_180 0 1 (dk_at dksJ33_checkForComodification_0 1 rfl rfl)
theorem dJ33_checkForComodification_4 : decode cJ33_checkForComodification 4 = .ok (.getfield 20, 3) := dk_180 0 20 (dk_at dksJ33_checkForComodification_0 4 rfl rfl)
theorem dJ33_checkForComodification_7 : decode cJ33_checkForComodification 7 = .ok (.aload_n 0, 1) := dk_42 (dk_at dksJ33_checkForComodification_0 7 rfl rfl)
theorem dJ33_checkForComodification_8 : decode cJ33_checkForComodification 8 = .ok (.getfield 25, 3) := dk_180 0 25 (dk_at dksJ33_checkForComodification_0 8 rfl rfl)
theorem dJ33_checkForComodification_11 : decode cJ33_checkForComodification 11 = .ok (.if_icmp .eq 11, 3) := dk_159 0 11 (dk_at dksJ33_checkForComodification_0 11 rfl rfl)
theorem dJ33_checkForComodification_14 : decode cJ33_checkForComodification 14 = .ok (.new 52, 3) := dk_187 0 52 (dk_at dksJ33_checkForComodification_0 14 rfl rfl)
theorem dJ33_checkForComodification_17 : decode cJ33_checkForComodification 17 = .ok (.dup, 1) := dk_89 (dk_at dksJ33_checkForComodification_0 17 rfl rfl)
theorem dJ33_checkForComodification_18 : decode cJ33_checkForComodification 18 = .ok (.invokespecial 54, 3) := dk_183 0 54 (dk_at dksJ33_checkForComodification_0 18 rfl rfl)
theorem dJ33_checkForComodification_21 : decode cJ33_checkForComodification 21 = .ok (.athrow, 1) := dk_191 (dk_at dksJ33_checkForComodification_0 21 rfl rfl)
theorem dJ33_checkForComodification_22 : decode cJ33_checkForComodification 22 = .ok (.return_, 1) := dk_177 (dk_at dksJ33_checkForComodification_0 22 rfl rfl)
theorem q180 : (Jvm.Cond.initialized "java/util/AbstractList$Itr") ∈ lw_all := lw_g (lw_at lw_m1 63 rfl) rfl
theorem q215 : (Jvm.Cond.fieldLink "java/util/AbstractList$Itr" (20 : Nat) "java/util/AbstractList" "modCount" "I") ∈ lw_all := lw_g (lw_at lw_m1 98 rfl) rfl
theorem q1502 : (Jvm.Cond.instanceMethod ({ cls := "java/util/AbstractList$Itr", name := "hasNext", desc := "()Z" } : Jvm.MethodName)) ∈ lw_all := lw_g (lw_at lw_m6 185 rfl) rfl
theorem q1503 : (Jvm.Cond.publicMethod ({ cls := "java/util/AbstractList$Itr", name := "hasNext", desc := "()Z" } : Jvm.MethodName)) ∈ lw_tbl := lw_at lw_m6 186 rfl
theorem q1504 : (Jvm.Cond.code ({ cls := "java/util/AbstractList$Itr", name := "hasNext", desc := "()Z" } : Jvm.MethodName) prog_56_method_2_code (1 : Nat) (Option.some Jvm.ClassFile.FieldType.boolean)) ∈ lw_all := lw_g (lw_at lw_m6 187 rfl) rfl
theorem q1505 : (Jvm.Cond.methodLink "java/util/AbstractList$Itr" (28 : Nat) ({ cls := "java/util/AbstractList", name := "size", desc := "()I" } : Jvm.MethodName)) ∈ lw_all := lw_g (lw_at lw_m6 188 rfl) rfl
theorem q1537 : (Jvm.Cond.instanceMethod ({ cls := "java/util/AbstractList$Itr", name := "next", desc := "()Ljava/lang/Object;" } : Jvm.MethodName)) ∈ lw_all := lw_g (lw_at lw_m6 220 rfl) rfl
theorem q1538 : (Jvm.Cond.publicMethod ({ cls := "java/util/AbstractList$Itr", name := "next", desc := "()Ljava/lang/Object;" } : Jvm.MethodName)) ∈ lw_tbl := lw_at lw_m6 221 rfl
theorem q1539 : (Jvm.Cond.codeWith ({ cls := "java/util/AbstractList$Itr", name := "next", desc := "()Ljava/lang/Object;" } : Jvm.MethodName) prog_56_method_3_code (3 : Nat) (Option.some (Jvm.ClassFile.FieldType.object "java/lang/Object")) [((4 : Nat), (31 : Nat), (32 : Nat), (39 : Nat))]) ∈ lw_all := lw_g (lw_at lw_m6 222 rfl) rfl
theorem q1540 : (Jvm.Cond.methodLink "java/util/AbstractList$Itr" (32 : Nat) ({ cls := "java/util/AbstractList$Itr", name := "checkForComodification", desc := "()V" } : Jvm.MethodName)) ∈ lw_all := lw_g (lw_at lw_m6 223 rfl) rfl
theorem q1541 : (Jvm.Cond.instanceMethod ({ cls := "java/util/AbstractList$Itr", name := "checkForComodification", desc := "()V" } : Jvm.MethodName)) ∈ lw_all := lw_g (lw_at lw_m6 224 rfl) rfl
theorem q1542 : (Jvm.Cond.sameMethod "java/util/AbstractList$Itr" "java/util/AbstractList$Itr" "checkForComodification" "()V") ∈ lw_all := lw_g (lw_at lw_m6 225 rfl) rfl
theorem q1544 : (Jvm.Cond.code ({ cls := "java/util/AbstractList$Itr", name := "checkForComodification", desc := "()V" } : Jvm.MethodName) prog_56_method_5_code (1 : Nat) (Option.none : Option Jvm.ClassFile.FieldType)) ∈ lw_all := lw_g (lw_at lw_m6 227 rfl) rfl
theorem q1545 : (Jvm.Cond.methodLink "java/util/AbstractList$Itr" (35 : Nat) ({ cls := "java/util/AbstractList", name := "get", desc := "(I)Ljava/lang/Object;" } : Jvm.MethodName)) ∈ lw_all := lw_g (lw_at lw_m6 228 rfl) rfl
theorem q1550 : (Jvm.Cond.classLink "java/util/AbstractList$Itr" (41 : Nat) "java/util/NoSuchElementException") ∈ lw_all := lw_g (lw_at lw_m6 233 rfl) rfl
theorem q1559 : (Jvm.Cond.methodLink "java/util/AbstractList$Itr" (43 : Nat) ({ cls := "java/util/NoSuchElementException", name := "<init>", desc := "(Ljava/lang/Throwable;)V" } : Jvm.MethodName)) ∈ lw_all := lw_g (lw_at lw_m7 2 rfl) rfl
theorem q2368 : (Jvm.Cond.declares ({ cls := "java/util/AbstractList$Itr", name := "checkForComodification", desc := "()V" } : Jvm.MethodName)) ∈ lw_tbl := lw_at lw_m10 91 rfl
theorem q3532 : (Jvm.Cond.fieldLink "java/util/AbstractList$Itr" (1 : Nat) "java/util/AbstractList$Itr" "this$0" "Ljava/util/AbstractList;") ∈ lw_all := lw_g (lw_at lw_m15 55 rfl) rfl
theorem q3533 : (Jvm.Cond.fieldLink "java/util/AbstractList$Itr" (25 : Nat) "java/util/AbstractList$Itr" "expectedModCount" "I") ∈ lw_all := lw_g (lw_at lw_m15 56 rfl) rfl
theorem q3537 : (Jvm.Cond.fieldLink "java/util/AbstractList$Itr" (13 : Nat) "java/util/AbstractList$Itr" "cursor" "I") ∈ lw_all := lw_g (lw_at lw_m15 60 rfl) rfl
theorem q3538 : (Jvm.Cond.fieldLink "java/util/AbstractList$Itr" (17 : Nat) "java/util/AbstractList$Itr" "lastRet" "I") ∈ lw_all := lw_g (lw_at lw_m15 61 rfl) rfl

/-! java/util/AbstractList$ListItr -/
def RJ34 : String := "java/util/AbstractList$ListItr"
abbrev cJ34_hasPrevious : ByteArray := prog_57_method_2_code
def yJ34_hasPrevious : MethodName := ⟨RJ34, "hasPrevious", "()Z"⟩
def dkwJ34_hasPrevious_0 : List UInt8 := [42, 180, 0, 13, 153, 0, 7, 4, 167, 0, 4, 3, 172]
abbrev dktJ34_hasPrevious_0 : List UInt8 := dkwJ34_hasPrevious_0 ++ []
theorem dksJ34_hasPrevious_0 : cJ34_hasPrevious.data.toList.drop 0 = dktJ34_hasPrevious_0 := by decide +kernel
theorem dJ34_hasPrevious_0 : decode cJ34_hasPrevious 0 = .ok (.aload_n 0, 1) := dk_42 (dk_at dksJ34_hasPrevious_0 0 rfl rfl)
theorem dJ34_hasPrevious_1 : decode cJ34_hasPrevious 1 = .ok (.getfield 13, 3) := dk_180 0 13 (dk_at dksJ34_hasPrevious_0 1 rfl rfl)
theorem dJ34_hasPrevious_4 : decode cJ34_hasPrevious 4 = .ok (.ifCond .eq 7, 3) := dk_153 0 7 (dk_at dksJ34_hasPrevious_0 4 rfl rfl)
theorem dJ34_hasPrevious_7 : decode cJ34_hasPrevious 7 = .ok (.iconst 1, 1) := dk_4 (dk_at dksJ34_hasPrevious_0 7 rfl rfl)
theorem dJ34_hasPrevious_8 : decode cJ34_hasPrevious 8 = .ok (.goto 4, 3) := dk_167 0 4 (dk_at dksJ34_hasPrevious_0 8 rfl rfl)
theorem dJ34_hasPrevious_11 : decode cJ34_hasPrevious 11 = .ok (.iconst 0, 1) := dk_3 (dk_at dksJ34_hasPrevious_0 11 rfl rfl)
theorem dJ34_hasPrevious_12 : decode cJ34_hasPrevious 12 = .ok (.ireturn, 1) := dk_172 (dk_at dksJ34_hasPrevious_0 12 rfl rfl)
abbrev cJ34_previous : ByteArray := prog_57_method_3_code
def yJ34_previous : MethodName := ⟨RJ34, "previous", "()Ljava/lang/Object;"⟩
def dkwJ34_previous_1 : List UInt8 := [181, 0, 13, 181, 0, 27, 44, 176, 76, 42, 182, 0, 17, 187, 0, 32, 89, 43, 183, 0, 34, 191]
abbrev dktJ34_previous_1 : List UInt8 := dkwJ34_previous_1 ++ []
def dkwJ34_previous_0 : List UInt8 := [42, 182, 0, 17, 42, 180, 0, 13, 4, 100, 60, 42, 180, 0, 1, 27, 182, 0, 21, 77, 42, 42, 27, 90]
abbrev dktJ34_previous_0 : List UInt8 := dkwJ34_previous_0 ++ dktJ34_previous_1
theorem dksJ34_previous_0 : cJ34_previous.data.toList.drop 0 = dktJ34_previous_0 := by decide +kernel
theorem dksJ34_previous_1 : cJ34_previous.data.toList.drop 24 = dktJ34_previous_1 := dk_seg dksJ34_previous_0 24 rfl rfl
theorem dJ34_previous_0 : decode cJ34_previous 0 = .ok (.aload_n 0, 1) := dk_42 (dk_at dksJ34_previous_0 0 rfl rfl)
theorem dJ34_previous_1 : decode cJ34_previous 1 = .ok (.invokevirtual 17, 3) := dk_182 0 17 (dk_at dksJ34_previous_0 1 rfl rfl)
theorem dJ34_previous_4 : decode cJ34_previous 4 = .ok (.aload_n 0, 1) := dk_42 (dk_at dksJ34_previous_0 4 rfl rfl)
theorem dJ34_previous_5 : decode cJ34_previous 5 = .ok (.getfield 13, 3) := dk_180 0 13 (dk_at dksJ34_previous_0 5 rfl rfl)
theorem dJ34_previous_8 : decode cJ34_previous 8 = .ok (.iconst 1, 1) := dk_4 (dk_at dksJ34_previous_0 8 rfl rfl)
theorem dJ34_previous_9 : decode cJ34_previous 9 = .ok (.isub, 1) := dk_100 (dk_at dksJ34_previous_0 9 rfl rfl)
theorem dJ34_previous_10 : decode cJ34_previous 10 = .ok (.istore_n 1, 1) := dk_60 (dk_at dksJ34_previous_0 10 rfl rfl)
theorem dJ34_previous_11 : decode cJ34_previous 11 = .ok (.aload_n 0, 1) := dk_42 (dk_at dksJ34_previous_0 11 rfl rfl)
theorem dJ34_previous_12 : decode cJ34_previous 12 = .ok (.getfield 1, 3) := dk_180 0 1 (dk_at dksJ34_previous_0 12 rfl rfl)
theorem dJ34_previous_15 : decode cJ34_previous 15 = .ok (.iload_n 1, 1) := dk_27 (dk_at dksJ34_previous_0 15 rfl rfl)
theorem dJ34_previous_16 : decode cJ34_previous 16 = .ok (.invokevirtual 21, 3) := dk_182 0 21 (dk_at dksJ34_previous_0 16 rfl rfl)
theorem dJ34_previous_19 : decode cJ34_previous 19 = .ok (.astore_n 2, 1) := dk_77 (dk_at dksJ34_previous_0 19 rfl rfl)
theorem dJ34_previous_20 : decode cJ34_previous 20 = .ok (.aload_n 0, 1) := dk_42 (dk_at dksJ34_previous_0 20 rfl rfl)
theorem dJ34_previous_21 : decode cJ34_previous 21 = .ok (.aload_n 0, 1) := dk_42 (dk_at dksJ34_previous_0 21 rfl rfl)
theorem dJ34_previous_22 : decode cJ34_previous 22 = .ok (.iload_n 1, 1) := dk_27 (dk_at dksJ34_previous_0 22 rfl rfl)
theorem dJ34_previous_23 : decode cJ34_previous 23 = .ok (.dup_x1, 1) := dk_90 (dk_at dksJ34_previous_0 23 rfl rfl)
theorem dJ34_previous_24 : decode cJ34_previous 24 = .ok (.putfield 13, 3) := dk_181 0 13 (dk_at dksJ34_previous_1 0 rfl rfl)
theorem dJ34_previous_27 : decode cJ34_previous 27 = .ok (.putfield 27, 3) := dk_181 0 27 (dk_at dksJ34_previous_1 3 rfl rfl)
theorem dJ34_previous_30 : decode cJ34_previous 30 = .ok (.aload_n 2, 1) := dk_44 (dk_at dksJ34_previous_1 6 rfl rfl)
theorem dJ34_previous_31 : decode cJ34_previous 31 = .ok (.areturn, 1) := dk_176 (dk_at dksJ34_previous_1 7 rfl rfl)
theorem dJ34_previous_32 : decode cJ34_previous 32 = .ok (.astore_n 1, 1) := dk_76 (dk_at dksJ34_previous_1 8 rfl rfl)
theorem dJ34_previous_33 : decode cJ34_previous 33 = .ok (.aload_n 0, 1) := dk_42 (dk_at dksJ34_previous_1 9 rfl rfl)
theorem dJ34_previous_34 : decode cJ34_previous 34 = .ok (.invokevirtual 17, 3) := dk_182 0 17 (dk_at dksJ34_previous_1 10 rfl rfl)
theorem dJ34_previous_37 : decode cJ34_previous 37 = .ok (.new 32, 3) := dk_187 0 32 (dk_at dksJ34_previous_1 13 rfl rfl)
theorem dJ34_previous_40 : decode cJ34_previous 40 = .ok (.dup, 1) := dk_89 (dk_at dksJ34_previous_1 16 rfl rfl)
theorem dJ34_previous_41 : decode cJ34_previous 41 = .ok (.aload_n 1, 1) := dk_43 (dk_at dksJ34_previous_1 17 rfl rfl)
theorem dJ34_previous_42 : decode cJ34_previous 42 = .ok (.invokespecial 34, 3) := dk_183 0 34 (dk_at dksJ34_previous_1 18 rfl rfl)
theorem dJ34_previous_45 : decode cJ34_previous 45 = .ok (.athrow, 1) := dk_191 (dk_at dksJ34_previous_1 21 rfl rfl)
abbrev cJ34_add : ByteArray := prog_57_method_7_code
def yJ34_add : MethodName := ⟨RJ34, "add", "(Ljava/lang/Object;)V"⟩
def dkwJ34_add_2 : List UInt8 := [89, 183, 0, 53, 191, 177]
abbrev dktJ34_add_2 : List UInt8 := dkwJ34_add_2 ++ []
def dkwJ34_add_1 : List UInt8 := [28, 4, 96, 181, 0, 13, 42, 42, 180, 0, 1, 180, 0, 45, 181, 0, 48, 167, 0, 12, 77, 187, 0, 51]
abbrev dktJ34_add_1 : List UInt8 := dkwJ34_add_1 ++ dktJ34_add_2
def dkwJ34_add_0 : List UInt8 := [42, 182, 0, 17, 42, 180, 0, 13, 61, 42, 180, 0, 1, 28, 43, 182, 0, 54, 42, 2, 181, 0, 27, 42]
abbrev dktJ34_add_0 : List UInt8 := dkwJ34_add_0 ++ dktJ34_add_1
theorem dksJ34_add_0 : cJ34_add.data.toList.drop 0 = dktJ34_add_0 := by decide +kernel
theorem dksJ34_add_1 : cJ34_add.data.toList.drop 24 = dktJ34_add_1 := dk_seg dksJ34_add_0 24 rfl rfl
theorem dksJ34_add_2 : cJ34_add.data.toList.drop 48 = dktJ34_add_2 := dk_seg dksJ34_add_1 24 rfl rfl
theorem dJ34_add_0 : decode cJ34_add 0 = .ok (.aload_n 0, 1) := dk_42 (dk_at dksJ34_add_0 0 rfl rfl)
theorem dJ34_add_1 : decode cJ34_add 1 = .ok (.invokevirtual 17, 3) := dk_182 0 17 (dk_at dksJ34_add_0 1 rfl rfl)
theorem dJ34_add_4 : decode cJ34_add 4 = .ok (.aload_n 0, 1) := dk_42 (dk_at dksJ34_add_0 4 rfl rfl)
theorem dJ34_add_5 : decode cJ34_add 5 = .ok (.getfield 13, 3) := dk_180 0 13 (dk_at dksJ34_add_0 5 rfl rfl)
theorem dJ34_add_8 : decode cJ34_add 8 = .ok (.istore_n 2, 1) := dk_61 (dk_at dksJ34_add_0 8 rfl rfl)
theorem dJ34_add_9 : decode cJ34_add 9 = .ok (.aload_n 0, 1) := dk_42 (dk_at dksJ34_add_0 9 rfl rfl)
theorem dJ34_add_10 : decode cJ34_add 10 = .ok (.getfield 1, 3) := dk_180 0 1 (dk_at dksJ34_add_0 10 rfl rfl)
theorem dJ34_add_13 : decode cJ34_add 13 = .ok (.iload_n 2, 1) := dk_28 (dk_at dksJ34_add_0 13 rfl rfl)
theorem dJ34_add_14 : decode cJ34_add 14 = .ok (.aload_n 1, 1) := dk_43 (dk_at dksJ34_add_0 14 rfl rfl)
theorem dJ34_add_15 : decode cJ34_add 15 = .ok (.invokevirtual 54, 3) := dk_182 0 54 (dk_at dksJ34_add_0 15 rfl rfl)
theorem dJ34_add_18 : decode cJ34_add 18 = .ok (.aload_n 0, 1) := dk_42 (dk_at dksJ34_add_0 18 rfl rfl)
theorem dJ34_add_19 : decode cJ34_add 19 = .ok (.iconst (-1), 1) := dk_2 (dk_at dksJ34_add_0 19 rfl rfl)
theorem dJ34_add_20 : decode cJ34_add 20 = .ok (.putfield 27, 3) := dk_181 0 27 (dk_at dksJ34_add_0 20 rfl rfl)
theorem dJ34_add_23 : decode cJ34_add 23 = .ok (.aload_n 0, 1) := dk_42 (dk_at dksJ34_add_0 23 rfl rfl)
theorem dJ34_add_24 : decode cJ34_add 24 = .ok (.iload_n 2, 1) := dk_28 (dk_at dksJ34_add_1 0 rfl rfl)
theorem dJ34_add_25 : decode cJ34_add 25 = .ok (.iconst 1, 1) := dk_4 (dk_at dksJ34_add_1 1 rfl rfl)
theorem dJ34_add_26 : decode cJ34_add 26 = .ok (.iadd, 1) := dk_96 (dk_at dksJ34_add_1 2 rfl rfl)
theorem dJ34_add_27 : decode cJ34_add 27 = .ok (.putfield 13, 3) := dk_181 0 13 (dk_at dksJ34_add_1 3 rfl rfl)
theorem dJ34_add_30 : decode cJ34_add 30 = .ok (.aload_n 0, 1) := dk_42 (dk_at dksJ34_add_1 6 rfl rfl)
theorem dJ34_add_31 : decode cJ34_add 31 = .ok (.aload_n 0, 1) := dk_42 (dk_at dksJ34_add_1 7 rfl rfl)
theorem dJ34_add_32 : decode cJ34_add 32 = .ok (.getfield 1, 3) := dk_180 0 1 (dk_at dksJ34_add_1 8 rfl rfl)
theorem dJ34_add_35 : decode cJ34_add 35 = .ok (.getfield 45, 3) := dk_180 0 45 (dk_at dksJ34_add_1 11 rfl rfl)
theorem dJ34_add_38 : decode cJ34_add 38 = .ok (.putfield 48, 3) := dk_181 0 48 (dk_at dksJ34_add_1 14 rfl rfl)
theorem dJ34_add_41 : decode cJ34_add 41 = .ok (.goto 12, 3) := dk_167 0 12 (dk_at dksJ34_add_1 17 rfl rfl)
theorem dJ34_add_44 : decode cJ34_add 44 = .ok (.astore_n 2, 1) := dk_77 (dk_at dksJ34_add_1 20 rfl rfl)
theorem dJ34_add_45 : decode cJ34_add 45 = .ok (.new 51, 3) := dk_187 0 51 (dk_at dksJ34_add_1 21 rfl rfl)
theorem dJ34_add_48 : decode cJ34_add 48 = .ok (.dup, 1) := dk_89 (dk_at dksJ34_add_2 0 rfl rfl)
theorem dJ34_add_49 : decode cJ34_add 49 = .ok (.invokespecial 53, 3) := dk_183 0 53 (dk_at dksJ34_add_2 1 rfl rfl)
theorem dJ34_add_52 : decode cJ34_add 52 = .ok (.athrow, 1) := dk_191 (dk_at dksJ34_add_2 4 rfl rfl)
theorem dJ34_add_53 : decode cJ34_add 53 = .ok (.return_, 1) := dk_177 (dk_at dksJ34_add_2 5 rfl rfl)
theorem q181 : (Jvm.Cond.initialized "java/util/AbstractList$ListItr") ∈ lw_all := lw_g (lw_at lw_m1 64 rfl) rfl
theorem q217 : (Jvm.Cond.fieldLink "java/util/AbstractList$ListItr" (45 : Nat) "java/util/AbstractList" "modCount" "I") ∈ lw_all := lw_g (lw_at lw_m1 100 rfl) rfl
theorem q1078 : (Jvm.Cond.selects "java/util/AbstractList$ListItr" ({ cls := "java/lang/Object", name := "getClass", desc := "()Ljava/lang/Class;" } : Jvm.MethodName) ({ cls := "java/lang/Object", name := "getClass", desc := "()Ljava/lang/Class;" } : Jvm.MethodName)) ∈ lw_all := lw_g (lw_at lw_m5 1 rfl) rfl
theorem q1499 : (Jvm.Cond.castable "java/util/AbstractList$ListItr" "java/util/Iterator") ∈ lw_tbl := lw_at lw_m6 182 rfl
theorem q1500 : (Jvm.Cond.selects "java/util/AbstractList$ListItr" ({ cls := "java/util/Iterator", name := "hasNext", desc := "()Z" } : Jvm.MethodName) ({ cls := "java/util/AbstractList$Itr", name := "hasNext", desc := "()Z" } : Jvm.MethodName)) ∈ lw_all := lw_g (lw_at lw_m6 183 rfl) rfl
theorem q1501 : (Jvm.Cond.unhidden "java/util/AbstractList$ListItr" "hasNext" "()Z") ∈ lw_tbl := lw_at lw_m6 184 rfl
theorem q1535 : (Jvm.Cond.selects "java/util/AbstractList$ListItr" ({ cls := "java/util/Iterator", name := "next", desc := "()Ljava/lang/Object;" } : Jvm.MethodName) ({ cls := "java/util/AbstractList$Itr", name := "next", desc := "()Ljava/lang/Object;" } : Jvm.MethodName)) ∈ lw_all := lw_g (lw_at lw_m6 218 rfl) rfl
theorem q1536 : (Jvm.Cond.unhidden "java/util/AbstractList$ListItr" "next" "()Ljava/lang/Object;") ∈ lw_tbl := lw_at lw_m6 219 rfl
theorem q1543 : (Jvm.Cond.selects "java/util/AbstractList$ListItr" ({ cls := "java/util/AbstractList$Itr", name := "checkForComodification", desc := "()V" } : Jvm.MethodName) ({ cls := "java/util/AbstractList$Itr", name := "checkForComodification", desc := "()V" } : Jvm.MethodName)) ∈ lw_all := lw_g (lw_at lw_m6 226 rfl) rfl
theorem q2339 : (Jvm.Cond.castable "java/util/AbstractList$ListItr" "java/util/ListIterator") ∈ lw_tbl := lw_at lw_m10 62 rfl
theorem q2340 : (Jvm.Cond.selects "java/util/AbstractList$ListItr" ({ cls := "java/util/ListIterator", name := "hasPrevious", desc := "()Z" } : Jvm.MethodName) ({ cls := "java/util/AbstractList$ListItr", name := "hasPrevious", desc := "()Z" } : Jvm.MethodName)) ∈ lw_all := lw_g (lw_at lw_m10 63 rfl) rfl
theorem q2341 : (Jvm.Cond.unhidden "java/util/AbstractList$ListItr" "hasPrevious" "()Z") ∈ lw_tbl := lw_at lw_m10 64 rfl
theorem q2342 : (Jvm.Cond.instanceMethod ({ cls := "java/util/AbstractList$ListItr", name := "hasPrevious", desc := "()Z" } : Jvm.MethodName)) ∈ lw_all := lw_g (lw_at lw_m10 65 rfl) rfl
theorem q2343 : (Jvm.Cond.publicMethod ({ cls := "java/util/AbstractList$ListItr", name := "hasPrevious", desc := "()Z" } : Jvm.MethodName)) ∈ lw_tbl := lw_at lw_m10 66 rfl
theorem q2344 : (Jvm.Cond.code ({ cls := "java/util/AbstractList$ListItr", name := "hasPrevious", desc := "()Z" } : Jvm.MethodName) prog_57_method_2_code (1 : Nat) (Option.some Jvm.ClassFile.FieldType.boolean)) ∈ lw_all := lw_g (lw_at lw_m10 67 rfl) rfl
theorem q2361 : (Jvm.Cond.selects "java/util/AbstractList$ListItr" ({ cls := "java/util/ListIterator", name := "previous", desc := "()Ljava/lang/Object;" } : Jvm.MethodName) ({ cls := "java/util/AbstractList$ListItr", name := "previous", desc := "()Ljava/lang/Object;" } : Jvm.MethodName)) ∈ lw_all := lw_g (lw_at lw_m10 84 rfl) rfl
theorem q2362 : (Jvm.Cond.unhidden "java/util/AbstractList$ListItr" "previous" "()Ljava/lang/Object;") ∈ lw_tbl := lw_at lw_m10 85 rfl
theorem q2363 : (Jvm.Cond.instanceMethod ({ cls := "java/util/AbstractList$ListItr", name := "previous", desc := "()Ljava/lang/Object;" } : Jvm.MethodName)) ∈ lw_all := lw_g (lw_at lw_m10 86 rfl) rfl
theorem q2364 : (Jvm.Cond.publicMethod ({ cls := "java/util/AbstractList$ListItr", name := "previous", desc := "()Ljava/lang/Object;" } : Jvm.MethodName)) ∈ lw_tbl := lw_at lw_m10 87 rfl
theorem q2365 : (Jvm.Cond.codeWith ({ cls := "java/util/AbstractList$ListItr", name := "previous", desc := "()Ljava/lang/Object;" } : Jvm.MethodName) prog_57_method_3_code (3 : Nat) (Option.some (Jvm.ClassFile.FieldType.object "java/lang/Object")) [((4 : Nat), (31 : Nat), (32 : Nat), (30 : Nat))]) ∈ lw_all := lw_g (lw_at lw_m10 88 rfl) rfl
theorem q2366 : (Jvm.Cond.methodLink "java/util/AbstractList$ListItr" (17 : Nat) ({ cls := "java/util/AbstractList$ListItr", name := "checkForComodification", desc := "()V" } : Jvm.MethodName)) ∈ lw_all := lw_g (lw_at lw_m10 89 rfl) rfl
theorem q2367 : (Jvm.Cond.sameMethod "java/util/AbstractList$ListItr" "java/util/AbstractList$Itr" "checkForComodification" "()V") ∈ lw_all := lw_g (lw_at lw_m10 90 rfl) rfl
theorem q2369 : (Jvm.Cond.selects "java/util/AbstractList$ListItr" ({ cls := "java/util/AbstractList$ListItr", name := "checkForComodification", desc := "()V" } : Jvm.MethodName) ({ cls := "java/util/AbstractList$Itr", name := "checkForComodification", desc := "()V" } : Jvm.MethodName)) ∈ lw_all := lw_g (lw_at lw_m10 92 rfl) rfl
theorem q2370 : (Jvm.Cond.methodLink "java/util/AbstractList$ListItr" (21 : Nat) ({ cls := "java/util/AbstractList", name := "get", desc := "(I)Ljava/lang/Object;" } : Jvm.MethodName)) ∈ lw_all := lw_g (lw_at lw_m10 93 rfl) rfl
theorem q2371 : (Jvm.Cond.classLink "java/util/AbstractList$ListItr" (32 : Nat) "java/util/NoSuchElementException") ∈ lw_all := lw_g (lw_at lw_m10 94 rfl) rfl
theorem q2372 : (Jvm.Cond.methodLink "java/util/AbstractList$ListItr" (34 : Nat) ({ cls := "java/util/NoSuchElementException", name := "<init>", desc := "(Ljava/lang/Throwable;)V" } : Jvm.MethodName)) ∈ lw_all := lw_g (lw_at lw_m10 95 rfl) rfl
theorem q2394 : (Jvm.Cond.selects "java/util/AbstractList$ListItr" ({ cls := "java/util/ListIterator", name := "next", desc := "()Ljava/lang/Object;" } : Jvm.MethodName) ({ cls := "java/util/AbstractList$Itr", name := "next", desc := "()Ljava/lang/Object;" } : Jvm.MethodName)) ∈ lw_all := lw_g (lw_at lw_m10 117 rfl) rfl
theorem q2415 : (Jvm.Cond.selects "java/util/AbstractList$ListItr" ({ cls := "java/util/ListIterator", name := "add", desc := "(Ljava/lang/Object;)V" } : Jvm.MethodName) ({ cls := "java/util/AbstractList$ListItr", name := "add", desc := "(Ljava/lang/Object;)V" } : Jvm.MethodName)) ∈ lw_all := lw_g (lw_at lw_m10 138 rfl) rfl
theorem q2416 : (Jvm.Cond.unhidden "java/util/AbstractList$ListItr" "add" "(Ljava/lang/Object;)V") ∈ lw_tbl := lw_at lw_m10 139 rfl
theorem q2417 : (Jvm.Cond.instanceMethod ({ cls := "java/util/AbstractList$ListItr", name := "add", desc := "(Ljava/lang/Object;)V" } : Jvm.MethodName)) ∈ lw_all := lw_g (lw_at lw_m10 140 rfl) rfl
theorem q2418 : (Jvm.Cond.publicMethod ({ cls := "java/util/AbstractList$ListItr", name := "add", desc := "(Ljava/lang/Object;)V" } : Jvm.MethodName)) ∈ lw_tbl := lw_at lw_m10 141 rfl
theorem q2419 : (Jvm.Cond.codeWith ({ cls := "java/util/AbstractList$ListItr", name := "add", desc := "(Ljava/lang/Object;)V" } : Jvm.MethodName) prog_57_method_7_code (3 : Nat) (Option.none : Option Jvm.ClassFile.FieldType) [((4 : Nat), (41 : Nat), (44 : Nat), (30 : Nat))]) ∈ lw_all := lw_g (lw_at lw_m10 142 rfl) rfl
theorem q2420 : (Jvm.Cond.methodLink "java/util/AbstractList$ListItr" (54 : Nat) ({ cls := "java/util/AbstractList", name := "add", desc := "(ILjava/lang/Object;)V" } : Jvm.MethodName)) ∈ lw_all := lw_g (lw_at lw_m10 143 rfl) rfl
theorem q2435 : (Jvm.Cond.classLink "java/util/AbstractList$ListItr" (51 : Nat) "java/util/ConcurrentModificationException") ∈ lw_all := lw_g (lw_at lw_m10 158 rfl) rfl
theorem q2437 : (Jvm.Cond.methodLink "java/util/AbstractList$ListItr" (53 : Nat) ({ cls := "java/util/ConcurrentModificationException", name := "<init>", desc := "()V" } : Jvm.MethodName)) ∈ lw_all := lw_g (lw_at lw_m10 160 rfl) rfl
theorem q3517 : (Jvm.Cond.castable "java/util/AbstractList$ListItr" "java/lang/Object") ∈ lw_tbl := lw_at lw_m15 40 rfl
theorem q3530 : (Jvm.Cond.fieldLink "java/util/AbstractList$ListItr" (13 : Nat) "java/util/AbstractList$ListItr" "cursor" "I") ∈ lw_all := lw_g (lw_at lw_m15 53 rfl) rfl
theorem q3531 : (Jvm.Cond.sameField "java/util/AbstractList$ListItr" "java/util/AbstractList$Itr" "cursor" "I") ∈ lw_all := lw_g (lw_at lw_m15 54 rfl) rfl
theorem q3534 : (Jvm.Cond.fieldLink "java/util/AbstractList$ListItr" (1 : Nat) "java/util/AbstractList$ListItr" "this$0" "Ljava/util/AbstractList;") ∈ lw_all := lw_g (lw_at lw_m15 57 rfl) rfl
theorem q3535 : (Jvm.Cond.fieldLink "java/util/AbstractList$ListItr" (27 : Nat) "java/util/AbstractList$ListItr" "lastRet" "I") ∈ lw_all := lw_g (lw_at lw_m15 58 rfl) rfl
theorem q3536 : (Jvm.Cond.sameField "java/util/AbstractList$ListItr" "java/util/AbstractList$Itr" "lastRet" "I") ∈ lw_all := lw_g (lw_at lw_m15 59 rfl) rfl
theorem q3539 : (Jvm.Cond.fieldLink "java/util/AbstractList$ListItr" (48 : Nat) "java/util/AbstractList$ListItr" "expectedModCount" "I") ∈ lw_all := lw_g (lw_at lw_m15 62 rfl) rfl
theorem q3540 : (Jvm.Cond.sameField "java/util/AbstractList$ListItr" "java/util/AbstractList$Itr" "expectedModCount" "I") ∈ lw_all := lw_g (lw_at lw_m15 63 rfl) rfl

/-! java/util/ArrayList$ListItr -/
def RJ35 : String := "java/util/ArrayList$ListItr"
def TJ35 : u_T := fun k => match k with
  | 0 => ("java/util/ArrayList$Itr", "cursor", "I", false)
  | 1 => ("java/util/ArrayList$Itr", "lastRet", "I", false)
  | 2 => ("java/util/ArrayList$Itr", "expectedModCount", "I", false)
  | 3 => ("java/util/ArrayList$Itr", "this$0", "Ljava/util/ArrayList;", true)
  | _ => ("java/util/ArrayList$ListItr", "this$0", "Ljava/util/ArrayList;", true)
def tyJ35 : Nat → FieldType := fun k => match k with
  | 0 => .int
  | 1 => .int
  | 2 => .int
  | 3 => .object "java/util/ArrayList"
  | _ => .object "java/util/ArrayList"
abbrev wsJ350 : List Cond := u_ws RJ35 TJ35 5
-- two fields of one name: no nmJ35
theorem tyJ35_ok : ∀ k, k < 5 → parseFieldDescriptor (TJ35 k).2.2.1 = some (tyJ35 k) := by decide +kernel
abbrev cJ35_init : ByteArray := prog_64_method_1_code
def yJ35_init : MethodName := ⟨RJ35, "<init>", "(Ljava/util/ArrayList;I)V"⟩
def dkwJ35_init_0 : List UInt8 := [42, 43, 181, 0, 1, 42, 43, 183, 0, 7, 42, 28, 181, 0, 13, 177]
abbrev dktJ35_init_0 : List UInt8 := dkwJ35_init_0 ++ []
theorem dksJ35_init_0 : cJ35_init.data.toList.drop 0 = dktJ35_init_0 := by decide +kernel
theorem dJ35_init_0 : decode cJ35_init 0 = .ok (.aload_n 0, 1) := dk_42 (dk_at dksJ35_init_0 0 rfl rfl)
theorem dJ35_init_1 : decode cJ35_init 1 = .ok (.aload_n 1, 1) := dk_43 (dk_at dksJ35_init_0 1 rfl rfl)
theorem dJ35_init_2 : decode cJ35_init 2 = .ok (.putfield 1, 3) := dk_181 0 1 (dk_at dksJ35_init_0 2 rfl rfl)
theorem dJ35_init_5 : decode cJ35_init 5 = .ok (.aload_n 0, 1) := dk_42 (dk_at dksJ35_init_0 5 rfl rfl)
theorem dJ35_init_6 : decode cJ35_init 6 = .ok (.aload_n 1, 1) := dk_43 (dk_at dksJ35_init_0 6 rfl rfl)
theorem dJ35_init_7 : decode cJ35_init 7 = .ok (.invokespecial 7, 3) := dk_183 0 7 (dk_at dksJ35_init_0 7 rfl rfl)
theorem dJ35_init_10 : decode cJ35_init 10 = .ok (.aload_n 0, 1) := dk_42 (dk_at dksJ35_init_0 10 rfl rfl)
theorem dJ35_init_11 : decode cJ35_init 11 = .ok (.iload_n 2, 1) := dk_28 (dk_at dksJ35_init_0 11 rfl rfl)
theorem dJ35_init_12 : decode cJ35_init 12 = .ok (.putfield 13, 3) := dk_181 0 13 (dk_at dksJ35_init_0 12 rfl rfl)
theorem dJ35_init_15 : decode cJ35_init 15 = .ok (.return_, 1) := dk_177 (dk_at dksJ35_init_0 15 rfl rfl)
abbrev cJ35_hasPrevious : ByteArray := prog_64_method_2_code
def yJ35_hasPrevious : MethodName := ⟨RJ35, "hasPrevious", "()Z"⟩
def dkwJ35_hasPrevious_0 : List UInt8 := [42, 180, 0, 13, 153, 0, 7, 4, 167, 0, 4, 3, 172]
abbrev dktJ35_hasPrevious_0 : List UInt8 := dkwJ35_hasPrevious_0 ++ []
theorem dksJ35_hasPrevious_0 : cJ35_hasPrevious.data.toList.drop 0 = dktJ35_hasPrevious_0 := by decide +kernel
theorem dJ35_hasPrevious_0 : decode cJ35_hasPrevious 0 = .ok (.aload_n 0, 1) := dk_42 (dk_at dksJ35_hasPrevious_0 0 rfl rfl)
theorem dJ35_hasPrevious_1 : decode cJ35_hasPrevious 1 = .ok (.getfield 13, 3) := dk_180 0 13 (dk_at dksJ35_hasPrevious_0 1 rfl rfl)
theorem dJ35_hasPrevious_4 : decode cJ35_hasPrevious 4 = .ok (.ifCond .eq 7, 3) := dk_153 0 7 (dk_at dksJ35_hasPrevious_0 4 rfl rfl)
theorem dJ35_hasPrevious_7 : decode cJ35_hasPrevious 7 = .ok (.iconst 1, 1) := dk_4 (dk_at dksJ35_hasPrevious_0 7 rfl rfl)
theorem dJ35_hasPrevious_8 : decode cJ35_hasPrevious 8 = .ok (.goto 4, 3) := dk_167 0 4 (dk_at dksJ35_hasPrevious_0 8 rfl rfl)
theorem dJ35_hasPrevious_11 : decode cJ35_hasPrevious 11 = .ok (.iconst 0, 1) := dk_3 (dk_at dksJ35_hasPrevious_0 11 rfl rfl)
theorem dJ35_hasPrevious_12 : decode cJ35_hasPrevious 12 = .ok (.ireturn, 1) := dk_172 (dk_at dksJ35_hasPrevious_0 12 rfl rfl)
abbrev cJ35_previous : ByteArray := prog_64_method_5_code
def yJ35_previous : MethodName := ⟨RJ35, "previous", "()Ljava/lang/Object;"⟩
def dkwJ35_previous_2 : List UInt8 := [181, 0, 13, 44, 42, 27, 90, 181, 0, 34, 50, 176]
abbrev dktJ35_previous_2 : List UInt8 := dkwJ35_previous_2 ++ []
def dkwJ35_previous_1 : List UInt8 := [180, 0, 1, 180, 0, 25, 77, 27, 44, 190, 161, 0, 11, 187, 0, 31, 89, 183, 0, 33, 191, 42, 27]
abbrev dktJ35_previous_1 : List UInt8 := dkwJ35_previous_1 ++ dktJ35_previous_2
def dkwJ35_previous_0 : List UInt8 := [42, 182, 0, 17, 42, 180, 0, 13, 4, 100, 60, 27, 156, 0, 11, 187, 0, 21, 89, 183, 0, 23, 191, 42]
abbrev dktJ35_previous_0 : List UInt8 := dkwJ35_previous_0 ++ dktJ35_previous_1
theorem dksJ35_previous_0 : cJ35_previous.data.toList.drop 0 = dktJ35_previous_0 := by decide +kernel
theorem dksJ35_previous_1 : cJ35_previous.data.toList.drop 24 = dktJ35_previous_1 := dk_seg dksJ35_previous_0 24 rfl rfl
theorem dksJ35_previous_2 : cJ35_previous.data.toList.drop 47 = dktJ35_previous_2 := dk_seg dksJ35_previous_1 23 rfl rfl
theorem dJ35_previous_0 : decode cJ35_previous 0 = .ok (.aload_n 0, 1) := dk_42 (dk_at dksJ35_previous_0 0 rfl rfl)
theorem dJ35_previous_1 : decode cJ35_previous 1 = .ok (.invokevirtual 17, 3) := dk_182 0 17 (dk_at dksJ35_previous_0 1 rfl rfl)
theorem dJ35_previous_4 : decode cJ35_previous 4 = .ok (.aload_n 0, 1) := dk_42 (dk_at dksJ35_previous_0 4 rfl rfl)
theorem dJ35_previous_5 : decode cJ35_previous 5 = .ok (.getfield 13, 3) := dk_180 0 13 (dk_at dksJ35_previous_0 5 rfl rfl)
theorem dJ35_previous_8 : decode cJ35_previous 8 = .ok (.iconst 1, 1) := dk_4 (dk_at dksJ35_previous_0 8 rfl rfl)
theorem dJ35_previous_9 : decode cJ35_previous 9 = .ok (.isub, 1) := dk_100 (dk_at dksJ35_previous_0 9 rfl rfl)
theorem dJ35_previous_10 : decode cJ35_previous 10 = .ok (.istore_n 1, 1) := dk_60 (dk_at dksJ35_previous_0 10 rfl rfl)
theorem dJ35_previous_11 : decode cJ35_previous 11 = .ok (.iload_n 1, 1) := dk_27 (dk_at dksJ35_previous_0 11 rfl rfl)
theorem dJ35_previous_12 : decode cJ35_previous 12 = .ok (.ifCond .ge 11, 3) := dk_156 0 11 (dk_at dksJ35_previous_0 12 rfl rfl)
theorem dJ35_previous_15 : decode cJ35_previous 15 = .ok (.new 21, 3) := dk_187 0 21 (dk_at dksJ35_previous_0 15 rfl rfl)
theorem dJ35_previous_18 : decode cJ35_previous 18 = .ok (.dup, 1) := dk_89 (dk_at dksJ35_previous_0 18 rfl rfl)
theorem dJ35_previous_19 : decode cJ35_previous 19 = .ok (.invokespecial 23, 3) := dk_183 0 23 (dk_at dksJ35_previous_0 19 rfl rfl)
theorem dJ35_previous_22 : decode cJ35_previous 22 = .ok (.athrow, 1) := dk_191 (dk_at dksJ35_previous_0 22 rfl rfl)
theorem dJ35_previous_23 : decode cJ35_previous 23 = .ok (.aload_n 0, 1) := dk_42 (dk_at dksJ35_previous_0 23 rfl rfl)
theorem dJ35_previous_24 : decode cJ35_previous 24 = .ok (.getfield 1, 3) := dk_180 0 1 (dk_at dksJ35_previous_1 0 rfl rfl)
theorem dJ35_previous_27 : decode cJ35_previous 27 = .ok (.getfield 25, 3) := dk_180 0 25 (dk_at dksJ35_previous_1 3 rfl rfl)
theorem dJ35_previous_30 : decode cJ35_previous 30 = .ok (.astore_n 2, 1) := dk_77 (dk_at dksJ35_previous_1 6 rfl rfl)
theorem dJ35_previous_31 : decode cJ35_previous 31 = .ok (.iload_n 1, 1) := dk_27 (dk_at dksJ35_previous_1 7 rfl rfl)
theorem dJ35_previous_32 : decode cJ35_previous 32 = .ok (.aload_n 2, 1) := dk_44 (dk_at dksJ35_previous_1 8 rfl rfl)
theorem dJ35_previous_33 : decode cJ35_previous 33 = .ok (.arraylength, 1) := dk_190 (dk_at dksJ35_previous_1 9 rfl rfl)
theorem dJ35_previous_34 : decode cJ35_previous 34 = .ok (.if_icmp .lt 11, 3) := dk_161 0 11 (dk_at dksJ35_previous_1 10 rfl rfl)
theorem dJ35_previous_37 : decode cJ35_previous 37 = .ok (.new 31, 3) := dk_187 0 31 (dk_at dksJ35_previous_1 13 rfl rfl)
theorem dJ35_previous_40 : decode cJ35_previous 40 = .ok (.dup, 1) := dk_89 (dk_at dksJ35_previous_1 16 rfl rfl)
theorem dJ35_previous_41 : decode cJ35_previous 41 = .ok (.invokespecial 33, 3) := dk_183 0 33 (dk_at dksJ35_previous_1 17 rfl rfl)
theorem dJ35_previous_44 : decode cJ35_previous 44 = .ok (.athrow, 1) := dk_191 (dk_at dksJ35_previous_1 20 rfl rfl)
theorem dJ35_previous_45 : decode cJ35_previous 45 = .ok (.aload_n 0, 1) := dk_42 (dk_at dksJ35_previous_1 21 rfl rfl)
theorem dJ35_previous_46 : decode cJ35_previous 46 = .ok (.iload_n 1, 1) := dk_27 (dk_at dksJ35_previous_1 22 rfl rfl)
theorem dJ35_previous_47 : decode cJ35_previous 47 = .ok (.putfield 13, 3) := dk_181 0 13 (dk_at dksJ35_previous_2 0 rfl rfl)
theorem dJ35_previous_50 : decode cJ35_previous 50 = .ok (.aload_n 2, 1) := dk_44 (dk_at dksJ35_previous_2 3 rfl rfl)
theorem dJ35_previous_51 : decode cJ35_previous 51 = .ok (.aload_n 0, 1) := dk_42 (dk_at dksJ35_previous_2 4 rfl rfl)
theorem dJ35_previous_52 : decode cJ35_previous 52 = .ok (.iload_n 1, 1) := dk_27 (dk_at dksJ35_previous_2 5 rfl rfl)
theorem dJ35_previous_53 : decode cJ35_previous 53 = .ok (.dup_x1, 1) := dk_90 (dk_at dksJ35_previous_2 6 rfl rfl)
theorem dJ35_previous_54 : decode cJ35_previous 54 = .ok (.putfield 34, 3) := dk_181 0 34 (dk_at dksJ35_previous_2 7 rfl rfl)
theorem dJ35_previous_57 : decode cJ35_previous 57 = .ok (.aaload, 1) := dk_50 (dk_at dksJ35_previous_2 10 rfl rfl)
theorem dJ35_previous_58 : decode cJ35_previous 58 = .ok (.areturn, 1) := dk_176 (dk_at dksJ35_previous_2 11 rfl rfl)
abbrev cJ35_add : ByteArray := prog_64_method_7_code
def yJ35_add : MethodName := ⟨RJ35, "add", "(Ljava/lang/Object;)V"⟩
def dkwJ35_add_2 : List UInt8 := [187, 0, 31, 89, 183, 0, 33, 191, 177]
abbrev dktJ35_add_2 : List UInt8 := dkwJ35_add_2 ++ []
def dkwJ35_add_1 : List UInt8 := [181, 0, 13, 42, 2, 181, 0, 34, 42, 42, 180, 0, 1, 180, 0, 50, 181, 0, 53, 167, 0, 12, 77]
abbrev dktJ35_add_1 : List UInt8 := dkwJ35_add_1 ++ dktJ35_add_2
def dkwJ35_add_0 : List UInt8 := [42, 182, 0, 17, 42, 180, 0, 13, 61, 42, 180, 0, 1, 28, 43, 182, 0, 46, 42, 28, 4, 96]
abbrev dktJ35_add_0 : List UInt8 := dkwJ35_add_0 ++ dktJ35_add_1
theorem dksJ35_add_0 : cJ35_add.data.toList.drop 0 = dktJ35_add_0 := by decide +kernel
theorem dksJ35_add_1 : cJ35_add.data.toList.drop 22 = dktJ35_add_1 := dk_seg dksJ35_add_0 22 rfl rfl
theorem dksJ35_add_2 : cJ35_add.data.toList.drop 45 = dktJ35_add_2 := dk_seg dksJ35_add_1 23 rfl rfl
theorem dJ35_add_0 : decode cJ35_add 0 = .ok (.aload_n 0, 1) := dk_42 (dk_at dksJ35_add_0 0 rfl rfl)
theorem dJ35_add_1 : decode cJ35_add 1 = .ok (.invokevirtual 17, 3) := dk_182 0 17 (dk_at dksJ35_add_0 1 rfl rfl)
theorem dJ35_add_4 : decode cJ35_add 4 = .ok (.aload_n 0, 1) := dk_42 (dk_at dksJ35_add_0 4 rfl rfl)
theorem dJ35_add_5 : decode cJ35_add 5 = .ok (.getfield 13, 3) := dk_180 0 13 (dk_at dksJ35_add_0 5 rfl rfl)
theorem dJ35_add_8 : decode cJ35_add 8 = .ok (.istore_n 2, 1) := dk_61 (dk_at dksJ35_add_0 8 rfl rfl)
theorem dJ35_add_9 : decode cJ35_add 9 = .ok (.aload_n 0, 1) := dk_42 (dk_at dksJ35_add_0 9 rfl rfl)
theorem dJ35_add_10 : decode cJ35_add 10 = .ok (.getfield 1, 3) := dk_180 0 1 (dk_at dksJ35_add_0 10 rfl rfl)
theorem dJ35_add_13 : decode cJ35_add 13 = .ok (.iload_n 2, 1) := dk_28 (dk_at dksJ35_add_0 13 rfl rfl)
theorem dJ35_add_14 : decode cJ35_add 14 = .ok (.aload_n 1, 1) := dk_43 (dk_at dksJ35_add_0 14 rfl rfl)
theorem dJ35_add_15 : decode cJ35_add 15 = .ok (.invokevirtual 46, 3) := dk_182 0 46 (dk_at dksJ35_add_0 15 rfl rfl)
theorem dJ35_add_18 : decode cJ35_add 18 = .ok (.aload_n 0, 1) := dk_42 (dk_at dksJ35_add_0 18 rfl rfl)
theorem dJ35_add_19 : decode cJ35_add 19 = .ok (.iload_n 2, 1) := dk_28 (dk_at dksJ35_add_0 19 rfl rfl)
theorem dJ35_add_20 : decode cJ35_add 20 = .ok (.iconst 1, 1) := dk_4 (dk_at dksJ35_add_0 20 rfl rfl)
theorem dJ35_add_21 : decode cJ35_add 21 = .ok (.iadd, 1) := dk_96 (dk_at dksJ35_add_0 21 rfl rfl)
theorem dJ35_add_22 : decode cJ35_add 22 = .ok (.putfield 13, 3) := dk_181 0 13 (dk_at dksJ35_add_1 0 rfl rfl)
theorem dJ35_add_25 : decode cJ35_add 25 = .ok (.aload_n 0, 1) := dk_42 (dk_at dksJ35_add_1 3 rfl rfl)
theorem dJ35_add_26 : decode cJ35_add 26 = .ok (.iconst (-1), 1) := dk_2 (dk_at dksJ35_add_1 4 rfl rfl)
theorem dJ35_add_27 : decode cJ35_add 27 = .ok (.putfield 34, 3) := dk_181 0 34 (dk_at dksJ35_add_1 5 rfl rfl)
theorem dJ35_add_30 : decode cJ35_add 30 = .ok (.aload_n 0, 1) := dk_42 (dk_at dksJ35_add_1 8 rfl rfl)
theorem dJ35_add_31 : decode cJ35_add 31 = .ok (.aload_n 0, 1) := dk_42 (dk_at dksJ35_add_1 9 rfl rfl)
theorem dJ35_add_32 : decode cJ35_add 32 = .ok (.getfield 1, 3) := dk_180 0 1 (dk_at dksJ35_add_1 10 rfl rfl)
theorem dJ35_add_35 : decode cJ35_add 35 = .ok (.getfield 50, 3) := dk_180 0 50 (dk_at dksJ35_add_1 13 rfl rfl)
theorem dJ35_add_38 : decode cJ35_add 38 = .ok (.putfield 53, 3) := dk_181 0 53 (dk_at dksJ35_add_1 16 rfl rfl)
theorem dJ35_add_41 : decode cJ35_add 41 = .ok (.goto 12, 3) := dk_167 0 12 (dk_at dksJ35_add_1 19 rfl rfl)
theorem dJ35_add_44 : decode cJ35_add 44 = .ok (.astore_n 2, 1) := dk_77 (dk_at dksJ35_add_1 22 rfl rfl)
theorem dJ35_add_45 : decode cJ35_add 45 = .ok (.new 31, 3) := dk_187 0 31 (dk_at dksJ35_add_2 0 rfl rfl)
theorem dJ35_add_48 : decode cJ35_add 48 = .ok (.dup, 1) := dk_89 (dk_at dksJ35_add_2 3 rfl rfl)
theorem dJ35_add_49 : decode cJ35_add 49 = .ok (.invokespecial 33, 3) := dk_183 0 33 (dk_at dksJ35_add_2 4 rfl rfl)
theorem dJ35_add_52 : decode cJ35_add 52 = .ok (.athrow, 1) := dk_191 (dk_at dksJ35_add_2 7 rfl rfl)
theorem dJ35_add_53 : decode cJ35_add 53 = .ok (.return_, 1) := dk_177 (dk_at dksJ35_add_2 8 rfl rfl)
theorem q182 : (Jvm.Cond.initialized "java/util/ArrayList$ListItr") ∈ lw_all := lw_g (lw_at lw_m1 65 rfl) rfl
theorem q207 : (Jvm.Cond.fieldLink "java/util/ArrayList$ListItr" (25 : Nat) "java/util/ArrayList" "elementData" "[Ljava/lang/Object;") ∈ lw_all := lw_g (lw_at lw_m1 90 rfl) rfl
theorem q218 : (Jvm.Cond.fieldLink "java/util/ArrayList$ListItr" (50 : Nat) "java/util/ArrayList" "modCount" "I") ∈ lw_all := lw_g (lw_at lw_m1 101 rfl) rfl
theorem q1083 : (Jvm.Cond.selects "java/util/ArrayList$ListItr" ({ cls := "java/lang/Object", name := "getClass", desc := "()Ljava/lang/Class;" } : Jvm.MethodName) ({ cls := "java/lang/Object", name := "getClass", desc := "()Ljava/lang/Class;" } : Jvm.MethodName)) ∈ lw_all := lw_g (lw_at lw_m5 6 rfl) rfl
theorem q1393 : (Jvm.Cond.fieldLink "java/util/ArrayList$ListItr" (13 : Nat) "java/util/ArrayList$ListItr" "cursor" "I") ∈ lw_all := lw_g (lw_at lw_m6 76 rfl) rfl
theorem q1394 : (Jvm.Cond.sameField "java/util/ArrayList$ListItr" "java/util/ArrayList$Itr" "cursor" "I") ∈ lw_all := lw_g (lw_at lw_m6 77 rfl) rfl
theorem q1397 : (Jvm.Cond.fieldLink "java/util/ArrayList$ListItr" (34 : Nat) "java/util/ArrayList$ListItr" "lastRet" "I") ∈ lw_all := lw_g (lw_at lw_m6 80 rfl) rfl
theorem q1398 : (Jvm.Cond.sameField "java/util/ArrayList$ListItr" "java/util/ArrayList$Itr" "lastRet" "I") ∈ lw_all := lw_g (lw_at lw_m6 81 rfl) rfl
theorem q1400 : (Jvm.Cond.fieldLink "java/util/ArrayList$ListItr" (53 : Nat) "java/util/ArrayList$ListItr" "expectedModCount" "I") ∈ lw_all := lw_g (lw_at lw_m6 83 rfl) rfl
theorem q1401 : (Jvm.Cond.sameField "java/util/ArrayList$ListItr" "java/util/ArrayList$Itr" "expectedModCount" "I") ∈ lw_all := lw_g (lw_at lw_m6 84 rfl) rfl
theorem q1447 : (Jvm.Cond.instantiable "java/util/ArrayList$ListItr" (5 : Nat)) ∈ lw_all := lw_g (lw_at lw_m6 130 rfl) rfl
theorem q1449 : (Jvm.Cond.instanceMethod ({ cls := "java/util/ArrayList$ListItr", name := "<init>", desc := "(Ljava/util/ArrayList;I)V" } : Jvm.MethodName)) ∈ lw_all := lw_g (lw_at lw_m6 132 rfl) rfl
theorem q1450 : (Jvm.Cond.code ({ cls := "java/util/ArrayList$ListItr", name := "<init>", desc := "(Ljava/util/ArrayList;I)V" } : Jvm.MethodName) prog_64_method_1_code (3 : Nat) (Option.none : Option Jvm.ClassFile.FieldType)) ∈ lw_all := lw_g (lw_at lw_m6 133 rfl) rfl
theorem q1451 : (Jvm.Cond.methodLink "java/util/ArrayList$ListItr" (7 : Nat) ({ cls := "java/util/ArrayList$Itr", name := "<init>", desc := "(Ljava/util/ArrayList;)V" } : Jvm.MethodName)) ∈ lw_all := lw_g (lw_at lw_m6 134 rfl) rfl
theorem q1452 : (Jvm.Cond.fieldLink "java/util/ArrayList$ListItr" (1 : Nat) "java/util/ArrayList$ListItr" "this$0" "Ljava/util/ArrayList;") ∈ lw_all := lw_g (lw_at lw_m6 135 rfl) rfl
theorem q1453 : (Jvm.Cond.laysFinal "java/util/ArrayList$ListItr" "java/util/ArrayList$ListItr" "this$0" "Ljava/util/ArrayList;") ∈ lw_all := lw_g (lw_at lw_m6 136 rfl) rfl
theorem q1454 : (Jvm.Cond.soleField "java/util/ArrayList$ListItr" "this$0") ∈ lw_all := lw_g (lw_at lw_m6 137 rfl) rfl
theorem q1455 : (Jvm.Cond.lays "java/util/ArrayList$ListItr" "java/util/ArrayList$Itr" "cursor" "I") ∈ lw_all := lw_g (lw_at lw_m6 138 rfl) rfl
theorem q1456 : (Jvm.Cond.lays "java/util/ArrayList$ListItr" "java/util/ArrayList$Itr" "lastRet" "I") ∈ lw_all := lw_g (lw_at lw_m6 139 rfl) rfl
theorem q1457 : (Jvm.Cond.lays "java/util/ArrayList$ListItr" "java/util/ArrayList$Itr" "expectedModCount" "I") ∈ lw_all := lw_g (lw_at lw_m6 140 rfl) rfl
theorem q1458 : (Jvm.Cond.laysFinal "java/util/ArrayList$ListItr" "java/util/ArrayList$Itr" "this$0" "Ljava/util/ArrayList;") ∈ lw_all := lw_g (lw_at lw_m6 141 rfl) rfl
theorem q1459 : (Jvm.Cond.superclass "java/util/ArrayList$ListItr" "java/util/ArrayList$Itr") ∈ lw_all := lw_g (lw_at lw_m6 142 rfl) rfl
theorem q1522 : (Jvm.Cond.castable "java/util/ArrayList$ListItr" "java/util/Iterator") ∈ lw_tbl := lw_at lw_m6 205 rfl
theorem q1523 : (Jvm.Cond.selects "java/util/ArrayList$ListItr" ({ cls := "java/util/Iterator", name := "hasNext", desc := "()Z" } : Jvm.MethodName) ({ cls := "java/util/ArrayList$Itr", name := "hasNext", desc := "()Z" } : Jvm.MethodName)) ∈ lw_all := lw_g (lw_at lw_m6 206 rfl) rfl
theorem q1524 : (Jvm.Cond.unhidden "java/util/ArrayList$ListItr" "hasNext" "()Z") ∈ lw_tbl := lw_at lw_m6 207 rfl
theorem q1655 : (Jvm.Cond.selects "java/util/ArrayList$ListItr" ({ cls := "java/util/ArrayList$Itr", name := "checkForComodification", desc := "()V" } : Jvm.MethodName) ({ cls := "java/util/ArrayList$Itr", name := "checkForComodification", desc := "()V" } : Jvm.MethodName)) ∈ lw_all := lw_g (lw_at lw_m7 98 rfl) rfl
theorem q1659 : (Jvm.Cond.selects "java/util/ArrayList$ListItr" ({ cls := "java/util/Iterator", name := "next", desc := "()Ljava/lang/Object;" } : Jvm.MethodName) ({ cls := "java/util/ArrayList$Itr", name := "next", desc := "()Ljava/lang/Object;" } : Jvm.MethodName)) ∈ lw_all := lw_g (lw_at lw_m7 102 rfl) rfl
theorem q1660 : (Jvm.Cond.unhidden "java/util/ArrayList$ListItr" "next" "()Ljava/lang/Object;") ∈ lw_tbl := lw_at lw_m7 103 rfl
theorem q2345 : (Jvm.Cond.castable "java/util/ArrayList$ListItr" "java/util/ListIterator") ∈ lw_tbl := lw_at lw_m10 68 rfl
theorem q2346 : (Jvm.Cond.selects "java/util/ArrayList$ListItr" ({ cls := "java/util/ListIterator", name := "hasPrevious", desc := "()Z" } : Jvm.MethodName) ({ cls := "java/util/ArrayList$ListItr", name := "hasPrevious", desc := "()Z" } : Jvm.MethodName)) ∈ lw_all := lw_g (lw_at lw_m10 69 rfl) rfl
theorem q2347 : (Jvm.Cond.unhidden "java/util/ArrayList$ListItr" "hasPrevious" "()Z") ∈ lw_tbl := lw_at lw_m10 70 rfl
theorem q2348 : (Jvm.Cond.instanceMethod ({ cls := "java/util/ArrayList$ListItr", name := "hasPrevious", desc := "()Z" } : Jvm.MethodName)) ∈ lw_all := lw_g (lw_at lw_m10 71 rfl) rfl
theorem q2349 : (Jvm.Cond.publicMethod ({ cls := "java/util/ArrayList$ListItr", name := "hasPrevious", desc := "()Z" } : Jvm.MethodName)) ∈ lw_tbl := lw_at lw_m10 72 rfl
theorem q2350 : (Jvm.Cond.code ({ cls := "java/util/ArrayList$ListItr", name := "hasPrevious", desc := "()Z" } : Jvm.MethodName) prog_64_method_2_code (1 : Nat) (Option.some Jvm.ClassFile.FieldType.boolean)) ∈ lw_all := lw_g (lw_at lw_m10 73 rfl) rfl
theorem q2373 : (Jvm.Cond.selects "java/util/ArrayList$ListItr" ({ cls := "java/util/ListIterator", name := "previous", desc := "()Ljava/lang/Object;" } : Jvm.MethodName) ({ cls := "java/util/ArrayList$ListItr", name := "previous", desc := "()Ljava/lang/Object;" } : Jvm.MethodName)) ∈ lw_all := lw_g (lw_at lw_m10 96 rfl) rfl
theorem q2374 : (Jvm.Cond.unhidden "java/util/ArrayList$ListItr" "previous" "()Ljava/lang/Object;") ∈ lw_tbl := lw_at lw_m10 97 rfl
theorem q2375 : (Jvm.Cond.instanceMethod ({ cls := "java/util/ArrayList$ListItr", name := "previous", desc := "()Ljava/lang/Object;" } : Jvm.MethodName)) ∈ lw_all := lw_g (lw_at lw_m10 98 rfl) rfl
theorem q2376 : (Jvm.Cond.publicMethod ({ cls := "java/util/ArrayList$ListItr", name := "previous", desc := "()Ljava/lang/Object;" } : Jvm.MethodName)) ∈ lw_tbl := lw_at lw_m10 99 rfl
theorem q2377 : (Jvm.Cond.code ({ cls := "java/util/ArrayList$ListItr", name := "previous", desc := "()Ljava/lang/Object;" } : Jvm.MethodName) prog_64_method_5_code (3 : Nat) (Option.some (Jvm.ClassFile.FieldType.object "java/lang/Object"))) ∈ lw_all := lw_g (lw_at lw_m10 100 rfl) rfl
theorem q2378 : (Jvm.Cond.methodLink "java/util/ArrayList$ListItr" (17 : Nat) ({ cls := "java/util/ArrayList$ListItr", name := "checkForComodification", desc := "()V" } : Jvm.MethodName)) ∈ lw_all := lw_g (lw_at lw_m10 101 rfl) rfl
theorem q2379 : (Jvm.Cond.sameMethod "java/util/ArrayList$ListItr" "java/util/ArrayList$Itr" "checkForComodification" "()V") ∈ lw_all := lw_g (lw_at lw_m10 102 rfl) rfl
theorem q2381 : (Jvm.Cond.selects "java/util/ArrayList$ListItr" ({ cls := "java/util/ArrayList$ListItr", name := "checkForComodification", desc := "()V" } : Jvm.MethodName) ({ cls := "java/util/ArrayList$Itr", name := "checkForComodification", desc := "()V" } : Jvm.MethodName)) ∈ lw_all := lw_g (lw_at lw_m10 104 rfl) rfl
theorem q2382 : (Jvm.Cond.classLink "java/util/ArrayList$ListItr" (21 : Nat) "java/util/NoSuchElementException") ∈ lw_all := lw_g (lw_at lw_m10 105 rfl) rfl
theorem q2383 : (Jvm.Cond.methodLink "java/util/ArrayList$ListItr" (23 : Nat) ({ cls := "java/util/NoSuchElementException", name := "<init>", desc := "()V" } : Jvm.MethodName)) ∈ lw_all := lw_g (lw_at lw_m10 106 rfl) rfl
theorem q2395 : (Jvm.Cond.selects "java/util/ArrayList$ListItr" ({ cls := "java/util/ListIterator", name := "next", desc := "()Ljava/lang/Object;" } : Jvm.MethodName) ({ cls := "java/util/ArrayList$Itr", name := "next", desc := "()Ljava/lang/Object;" } : Jvm.MethodName)) ∈ lw_all := lw_g (lw_at lw_m10 118 rfl) rfl
theorem q2448 : (Jvm.Cond.selects "java/util/ArrayList$ListItr" ({ cls := "java/util/ListIterator", name := "add", desc := "(Ljava/lang/Object;)V" } : Jvm.MethodName) ({ cls := "java/util/ArrayList$ListItr", name := "add", desc := "(Ljava/lang/Object;)V" } : Jvm.MethodName)) ∈ lw_all := lw_g (lw_at lw_m10 171 rfl) rfl
theorem q2449 : (Jvm.Cond.unhidden "java/util/ArrayList$ListItr" "add" "(Ljava/lang/Object;)V") ∈ lw_tbl := lw_at lw_m10 172 rfl
theorem q2450 : (Jvm.Cond.instanceMethod ({ cls := "java/util/ArrayList$ListItr", name := "add", desc := "(Ljava/lang/Object;)V" } : Jvm.MethodName)) ∈ lw_all := lw_g (lw_at lw_m10 173 rfl) rfl
theorem q2451 : (Jvm.Cond.publicMethod ({ cls := "java/util/ArrayList$ListItr", name := "add", desc := "(Ljava/lang/Object;)V" } : Jvm.MethodName)) ∈ lw_tbl := lw_at lw_m10 174 rfl
theorem q2452 : (Jvm.Cond.codeWith ({ cls := "java/util/ArrayList$ListItr", name := "add", desc := "(Ljava/lang/Object;)V" } : Jvm.MethodName) prog_64_method_7_code (3 : Nat) (Option.none : Option Jvm.ClassFile.FieldType) [((4 : Nat), (41 : Nat), (44 : Nat), (44 : Nat))]) ∈ lw_all := lw_g (lw_at lw_m10 175 rfl) rfl
theorem q2453 : (Jvm.Cond.methodLink "java/util/ArrayList$ListItr" (46 : Nat) ({ cls := "java/util/ArrayList", name := "add", desc := "(ILjava/lang/Object;)V" } : Jvm.MethodName)) ∈ lw_all := lw_g (lw_at lw_m10 176 rfl) rfl
theorem q2454 : (Jvm.Cond.classLink "java/util/ArrayList$ListItr" (31 : Nat) "java/util/ConcurrentModificationException") ∈ lw_all := lw_g (lw_at lw_m10 177 rfl) rfl
theorem q2455 : (Jvm.Cond.methodLink "java/util/ArrayList$ListItr" (33 : Nat) ({ cls := "java/util/ConcurrentModificationException", name := "<init>", desc := "()V" } : Jvm.MethodName)) ∈ lw_all := lw_g (lw_at lw_m10 178 rfl) rfl
theorem q3518 : (Jvm.Cond.castable "java/util/ArrayList$ListItr" "java/lang/Object") ∈ lw_tbl := lw_at lw_m15 41 rfl
theorem in_J35 : ∀ w ∈ wsJ350, w ∈ lw_all := lw_in wsJ350 [1455, 1456, 1457, 1458, 1453] (by decide +kernel) (by decide +kernel)

/-! java/lang/Object -/
def RJ36 : String := "java/lang/Object"
abbrev cJ36_init : ByteArray := object_method_1_code
def yJ36_init : MethodName := ⟨RJ36, "<init>", "()V"⟩
theorem dJ36_init_0 : decode cJ36_init 0 = .ok (.return_, 1) := by decide +kernel
theorem q189 : (Jvm.Cond.instanceMethod ({ cls := "java/lang/Object", name := "<init>", desc := "()V" } : Jvm.MethodName)) ∈ lw_all := lw_g (lw_at lw_m1 72 rfl) rfl
theorem q190 : (Jvm.Cond.code ({ cls := "java/lang/Object", name := "<init>", desc := "()V" } : Jvm.MethodName) object_method_1_code (1 : Nat) (Option.none : Option Jvm.ClassFile.FieldType)) ∈ lw_all := lw_g (lw_at lw_m1 73 rfl) rfl
theorem q593 : (Jvm.Cond.native ({ cls := "java/lang/Object", name := "clone", desc := "()Ljava/lang/Object;" } : Jvm.MethodName)) ∈ lw_all := lw_g (lw_at lw_m2 236 rfl) rfl
theorem q594 : (Jvm.Cond.instanceMethod ({ cls := "java/lang/Object", name := "clone", desc := "()Ljava/lang/Object;" } : Jvm.MethodName)) ∈ lw_all := lw_g (lw_at lw_m2 237 rfl) rfl
theorem q1044 : (Jvm.Cond.instanceMethod ({ cls := "java/lang/Object", name := "getClass", desc := "()Ljava/lang/Class;" } : Jvm.MethodName)) ∈ lw_all := lw_g (lw_at lw_m4 207 rfl) rfl
theorem q1045 : (Jvm.Cond.sameMethod "java/lang/Object" "java/lang/Object" "getClass" "()Ljava/lang/Class;") ∈ lw_all := lw_g (lw_at lw_m4 208 rfl) rfl
theorem q1090 : (Jvm.Cond.native ({ cls := "java/lang/Object", name := "getClass", desc := "()Ljava/lang/Class;" } : Jvm.MethodName)) ∈ lw_all := lw_g (lw_at lw_m5 13 rfl) rfl
theorem q3465 : (Jvm.Cond.initialized "java/lang/Object") ∈ lw_all := lw_g (lw_at lw_m14 228 rfl) rfl
theorem q3523 : (Jvm.Cond.declares ({ cls := "java/lang/Object", name := "getClass", desc := "()Ljava/lang/Class;" } : Jvm.MethodName)) ∈ lw_tbl := lw_at lw_m15 46 rfl

/-! java/util/LinkedList -/
def RJ4 : String := "java/util/LinkedList"
def TJ4 : u_T := fun k => match k with
  | 0 => ("java/util/AbstractList", "modCount", "I", false)
  | 1 => ("java/util/LinkedList", "size", "I", false)
  | 2 => ("java/util/LinkedList", "first", "Ljava/util/LinkedList$Node;", false)
  | _ => ("java/util/LinkedList", "last", "Ljava/util/LinkedList$Node;", false)
def tyJ4 : Nat → FieldType := fun k => match k with
  | 0 => .int
  | 1 => .int
  | 2 => .object "java/util/LinkedList$Node"
  | _ => .object "java/util/LinkedList$Node"
abbrev wsJ40 : List Cond := u_ws RJ4 TJ4 4
theorem nmJ4 : ∀ a, a < 4 → ∀ b, b < 4 → a ≠ b → (TJ4 a).2.1 ≠ (TJ4 b).2.1 := by decide +kernel
theorem tyJ4_ok : ∀ k, k < 4 → parseFieldDescriptor (TJ4 k).2.2.1 = some (tyJ4 k) := by decide +kernel
abbrev cJ4_init : ByteArray := prog_71_method_1_code
def yJ4_init : MethodName := ⟨RJ4, "<init>", "()V"⟩
def dkwJ4_init_0 : List UInt8 := [42, 183, 0, 1, 42, 3, 181, 0, 7, 177]
abbrev dktJ4_init_0 : List UInt8 := dkwJ4_init_0 ++ []
theorem dksJ4_init_0 : cJ4_init.data.toList.drop 0 = dktJ4_init_0 := by decide +kernel
theorem dJ4_init_0 : decode cJ4_init 0 = .ok (.aload_n 0, 1) := dk_42 (dk_at dksJ4_init_0 0 rfl rfl)
theorem dJ4_init_1 : decode cJ4_init 1 = .ok (.invokespecial 1, 3) := dk_183 0 1 (dk_at dksJ4_init_0 1 rfl rfl)
theorem dJ4_init_4 : decode cJ4_init 4 = .ok (.aload_n 0, 1) := dk_42 (dk_at dksJ4_init_0 4 rfl rfl)
theorem dJ4_init_5 : decode cJ4_init 5 = .ok (.iconst 0, 1) := dk_3 (dk_at dksJ4_init_0 5 rfl rfl)
theorem dJ4_init_6 : decode cJ4_init 6 = .ok (.putfield 7, 3) := dk_181 0 7 (dk_at dksJ4_init_0 6 rfl rfl)
theorem dJ4_init_9 : decode cJ4_init 9 = .ok (.return_, 1) := dk_177 (dk_at dksJ4_init_0 9 rfl rfl)
abbrev cJ4_size : ByteArray := prog_71_method_16_code
def yJ4_size : MethodName := ⟨RJ4, "size", "()I"⟩
theorem dJ4_size_0 : decode cJ4_size 0 = .ok (.aload_n 0, 1) := by decide +kernel
theorem dJ4_size_1 : decode cJ4_size 1 = .ok (.getfield 7, 3) := by decide +kernel
theorem dJ4_size_4 : decode cJ4_size 4 = .ok (.ireturn, 1) := by decide +kernel
abbrev cJ4_clear : ByteArray := prog_71_method_21_code
def yJ4_clear : MethodName := ⟨RJ4, "clear", "()V"⟩
def dkwJ4_clear_2 : List UInt8 := [181, 0, 7, 42, 89, 180, 0, 33, 4, 96, 181, 0, 33, 177]
abbrev dktJ4_clear_2 : List UInt8 := dkwJ4_clear_2 ++ []
def dkwJ4_clear_1 : List UInt8 := [43, 1, 181, 0, 30, 44, 76, 167, 255, 230, 42, 42, 1, 90, 181, 0, 27, 181, 0, 18, 42, 3]
abbrev dktJ4_clear_1 : List UInt8 := dkwJ4_clear_1 ++ dktJ4_clear_2
def dkwJ4_clear_0 : List UInt8 := [42, 180, 0, 18, 76, 43, 198, 0, 28, 43, 180, 0, 36, 77, 43, 1, 181, 0, 39, 43, 1, 181, 0, 36]
abbrev dktJ4_clear_0 : List UInt8 := dkwJ4_clear_0 ++ dktJ4_clear_1
theorem dksJ4_clear_0 : cJ4_clear.data.toList.drop 0 = dktJ4_clear_0 := by decide +kernel
theorem dksJ4_clear_1 : cJ4_clear.data.toList.drop 24 = dktJ4_clear_1 := dk_seg dksJ4_clear_0 24 rfl rfl
theorem dksJ4_clear_2 : cJ4_clear.data.toList.drop 46 = dktJ4_clear_2 := dk_seg dksJ4_clear_1 22 rfl rfl
theorem dJ4_clear_0 : decode cJ4_clear 0 = .ok (.aload_n 0, 1) := dk_42 (dk_at dksJ4_clear_0 0 rfl rfl)
theorem dJ4_clear_1 : decode cJ4_clear 1 = .ok (.getfield 18, 3) := dk_180 0 18 (dk_at dksJ4_clear_0 1 rfl rfl)
theorem dJ4_clear_4 : decode cJ4_clear 4 = .ok (.astore_n 1, 1) := dk_76 (dk_at dksJ4_clear_0 4 rfl rfl)
theorem dJ4_clear_5 : decode cJ4_clear 5 = .ok (.aload_n 1, 1) := dk_43 (dk_at dksJ4_clear_0 5 rfl rfl)
theorem dJ4_clear_6 : decode cJ4_clear 6 = .ok (.ifnull 28, 3) := dk_198 0 28 (dk_at dksJ4_clear_0 6 rfl rfl)
theorem dJ4_clear_9 : decode cJ4_clear 9 = .ok (.aload_n 1, 1) := dk_43 (dk_at dksJ4_clear_0 9 rfl rfl)
theorem dJ4_clear_10 : decode cJ4_clear 10 = .ok (.getfield 36, 3) := dk_180 0 36 (dk_at dksJ4_clear_0 10 rfl rfl)
theorem dJ4_clear_13 : decode cJ4_clear 13 = .ok (.astore_n 2, 1) := dk_77 (dk_at dksJ4_clear_0 13 rfl rfl)
theorem dJ4_clear_14 : decode cJ4_clear 14 = .ok (.aload_n 1, 1) := dk_43 (dk_at dksJ4_clear_0 14 rfl rfl)
theorem dJ4_clear_15 : decode cJ4_clear 15 = .ok (.aconst_null, 1) := dk_1 (dk_at dksJ4_clear_0 15 rfl rfl)
theorem dJ4_clear_16 : decode cJ4_clear 16 = .ok (.putfield 39, 3) := dk_181 0 39 (dk_at dksJ4_clear_0 16 rfl rfl)
theorem dJ4_clear_19 : decode cJ4_clear 19 = .ok (.aload_n 1, 1) := dk_43 (dk_at dksJ4_clear_0 19 rfl rfl)
theorem dJ4_clear_20 : decode cJ4_clear 20 = .ok (.aconst_null, 1) := dk_1 (dk_at dksJ4_clear_0 20 rfl rfl)
theorem dJ4_clear_21 : decode cJ4_clear 21 = .ok (.putfield 36, 3) := dk_181 0 36 (dk_at dksJ4_clear_0 21 rfl rfl)
theorem dJ4_clear_24 : decode cJ4_clear 24 = .ok (.aload_n 1, 1) := dk_43 (dk_at dksJ4_clear_1 0 rfl rfl)
theorem dJ4_clear_25 : decode cJ4_clear 25 = .ok (.aconst_null, 1) := dk_1 (dk_at dksJ4_clear_1 1 rfl rfl)
theorem dJ4_clear_26 : decode cJ4_clear 26 = .ok (.putfield 30, 3) := dk_181 0 30 (dk_at dksJ4_clear_1 2 rfl rfl)
theorem dJ4_clear_29 : decode cJ4_clear 29 = .ok (.aload_n 2, 1) := dk_44 (dk_at dksJ4_clear_1 5 rfl rfl)
theorem dJ4_clear_30 : decode cJ4_clear 30 = .ok (.astore_n 1, 1) := dk_76 (dk_at dksJ4_clear_1 6 rfl rfl)
theorem dJ4_clear_31 : decode cJ4_clear 31 = .ok (.goto (-26), 3) := dk_167 255 230 (dk_at dksJ4_clear_1 7 rfl rfl)
theorem dJ4_clear_34 : decode cJ4_clear 34 = .ok (.aload_n 0, 1) := dk_42 (dk_at dksJ4_clear_1 10 rfl rfl)
theorem dJ4_clear_35 : decode cJ4_clear 35 = .ok (.aload_n 0, 1) := dk_42 (dk_at dksJ4_clear_1 11 rfl rfl)
theorem dJ4_clear_36 : decode cJ4_clear 36 = .ok (.aconst_null, 1) := dk_1 (dk_at dksJ4_clear_1 12 rfl rfl)
theorem dJ4_clear_37 : decode cJ4_clear 37 = .ok (.dup_x1, 1) := dk_90 (dk_at dksJ4_clear_1 13 rfl rfl)
theorem dJ4_clear_38 : decode cJ4_clear 38 = .ok (.putfield 27, 3) := dk_181 0 27 (dk_at dksJ4_clear_1 14 rfl rfl)
theorem dJ4_clear_41 : decode cJ4_clear 41 = .ok (.putfield 18, 3) := dk_181 0 18 (dk_at dksJ4_clear_1 17 rfl rfl)
theorem dJ4_clear_44 : decode cJ4_clear 44 = .ok (.aload_n 0, 1) := dk_42 (dk_at dksJ4_clear_1 20 rfl rfl)
theorem dJ4_clear_45 : decode cJ4_clear 45 = .ok (.iconst 0, 1) := dk_3 (dk_at dksJ4_clear_1 21 rfl rfl)
theorem dJ4_clear_46 : decode cJ4_clear 46 = .ok (.putfield 7, 3) := dk_181 0 7 (dk_at dksJ4_clear_2 0 rfl rfl)
theorem dJ4_clear_49 : decode cJ4_clear 49 = .ok (.aload_n 0, 1) := dk_42 (dk_at dksJ4_clear_2 3 rfl rfl)
theorem dJ4_clear_50 : decode cJ4_clear 50 = .ok (.dup, 1) := dk_89 (dk_at dksJ4_clear_2 4 rfl rfl)
theorem dJ4_clear_51 : decode cJ4_clear 51 = .ok (.getfield 33, 3) := dk_180 0 33 (dk_at dksJ4_clear_2 5 rfl rfl)
theorem dJ4_clear_54 : decode cJ4_clear 54 = .ok (.iconst 1, 1) := dk_4 (dk_at dksJ4_clear_2 8 rfl rfl)
theorem dJ4_clear_55 : decode cJ4_clear 55 = .ok (.iadd, 1) := dk_96 (dk_at dksJ4_clear_2 9 rfl rfl)
theorem dJ4_clear_56 : decode cJ4_clear 56 = .ok (.putfield 33, 3) := dk_181 0 33 (dk_at dksJ4_clear_2 10 rfl rfl)
theorem dJ4_clear_59 : decode cJ4_clear 59 = .ok (.return_, 1) := dk_177 (dk_at dksJ4_clear_2 13 rfl rfl)
abbrev cJ4_get : ByteArray := prog_71_method_22_code
def yJ4_get : MethodName := ⟨RJ4, "get", "(I)Ljava/lang/Object;"⟩
def dkwJ4_get_0 : List UInt8 := [42, 27, 182, 0, 90, 42, 27, 182, 0, 86, 180, 0, 39, 176]
abbrev dktJ4_get_0 : List UInt8 := dkwJ4_get_0 ++ []
theorem dksJ4_get_0 : cJ4_get.data.toList.drop 0 = dktJ4_get_0 := by decide +kernel
theorem dJ4_get_0 : decode cJ4_get 0 = .ok (.aload_n 0, 1) := dk_42 (dk_at dksJ4_get_0 0 rfl rfl)
theorem dJ4_get_1 : decode cJ4_get 1 = .ok (.iload_n 1, 1) := dk_27 (dk_at dksJ4_get_0 1 rfl rfl)
theorem dJ4_get_2 : decode cJ4_get 2 = .ok (.invokevirtual 90, 3) := dk_182 0 90 (dk_at dksJ4_get_0 2 rfl rfl)
theorem dJ4_get_5 : decode cJ4_get 5 = .ok (.aload_n 0, 1) := dk_42 (dk_at dksJ4_get_0 5 rfl rfl)
theorem dJ4_get_6 : decode cJ4_get 6 = .ok (.iload_n 1, 1) := dk_27 (dk_at dksJ4_get_0 6 rfl rfl)
theorem dJ4_get_7 : decode cJ4_get 7 = .ok (.invokevirtual 86, 3) := dk_182 0 86 (dk_at dksJ4_get_0 7 rfl rfl)
theorem dJ4_get_10 : decode cJ4_get 10 = .ok (.getfield 39, 3) := dk_180 0 39 (dk_at dksJ4_get_0 10 rfl rfl)
theorem dJ4_get_13 : decode cJ4_get 13 = .ok (.areturn, 1) := dk_176 (dk_at dksJ4_get_0 13 rfl rfl)
abbrev cJ4_checkElementIndex : ByteArray := prog_71_method_29_code
def yJ4_checkElementIndex : MethodName := ⟨RJ4, "checkElementIndex", "(I)V"⟩
def dkwJ4_checkElementIndex_0 : List UInt8 := [42, 27, 182, 0, 115, 154, 0, 16, 187, 0, 119, 89, 42, 27, 182, 0, 121, 183, 0, 125, 191, 177]
abbrev dktJ4_checkElementIndex_0 : List UInt8 := dkwJ4_checkElementIndex_0 ++ []
theorem dksJ4_checkElementIndex_0 : cJ4_checkElementIndex.data.toList.drop 0 = dktJ4_checkElementIndex_0 := by decide +kernel
theorem dJ4_checkElementIndex_0 : decode cJ4_checkElementIndex 0 = .ok (.aload_n 0, 1) := dk_42 (dk_at dksJ4_checkElementIndex_0 0 rfl rfl)
theorem dJ4_checkElementIndex_1 : decode cJ4_checkElementIndex 1 = .ok (.iload_n 1, 1) := dk_27 (dk_at dksJ4_checkElementIndex_0 1 rfl rfl)
theorem dJ4_checkElementIndex_2 : decode cJ4_checkElementIndex 2 = .ok (.invokevirtual 115, 3) := dk_182 0 115 (dk_at dksJ4_checkElementIndex_0 2 rfl rfl)
theorem dJ4_checkElementIndex_5 : decode cJ4_checkElementIndex 5 = .ok (.ifCond .ne 16, 3) := dk_154 0 16 (dk_at dksJ4_checkElementIndex_0 5 rfl rfl)
theorem dJ4_checkElementIndex_8 : decode cJ4_checkElementIndex 8 = .ok (.new 119, 3) := dk_187 0 119 (dk_at dksJ4_checkElementIndex_0 8 rfl rfl)
theorem dJ4_checkElementIndex_11 : decode cJ4_checkElementIndex 11 = .ok (.dup, 1) := dk_89 (dk_at dksJ4_checkElementIndex_0 11 rfl rfl)
theorem dJ4_checkElementIndex_12 : decode cJ4_checkElementIndex 12 = .ok (.aload_n 0, 1) := dk_42 (dk_at dksJ4_checkElementIndex_0 12 rfl rfl)
theorem dJ4_checkElementIndex_13 : decode cJ4_checkElementIndex 13 = .ok (.iload_n 1, 1) := dk_27 (dk_at dksJ4_checkElementIndex_0 13 rfl rfl)
theorem dJ4_checkElementIndex_14 : decode cJ4_checkElementIndex 14 = .ok (.invokevirtual 121, 3) := dk_182 0 121 (dk_at dksJ4_checkElementIndex_0 14 rfl rfl)
theorem dJ4_checkElementIndex_17 : decode cJ4_checkElementIndex 17 = .ok (.invokespecial 125, 3) := dk_183 0 125 (dk_at dksJ4_checkElementIndex_0 17 rfl rfl)
theorem dJ4_checkElementIndex_20 : decode cJ4_checkElementIndex 20 = .ok (.athrow, 1) := dk_191 (dk_at dksJ4_checkElementIndex_0 20 rfl rfl)
theorem dJ4_checkElementIndex_21 : decode cJ4_checkElementIndex 21 = .ok (.return_, 1) := dk_177 (dk_at dksJ4_checkElementIndex_0 21 rfl rfl)
abbrev cJ4_isElementIndex : ByteArray := prog_71_method_26_code
def yJ4_isElementIndex : MethodName := ⟨RJ4, "isElementIndex", "(I)Z"⟩
def dkwJ4_isElementIndex_0 : List UInt8 := [27, 155, 0, 15, 27, 42, 180, 0, 7, 162, 0, 7, 4, 167, 0, 4, 3, 172]
abbrev dktJ4_isElementIndex_0 : List UInt8 := dkwJ4_isElementIndex_0 ++ []
theorem dksJ4_isElementIndex_0 : cJ4_isElementIndex.data.toList.drop 0 = dktJ4_isElementIndex_0 := by decide +kernel
theorem dJ4_isElementIndex_0 : decode cJ4_isElementIndex 0 = .ok (.iload_n 1, 1) := dk_27 (dk_at dksJ4_isElementIndex_0 0 rfl rfl)
theorem dJ4_isElementIndex_1 : decode cJ4_isElementIndex 1 = .ok (.ifCond .lt 15, 3) := dk_155 0 15 (dk_at dksJ4_isElementIndex_0 1 rfl rfl)
theorem dJ4_isElementIndex_4 : decode cJ4_isElementIndex 4 = .ok (.iload_n 1, 1) := dk_27 (dk_at dksJ4_isElementIndex_0 4 rfl rfl)
theorem dJ4_isElementIndex_5 : decode cJ4_isElementIndex 5 = .ok (.aload_n 0, 1) := dk_42 (dk_at dksJ4_isElementIndex_0 5 rfl rfl)
theorem dJ4_isElementIndex_6 : decode cJ4_isElementIndex 6 = .ok (.getfield 7, 3) := dk_180 0 7 (dk_at dksJ4_isElementIndex_0 6 rfl rfl)
theorem dJ4_isElementIndex_9 : decode cJ4_isElementIndex 9 = .ok (.if_icmp .ge 7, 3) := dk_162 0 7 (dk_at dksJ4_isElementIndex_0 9 rfl rfl)
theorem dJ4_isElementIndex_12 : decode cJ4_isElementIndex 12 = .ok (.iconst 1, 1) := dk_4 (dk_at dksJ4_isElementIndex_0 12 rfl rfl)
theorem dJ4_isElementIndex_13 : decode cJ4_isElementIndex 13 = .ok (.goto 4, 3) := dk_167 0 4 (dk_at dksJ4_isElementIndex_0 13 rfl rfl)
theorem dJ4_isElementIndex_16 : decode cJ4_isElementIndex 16 = .ok (.iconst 0, 1) := dk_3 (dk_at dksJ4_isElementIndex_0 16 rfl rfl)
theorem dJ4_isElementIndex_17 : decode cJ4_isElementIndex 17 = .ok (.ireturn, 1) := dk_172 (dk_at dksJ4_isElementIndex_0 17 rfl rfl)
abbrev cJ4_outOfBoundsMsg : ByteArray := prog_71_method_28_code
def yJ4_outOfBoundsMsg : MethodName := ⟨RJ4, "outOfBoundsMsg", "(I)Ljava/lang/String;"⟩
def dkwJ4_outOfBoundsMsg_1 : List UInt8 := [180, 0, 7, 182, 0, 106, 182, 0, 111, 176]
abbrev dktJ4_outOfBoundsMsg_1 : List UInt8 := dkwJ4_outOfBoundsMsg_1 ++ []
def dkwJ4_outOfBoundsMsg_0 : List UInt8 := [187, 0, 97, 89, 183, 0, 99, 18, 100, 182, 0, 102, 27, 182, 0, 106, 18, 109, 182, 0, 102, 42]
abbrev dktJ4_outOfBoundsMsg_0 : List UInt8 := dkwJ4_outOfBoundsMsg_0 ++ dktJ4_outOfBoundsMsg_1
theorem dksJ4_outOfBoundsMsg_0 : cJ4_outOfBoundsMsg.data.toList.drop 0 = dktJ4_outOfBoundsMsg_0 := by decide +kernel
theorem dksJ4_outOfBoundsMsg_1 : cJ4_outOfBoundsMsg.data.toList.drop 22 = dktJ4_outOfBoundsMsg_1 := dk_seg dksJ4_outOfBoundsMsg_0 22 rfl rfl
theorem dJ4_outOfBoundsMsg_0 : decode cJ4_outOfBoundsMsg 0 = .ok (.new 97, 3) := dk_187 0 97 (dk_at dksJ4_outOfBoundsMsg_0 0 rfl rfl)
theorem dJ4_outOfBoundsMsg_3 : decode cJ4_outOfBoundsMsg 3 = .ok (.dup, 1) := dk_89 (dk_at dksJ4_outOfBoundsMsg_0 3 rfl rfl)
theorem dJ4_outOfBoundsMsg_4 : decode cJ4_outOfBoundsMsg 4 = .ok (.invokespecial 99, 3) := dk_183 0 99 (dk_at dksJ4_outOfBoundsMsg_0 4 rfl rfl)
theorem dJ4_outOfBoundsMsg_7 : decode cJ4_outOfBoundsMsg 7 = .ok (.ldc 100, 2) := dk_18 100 (dk_at dksJ4_outOfBoundsMsg_0 7 rfl rfl)
theorem dJ4_outOfBoundsMsg_9 : decode cJ4_outOfBoundsMsg 9 = .ok (.invokevirtual 102, 3) := dk_182 0 102 (dk_at dksJ4_outOfBoundsMsg_0 9 rfl rfl)
theorem dJ4_outOfBoundsMsg_12 : decode cJ4_outOfBoundsMsg 12 = .ok (.iload_n 1, 1) := dk_27 (dk_at dksJ4_outOfBoundsMsg_0 12 rfl rfl)
theorem dJ4_outOfBoundsMsg_13 : decode cJ4_outOfBoundsMsg 13 = .ok (.invokevirtual 106, 3) := dk_182 0 106 (dk_at dksJ4_outOfBoundsMsg_0 13 rfl rfl)
theorem dJ4_outOfBoundsMsg_16 : decode cJ4_outOfBoundsMsg 16 = .ok (.ldc 109, 2) := dk_18 109 (dk_at dksJ4_outOfBoundsMsg_0 16 rfl rfl)
theorem dJ4_outOfBoundsMsg_18 : decode cJ4_outOfBoundsMsg 18 = .ok (.invokevirtual 102, 3) := dk_182 0 102 (dk_at dksJ4_outOfBoundsMsg_0 18 rfl rfl)
theorem dJ4_outOfBoundsMsg_21 : decode cJ4_outOfBoundsMsg 21 = .ok (.aload_n 0, 1) := dk_42 (dk_at dksJ4_outOfBoundsMsg_0 21 rfl rfl)
theorem dJ4_outOfBoundsMsg_22 : decode cJ4_outOfBoundsMsg 22 = .ok (.getfield 7, 3) := dk_180 0 7 (dk_at dksJ4_outOfBoundsMsg_1 0 rfl rfl)
theorem dJ4_outOfBoundsMsg_25 : decode cJ4_outOfBoundsMsg 25 = .ok (.invokevirtual 106, 3) := dk_182 0 106 (dk_at dksJ4_outOfBoundsMsg_1 3 rfl rfl)
theorem dJ4_outOfBoundsMsg_28 : decode cJ4_outOfBoundsMsg 28 = .ok (.invokevirtual 111, 3) := dk_182 0 111 (dk_at dksJ4_outOfBoundsMsg_1 6 rfl rfl)
theorem dJ4_outOfBoundsMsg_31 : decode cJ4_outOfBoundsMsg 31 = .ok (.areturn, 1) := dk_176 (dk_at dksJ4_outOfBoundsMsg_1 9 rfl rfl)
abbrev cJ4_node : ByteArray := prog_71_method_31_code
def yJ4_node : MethodName := ⟨RJ4, "node", "(I)Ljava/util/LinkedList$Node;"⟩
def dkwJ4_node_2 : List UInt8 := [29, 27, 164, 0, 14, 44, 180, 0, 30, 77, 132, 3, 255, 167, 255, 243, 44, 176]
abbrev dktJ4_node_2 : List UInt8 := dkwJ4_node_2 ++ []
def dkwJ4_node_1 : List UInt8 := [180, 0, 36, 77, 132, 3, 1, 167, 255, 243, 44, 176, 42, 180, 0, 27, 77, 42, 180, 0, 7, 4, 100, 62]
abbrev dktJ4_node_1 : List UInt8 := dkwJ4_node_1 ++ dktJ4_node_2
def dkwJ4_node_0 : List UInt8 := [27, 42, 180, 0, 7, 4, 122, 162, 0, 28, 42, 180, 0, 18, 77, 3, 62, 29, 27, 162, 0, 14, 44]
abbrev dktJ4_node_0 : List UInt8 := dkwJ4_node_0 ++ dktJ4_node_1
theorem dksJ4_node_0 : cJ4_node.data.toList.drop 0 = dktJ4_node_0 := by decide +kernel
theorem dksJ4_node_1 : cJ4_node.data.toList.drop 23 = dktJ4_node_1 := dk_seg dksJ4_node_0 23 rfl rfl
theorem dksJ4_node_2 : cJ4_node.data.toList.drop 47 = dktJ4_node_2 := dk_seg dksJ4_node_1 24 rfl rfl
theorem dJ4_node_0 : decode cJ4_node 0 = .ok (.iload_n 1, 1) := dk_27 (dk_at dksJ4_node_0 0 rfl rfl)
theorem dJ4_node_1 : decode cJ4_node 1 = .ok (.aload_n 0, 1) := dk_42 (dk_at dksJ4_node_0 1 rfl rfl)
theorem dJ4_node_2 : decode cJ4_node 2 = .ok (.getfield 7, 3) := dk_180 0 7 (dk_at dksJ4_node_0 2 rfl rfl)
theorem dJ4_node_5 : decode cJ4_node 5 = .ok (.iconst 1, 1) := dk_4 (dk_at dksJ4_node_0 5 rfl rfl)
theorem dJ4_node_6 : decode cJ4_node 6 = .ok (.ishr, 1) := dk_122 (dk_at dksJ4_node_0 6 rfl rfl)
theorem dJ4_node_7 : decode cJ4_node 7 = .ok (.if_icmp .ge 28, 3) := dk_162 0 28 (dk_at dksJ4_node_0 7 rfl rfl)
theorem dJ4_node_10 : decode cJ4_node 10 = .ok (.aload_n 0, 1) := dk_42 (dk_at dksJ4_node_0 10 rfl rfl)
theorem dJ4_node_11 : decode cJ4_node 11 = .ok (.getfield 18, 3) := dk_180 0 18 (dk_at dksJ4_node_0 11 rfl rfl)
theorem dJ4_node_14 : decode cJ4_node 14 = .ok (.astore_n 2, 1) := dk_77 (dk_at dksJ4_node_0 14 rfl rfl)
theorem dJ4_node_15 : decode cJ4_node 15 = .ok (.iconst 0, 1) := dk_3 (dk_at dksJ4_node_0 15 rfl rfl)
theorem dJ4_node_16 : decode cJ4_node 16 = .ok (.istore_n 3, 1) := dk_62 (dk_at dksJ4_node_0 16 rfl rfl)
theorem dJ4_node_17 : decode cJ4_node 17 = .ok (.iload_n 3, 1) := dk_29 (dk_at dksJ4_node_0 17 rfl rfl)
theorem dJ4_node_18 : decode cJ4_node 18 = .ok (.iload_n 1, 1) := dk_27 (dk_at dksJ4_node_0 18 rfl rfl)
theorem dJ4_node_19 : decode cJ4_node 19 = .ok (.if_icmp .ge 14, 3) := dk_162 0 14 (dk_at dksJ4_node_0 19 rfl rfl)
theorem dJ4_node_22 : decode cJ4_node 22 = .ok (.aload_n 2, 1) := dk_44 (dk_at dksJ4_node_0 22 rfl rfl)
theorem dJ4_node_23 : decode cJ4_node 23 = .ok (.getfield 36, 3) := dk_180 0 36 (dk_at dksJ4_node_1 0 rfl rfl)
theorem dJ4_node_26 : decode cJ4_node 26 = .ok (.astore_n 2, 1) := dk_77 (dk_at dksJ4_node_1 3 rfl rfl)
theorem dJ4_node_27 : decode cJ4_node 27 = .ok (.iinc 3 1, 3) := dk_132 3 1 (dk_at dksJ4_node_1 4 rfl rfl)
theorem dJ4_node_30 : decode cJ4_node 30 = .ok (.goto (-13), 3) := dk_167 255 243 (dk_at dksJ4_node_1 7 rfl rfl)
theorem dJ4_node_33 : decode cJ4_node 33 = .ok (.aload_n 2, 1) := dk_44 (dk_at dksJ4_node_1 10 rfl rfl)
theorem dJ4_node_34 : decode cJ4_node 34 = .ok (.areturn, 1) := dk_176 (dk_at dksJ4_node_1 11 rfl rfl)
theorem dJ4_node_35 : decode cJ4_node 35 = .ok (.aload_n 0, 1) := dk_42 (dk_at dksJ4_node_1 12 rfl rfl)
theorem dJ4_node_36 : decode cJ4_node 36 = .ok (.getfield 27, 3) := dk_180 0 27 (dk_at dksJ4_node_1 13 rfl rfl)
theorem dJ4_node_39 : decode cJ4_node 39 = .ok (.astore_n 2, 1) := dk_77 (dk_at dksJ4_node_1 16 rfl rfl)
theorem dJ4_node_40 : decode cJ4_node 40 = .ok (.aload_n 0, 1) := dk_42 (dk_at dksJ4_node_1 17 rfl rfl)
theorem dJ4_node_41 : decode cJ4_node 41 = .ok (.getfield 7, 3) := dk_180 0 7 (dk_at dksJ4_node_1 18 rfl rfl)
theorem dJ4_node_44 : decode cJ4_node 44 = .ok (.iconst 1, 1) := dk_4 (dk_at dksJ4_node_1 21 rfl rfl)
theorem dJ4_node_45 : decode cJ4_node 45 = .ok (.isub, 1) := dk_100 (dk_at dksJ4_node_1 22 rfl rfl)
theorem dJ4_node_46 : decode cJ4_node 46 = .ok (.istore_n 3, 1) := dk_62 (dk_at dksJ4_node_1 23 rfl rfl)
theorem dJ4_node_47 : decode cJ4_node 47 = .ok (.iload_n 3, 1) := dk_29 (dk_at dksJ4_node_2 0 rfl rfl)
theorem dJ4_node_48 : decode cJ4_node 48 = .ok (.iload_n 1, 1) := dk_27 (dk_at dksJ4_node_2 1 rfl rfl)
theorem dJ4_node_49 : decode cJ4_node 49 = .ok (.if_icmp .le 14, 3) := dk_164 0 14 (dk_at dksJ4_node_2 2 rfl rfl)
theorem dJ4_node_52 : decode cJ4_node 52 = .ok (.aload_n 2, 1) := dk_44 (dk_at dksJ4_node_2 5 rfl rfl)
theorem dJ4_node_53 : decode cJ4_node 53 = .ok (.getfield 30, 3) := dk_180 0 30 (dk_at dksJ4_node_2 6 rfl rfl)
theorem dJ4_node_56 : decode cJ4_node 56 = .ok (.astore_n 2, 1) := dk_77 (dk_at dksJ4_node_2 9 rfl rfl)
theorem dJ4_node_57 : decode cJ4_node 57 = .ok (.iinc 3 (-1), 3) := dk_132 3 255 (dk_at dksJ4_node_2 10 rfl rfl)
theorem dJ4_node_60 : decode cJ4_node 60 = .ok (.goto (-13), 3) := dk_167 255 243 (dk_at dksJ4_node_2 13 rfl rfl)
theorem dJ4_node_63 : decode cJ4_node 63 = .ok (.aload_n 2, 1) := dk_44 (dk_at dksJ4_node_2 16 rfl rfl)
theorem dJ4_node_64 : decode cJ4_node 64 = .ok (.areturn, 1) := dk_176 (dk_at dksJ4_node_2 17 rfl rfl)
abbrev cJ4_add : ByteArray := prog_71_method_17_code
def yJ4_add : MethodName := ⟨RJ4, "add", "(Ljava/lang/Object;)Z"⟩
def dkwJ4_add_0 : List UInt8 := [42, 43, 182, 0, 57, 4, 172]
abbrev dktJ4_add_0 : List UInt8 := dkwJ4_add_0 ++ []
theorem dksJ4_add_0 : cJ4_add.data.toList.drop 0 = dktJ4_add_0 := by decide +kernel
theorem dJ4_add_0 : decode cJ4_add 0 = .ok (.aload_n 0, 1) := dk_42 (dk_at dksJ4_add_0 0 rfl rfl)
theorem dJ4_add_1 : decode cJ4_add 1 = .ok (.aload_n 1, 1) := dk_43 (dk_at dksJ4_add_0 1 rfl rfl)
theorem dJ4_add_2 : decode cJ4_add 2 = .ok (.invokevirtual 57, 3) := dk_182 0 57 (dk_at dksJ4_add_0 2 rfl rfl)
theorem dJ4_add_5 : decode cJ4_add 5 = .ok (.iconst 1, 1) := dk_4 (dk_at dksJ4_add_0 5 rfl rfl)
theorem dJ4_add_6 : decode cJ4_add 6 = .ok (.ireturn, 1) := dk_172 (dk_at dksJ4_add_0 6 rfl rfl)
abbrev cJ4_linkLast : ByteArray := prog_71_method_4_code
def yJ4_linkLast : MethodName := ⟨RJ4, "linkLast", "(Ljava/lang/Object;)V"⟩
def dkwJ4_linkLast_2 : List UInt8 := [181, 0, 7, 42, 89, 180, 0, 33, 4, 96, 181, 0, 33, 177]
abbrev dktJ4_linkLast_2 : List UInt8 := dkwJ4_linkLast_2 ++ []
def dkwJ4_linkLast_1 : List UInt8 := [199, 0, 11, 42, 45, 181, 0, 18, 167, 0, 8, 44, 45, 181, 0, 36, 42, 89, 180, 0, 7, 4, 96]
abbrev dktJ4_linkLast_1 : List UInt8 := dkwJ4_linkLast_1 ++ dktJ4_linkLast_2
def dkwJ4_linkLast_0 : List UInt8 := [42, 180, 0, 27, 77, 187, 0, 22, 89, 44, 43, 1, 183, 0, 24, 78, 42, 45, 181, 0, 27, 44]
abbrev dktJ4_linkLast_0 : List UInt8 := dkwJ4_linkLast_0 ++ dktJ4_linkLast_1
theorem dksJ4_linkLast_0 : cJ4_linkLast.data.toList.drop 0 = dktJ4_linkLast_0 := by decide +kernel
theorem dksJ4_linkLast_1 : cJ4_linkLast.data.toList.drop 22 = dktJ4_linkLast_1 := dk_seg dksJ4_linkLast_0 22 rfl rfl
theorem dksJ4_linkLast_2 : cJ4_linkLast.data.toList.drop 45 = dktJ4_linkLast_2 := dk_seg dksJ4_linkLast_1 23 rfl rfl
theorem dJ4_linkLast_0 : decode cJ4_linkLast 0 = .ok (.aload_n 0, 1) := dk_42 (dk_at dksJ4_linkLast_0 0 rfl rfl)
theorem dJ4_linkLast_1 : decode cJ4_linkLast 1 = .ok (.getfield 27, 3) := dk_180 0 27 (dk_at dksJ4_linkLast_0 1 rfl rfl)
theorem dJ4_linkLast_4 : decode cJ4_linkLast 4 = .ok (.astore_n 2, 1) := dk_77 (dk_at dksJ4_linkLast_0 4 rfl rfl)
theorem dJ4_linkLast_5 : decode cJ4_linkLast 5 = .ok (.new 22, 3) := dk_187 0 22 (dk_at dksJ4_linkLast_0 5 rfl rfl)
theorem dJ4_linkLast_8 : decode cJ4_linkLast 8 = .ok (.dup, 1) := dk_89 (dk_at dksJ4_linkLast_0 8 rfl rfl)
theorem dJ4_linkLast_9 : decode cJ4_linkLast 9 = .ok (.aload_n 2, 1) := dk_44 (dk_at dksJ4_linkLast_0 9 rfl rfl)
theorem dJ4_linkLast_10 : decode cJ4_linkLast 10 = .ok (.aload_n 1, 1) := dk_43 (dk_at dksJ4_linkLast_0 10 rfl rfl)
theorem dJ4_linkLast_11 : decode cJ4_linkLast 11 = .ok (.aconst_null, 1) := dk_1 (dk_at dksJ4_linkLast_0 11 rfl rfl)
theorem dJ4_linkLast_12 : decode cJ4_linkLast 12 = .ok (.invokespecial 24, 3) := dk_183 0 24 (dk_at dksJ4_linkLast_0 12 rfl rfl)
theorem dJ4_linkLast_15 : decode cJ4_linkLast 15 = .ok (.astore_n 3, 1) := dk_78 (dk_at dksJ4_linkLast_0 15 rfl rfl)
theorem dJ4_linkLast_16 : decode cJ4_linkLast 16 = .ok (.aload_n 0, 1) := dk_42 (dk_at dksJ4_linkLast_0 16 rfl rfl)
theorem dJ4_linkLast_17 : decode cJ4_linkLast 17 = .ok (.aload_n 3, 1) := dk_45 (dk_at dksJ4_linkLast_0 17 rfl rfl)
theorem dJ4_linkLast_18 : decode cJ4_linkLast 18 = .ok (.putfield 27, 3) := dk_181 0 27 (dk_at dksJ4_linkLast_0 18 rfl rfl)
theorem dJ4_linkLast_21 : decode cJ4_linkLast 21 = .ok (.aload_n 2, 1) := dk_44 (dk_at dksJ4_linkLast_0 21 rfl rfl)
theorem dJ4_linkLast_22 : decode cJ4_linkLast 22 = .ok (.ifnonnull 11, 3) := dk_199 0 11 (dk_at dksJ4_linkLast_1 0 rfl rfl)
theorem dJ4_linkLast_25 : decode cJ4_linkLast 25 = .ok (.aload_n 0, 1) := dk_42 (dk_at dksJ4_linkLast_1 3 rfl rfl)
theorem dJ4_linkLast_26 : decode cJ4_linkLast 26 = .ok (.aload_n 3, 1) := dk_45 (dk_at dksJ4_linkLast_1 4 rfl rfl)
theorem dJ4_linkLast_27 : decode cJ4_linkLast 27 = .ok (.putfield 18, 3) := dk_181 0 18 (dk_at dksJ4_linkLast_1 5 rfl rfl)
theorem dJ4_linkLast_30 : decode cJ4_linkLast 30 = .ok (.goto 8, 3) := dk_167 0 8 (dk_at dksJ4_linkLast_1 8 rfl rfl)
theorem dJ4_linkLast_33 : decode cJ4_linkLast 33 = .ok (.aload_n 2, 1) := dk_44 (dk_at dksJ4_linkLast_1 11 rfl rfl)
theorem dJ4_linkLast_34 : decode cJ4_linkLast 34 = .ok (.aload_n 3, 1) := dk_45 (dk_at dksJ4_linkLast_1 12 rfl rfl)
theorem dJ4_linkLast_35 : decode cJ4_linkLast 35 = .ok (.putfield 36, 3) := dk_181 0 36 (dk_at dksJ4_linkLast_1 13 rfl rfl)
theorem dJ4_linkLast_38 : decode cJ4_linkLast 38 = .ok (.aload_n 0, 1) := dk_42 (dk_at dksJ4_linkLast_1 16 rfl rfl)
theorem dJ4_linkLast_39 : decode cJ4_linkLast 39 = .ok (.dup, 1) := dk_89 (dk_at dksJ4_linkLast_1 17 rfl rfl)
theorem dJ4_linkLast_40 : decode cJ4_linkLast 40 = .ok (.getfield 7, 3) := dk_180 0 7 (dk_at dksJ4_linkLast_1 18 rfl rfl)
theorem dJ4_linkLast_43 : decode cJ4_linkLast 43 = .ok (.iconst 1, 1) := dk_4 (dk_at dksJ4_linkLast_1 21 rfl rfl)
theorem dJ4_linkLast_44 : decode cJ4_linkLast 44 = .ok (.iadd, 1) := dk_96 (dk_at dksJ4_linkLast_1 22 rfl rfl)
theorem dJ4_linkLast_45 : decode cJ4_linkLast 45 = .ok (.putfield 7, 3) := dk_181 0 7 (dk_at dksJ4_linkLast_2 0 rfl rfl)
theorem dJ4_linkLast_48 : decode cJ4_linkLast 48 = .ok (.aload_n 0, 1) := dk_42 (dk_at dksJ4_linkLast_2 3 rfl rfl)
theorem dJ4_linkLast_49 : decode cJ4_linkLast 49 = .ok (.dup, 1) := dk_89 (dk_at dksJ4_linkLast_2 4 rfl rfl)
theorem dJ4_linkLast_50 : decode cJ4_linkLast 50 = .ok (.getfield 33, 3) := dk_180 0 33 (dk_at dksJ4_linkLast_2 5 rfl rfl)
theorem dJ4_linkLast_53 : decode cJ4_linkLast 53 = .ok (.iconst 1, 1) := dk_4 (dk_at dksJ4_linkLast_2 8 rfl rfl)
theorem dJ4_linkLast_54 : decode cJ4_linkLast 54 = .ok (.iadd, 1) := dk_96 (dk_at dksJ4_linkLast_2 9 rfl rfl)
theorem dJ4_linkLast_55 : decode cJ4_linkLast 55 = .ok (.putfield 33, 3) := dk_181 0 33 (dk_at dksJ4_linkLast_2 10 rfl rfl)
theorem dJ4_linkLast_58 : decode cJ4_linkLast 58 = .ok (.return_, 1) := dk_177 (dk_at dksJ4_linkLast_2 13 rfl rfl)
abbrev cJ4_listIterator : ByteArray := prog_71_method_49_code
def yJ4_listIterator : MethodName := ⟨RJ4, "listIterator", "(I)Ljava/util/ListIterator;"⟩
def dkwJ4_listIterator_0 : List UInt8 := [42, 27, 182, 0, 76, 187, 0, 150, 89, 42, 27, 183, 0, 152, 176]
abbrev dktJ4_listIterator_0 : List UInt8 := dkwJ4_listIterator_0 ++ []
theorem dksJ4_listIterator_0 : cJ4_listIterator.data.toList.drop 0 = dktJ4_listIterator_0 := by decide +kernel
theorem dJ4_listIterator_0 : decode cJ4_listIterator 0 = .ok (.aload_n 0, 1) := dk_42 (dk_at dksJ4_listIterator_0 0 rfl rfl)
theorem dJ4_listIterator_1 : decode cJ4_listIterator 1 = .ok (.iload_n 1, 1) := dk_27 (dk_at dksJ4_listIterator_0 1 rfl rfl)
theorem dJ4_listIterator_2 : decode cJ4_listIterator 2 = .ok (.invokevirtual 76, 3) := dk_182 0 76 (dk_at dksJ4_listIterator_0 2 rfl rfl)
theorem dJ4_listIterator_5 : decode cJ4_listIterator 5 = .ok (.new 150, 3) := dk_187 0 150 (dk_at dksJ4_listIterator_0 5 rfl rfl)
theorem dJ4_listIterator_8 : decode cJ4_listIterator 8 = .ok (.dup, 1) := dk_89 (dk_at dksJ4_listIterator_0 8 rfl rfl)
theorem dJ4_listIterator_9 : decode cJ4_listIterator 9 = .ok (.aload_n 0, 1) := dk_42 (dk_at dksJ4_listIterator_0 9 rfl rfl)
theorem dJ4_listIterator_10 : decode cJ4_listIterator 10 = .ok (.iload_n 1, 1) := dk_27 (dk_at dksJ4_listIterator_0 10 rfl rfl)
theorem dJ4_listIterator_11 : decode cJ4_listIterator 11 = .ok (.invokespecial 152, 3) := dk_183 0 152 (dk_at dksJ4_listIterator_0 11 rfl rfl)
theorem dJ4_listIterator_14 : decode cJ4_listIterator 14 = .ok (.areturn, 1) := dk_176 (dk_at dksJ4_listIterator_0 14 rfl rfl)
abbrev cJ4_checkPositionIndex : ByteArray := prog_71_method_30_code
def yJ4_checkPositionIndex : MethodName := ⟨RJ4, "checkPositionIndex", "(I)V"⟩
def dkwJ4_checkPositionIndex_0 : List UInt8 := [42, 27, 182, 0, 128, 154, 0, 16, 187, 0, 119, 89, 42, 27, 182, 0, 121, 183, 0, 125, 191, 177]
abbrev dktJ4_checkPositionIndex_0 : List UInt8 := dkwJ4_checkPositionIndex_0 ++ []
theorem dksJ4_checkPositionIndex_0 : cJ4_checkPositionIndex.data.toList.drop 0 = dktJ4_checkPositionIndex_0 := by decide +kernel
theorem dJ4_checkPositionIndex_0 : decode cJ4_checkPositionIndex 0 = .ok (.aload_n 0, 1) := dk_42 (dk_at dksJ4_checkPositionIndex_0 0 rfl rfl)
theorem dJ4_checkPositionIndex_1 : decode cJ4_checkPositionIndex 1 = .ok (.iload_n 1, 1) := dk_27 (dk_at dksJ4_checkPositionIndex_0 1 rfl rfl)
theorem dJ4_checkPositionIndex_2 : decode cJ4_checkPositionIndex 2 = .ok (.invokevirtual 128, 3) := dk_182 0 128 (dk_at dksJ4_checkPositionIndex_0 2 rfl rfl)
theorem dJ4_checkPositionIndex_5 : decode cJ4_checkPositionIndex 5 = .ok (.ifCond .ne 16, 3) := dk_154 0 16 (dk_at dksJ4_checkPositionIndex_0 5 rfl rfl)
theorem dJ4_checkPositionIndex_8 : decode cJ4_checkPositionIndex 8 = .ok (.new 119, 3) := dk_187 0 119 (dk_at dksJ4_checkPositionIndex_0 8 rfl rfl)
theorem dJ4_checkPositionIndex_11 : decode cJ4_checkPositionIndex 11 = .ok (.dup, 1) := dk_89 (dk_at dksJ4_checkPositionIndex_0 11 rfl rfl)
theorem dJ4_checkPositionIndex_12 : decode cJ4_checkPositionIndex 12 = .ok (.aload_n 0, 1) := dk_42 (dk_at dksJ4_checkPositionIndex_0 12 rfl rfl)
theorem dJ4_checkPositionIndex_13 : decode cJ4_checkPositionIndex 13 = .ok (.iload_n 1, 1) := dk_27 (dk_at dksJ4_checkPositionIndex_0 13 rfl rfl)
theorem dJ4_checkPositionIndex_14 : decode cJ4_checkPositionIndex 14 = .ok (.invokevirtual 121, 3) := dk_182 0 121 (dk_at dksJ4_checkPositionIndex_0 14 rfl rfl)
theorem dJ4_checkPositionIndex_17 : decode cJ4_checkPositionIndex 17 = .ok (.invokespecial 125, 3) := dk_183 0 125 (dk_at dksJ4_checkPositionIndex_0 17 rfl rfl)
theorem dJ4_checkPositionIndex_20 : decode cJ4_checkPositionIndex 20 = .ok (.athrow, 1) := dk_191 (dk_at dksJ4_checkPositionIndex_0 20 rfl rfl)
theorem dJ4_checkPositionIndex_21 : decode cJ4_checkPositionIndex 21 = .ok (.return_, 1) := dk_177 (dk_at dksJ4_checkPositionIndex_0 21 rfl rfl)
abbrev cJ4_isPositionIndex : ByteArray := prog_71_method_27_code
def yJ4_isPositionIndex : MethodName := ⟨RJ4, "isPositionIndex", "(I)Z"⟩
def dkwJ4_isPositionIndex_0 : List UInt8 := [27, 155, 0, 15, 27, 42, 180, 0, 7, 163, 0, 7, 4, 167, 0, 4, 3, 172]
abbrev dktJ4_isPositionIndex_0 : List UInt8 := dkwJ4_isPositionIndex_0 ++ []
theorem dksJ4_isPositionIndex_0 : cJ4_isPositionIndex.data.toList.drop 0 = dktJ4_isPositionIndex_0 := by decide +kernel
theorem dJ4_isPositionIndex_0 : decode cJ4_isPositionIndex 0 = .ok (.iload_n 1, 1) := dk_27 (dk_at dksJ4_isPositionIndex_0 0 rfl rfl)
theorem dJ4_isPositionIndex_1 : decode cJ4_isPositionIndex 1 = .ok (.ifCond .lt 15, 3) := dk_155 0 15 (dk_at dksJ4_isPositionIndex_0 1 rfl rfl)
theorem dJ4_isPositionIndex_4 : decode cJ4_isPositionIndex 4 = .ok (.iload_n 1, 1) := dk_27 (dk_at dksJ4_isPositionIndex_0 4 rfl rfl)
theorem dJ4_isPositionIndex_5 : decode cJ4_isPositionIndex 5 = .ok (.aload_n 0, 1) := dk_42 (dk_at dksJ4_isPositionIndex_0 5 rfl rfl)
theorem dJ4_isPositionIndex_6 : decode cJ4_isPositionIndex 6 = .ok (.getfield 7, 3) := dk_180 0 7 (dk_at dksJ4_isPositionIndex_0 6 rfl rfl)
theorem dJ4_isPositionIndex_9 : decode cJ4_isPositionIndex 9 = .ok (.if_icmp .gt 7, 3) := dk_163 0 7 (dk_at dksJ4_isPositionIndex_0 9 rfl rfl)
theorem dJ4_isPositionIndex_12 : decode cJ4_isPositionIndex 12 = .ok (.iconst 1, 1) := dk_4 (dk_at dksJ4_isPositionIndex_0 12 rfl rfl)
theorem dJ4_isPositionIndex_13 : decode cJ4_isPositionIndex 13 = .ok (.goto 4, 3) := dk_167 0 4 (dk_at dksJ4_isPositionIndex_0 13 rfl rfl)
theorem dJ4_isPositionIndex_16 : decode cJ4_isPositionIndex 16 = .ok (.iconst 0, 1) := dk_3 (dk_at dksJ4_isPositionIndex_0 16 rfl rfl)
theorem dJ4_isPositionIndex_17 : decode cJ4_isPositionIndex 17 = .ok (.ireturn, 1) := dk_172 (dk_at dksJ4_isPositionIndex_0 17 rfl rfl)
abbrev cJ4_add_2 : ByteArray := prog_71_method_24_code
def yJ4_add_2 : MethodName := ⟨RJ4, "add", "(ILjava/lang/Object;)V"⟩
def dkwJ4_add_2_1 : List UInt8 := [27, 182, 0, 86, 182, 0, 93, 177]
abbrev dktJ4_add_2_1 : List UInt8 := dkwJ4_add_2_1 ++ []
def dkwJ4_add_2_0 : List UInt8 := [42, 27, 182, 0, 76, 27, 42, 180, 0, 7, 160, 0, 11, 42, 44, 182, 0, 57, 167, 0, 13, 42, 44, 42]
abbrev dktJ4_add_2_0 : List UInt8 := dkwJ4_add_2_0 ++ dktJ4_add_2_1
theorem dksJ4_add_2_0 : cJ4_add_2.data.toList.drop 0 = dktJ4_add_2_0 := by decide +kernel
theorem dksJ4_add_2_1 : cJ4_add_2.data.toList.drop 24 = dktJ4_add_2_1 := dk_seg dksJ4_add_2_0 24 rfl rfl
theorem dJ4_add_2_0 : decode cJ4_add_2 0 = .ok (.aload_n 0, 1) := dk_42 (dk_at dksJ4_add_2_0 0 rfl rfl)
theorem dJ4_add_2_1 : decode cJ4_add_2 1 = .ok (.iload_n 1, 1) := dk_27 (dk_at dksJ4_add_2_0 1 rfl rfl)
theorem dJ4_add_2_2 : decode cJ4_add_2 2 = .ok (.invokevirtual 76, 3) := dk_182 0 76 (dk_at dksJ4_add_2_0 2 rfl rfl)
theorem dJ4_add_2_5 : decode cJ4_add_2 5 = .ok (.iload_n 1, 1) := dk_27 (dk_at dksJ4_add_2_0 5 rfl rfl)
theorem dJ4_add_2_6 : decode cJ4_add_2 6 = .ok (.aload_n 0, 1) := dk_42 (dk_at dksJ4_add_2_0 6 rfl rfl)
theorem dJ4_add_2_7 : decode cJ4_add_2 7 = .ok (.getfield 7, 3) := dk_180 0 7 (dk_at dksJ4_add_2_0 7 rfl rfl)
theorem dJ4_add_2_10 : decode cJ4_add_2 10 = .ok (.if_icmp .ne 11, 3) := dk_160 0 11 (dk_at dksJ4_add_2_0 10 rfl rfl)
theorem dJ4_add_2_13 : decode cJ4_add_2 13 = .ok (.aload_n 0, 1) := dk_42 (dk_at dksJ4_add_2_0 13 rfl rfl)
theorem dJ4_add_2_14 : decode cJ4_add_2 14 = .ok (.aload_n 2, 1) := dk_44 (dk_at dksJ4_add_2_0 14 rfl rfl)
theorem dJ4_add_2_15 : decode cJ4_add_2 15 = .ok (.invokevirtual 57, 3) := dk_182 0 57 (dk_at dksJ4_add_2_0 15 rfl rfl)
theorem dJ4_add_2_18 : decode cJ4_add_2 18 = .ok (.goto 13, 3) := dk_167 0 13 (dk_at dksJ4_add_2_0 18 rfl rfl)
theorem dJ4_add_2_21 : decode cJ4_add_2 21 = .ok (.aload_n 0, 1) := dk_42 (dk_at dksJ4_add_2_0 21 rfl rfl)
theorem dJ4_add_2_22 : decode cJ4_add_2 22 = .ok (.aload_n 2, 1) := dk_44 (dk_at dksJ4_add_2_0 22 rfl rfl)
theorem dJ4_add_2_23 : decode cJ4_add_2 23 = .ok (.aload_n 0, 1) := dk_42 (dk_at dksJ4_add_2_0 23 rfl rfl)
theorem dJ4_add_2_24 : decode cJ4_add_2 24 = .ok (.iload_n 1, 1) := dk_27 (dk_at dksJ4_add_2_1 0 rfl rfl)
theorem dJ4_add_2_25 : decode cJ4_add_2 25 = .ok (.invokevirtual 86, 3) := dk_182 0 86 (dk_at dksJ4_add_2_1 1 rfl rfl)
theorem dJ4_add_2_28 : decode cJ4_add_2 28 = .ok (.invokevirtual 93, 3) := dk_182 0 93 (dk_at dksJ4_add_2_1 4 rfl rfl)
theorem dJ4_add_2_31 : decode cJ4_add_2 31 = .ok (.return_, 1) := dk_177 (dk_at dksJ4_add_2_1 7 rfl rfl)
abbrev cJ4_linkBefore : ByteArray := prog_71_method_5_code
def yJ4_linkBefore : MethodName := ⟨RJ4, "linkBefore", "(Ljava/lang/Object;Ljava/util/LinkedList$Node;)V"⟩
def dkwJ4_linkBefore_2 : List UInt8 := [96, 181, 0, 7, 42, 89, 180, 0, 33, 4, 96, 181, 0, 33, 177]
abbrev dktJ4_linkBefore_2 : List UInt8 := dkwJ4_linkBefore_2 ++ []
def dkwJ4_linkBefore_1 : List UInt8 := [199, 0, 12, 42, 25, 4, 181, 0, 18, 167, 0, 9, 45, 25, 4, 181, 0, 36, 42, 89, 180, 0, 7, 4]
abbrev dktJ4_linkBefore_1 : List UInt8 := dkwJ4_linkBefore_1 ++ dktJ4_linkBefore_2
def dkwJ4_linkBefore_0 : List UInt8 := [44, 180, 0, 30, 78, 187, 0, 22, 89, 45, 43, 44, 183, 0, 24, 58, 4, 44, 25, 4, 181, 0, 30, 45]
abbrev dktJ4_linkBefore_0 : List UInt8 := dkwJ4_linkBefore_0 ++ dktJ4_linkBefore_1
theorem dksJ4_linkBefore_0 : cJ4_linkBefore.data.toList.drop 0 = dktJ4_linkBefore_0 := by decide +kernel
theorem dksJ4_linkBefore_1 : cJ4_linkBefore.data.toList.drop 24 = dktJ4_linkBefore_1 := dk_seg dksJ4_linkBefore_0 24 rfl rfl
theorem dksJ4_linkBefore_2 : cJ4_linkBefore.data.toList.drop 48 = dktJ4_linkBefore_2 := dk_seg dksJ4_linkBefore_1 24 rfl rfl
theorem dJ4_linkBefore_0 : decode cJ4_linkBefore 0 = .ok (.aload_n 2, 1) := dk_44 (dk_at dksJ4_linkBefore_0 0 rfl rfl)
theorem dJ4_linkBefore_1 : decode cJ4_linkBefore 1 = .ok (.getfield 30, 3) := dk_180 0 30 (dk_at dksJ4_linkBefore_0 1 rfl rfl)
theorem dJ4_linkBefore_4 : decode cJ4_linkBefore 4 = .ok (.astore_n 3, 1) := dk_78 (dk_at dksJ4_linkBefore_0 4 rfl rfl)
theorem dJ4_linkBefore_5 : decode cJ4_linkBefore 5 = .ok (.new 22, 3) := dk_187 0 22 (dk_at dksJ4_linkBefore_0 5 rfl rfl)
theorem dJ4_linkBefore_8 : decode cJ4_linkBefore 8 = .ok (.dup, 1) := dk_89 (dk_at dksJ4_linkBefore_0 8 rfl rfl)
theorem dJ4_linkBefore_9 : decode cJ4_linkBefore 9 = .ok (.aload_n 3, 1) := dk_45 (dk_at dksJ4_linkBefore_0 9 rfl rfl)
theorem dJ4_linkBefore_10 : decode cJ4_linkBefore 10 = .ok (.aload_n 1, 1) := dk_43 (dk_at dksJ4_linkBefore_0 10 rfl rfl)
theorem dJ4_linkBefore_11 : decode cJ4_linkBefore 11 = .ok (.aload_n 2, 1) := dk_44 (dk_at dksJ4_linkBefore_0 11 rfl rfl)
theorem dJ4_linkBefore_12 : decode cJ4_linkBefore 12 = .ok (.invokespecial 24, 3) := dk_183 0 24 (dk_at dksJ4_linkBefore_0 12 rfl rfl)
theorem dJ4_linkBefore_15 : decode cJ4_linkBefore 15 = .ok (.astore 4, 2) := dk_58 4 (dk_at dksJ4_linkBefore_0 15 rfl rfl)
theorem dJ4_linkBefore_17 : decode cJ4_linkBefore 17 = .ok (.aload_n 2, 1) := dk_44 (dk_at dksJ4_linkBefore_0 17 rfl rfl)
theorem dJ4_linkBefore_18 : decode cJ4_linkBefore 18 = .ok (.aload 4, 2) := dk_25 4 (dk_at dksJ4_linkBefore_0 18 rfl rfl)
theorem dJ4_linkBefore_20 : decode cJ4_linkBefore 20 = .ok (.putfield 30, 3) := dk_181 0 30 (dk_at dksJ4_linkBefore_0 20 rfl rfl)
theorem dJ4_linkBefore_23 : decode cJ4_linkBefore 23 = .ok (.aload_n 3, 1) := dk_45 (dk_at dksJ4_linkBefore_0 23 rfl rfl)
theorem dJ4_linkBefore_24 : decode cJ4_linkBefore 24 = .ok (.ifnonnull 12, 3) := dk_199 0 12 (dk_at dksJ4_linkBefore_1 0 rfl rfl)
theorem dJ4_linkBefore_27 : decode cJ4_linkBefore 27 = .ok (.aload_n 0, 1) := dk_42 (dk_at dksJ4_linkBefore_1 3 rfl rfl)
theorem dJ4_linkBefore_28 : decode cJ4_linkBefore 28 = .ok (.aload 4, 2) := dk_25 4 (dk_at dksJ4_linkBefore_1 4 rfl rfl)
theorem dJ4_linkBefore_30 : decode cJ4_linkBefore 30 = .ok (.putfield 18, 3) := dk_181 0 18 (dk_at dksJ4_linkBefore_1 6 rfl rfl)
theorem dJ4_linkBefore_33 : decode cJ4_linkBefore 33 = .ok (.goto 9, 3) := dk_167 0 9 (dk_at dksJ4_linkBefore_1 9 rfl rfl)
theorem dJ4_linkBefore_36 : decode cJ4_linkBefore 36 = .ok (.aload_n 3, 1) := dk_45 (dk_at dksJ4_linkBefore_1 12 rfl rfl)
theorem dJ4_linkBefore_37 : decode cJ4_linkBefore 37 = .ok (.aload 4, 2) := dk_25 4 (dk_at dksJ4_linkBefore_1 13 rfl rfl)
theorem dJ4_linkBefore_39 : decode cJ4_linkBefore 39 = .ok (.putfield 36, 3) := dk_181 0 36 (dk_at dksJ4_linkBefore_1 15 rfl rfl)
theorem dJ4_linkBefore_42 : decode cJ4_linkBefore 42 = .ok (.aload_n 0, 1) := dk_42 (dk_at dksJ4_linkBefore_1 18 rfl rfl)
theorem dJ4_linkBefore_43 : decode cJ4_linkBefore 43 = .ok (.dup, 1) := dk_89 (dk_at dksJ4_linkBefore_1 19 rfl rfl)
theorem dJ4_linkBefore_44 : decode cJ4_linkBefore 44 = .ok (.getfield 7, 3) := dk_180 0 7 (dk_at dksJ4_linkBefore_1 20 rfl rfl)
theorem dJ4_linkBefore_47 : decode cJ4_linkBefore 47 = .ok (.iconst 1, 1) := dk_4 (dk_at dksJ4_linkBefore_1 23 rfl rfl)
theorem dJ4_linkBefore_48 : decode cJ4_linkBefore 48 = .ok (.iadd, 1) := dk_96 (dk_at dksJ4_linkBefore_2 0 rfl rfl)
theorem dJ4_linkBefore_49 : decode cJ4_linkBefore 49 = .ok (.putfield 7, 3) := dk_181 0 7 (dk_at dksJ4_linkBefore_2 1 rfl rfl)
theorem dJ4_linkBefore_52 : decode cJ4_linkBefore 52 = .ok (.aload_n 0, 1) := dk_42 (dk_at dksJ4_linkBefore_2 4 rfl rfl)
theorem dJ4_linkBefore_53 : decode cJ4_linkBefore 53 = .ok (.dup, 1) := dk_89 (dk_at dksJ4_linkBefore_2 5 rfl rfl)
theorem dJ4_linkBefore_54 : decode cJ4_linkBefore 54 = .ok (.getfield 33, 3) := dk_180 0 33 (dk_at dksJ4_linkBefore_2 6 rfl rfl)
theorem dJ4_linkBefore_57 : decode cJ4_linkBefore 57 = .ok (.iconst 1, 1) := dk_4 (dk_at dksJ4_linkBefore_2 9 rfl rfl)
theorem dJ4_linkBefore_58 : decode cJ4_linkBefore 58 = .ok (.iadd, 1) := dk_96 (dk_at dksJ4_linkBefore_2 10 rfl rfl)
theorem dJ4_linkBefore_59 : decode cJ4_linkBefore 59 = .ok (.putfield 33, 3) := dk_181 0 33 (dk_at dksJ4_linkBefore_2 11 rfl rfl)
theorem dJ4_linkBefore_62 : decode cJ4_linkBefore 62 = .ok (.return_, 1) := dk_177 (dk_at dksJ4_linkBefore_2 14 rfl rfl)
abbrev cJ4_addLast : ByteArray := prog_71_method_14_code
def yJ4_addLast : MethodName := ⟨RJ4, "addLast", "(Ljava/lang/Object;)V"⟩
def dkwJ4_addLast_0 : List UInt8 := [42, 43, 182, 0, 57, 177]
abbrev dktJ4_addLast_0 : List UInt8 := dkwJ4_addLast_0 ++ []
theorem dksJ4_addLast_0 : cJ4_addLast.data.toList.drop 0 = dktJ4_addLast_0 := by decide +kernel
theorem dJ4_addLast_0 : decode cJ4_addLast 0 = .ok (.aload_n 0, 1) := dk_42 (dk_at dksJ4_addLast_0 0 rfl rfl)
theorem dJ4_addLast_1 : decode cJ4_addLast 1 = .ok (.aload_n 1, 1) := dk_43 (dk_at dksJ4_addLast_0 1 rfl rfl)
theorem dJ4_addLast_2 : decode cJ4_addLast 2 = .ok (.invokevirtual 57, 3) := dk_182 0 57 (dk_at dksJ4_addLast_0 2 rfl rfl)
theorem dJ4_addLast_5 : decode cJ4_addLast 5 = .ok (.return_, 1) := dk_177 (dk_at dksJ4_addLast_0 5 rfl rfl)
abbrev cJ4_removeFirst : ByteArray := prog_71_method_11_code
def yJ4_removeFirst : MethodName := ⟨RJ4, "removeFirst", "()Ljava/lang/Object;"⟩
def dkwJ4_removeFirst_0 : List UInt8 := [42, 180, 0, 18, 76, 43, 199, 0, 11, 187, 0, 43, 89, 183, 0, 45, 191, 42, 43, 182, 0, 46, 176]
abbrev dktJ4_removeFirst_0 : List UInt8 := dkwJ4_removeFirst_0 ++ []
theorem dksJ4_removeFirst_0 : cJ4_removeFirst.data.toList.drop 0 = dktJ4_removeFirst_0 := by decide +kernel
theorem dJ4_removeFirst_0 : decode cJ4_removeFirst 0 = .ok (.aload_n 0, 1) := dk_42 (dk_at dksJ4_removeFirst_0 0 rfl rfl)
theorem dJ4_removeFirst_1 : decode cJ4_removeFirst 1 = .ok (.getfield 18, 3) := dk_180 0 18 (dk_at dksJ4_removeFirst_0 1 rfl rfl)
theorem dJ4_removeFirst_4 : decode cJ4_removeFirst 4 = .ok (.astore_n 1, 1) := dk_76 (dk_at dksJ4_removeFirst_0 4 rfl rfl)
theorem dJ4_removeFirst_5 : decode cJ4_removeFirst 5 = .ok (.aload_n 1, 1) := dk_43 (dk_at dksJ4_removeFirst_0 5 rfl rfl)
theorem dJ4_removeFirst_6 : decode cJ4_removeFirst 6 = .ok (.ifnonnull 11, 3) := dk_199 0 11 (dk_at dksJ4_removeFirst_0 6 rfl rfl)
theorem dJ4_removeFirst_9 : decode cJ4_removeFirst 9 = .ok (.new 43, 3) := dk_187 0 43 (dk_at dksJ4_removeFirst_0 9 rfl rfl)
theorem dJ4_removeFirst_12 : decode cJ4_removeFirst 12 = .ok (.dup, 1) := dk_89 (dk_at dksJ4_removeFirst_0 12 rfl rfl)
theorem dJ4_removeFirst_13 : decode cJ4_removeFirst 13 = .ok (.invokespecial 45, 3) := dk_183 0 45 (dk_at dksJ4_removeFirst_0 13 rfl rfl)
theorem dJ4_removeFirst_16 : decode cJ4_removeFirst 16 = .ok (.athrow, 1) := dk_191 (dk_at dksJ4_removeFirst_0 16 rfl rfl)
theorem dJ4_removeFirst_17 : decode cJ4_removeFirst 17 = .ok (.aload_n 0, 1) := dk_42 (dk_at dksJ4_removeFirst_0 17 rfl rfl)
theorem dJ4_removeFirst_18 : decode cJ4_removeFirst 18 = .ok (.aload_n 1, 1) := dk_43 (dk_at dksJ4_removeFirst_0 18 rfl rfl)
theorem dJ4_removeFirst_19 : decode cJ4_removeFirst 19 = .ok (.invokevirtual 46, 3) := dk_182 0 46 (dk_at dksJ4_removeFirst_0 19 rfl rfl)
theorem dJ4_removeFirst_22 : decode cJ4_removeFirst 22 = .ok (.areturn, 1) := dk_176 (dk_at dksJ4_removeFirst_0 22 rfl rfl)
abbrev cJ4_unlinkFirst : ByteArray := prog_71_method_6_code
def yJ4_unlinkFirst : MethodName := ⟨RJ4, "unlinkFirst", "(Ljava/util/LinkedList$Node;)Ljava/lang/Object;"⟩
def dkwJ4_unlinkFirst_2 : List UInt8 := [180, 0, 7, 4, 100, 181, 0, 7, 42, 89, 180, 0, 33, 4, 96, 181, 0, 33, 44, 176]
abbrev dktJ4_unlinkFirst_2 : List UInt8 := dkwJ4_unlinkFirst_2 ++ []
def dkwJ4_unlinkFirst_1 : List UInt8 := [181, 0, 18, 45, 199, 0, 11, 42, 1, 181, 0, 27, 167, 0, 8, 45, 1, 181, 0, 30, 42, 89]
abbrev dktJ4_unlinkFirst_1 : List UInt8 := dkwJ4_unlinkFirst_1 ++ dktJ4_unlinkFirst_2
def dkwJ4_unlinkFirst_0 : List UInt8 := [43, 180, 0, 39, 77, 43, 180, 0, 36, 78, 43, 1, 181, 0, 39, 43, 1, 181, 0, 36, 42, 45]
abbrev dktJ4_unlinkFirst_0 : List UInt8 := dkwJ4_unlinkFirst_0 ++ dktJ4_unlinkFirst_1
theorem dksJ4_unlinkFirst_0 : cJ4_unlinkFirst.data.toList.drop 0 = dktJ4_unlinkFirst_0 := by decide +kernel
theorem dksJ4_unlinkFirst_1 : cJ4_unlinkFirst.data.toList.drop 22 = dktJ4_unlinkFirst_1 := dk_seg dksJ4_unlinkFirst_0 22 rfl rfl
theorem dksJ4_unlinkFirst_2 : cJ4_unlinkFirst.data.toList.drop 44 = dktJ4_unlinkFirst_2 := dk_seg dksJ4_unlinkFirst_1 22 rfl rfl
theorem dJ4_unlinkFirst_0 : decode cJ4_unlinkFirst 0 = .ok (.aload_n 1, 1) := dk_43 (dk_at dksJ4_unlinkFirst_0 0 rfl rfl)
theorem dJ4_unlinkFirst_1 : decode cJ4_unlinkFirst 1 = .ok (.getfield 39, 3) := dk_180 0 39 (dk_at dksJ4_unlinkFirst_0 1 rfl rfl)
theorem dJ4_unlinkFirst_4 : decode cJ4_unlinkFirst 4 = .ok (.astore_n 2, 1) := dk_77 (dk_at dksJ4_unlinkFirst_0 4 rfl rfl)
theorem dJ4_unlinkFirst_5 : decode cJ4_unlinkFirst 5 = .ok (.aload_n 1, 1) := dk_43 (dk_at dksJ4_unlinkFirst_0 5 rfl rfl)
theorem dJ4_unlinkFirst_6 : decode cJ4_unlinkFirst 6 = .ok (.getfield 36, 3) := dk_180 0 36 (dk_at dksJ4_unlinkFirst_0 6 rfl rfl)
theorem dJ4_unlinkFirst_9 : decode cJ4_unlinkFirst 9 = .ok (.astore_n 3, 1) := dk_78 (dk_at dksJ4_unlinkFirst_0 9 rfl rfl)
theorem dJ4_unlinkFirst_10 : decode cJ4_unlinkFirst 10 = .ok (.aload_n 1, 1) := dk_43 (dk_at dksJ4_unlinkFirst_0 10 rfl rfl)
theorem dJ4_unlinkFirst_11 : decode cJ4_unlinkFirst 11 = .ok (.aconst_null, 1) := dk_1 (dk_at dksJ4_unlinkFirst_0 11 rfl rfl)
theorem dJ4_unlinkFirst_12 : decode cJ4_unlinkFirst 12 = .ok (.putfield 39, 3) := dk_181 0 39 (dk_at dksJ4_unlinkFirst_0 12 rfl rfl)
theorem dJ4_unlinkFirst_15 : decode cJ4_unlinkFirst 15 = .ok (.aload_n 1, 1) := dk_43 (dk_at dksJ4_unlinkFirst_0 15 rfl rfl)
theorem dJ4_unlinkFirst_16 : decode cJ4_unlinkFirst 16 = .ok (.aconst_null, 1) := dk_1 (dk_at dksJ4_unlinkFirst_0 16 rfl rfl)
theorem dJ4_unlinkFirst_17 : decode cJ4_unlinkFirst 17 = .ok (.putfield 36, 3) := dk_181 0 36 (dk_at dksJ4_unlinkFirst_0 17 rfl rfl)
theorem dJ4_unlinkFirst_20 : decode cJ4_unlinkFirst 20 = .ok (.aload_n 0, 1) := dk_42 (dk_at dksJ4_unlinkFirst_0 20 rfl rfl)
theorem dJ4_unlinkFirst_21 : decode cJ4_unlinkFirst 21 = .ok (.aload_n 3, 1) := dk_45 (dk_at dksJ4_unlinkFirst_0 21 rfl rfl)
theorem dJ4_unlinkFirst_22 : decode cJ4_unlinkFirst 22 = .ok (.putfield 18, 3) := dk_181 0 18 (dk_at dksJ4_unlinkFirst_1 0 rfl rfl)
theorem dJ4_unlinkFirst_25 : decode cJ4_unlinkFirst 25 = .ok (.aload_n 3, 1) := dk_45 (dk_at dksJ4_unlinkFirst_1 3 rfl rfl)
theorem dJ4_unlinkFirst_26 : decode cJ4_unlinkFirst 26 = .ok (.ifnonnull 11, 3) := dk_199 0 11 (dk_at dksJ4_unlinkFirst_1 4 rfl rfl)
theorem dJ4_unlinkFirst_29 : decode cJ4_unlinkFirst 29 = .ok (.aload_n 0, 1) := dk_42 (dk_at dksJ4_unlinkFirst_1 7 rfl rfl)
theorem dJ4_unlinkFirst_30 : decode cJ4_unlinkFirst 30 = .ok (.aconst_null, 1) := dk_1 (dk_at dksJ4_unlinkFirst_1 8 rfl rfl)
theorem dJ4_unlinkFirst_31 : decode cJ4_unlinkFirst 31 = .ok (.putfield 27, 3) := dk_181 0 27 (dk_at dksJ4_unlinkFirst_1 9 rfl rfl)
theorem dJ4_unlinkFirst_34 : decode cJ4_unlinkFirst 34 = .ok (.goto 8, 3) := dk_167 0 8 (dk_at dksJ4_unlinkFirst_1 12 rfl rfl)
theorem dJ4_unlinkFirst_37 : decode cJ4_unlinkFirst 37 = .ok (.aload_n 3, 1) := dk_45 (dk_at dksJ4_unlinkFirst_1 15 rfl rfl)
theorem dJ4_unlinkFirst_38 : decode cJ4_unlinkFirst 38 = .ok (.aconst_null, 1) := dk_1 (dk_at dksJ4_unlinkFirst_1 16 rfl rfl)
theorem dJ4_unlinkFirst_39 : decode cJ4_unlinkFirst 39 = .ok (.putfield 30, 3) := dk_181 0 30 (dk_at dksJ4_unlinkFirst_1 17 rfl rfl)
theorem dJ4_unlinkFirst_42 : decode cJ4_unlinkFirst 42 = .ok (.aload_n 0, 1) := dk_42 (dk_at dksJ4_unlinkFirst_1 20 rfl rfl)
theorem dJ4_unlinkFirst_43 : decode cJ4_unlinkFirst 43 = .ok (.dup, 1) := dk_89 (dk_at dksJ4_unlinkFirst_1 21 rfl rfl)
theorem dJ4_unlinkFirst_44 : decode cJ4_unlinkFirst 44 = .ok (.getfield 7, 3) := dk_180 0 7 (dk_at dksJ4_unlinkFirst_2 0 rfl rfl)
theorem dJ4_unlinkFirst_47 : decode cJ4_unlinkFirst 47 = .ok (.iconst 1, 1) := dk_4 (dk_at dksJ4_unlinkFirst_2 3 rfl rfl)
theorem dJ4_unlinkFirst_48 : decode cJ4_unlinkFirst 48 = .ok (.isub, 1) := dk_100 (dk_at dksJ4_unlinkFirst_2 4 rfl rfl)
theorem dJ4_unlinkFirst_49 : decode cJ4_unlinkFirst 49 = .ok (.putfield 7, 3) := dk_181 0 7 (dk_at dksJ4_unlinkFirst_2 5 rfl rfl)
theorem dJ4_unlinkFirst_52 : decode cJ4_unlinkFirst 52 = .ok (.aload_n 0, 1) := dk_42 (dk_at dksJ4_unlinkFirst_2 8 rfl rfl)
theorem dJ4_unlinkFirst_53 : decode cJ4_unlinkFirst 53 = .ok (.dup, 1) := dk_89 (dk_at dksJ4_unlinkFirst_2 9 rfl rfl)
theorem dJ4_unlinkFirst_54 : decode cJ4_unlinkFirst 54 = .ok (.getfield 33, 3) := dk_180 0 33 (dk_at dksJ4_unlinkFirst_2 10 rfl rfl)
theorem dJ4_unlinkFirst_57 : decode cJ4_unlinkFirst 57 = .ok (.iconst 1, 1) := dk_4 (dk_at dksJ4_unlinkFirst_2 13 rfl rfl)
theorem dJ4_unlinkFirst_58 : decode cJ4_unlinkFirst 58 = .ok (.iadd, 1) := dk_96 (dk_at dksJ4_unlinkFirst_2 14 rfl rfl)
theorem dJ4_unlinkFirst_59 : decode cJ4_unlinkFirst 59 = .ok (.putfield 33, 3) := dk_181 0 33 (dk_at dksJ4_unlinkFirst_2 15 rfl rfl)
theorem dJ4_unlinkFirst_62 : decode cJ4_unlinkFirst 62 = .ok (.aload_n 2, 1) := dk_44 (dk_at dksJ4_unlinkFirst_2 18 rfl rfl)
theorem dJ4_unlinkFirst_63 : decode cJ4_unlinkFirst 63 = .ok (.areturn, 1) := dk_176 (dk_at dksJ4_unlinkFirst_2 19 rfl rfl)
theorem q124 : (Jvm.Cond.initialized "java/util/LinkedList") ∈ lw_all := lw_g (lw_at lw_m1 7 rfl) rfl
theorem q212 : (Jvm.Cond.sameField "java/util/LinkedList" "java/util/AbstractList" "modCount" "I") ∈ lw_all := lw_g (lw_at lw_m1 95 rfl) rfl
theorem q216 : (Jvm.Cond.fieldLink "java/util/LinkedList" (33 : Nat) "java/util/LinkedList" "modCount" "I") ∈ lw_all := lw_g (lw_at lw_m1 99 rfl) rfl
theorem q234 : (Jvm.Cond.instantiable "java/util/LinkedList" (4 : Nat)) ∈ lw_all := lw_g (lw_at lw_m1 117 rfl) rfl
theorem q236 : (Jvm.Cond.instanceMethod ({ cls := "java/util/LinkedList", name := "<init>", desc := "()V" } : Jvm.MethodName)) ∈ lw_all := lw_g (lw_at lw_m1 119 rfl) rfl
theorem q237 : (Jvm.Cond.code ({ cls := "java/util/LinkedList", name := "<init>", desc := "()V" } : Jvm.MethodName) prog_71_method_1_code (1 : Nat) (Option.none : Option Jvm.ClassFile.FieldType)) ∈ lw_all := lw_g (lw_at lw_m1 120 rfl) rfl
theorem q238 : (Jvm.Cond.methodLink "java/util/LinkedList" (1 : Nat) ({ cls := "java/util/AbstractSequentialList", name := "<init>", desc := "()V" } : Jvm.MethodName)) ∈ lw_all := lw_g (lw_at lw_m1 121 rfl) rfl
theorem q242 : (Jvm.Cond.fieldLink "java/util/LinkedList" (7 : Nat) "java/util/LinkedList" "size" "I") ∈ lw_all := lw_g (lw_at lw_m1 125 rfl) rfl
theorem q244 : (Jvm.Cond.fieldLink "java/util/LinkedList" (18 : Nat) "java/util/LinkedList" "first" "Ljava/util/LinkedList$Node;") ∈ lw_all := lw_g (lw_at lw_m1 127 rfl) rfl
theorem q245 : (Jvm.Cond.fieldLink "java/util/LinkedList" (27 : Nat) "java/util/LinkedList" "last" "Ljava/util/LinkedList$Node;") ∈ lw_all := lw_g (lw_at lw_m1 128 rfl) rfl
theorem q247 : (Jvm.Cond.lays "java/util/LinkedList" "java/util/LinkedList" "size" "I") ∈ lw_all := lw_g (lw_at lw_m1 130 rfl) rfl
theorem q248 : (Jvm.Cond.soleField "java/util/LinkedList" "size") ∈ lw_all := lw_g (lw_at lw_m1 131 rfl) rfl
theorem q249 : (Jvm.Cond.lays "java/util/LinkedList" "java/util/LinkedList" "first" "Ljava/util/LinkedList$Node;") ∈ lw_all := lw_g (lw_at lw_m1 132 rfl) rfl
theorem q250 : (Jvm.Cond.soleField "java/util/LinkedList" "first") ∈ lw_all := lw_g (lw_at lw_m1 133 rfl) rfl
theorem q251 : (Jvm.Cond.lays "java/util/LinkedList" "java/util/LinkedList" "last" "Ljava/util/LinkedList$Node;") ∈ lw_all := lw_g (lw_at lw_m1 134 rfl) rfl
theorem q252 : (Jvm.Cond.soleField "java/util/LinkedList" "last") ∈ lw_all := lw_g (lw_at lw_m1 135 rfl) rfl
theorem q253 : (Jvm.Cond.lays "java/util/LinkedList" "java/util/AbstractList" "modCount" "I") ∈ lw_all := lw_g (lw_at lw_m1 136 rfl) rfl
theorem q254 : (Jvm.Cond.superclass "java/util/LinkedList" "java/util/AbstractSequentialList") ∈ lw_all := lw_g (lw_at lw_m1 137 rfl) rfl
theorem q355 : (Jvm.Cond.castable "java/util/LinkedList" "java/util/List") ∈ lw_tbl := lw_at lw_m1 238 rfl
theorem q356 : (Jvm.Cond.selects "java/util/LinkedList" ({ cls := "java/util/List", name := "size", desc := "()I" } : Jvm.MethodName) ({ cls := "java/util/LinkedList", name := "size", desc := "()I" } : Jvm.MethodName)) ∈ lw_all := lw_g (lw_at lw_m1 239 rfl) rfl
theorem q357 : (Jvm.Cond.unhidden "java/util/LinkedList" "size" "()I") ∈ lw_tbl := lw_at lw_m2 0 rfl
theorem q358 : (Jvm.Cond.instanceMethod ({ cls := "java/util/LinkedList", name := "size", desc := "()I" } : Jvm.MethodName)) ∈ lw_all := lw_g (lw_at lw_m2 1 rfl) rfl
theorem q359 : (Jvm.Cond.publicMethod ({ cls := "java/util/LinkedList", name := "size", desc := "()I" } : Jvm.MethodName)) ∈ lw_tbl := lw_at lw_m2 2 rfl
theorem q360 : (Jvm.Cond.code ({ cls := "java/util/LinkedList", name := "size", desc := "()I" } : Jvm.MethodName) prog_71_method_16_code (1 : Nat) (Option.some Jvm.ClassFile.FieldType.int)) ∈ lw_all := lw_g (lw_at lw_m2 3 rfl) rfl
theorem q370 : (Jvm.Cond.selects "java/util/LinkedList" ({ cls := "java/util/List", name := "clear", desc := "()V" } : Jvm.MethodName) ({ cls := "java/util/LinkedList", name := "clear", desc := "()V" } : Jvm.MethodName)) ∈ lw_all := lw_g (lw_at lw_m2 13 rfl) rfl
theorem q371 : (Jvm.Cond.unhidden "java/util/LinkedList" "clear" "()V") ∈ lw_tbl := lw_at lw_m2 14 rfl
theorem q372 : (Jvm.Cond.instanceMethod ({ cls := "java/util/LinkedList", name := "clear", desc := "()V" } : Jvm.MethodName)) ∈ lw_all := lw_g (lw_at lw_m2 15 rfl) rfl
theorem q373 : (Jvm.Cond.publicMethod ({ cls := "java/util/LinkedList", name := "clear", desc := "()V" } : Jvm.MethodName)) ∈ lw_tbl := lw_at lw_m2 16 rfl
theorem q374 : (Jvm.Cond.code ({ cls := "java/util/LinkedList", name := "clear", desc := "()V" } : Jvm.MethodName) prog_71_method_21_code (3 : Nat) (Option.none : Option Jvm.ClassFile.FieldType)) ∈ lw_all := lw_g (lw_at lw_m2 17 rfl) rfl
theorem q834 : (Jvm.Cond.selects "java/util/LinkedList" ({ cls := "java/util/List", name := "get", desc := "(I)Ljava/lang/Object;" } : Jvm.MethodName) ({ cls := "java/util/LinkedList", name := "get", desc := "(I)Ljava/lang/Object;" } : Jvm.MethodName)) ∈ lw_all := lw_g (lw_at lw_m3 237 rfl) rfl
theorem q835 : (Jvm.Cond.unhidden "java/util/LinkedList" "get" "(I)Ljava/lang/Object;") ∈ lw_tbl := lw_at lw_m3 238 rfl
theorem q836 : (Jvm.Cond.instanceMethod ({ cls := "java/util/LinkedList", name := "get", desc := "(I)Ljava/lang/Object;" } : Jvm.MethodName)) ∈ lw_all := lw_g (lw_at lw_m3 239 rfl) rfl
theorem q837 : (Jvm.Cond.publicMethod ({ cls := "java/util/LinkedList", name := "get", desc := "(I)Ljava/lang/Object;" } : Jvm.MethodName)) ∈ lw_tbl := lw_at lw_m4 0 rfl
theorem q838 : (Jvm.Cond.code ({ cls := "java/util/LinkedList", name := "get", desc := "(I)Ljava/lang/Object;" } : Jvm.MethodName) prog_71_method_22_code (2 : Nat) (Option.some (Jvm.ClassFile.FieldType.object "java/lang/Object"))) ∈ lw_all := lw_g (lw_at lw_m4 1 rfl) rfl
theorem q839 : (Jvm.Cond.methodLink "java/util/LinkedList" (90 : Nat) ({ cls := "java/util/LinkedList", name := "checkElementIndex", desc := "(I)V" } : Jvm.MethodName)) ∈ lw_all := lw_g (lw_at lw_m4 2 rfl) rfl
theorem q840 : (Jvm.Cond.privateMethod ({ cls := "java/util/LinkedList", name := "checkElementIndex", desc := "(I)V" } : Jvm.MethodName)) ∈ lw_tbl := lw_at lw_m4 3 rfl
theorem q841 : (Jvm.Cond.instanceMethod ({ cls := "java/util/LinkedList", name := "checkElementIndex", desc := "(I)V" } : Jvm.MethodName)) ∈ lw_all := lw_g (lw_at lw_m4 4 rfl) rfl
theorem q842 : (Jvm.Cond.code ({ cls := "java/util/LinkedList", name := "checkElementIndex", desc := "(I)V" } : Jvm.MethodName) prog_71_method_29_code (2 : Nat) (Option.none : Option Jvm.ClassFile.FieldType)) ∈ lw_all := lw_g (lw_at lw_m4 5 rfl) rfl
theorem q843 : (Jvm.Cond.methodLink "java/util/LinkedList" (115 : Nat) ({ cls := "java/util/LinkedList", name := "isElementIndex", desc := "(I)Z" } : Jvm.MethodName)) ∈ lw_all := lw_g (lw_at lw_m4 6 rfl) rfl
theorem q844 : (Jvm.Cond.privateMethod ({ cls := "java/util/LinkedList", name := "isElementIndex", desc := "(I)Z" } : Jvm.MethodName)) ∈ lw_tbl := lw_at lw_m4 7 rfl
theorem q845 : (Jvm.Cond.instanceMethod ({ cls := "java/util/LinkedList", name := "isElementIndex", desc := "(I)Z" } : Jvm.MethodName)) ∈ lw_all := lw_g (lw_at lw_m4 8 rfl) rfl
theorem q846 : (Jvm.Cond.code ({ cls := "java/util/LinkedList", name := "isElementIndex", desc := "(I)Z" } : Jvm.MethodName) prog_71_method_26_code (2 : Nat) (Option.some Jvm.ClassFile.FieldType.boolean)) ∈ lw_all := lw_g (lw_at lw_m4 9 rfl) rfl
theorem q847 : (Jvm.Cond.classLink "java/util/LinkedList" (119 : Nat) "java/lang/IndexOutOfBoundsException") ∈ lw_all := lw_g (lw_at lw_m4 10 rfl) rfl
theorem q856 : (Jvm.Cond.methodLink "java/util/LinkedList" (121 : Nat) ({ cls := "java/util/LinkedList", name := "outOfBoundsMsg", desc := "(I)Ljava/lang/String;" } : Jvm.MethodName)) ∈ lw_all := lw_g (lw_at lw_m4 19 rfl) rfl
theorem q857 : (Jvm.Cond.privateMethod ({ cls := "java/util/LinkedList", name := "outOfBoundsMsg", desc := "(I)Ljava/lang/String;" } : Jvm.MethodName)) ∈ lw_tbl := lw_at lw_m4 20 rfl
theorem q858 : (Jvm.Cond.instanceMethod ({ cls := "java/util/LinkedList", name := "outOfBoundsMsg", desc := "(I)Ljava/lang/String;" } : Jvm.MethodName)) ∈ lw_all := lw_g (lw_at lw_m4 21 rfl) rfl
theorem q859 : (Jvm.Cond.code ({ cls := "java/util/LinkedList", name := "outOfBoundsMsg", desc := "(I)Ljava/lang/String;" } : Jvm.MethodName) prog_71_method_28_code (2 : Nat) (Option.some (Jvm.ClassFile.FieldType.object "java/lang/String"))) ∈ lw_all := lw_g (lw_at lw_m4 22 rfl) rfl
theorem q860 : (Jvm.Cond.classLink "java/util/LinkedList" (97 : Nat) "java/lang/StringBuilder") ∈ lw_all := lw_g (lw_at lw_m4 23 rfl) rfl
theorem q861 : (Jvm.Cond.methodLink "java/util/LinkedList" (99 : Nat) ({ cls := "java/lang/StringBuilder", name := "<init>", desc := "()V" } : Jvm.MethodName)) ∈ lw_all := lw_g (lw_at lw_m4 24 rfl) rfl
theorem q862 : (Jvm.Cond.stringRef "java/util/LinkedList" (100 : Nat) "Index: ") ∈ lw_tbl := lw_at lw_m4 25 rfl
theorem q863 : (Jvm.Cond.methodLink "java/util/LinkedList" (102 : Nat) ({ cls := "java/lang/StringBuilder", name := "append", desc := "(Ljava/lang/String;)Ljava/lang/StringBuilder;" } : Jvm.MethodName)) ∈ lw_all := lw_g (lw_at lw_m4 26 rfl) rfl
theorem q864 : (Jvm.Cond.methodLink "java/util/LinkedList" (106 : Nat) ({ cls := "java/lang/StringBuilder", name := "append", desc := "(I)Ljava/lang/StringBuilder;" } : Jvm.MethodName)) ∈ lw_all := lw_g (lw_at lw_m4 27 rfl) rfl
theorem q865 : (Jvm.Cond.stringRef "java/util/LinkedList" (109 : Nat) ", Size: ") ∈ lw_tbl := lw_at lw_m4 28 rfl
theorem q866 : (Jvm.Cond.methodLink "java/util/LinkedList" (111 : Nat) ({ cls := "java/lang/StringBuilder", name := "toString", desc := "()Ljava/lang/String;" } : Jvm.MethodName)) ∈ lw_all := lw_g (lw_at lw_m4 29 rfl) rfl
theorem q867 : (Jvm.Cond.methodLink "java/util/LinkedList" (125 : Nat) ({ cls := "java/lang/IndexOutOfBoundsException", name := "<init>", desc := "(Ljava/lang/String;)V" } : Jvm.MethodName)) ∈ lw_all := lw_g (lw_at lw_m4 30 rfl) rfl
theorem q873 : (Jvm.Cond.methodLink "java/util/LinkedList" (86 : Nat) ({ cls := "java/util/LinkedList", name := "node", desc := "(I)Ljava/util/LinkedList$Node;" } : Jvm.MethodName)) ∈ lw_all := lw_g (lw_at lw_m4 36 rfl) rfl
theorem q874 : (Jvm.Cond.instanceMethod ({ cls := "java/util/LinkedList", name := "node", desc := "(I)Ljava/util/LinkedList$Node;" } : Jvm.MethodName)) ∈ lw_all := lw_g (lw_at lw_m4 37 rfl) rfl
theorem q875 : (Jvm.Cond.selects "java/util/LinkedList" ({ cls := "java/util/LinkedList", name := "node", desc := "(I)Ljava/util/LinkedList$Node;" } : Jvm.MethodName) ({ cls := "java/util/LinkedList", name := "node", desc := "(I)Ljava/util/LinkedList$Node;" } : Jvm.MethodName)) ∈ lw_all := lw_g (lw_at lw_m4 38 rfl) rfl
theorem q876 : (Jvm.Cond.code ({ cls := "java/util/LinkedList", name := "node", desc := "(I)Ljava/util/LinkedList$Node;" } : Jvm.MethodName) prog_71_method_31_code (4 : Nat) (Option.some (Jvm.ClassFile.FieldType.object "java/util/LinkedList$Node"))) ∈ lw_all := lw_g (lw_at lw_m4 39 rfl) rfl
theorem q1086 : (Jvm.Cond.selects "java/util/LinkedList" ({ cls := "java/lang/Object", name := "getClass", desc := "()Ljava/lang/Class;" } : Jvm.MethodName) ({ cls := "java/lang/Object", name := "getClass", desc := "()Ljava/lang/Class;" } : Jvm.MethodName)) ∈ lw_all := lw_g (lw_at lw_m5 9 rfl) rfl
theorem q1098 : (Jvm.Cond.selects "java/util/LinkedList" ({ cls := "java/util/List", name := "add", desc := "(Ljava/lang/Object;)Z" } : Jvm.MethodName) ({ cls := "java/util/LinkedList", name := "add", desc := "(Ljava/lang/Object;)Z" } : Jvm.MethodName)) ∈ lw_all := lw_g (lw_at lw_m5 21 rfl) rfl
theorem q1099 : (Jvm.Cond.unhidden "java/util/LinkedList" "add" "(Ljava/lang/Object;)Z") ∈ lw_tbl := lw_at lw_m5 22 rfl
theorem q1100 : (Jvm.Cond.instanceMethod ({ cls := "java/util/LinkedList", name := "add", desc := "(Ljava/lang/Object;)Z" } : Jvm.MethodName)) ∈ lw_all := lw_g (lw_at lw_m5 23 rfl) rfl
theorem q1101 : (Jvm.Cond.publicMethod ({ cls := "java/util/LinkedList", name := "add", desc := "(Ljava/lang/Object;)Z" } : Jvm.MethodName)) ∈ lw_tbl := lw_at lw_m5 24 rfl
theorem q1102 : (Jvm.Cond.code ({ cls := "java/util/LinkedList", name := "add", desc := "(Ljava/lang/Object;)Z" } : Jvm.MethodName) prog_71_method_17_code (2 : Nat) (Option.some Jvm.ClassFile.FieldType.boolean)) ∈ lw_all := lw_g (lw_at lw_m5 25 rfl) rfl
theorem q1103 : (Jvm.Cond.methodLink "java/util/LinkedList" (57 : Nat) ({ cls := "java/util/LinkedList", name := "linkLast", desc := "(Ljava/lang/Object;)V" } : Jvm.MethodName)) ∈ lw_all := lw_g (lw_at lw_m5 26 rfl) rfl
theorem q1104 : (Jvm.Cond.instanceMethod ({ cls := "java/util/LinkedList", name := "linkLast", desc := "(Ljava/lang/Object;)V" } : Jvm.MethodName)) ∈ lw_all := lw_g (lw_at lw_m5 27 rfl) rfl
theorem q1105 : (Jvm.Cond.selects "java/util/LinkedList" ({ cls := "java/util/LinkedList", name := "linkLast", desc := "(Ljava/lang/Object;)V" } : Jvm.MethodName) ({ cls := "java/util/LinkedList", name := "linkLast", desc := "(Ljava/lang/Object;)V" } : Jvm.MethodName)) ∈ lw_all := lw_g (lw_at lw_m5 28 rfl) rfl
theorem q1106 : (Jvm.Cond.code ({ cls := "java/util/LinkedList", name := "linkLast", desc := "(Ljava/lang/Object;)V" } : Jvm.MethodName) prog_71_method_4_code (4 : Nat) (Option.none : Option Jvm.ClassFile.FieldType)) ∈ lw_all := lw_g (lw_at lw_m5 29 rfl) rfl
theorem q1107 : (Jvm.Cond.classLink "java/util/LinkedList" (22 : Nat) "java/util/LinkedList$Node") ∈ lw_all := lw_g (lw_at lw_m5 30 rfl) rfl
theorem q1109 : (Jvm.Cond.methodLink "java/util/LinkedList" (24 : Nat) ({ cls := "java/util/LinkedList$Node", name := "<init>", desc := "(Ljava/util/LinkedList$Node;Ljava/lang/Object;Ljava/util/LinkedList$Node;)V" } : Jvm.MethodName)) ∈ lw_all := lw_g (lw_at lw_m5 32 rfl) rfl
theorem q1115 : (Jvm.Cond.fieldLink "java/util/LinkedList" (39 : Nat) "java/util/LinkedList$Node" "item" "Ljava/lang/Object;") ∈ lw_all := lw_g (lw_at lw_m5 38 rfl) rfl
theorem q1118 : (Jvm.Cond.fieldLink "java/util/LinkedList" (36 : Nat) "java/util/LinkedList$Node" "next" "Ljava/util/LinkedList$Node;") ∈ lw_all := lw_g (lw_at lw_m5 41 rfl) rfl
theorem q1120 : (Jvm.Cond.fieldLink "java/util/LinkedList" (30 : Nat) "java/util/LinkedList$Node" "prev" "Ljava/util/LinkedList$Node;") ∈ lw_all := lw_g (lw_at lw_m5 43 rfl) rfl
theorem q1412 : (Jvm.Cond.selects "java/util/LinkedList" ({ cls := "java/util/List", name := "iterator", desc := "()Ljava/util/Iterator;" } : Jvm.MethodName) ({ cls := "java/util/AbstractSequentialList", name := "iterator", desc := "()Ljava/util/Iterator;" } : Jvm.MethodName)) ∈ lw_all := lw_g (lw_at lw_m6 95 rfl) rfl
theorem q1413 : (Jvm.Cond.unhidden "java/util/LinkedList" "iterator" "()Ljava/util/Iterator;") ∈ lw_tbl := lw_at lw_m6 96 rfl
theorem q1420 : (Jvm.Cond.selects "java/util/LinkedList" ({ cls := "java/util/AbstractSequentialList", name := "listIterator", desc := "()Ljava/util/ListIterator;" } : Jvm.MethodName) ({ cls := "java/util/AbstractList", name := "listIterator", desc := "()Ljava/util/ListIterator;" } : Jvm.MethodName)) ∈ lw_all := lw_g (lw_at lw_m6 103 rfl) rfl
theorem q1460 : (Jvm.Cond.selects "java/util/LinkedList" ({ cls := "java/util/AbstractList", name := "listIterator", desc := "(I)Ljava/util/ListIterator;" } : Jvm.MethodName) ({ cls := "java/util/LinkedList", name := "listIterator", desc := "(I)Ljava/util/ListIterator;" } : Jvm.MethodName)) ∈ lw_all := lw_g (lw_at lw_m6 143 rfl) rfl
theorem q1461 : (Jvm.Cond.instanceMethod ({ cls := "java/util/LinkedList", name := "listIterator", desc := "(I)Ljava/util/ListIterator;" } : Jvm.MethodName)) ∈ lw_all := lw_g (lw_at lw_m6 144 rfl) rfl
theorem q1462 : (Jvm.Cond.code ({ cls := "java/util/LinkedList", name := "listIterator", desc := "(I)Ljava/util/ListIterator;" } : Jvm.MethodName) prog_71_method_49_code (2 : Nat) (Option.some (Jvm.ClassFile.FieldType.object "java/util/ListIterator"))) ∈ lw_all := lw_g (lw_at lw_m6 145 rfl) rfl
theorem q1463 : (Jvm.Cond.methodLink "java/util/LinkedList" (76 : Nat) ({ cls := "java/util/LinkedList", name := "checkPositionIndex", desc := "(I)V" } : Jvm.MethodName)) ∈ lw_all := lw_g (lw_at lw_m6 146 rfl) rfl
theorem q1464 : (Jvm.Cond.privateMethod ({ cls := "java/util/LinkedList", name := "checkPositionIndex", desc := "(I)V" } : Jvm.MethodName)) ∈ lw_tbl := lw_at lw_m6 147 rfl
theorem q1465 : (Jvm.Cond.instanceMethod ({ cls := "java/util/LinkedList", name := "checkPositionIndex", desc := "(I)V" } : Jvm.MethodName)) ∈ lw_all := lw_g (lw_at lw_m6 148 rfl) rfl
theorem q1466 : (Jvm.Cond.code ({ cls := "java/util/LinkedList", name := "checkPositionIndex", desc := "(I)V" } : Jvm.MethodName) prog_71_method_30_code (2 : Nat) (Option.none : Option Jvm.ClassFile.FieldType)) ∈ lw_all := lw_g (lw_at lw_m6 149 rfl) rfl
theorem q1467 : (Jvm.Cond.methodLink "java/util/LinkedList" (128 : Nat) ({ cls := "java/util/LinkedList", name := "isPositionIndex", desc := "(I)Z" } : Jvm.MethodName)) ∈ lw_all := lw_g (lw_at lw_m6 150 rfl) rfl
theorem q1468 : (Jvm.Cond.privateMethod ({ cls := "java/util/LinkedList", name := "isPositionIndex", desc := "(I)Z" } : Jvm.MethodName)) ∈ lw_tbl := lw_at lw_m6 151 rfl
theorem q1469 : (Jvm.Cond.instanceMethod ({ cls := "java/util/LinkedList", name := "isPositionIndex", desc := "(I)Z" } : Jvm.MethodName)) ∈ lw_all := lw_g (lw_at lw_m6 152 rfl) rfl
theorem q1470 : (Jvm.Cond.code ({ cls := "java/util/LinkedList", name := "isPositionIndex", desc := "(I)Z" } : Jvm.MethodName) prog_71_method_27_code (2 : Nat) (Option.some Jvm.ClassFile.FieldType.boolean)) ∈ lw_all := lw_g (lw_at lw_m6 153 rfl) rfl
theorem q1471 : (Jvm.Cond.classLink "java/util/LinkedList" (150 : Nat) "java/util/LinkedList$ListItr") ∈ lw_all := lw_g (lw_at lw_m6 154 rfl) rfl
theorem q1473 : (Jvm.Cond.methodLink "java/util/LinkedList" (152 : Nat) ({ cls := "java/util/LinkedList$ListItr", name := "<init>", desc := "(Ljava/util/LinkedList;I)V" } : Jvm.MethodName)) ∈ lw_all := lw_g (lw_at lw_m6 156 rfl) rfl
theorem q1509 : (Jvm.Cond.selects "java/util/LinkedList" ({ cls := "java/util/AbstractList", name := "size", desc := "()I" } : Jvm.MethodName) ({ cls := "java/util/LinkedList", name := "size", desc := "()I" } : Jvm.MethodName)) ∈ lw_all := lw_g (lw_at lw_m6 192 rfl) rfl
theorem q1549 : (Jvm.Cond.selects "java/util/LinkedList" ({ cls := "java/util/AbstractList", name := "get", desc := "(I)Ljava/lang/Object;" } : Jvm.MethodName) ({ cls := "java/util/LinkedList", name := "get", desc := "(I)Ljava/lang/Object;" } : Jvm.MethodName)) ∈ lw_all := lw_g (lw_at lw_m6 232 rfl) rfl
theorem q2427 : (Jvm.Cond.selects "java/util/LinkedList" ({ cls := "java/util/AbstractList", name := "add", desc := "(ILjava/lang/Object;)V" } : Jvm.MethodName) ({ cls := "java/util/LinkedList", name := "add", desc := "(ILjava/lang/Object;)V" } : Jvm.MethodName)) ∈ lw_all := lw_g (lw_at lw_m10 150 rfl) rfl
theorem q2428 : (Jvm.Cond.instanceMethod ({ cls := "java/util/LinkedList", name := "add", desc := "(ILjava/lang/Object;)V" } : Jvm.MethodName)) ∈ lw_all := lw_g (lw_at lw_m10 151 rfl) rfl
theorem q2429 : (Jvm.Cond.code ({ cls := "java/util/LinkedList", name := "add", desc := "(ILjava/lang/Object;)V" } : Jvm.MethodName) prog_71_method_24_code (3 : Nat) (Option.none : Option Jvm.ClassFile.FieldType)) ∈ lw_all := lw_g (lw_at lw_m10 152 rfl) rfl
theorem q2430 : (Jvm.Cond.methodLink "java/util/LinkedList" (93 : Nat) ({ cls := "java/util/LinkedList", name := "linkBefore", desc := "(Ljava/lang/Object;Ljava/util/LinkedList$Node;)V" } : Jvm.MethodName)) ∈ lw_all := lw_g (lw_at lw_m10 153 rfl) rfl
theorem q2431 : (Jvm.Cond.instanceMethod ({ cls := "java/util/LinkedList", name := "linkBefore", desc := "(Ljava/lang/Object;Ljava/util/LinkedList$Node;)V" } : Jvm.MethodName)) ∈ lw_all := lw_g (lw_at lw_m10 154 rfl) rfl
theorem q2432 : (Jvm.Cond.selects "java/util/LinkedList" ({ cls := "java/util/LinkedList", name := "linkBefore", desc := "(Ljava/lang/Object;Ljava/util/LinkedList$Node;)V" } : Jvm.MethodName) ({ cls := "java/util/LinkedList", name := "linkBefore", desc := "(Ljava/lang/Object;Ljava/util/LinkedList$Node;)V" } : Jvm.MethodName)) ∈ lw_all := lw_g (lw_at lw_m10 155 rfl) rfl
theorem q2433 : (Jvm.Cond.code ({ cls := "java/util/LinkedList", name := "linkBefore", desc := "(Ljava/lang/Object;Ljava/util/LinkedList$Node;)V" } : Jvm.MethodName) prog_71_method_5_code (5 : Nat) (Option.none : Option Jvm.ClassFile.FieldType)) ∈ lw_all := lw_g (lw_at lw_m10 156 rfl) rfl
theorem q2576 : (Jvm.Cond.instanceMethod ({ cls := "java/util/LinkedList", name := "addLast", desc := "(Ljava/lang/Object;)V" } : Jvm.MethodName)) ∈ lw_all := lw_g (lw_at lw_m11 59 rfl) rfl
theorem q2577 : (Jvm.Cond.selects "java/util/LinkedList" ({ cls := "java/util/LinkedList", name := "addLast", desc := "(Ljava/lang/Object;)V" } : Jvm.MethodName) ({ cls := "java/util/LinkedList", name := "addLast", desc := "(Ljava/lang/Object;)V" } : Jvm.MethodName)) ∈ lw_all := lw_g (lw_at lw_m11 60 rfl) rfl
theorem q2578 : (Jvm.Cond.code ({ cls := "java/util/LinkedList", name := "addLast", desc := "(Ljava/lang/Object;)V" } : Jvm.MethodName) prog_71_method_14_code (2 : Nat) (Option.none : Option Jvm.ClassFile.FieldType)) ∈ lw_all := lw_g (lw_at lw_m11 61 rfl) rfl
theorem q2666 : (Jvm.Cond.instanceMethod ({ cls := "java/util/LinkedList", name := "removeFirst", desc := "()Ljava/lang/Object;" } : Jvm.MethodName)) ∈ lw_all := lw_g (lw_at lw_m11 149 rfl) rfl
theorem q2667 : (Jvm.Cond.selects "java/util/LinkedList" ({ cls := "java/util/LinkedList", name := "removeFirst", desc := "()Ljava/lang/Object;" } : Jvm.MethodName) ({ cls := "java/util/LinkedList", name := "removeFirst", desc := "()Ljava/lang/Object;" } : Jvm.MethodName)) ∈ lw_all := lw_g (lw_at lw_m11 150 rfl) rfl
theorem q2668 : (Jvm.Cond.code ({ cls := "java/util/LinkedList", name := "removeFirst", desc := "()Ljava/lang/Object;" } : Jvm.MethodName) prog_71_method_11_code (2 : Nat) (Option.some (Jvm.ClassFile.FieldType.object "java/lang/Object"))) ∈ lw_all := lw_g (lw_at lw_m11 151 rfl) rfl
theorem q2669 : (Jvm.Cond.classLink "java/util/LinkedList" (43 : Nat) "java/util/NoSuchElementException") ∈ lw_all := lw_g (lw_at lw_m11 152 rfl) rfl
theorem q2670 : (Jvm.Cond.methodLink "java/util/LinkedList" (45 : Nat) ({ cls := "java/util/NoSuchElementException", name := "<init>", desc := "()V" } : Jvm.MethodName)) ∈ lw_all := lw_g (lw_at lw_m11 153 rfl) rfl
theorem q2671 : (Jvm.Cond.methodLink "java/util/LinkedList" (46 : Nat) ({ cls := "java/util/LinkedList", name := "unlinkFirst", desc := "(Ljava/util/LinkedList$Node;)Ljava/lang/Object;" } : Jvm.MethodName)) ∈ lw_all := lw_g (lw_at lw_m11 154 rfl) rfl
theorem q2672 : (Jvm.Cond.privateMethod ({ cls := "java/util/LinkedList", name := "unlinkFirst", desc := "(Ljava/util/LinkedList$Node;)Ljava/lang/Object;" } : Jvm.MethodName)) ∈ lw_tbl := lw_at lw_m11 155 rfl
theorem q2673 : (Jvm.Cond.instanceMethod ({ cls := "java/util/LinkedList", name := "unlinkFirst", desc := "(Ljava/util/LinkedList$Node;)Ljava/lang/Object;" } : Jvm.MethodName)) ∈ lw_all := lw_g (lw_at lw_m11 156 rfl) rfl
theorem q2674 : (Jvm.Cond.code ({ cls := "java/util/LinkedList", name := "unlinkFirst", desc := "(Ljava/util/LinkedList$Node;)Ljava/lang/Object;" } : Jvm.MethodName) prog_71_method_6_code (4 : Nat) (Option.some (Jvm.ClassFile.FieldType.object "java/lang/Object"))) ∈ lw_all := lw_g (lw_at lw_m11 157 rfl) rfl
theorem q3459 : (Jvm.Cond.selects "java/util/LinkedList" ({ cls := "java/util/LinkedList", name := "clear", desc := "()V" } : Jvm.MethodName) ({ cls := "java/util/LinkedList", name := "clear", desc := "()V" } : Jvm.MethodName)) ∈ lw_all := lw_g (lw_at lw_m14 222 rfl) rfl
theorem q3460 : (Jvm.Cond.selects "java/util/LinkedList" ({ cls := "java/util/LinkedList", name := "size", desc := "()I" } : Jvm.MethodName) ({ cls := "java/util/LinkedList", name := "size", desc := "()I" } : Jvm.MethodName)) ∈ lw_all := lw_g (lw_at lw_m14 223 rfl) rfl
theorem q3461 : (Jvm.Cond.selects "java/util/LinkedList" ({ cls := "java/util/LinkedList", name := "get", desc := "(I)Ljava/lang/Object;" } : Jvm.MethodName) ({ cls := "java/util/LinkedList", name := "get", desc := "(I)Ljava/lang/Object;" } : Jvm.MethodName)) ∈ lw_all := lw_g (lw_at lw_m14 224 rfl) rfl
theorem q3462 : (Jvm.Cond.selects "java/util/LinkedList" ({ cls := "java/util/LinkedList", name := "listIterator", desc := "(I)Ljava/util/ListIterator;" } : Jvm.MethodName) ({ cls := "java/util/LinkedList", name := "listIterator", desc := "(I)Ljava/util/ListIterator;" } : Jvm.MethodName)) ∈ lw_all := lw_g (lw_at lw_m14 225 rfl) rfl
theorem q3479 : (Jvm.Cond.castable "java/util/LinkedList" "java/lang/Object") ∈ lw_tbl := lw_at lw_m15 2 rfl
theorem in_J4 : ∀ w ∈ wsJ40, w ∈ lw_all := lw_in wsJ40 [253, 247, 249, 251] (by decide +kernel) (by decide +kernel)

/-! java/util/ArrayDeque -/
def RJ5 : String := "java/util/ArrayDeque"
def TJ5 : u_T := fun k => match k with
  | 0 => ("java/util/ArrayDeque", "elements", "[Ljava/lang/Object;", false)
  | 1 => ("java/util/ArrayDeque", "head", "I", false)
  | _ => ("java/util/ArrayDeque", "tail", "I", false)
def tyJ5 : Nat → FieldType := fun k => match k with
  | 0 => .array (.object "java/lang/Object")
  | 1 => .int
  | _ => .int
abbrev wsJ50 : List Cond := u_ws RJ5 TJ5 3
theorem nmJ5 : ∀ a, a < 3 → ∀ b, b < 3 → a ≠ b → (TJ5 a).2.1 ≠ (TJ5 b).2.1 := by decide +kernel
theorem tyJ5_ok : ∀ k, k < 3 → parseFieldDescriptor (TJ5 k).2.2.1 = some (tyJ5 k) := by decide +kernel
abbrev cJ5_init : ByteArray := prog_59_method_3_code
def yJ5_init : MethodName := ⟨RJ5, "<init>", "()V"⟩
def dkwJ5_init_0 : List UInt8 := [42, 183, 0, 42, 42, 16, 17, 189, 0, 47, 181, 0, 3, 177]
abbrev dktJ5_init_0 : List UInt8 := dkwJ5_init_0 ++ []
theorem dksJ5_init_0 : cJ5_init.data.toList.drop 0 = dktJ5_init_0 := by decide +kernel
theorem dJ5_init_0 : decode cJ5_init 0 = .ok (.aload_n 0, 1) := dk_42 (dk_at dksJ5_init_0 0 rfl rfl)
theorem dJ5_init_1 : decode cJ5_init 1 = .ok (.invokespecial 42, 3) := dk_183 0 42 (dk_at dksJ5_init_0 1 rfl rfl)
theorem dJ5_init_4 : decode cJ5_init 4 = .ok (.aload_n 0, 1) := dk_42 (dk_at dksJ5_init_0 4 rfl rfl)
theorem dJ5_init_5 : decode cJ5_init 5 = .ok (.bipush 17, 2) := dk_16 17 (dk_at dksJ5_init_0 5 rfl rfl)
theorem dJ5_init_7 : decode cJ5_init 7 = .ok (.anewarray 47, 3) := dk_189 0 47 (dk_at dksJ5_init_0 7 rfl rfl)
theorem dJ5_init_10 : decode cJ5_init 10 = .ok (.putfield 3, 3) := dk_181 0 3 (dk_at dksJ5_init_0 10 rfl rfl)
theorem dJ5_init_13 : decode cJ5_init 13 = .ok (.return_, 1) := dk_177 (dk_at dksJ5_init_0 13 rfl rfl)
abbrev cJ5_size : ByteArray := prog_59_method_37_code
def yJ5_size : MethodName := ⟨RJ5, "size", "()I"⟩
def dkwJ5_size_0 : List UInt8 := [42, 180, 0, 20, 42, 180, 0, 24, 42, 180, 0, 3, 190, 184, 0, 127, 172]
abbrev dktJ5_size_0 : List UInt8 := dkwJ5_size_0 ++ []
theorem dksJ5_size_0 : cJ5_size.data.toList.drop 0 = dktJ5_size_0 := by decide +kernel
theorem dJ5_size_0 : decode cJ5_size 0 = .ok (.aload_n 0, 1) := dk_42 (dk_at dksJ5_size_0 0 rfl rfl)
theorem dJ5_size_1 : decode cJ5_size 1 = .ok (.getfield 20, 3) := dk_180 0 20 (dk_at dksJ5_size_0 1 rfl rfl)
theorem dJ5_size_4 : decode cJ5_size 4 = .ok (.aload_n 0, 1) := dk_42 (dk_at dksJ5_size_0 4 rfl rfl)
theorem dJ5_size_5 : decode cJ5_size 5 = .ok (.getfield 24, 3) := dk_180 0 24 (dk_at dksJ5_size_0 5 rfl rfl)
theorem dJ5_size_8 : decode cJ5_size 8 = .ok (.aload_n 0, 1) := dk_42 (dk_at dksJ5_size_0 8 rfl rfl)
theorem dJ5_size_9 : decode cJ5_size 9 = .ok (.getfield 3, 3) := dk_180 0 3 (dk_at dksJ5_size_0 9 rfl rfl)
theorem dJ5_size_12 : decode cJ5_size 12 = .ok (.arraylength, 1) := dk_190 (dk_at dksJ5_size_0 12 rfl rfl)
theorem dJ5_size_13 : decode cJ5_size 13 = .ok (.invokestatic 127, 3) := dk_184 0 127 (dk_at dksJ5_size_0 13 rfl rfl)
theorem dJ5_size_16 : decode cJ5_size 16 = .ok (.ireturn, 1) := dk_172 (dk_at dksJ5_size_0 16 rfl rfl)
abbrev cJ5_sub : ByteArray := prog_59_method_9_code
def yJ5_sub : MethodName := ⟨RJ5, "sub", "(III)I"⟩
def dkwJ5_sub_0 : List UInt8 := [26, 27, 100, 89, 59, 156, 0, 7, 26, 28, 96, 59, 26, 172]
abbrev dktJ5_sub_0 : List UInt8 := dkwJ5_sub_0 ++ []
theorem dksJ5_sub_0 : cJ5_sub.data.toList.drop 0 = dktJ5_sub_0 := by decide +kernel
theorem dJ5_sub_0 : decode cJ5_sub 0 = .ok (.iload_n 0, 1) := dk_26 (dk_at dksJ5_sub_0 0 rfl rfl)
theorem dJ5_sub_1 : decode cJ5_sub 1 = .ok (.iload_n 1, 1) := dk_27 (dk_at dksJ5_sub_0 1 rfl rfl)
theorem dJ5_sub_2 : decode cJ5_sub 2 = .ok (.isub, 1) := dk_100 (dk_at dksJ5_sub_0 2 rfl rfl)
theorem dJ5_sub_3 : decode cJ5_sub 3 = .ok (.dup, 1) := dk_89 (dk_at dksJ5_sub_0 3 rfl rfl)
theorem dJ5_sub_4 : decode cJ5_sub 4 = .ok (.istore_n 0, 1) := dk_59 (dk_at dksJ5_sub_0 4 rfl rfl)
theorem dJ5_sub_5 : decode cJ5_sub 5 = .ok (.ifCond .ge 7, 3) := dk_156 0 7 (dk_at dksJ5_sub_0 5 rfl rfl)
theorem dJ5_sub_8 : decode cJ5_sub 8 = .ok (.iload_n 0, 1) := dk_26 (dk_at dksJ5_sub_0 8 rfl rfl)
theorem dJ5_sub_9 : decode cJ5_sub 9 = .ok (.iload_n 2, 1) := dk_28 (dk_at dksJ5_sub_0 9 rfl rfl)
theorem dJ5_sub_10 : decode cJ5_sub 10 = .ok (.iadd, 1) := dk_96 (dk_at dksJ5_sub_0 10 rfl rfl)
theorem dJ5_sub_11 : decode cJ5_sub 11 = .ok (.istore_n 0, 1) := dk_59 (dk_at dksJ5_sub_0 11 rfl rfl)
theorem dJ5_sub_12 : decode cJ5_sub 12 = .ok (.iload_n 0, 1) := dk_26 (dk_at dksJ5_sub_0 12 rfl rfl)
theorem dJ5_sub_13 : decode cJ5_sub 13 = .ok (.ireturn, 1) := dk_172 (dk_at dksJ5_sub_0 13 rfl rfl)
abbrev cJ5_nonNullElementAt : ByteArray := prog_59_method_11_code
def yJ5_nonNullElementAt : MethodName := ⟨RJ5, "nonNullElementAt", "([Ljava/lang/Object;I)Ljava/lang/Object;"⟩
def dkwJ5_nonNullElementAt_0 : List UInt8 := [42, 27, 50, 77, 44, 199, 0, 11, 187, 0, 62, 89, 183, 0, 64, 191, 44, 176]
abbrev dktJ5_nonNullElementAt_0 : List UInt8 := dkwJ5_nonNullElementAt_0 ++ []
theorem dksJ5_nonNullElementAt_0 : cJ5_nonNullElementAt.data.toList.drop 0 = dktJ5_nonNullElementAt_0 := by decide +kernel
theorem dJ5_nonNullElementAt_0 : decode cJ5_nonNullElementAt 0 = .ok (.aload_n 0, 1) := dk_42 (dk_at dksJ5_nonNullElementAt_0 0 rfl rfl)
theorem dJ5_nonNullElementAt_1 : decode cJ5_nonNullElementAt 1 = .ok (.iload_n 1, 1) := dk_27 (dk_at dksJ5_nonNullElementAt_0 1 rfl rfl)
theorem dJ5_nonNullElementAt_2 : decode cJ5_nonNullElementAt 2 = .ok (.aaload, 1) := dk_50 (dk_at dksJ5_nonNullElementAt_0 2 rfl rfl)
theorem dJ5_nonNullElementAt_3 : decode cJ5_nonNullElementAt 3 = .ok (.astore_n 2, 1) := dk_77 (dk_at dksJ5_nonNullElementAt_0 3 rfl rfl)
theorem dJ5_nonNullElementAt_4 : decode cJ5_nonNullElementAt 4 = .ok (.aload_n 2, 1) := dk_44 (dk_at dksJ5_nonNullElementAt_0 4 rfl rfl)
theorem dJ5_nonNullElementAt_5 : decode cJ5_nonNullElementAt 5 = .ok (.ifnonnull 11, 3) := dk_199 0 11 (dk_at dksJ5_nonNullElementAt_0 5 rfl rfl)
theorem dJ5_nonNullElementAt_8 : decode cJ5_nonNullElementAt 8 = .ok (.new 62, 3) := dk_187 0 62 (dk_at dksJ5_nonNullElementAt_0 8 rfl rfl)
theorem dJ5_nonNullElementAt_11 : decode cJ5_nonNullElementAt 11 = .ok (.dup, 1) := dk_89 (dk_at dksJ5_nonNullElementAt_0 11 rfl rfl)
theorem dJ5_nonNullElementAt_12 : decode cJ5_nonNullElementAt 12 = .ok (.invokespecial 64, 3) := dk_183 0 64 (dk_at dksJ5_nonNullElementAt_0 12 rfl rfl)
theorem dJ5_nonNullElementAt_15 : decode cJ5_nonNullElementAt 15 = .ok (.athrow, 1) := dk_191 (dk_at dksJ5_nonNullElementAt_0 15 rfl rfl)
theorem dJ5_nonNullElementAt_16 : decode cJ5_nonNullElementAt 16 = .ok (.aload_n 2, 1) := dk_44 (dk_at dksJ5_nonNullElementAt_0 16 rfl rfl)
theorem dJ5_nonNullElementAt_17 : decode cJ5_nonNullElementAt 17 = .ok (.areturn, 1) := dk_176 (dk_at dksJ5_nonNullElementAt_0 17 rfl rfl)
abbrev cJ5_dec : ByteArray := prog_59_method_7_code
def yJ5_dec : MethodName := ⟨RJ5, "dec", "(II)I"⟩
def dkwJ5_dec_0 : List UInt8 := [132, 0, 255, 26, 156, 0, 7, 27, 4, 100, 59, 26, 172]
abbrev dktJ5_dec_0 : List UInt8 := dkwJ5_dec_0 ++ []
theorem dksJ5_dec_0 : cJ5_dec.data.toList.drop 0 = dktJ5_dec_0 := by decide +kernel
theorem dJ5_dec_0 : decode cJ5_dec 0 = .ok (.iinc 0 (-1), 3) := dk_132 0 255 (dk_at dksJ5_dec_0 0 rfl rfl)
theorem dJ5_dec_3 : decode cJ5_dec 3 = .ok (.iload_n 0, 1) := dk_26 (dk_at dksJ5_dec_0 3 rfl rfl)
theorem dJ5_dec_4 : decode cJ5_dec 4 = .ok (.ifCond .ge 7, 3) := dk_156 0 7 (dk_at dksJ5_dec_0 4 rfl rfl)
theorem dJ5_dec_7 : decode cJ5_dec 7 = .ok (.iload_n 1, 1) := dk_27 (dk_at dksJ5_dec_0 7 rfl rfl)
theorem dJ5_dec_8 : decode cJ5_dec 8 = .ok (.iconst 1, 1) := dk_4 (dk_at dksJ5_dec_0 8 rfl rfl)
theorem dJ5_dec_9 : decode cJ5_dec 9 = .ok (.isub, 1) := dk_100 (dk_at dksJ5_dec_0 9 rfl rfl)
theorem dJ5_dec_10 : decode cJ5_dec 10 = .ok (.istore_n 0, 1) := dk_59 (dk_at dksJ5_dec_0 10 rfl rfl)
theorem dJ5_dec_11 : decode cJ5_dec 11 = .ok (.iload_n 0, 1) := dk_26 (dk_at dksJ5_dec_0 11 rfl rfl)
theorem dJ5_dec_12 : decode cJ5_dec 12 = .ok (.ireturn, 1) := dk_172 (dk_at dksJ5_dec_0 12 rfl rfl)
abbrev cJ5_clear : ByteArray := prog_59_method_53_code
def yJ5_clear : MethodName := ⟨RJ5, "clear", "()V"⟩
def dkwJ5_clear_1 : List UInt8 := [181, 0, 24, 177]
abbrev dktJ5_clear_1 : List UInt8 := dkwJ5_clear_1 ++ []
def dkwJ5_clear_0 : List UInt8 := [42, 180, 0, 3, 42, 180, 0, 24, 42, 180, 0, 20, 184, 0, 181, 42, 42, 3, 90, 181, 0, 20]
abbrev dktJ5_clear_0 : List UInt8 := dkwJ5_clear_0 ++ dktJ5_clear_1
theorem dksJ5_clear_0 : cJ5_clear.data.toList.drop 0 = dktJ5_clear_0 := by decide +kernel
theorem dksJ5_clear_1 : cJ5_clear.data.toList.drop 22 = dktJ5_clear_1 := dk_seg dksJ5_clear_0 22 rfl rfl
theorem dJ5_clear_0 : decode cJ5_clear 0 = .ok (.aload_n 0, 1) := dk_42 (dk_at dksJ5_clear_0 0 rfl rfl)
theorem dJ5_clear_1 : decode cJ5_clear 1 = .ok (.getfield 3, 3) := dk_180 0 3 (dk_at dksJ5_clear_0 1 rfl rfl)
theorem dJ5_clear_4 : decode cJ5_clear 4 = .ok (.aload_n 0, 1) := dk_42 (dk_at dksJ5_clear_0 4 rfl rfl)
theorem dJ5_clear_5 : decode cJ5_clear 5 = .ok (.getfield 24, 3) := dk_180 0 24 (dk_at dksJ5_clear_0 5 rfl rfl)
theorem dJ5_clear_8 : decode cJ5_clear 8 = .ok (.aload_n 0, 1) := dk_42 (dk_at dksJ5_clear_0 8 rfl rfl)
theorem dJ5_clear_9 : decode cJ5_clear 9 = .ok (.getfield 20, 3) := dk_180 0 20 (dk_at dksJ5_clear_0 9 rfl rfl)
theorem dJ5_clear_12 : decode cJ5_clear 12 = .ok (.invokestatic 181, 3) := dk_184 0 181 (dk_at dksJ5_clear_0 12 rfl rfl)
theorem dJ5_clear_15 : decode cJ5_clear 15 = .ok (.aload_n 0, 1) := dk_42 (dk_at dksJ5_clear_0 15 rfl rfl)
theorem dJ5_clear_16 : decode cJ5_clear 16 = .ok (.aload_n 0, 1) := dk_42 (dk_at dksJ5_clear_0 16 rfl rfl)
theorem dJ5_clear_17 : decode cJ5_clear 17 = .ok (.iconst 0, 1) := dk_3 (dk_at dksJ5_clear_0 17 rfl rfl)
theorem dJ5_clear_18 : decode cJ5_clear 18 = .ok (.dup_x1, 1) := dk_90 (dk_at dksJ5_clear_0 18 rfl rfl)
theorem dJ5_clear_19 : decode cJ5_clear 19 = .ok (.putfield 20, 3) := dk_181 0 20 (dk_at dksJ5_clear_0 19 rfl rfl)
theorem dJ5_clear_22 : decode cJ5_clear 22 = .ok (.putfield 24, 3) := dk_181 0 24 (dk_at dksJ5_clear_1 0 rfl rfl)
theorem dJ5_clear_25 : decode cJ5_clear 25 = .ok (.return_, 1) := dk_177 (dk_at dksJ5_clear_1 3 rfl rfl)
abbrev cJ5_circularClear : ByteArray := prog_59_method_54_code
def yJ5_circularClear : MethodName := ⟨RJ5, "circularClear", "([Ljava/lang/Object;II)V"⟩
def dkwJ5_circularClear_1 : List UInt8 := [167, 255, 244, 29, 28, 160, 0, 6, 167, 0, 10, 3, 60, 28, 62, 167, 255, 229, 177]
abbrev dktJ5_circularClear_1 : List UInt8 := dkwJ5_circularClear_1 ++ []
def dkwJ5_circularClear_0 : List UInt8 := [27, 28, 163, 0, 7, 28, 167, 0, 5, 42, 190, 62, 27, 29, 162, 0, 13, 42, 27, 1, 83, 132, 1, 1]
abbrev dktJ5_circularClear_0 : List UInt8 := dkwJ5_circularClear_0 ++ dktJ5_circularClear_1
theorem dksJ5_circularClear_0 : cJ5_circularClear.data.toList.drop 0 = dktJ5_circularClear_0 := by decide +kernel
theorem dksJ5_circularClear_1 : cJ5_circularClear.data.toList.drop 24 = dktJ5_circularClear_1 := dk_seg dksJ5_circularClear_0 24 rfl rfl
theorem dJ5_circularClear_0 : decode cJ5_circularClear 0 = .ok (.iload_n 1, 1) := dk_27 (dk_at dksJ5_circularClear_0 0 rfl rfl)
theorem dJ5_circularClear_1 : decode cJ5_circularClear 1 = .ok (.iload_n 2, 1) := dk_28 (dk_at dksJ5_circularClear_0 1 rfl rfl)
theorem dJ5_circularClear_2 : decode cJ5_circularClear 2 = .ok (.if_icmp .gt 7, 3) := dk_163 0 7 (dk_at dksJ5_circularClear_0 2 rfl rfl)
theorem dJ5_circularClear_5 : decode cJ5_circularClear 5 = .ok (.iload_n 2, 1) := dk_28 (dk_at dksJ5_circularClear_0 5 rfl rfl)
theorem dJ5_circularClear_6 : decode cJ5_circularClear 6 = .ok (.goto 5, 3) := dk_167 0 5 (dk_at dksJ5_circularClear_0 6 rfl rfl)
theorem dJ5_circularClear_9 : decode cJ5_circularClear 9 = .ok (.aload_n 0, 1) := dk_42 (dk_at dksJ5_circularClear_0 9 rfl rfl)
theorem dJ5_circularClear_10 : decode cJ5_circularClear 10 = .ok (.arraylength, 1) := dk_190 (dk_at dksJ5_circularClear_0 10 rfl rfl)
theorem dJ5_circularClear_11 : decode cJ5_circularClear 11 = .ok (.istore_n 3, 1) := dk_62 (dk_at dksJ5_circularClear_0 11 rfl rfl)
theorem dJ5_circularClear_12 : decode cJ5_circularClear 12 = .ok (.iload_n 1, 1) := dk_27 (dk_at dksJ5_circularClear_0 12 rfl rfl)
theorem dJ5_circularClear_13 : decode cJ5_circularClear 13 = .ok (.iload_n 3, 1) := dk_29 (dk_at dksJ5_circularClear_0 13 rfl rfl)
theorem dJ5_circularClear_14 : decode cJ5_circularClear 14 = .ok (.if_icmp .ge 13, 3) := dk_162 0 13 (dk_at dksJ5_circularClear_0 14 rfl rfl)
theorem dJ5_circularClear_17 : decode cJ5_circularClear 17 = .ok (.aload_n 0, 1) := dk_42 (dk_at dksJ5_circularClear_0 17 rfl rfl)
theorem dJ5_circularClear_18 : decode cJ5_circularClear 18 = .ok (.iload_n 1, 1) := dk_27 (dk_at dksJ5_circularClear_0 18 rfl rfl)
theorem dJ5_circularClear_19 : decode cJ5_circularClear 19 = .ok (.aconst_null, 1) := dk_1 (dk_at dksJ5_circularClear_0 19 rfl rfl)
theorem dJ5_circularClear_20 : decode cJ5_circularClear 20 = .ok (.aastore, 1) := dk_83 (dk_at dksJ5_circularClear_0 20 rfl rfl)
theorem dJ5_circularClear_21 : decode cJ5_circularClear 21 = .ok (.iinc 1 1, 3) := dk_132 1 1 (dk_at dksJ5_circularClear_0 21 rfl rfl)
theorem dJ5_circularClear_24 : decode cJ5_circularClear 24 = .ok (.goto (-12), 3) := dk_167 255 244 (dk_at dksJ5_circularClear_1 0 rfl rfl)
theorem dJ5_circularClear_27 : decode cJ5_circularClear 27 = .ok (.iload_n 3, 1) := dk_29 (dk_at dksJ5_circularClear_1 3 rfl rfl)
theorem dJ5_circularClear_28 : decode cJ5_circularClear 28 = .ok (.iload_n 2, 1) := dk_28 (dk_at dksJ5_circularClear_1 4 rfl rfl)
theorem dJ5_circularClear_29 : decode cJ5_circularClear 29 = .ok (.if_icmp .ne 6, 3) := dk_160 0 6 (dk_at dksJ5_circularClear_1 5 rfl rfl)
theorem dJ5_circularClear_32 : decode cJ5_circularClear 32 = .ok (.goto 10, 3) := dk_167 0 10 (dk_at dksJ5_circularClear_1 8 rfl rfl)
theorem dJ5_circularClear_35 : decode cJ5_circularClear 35 = .ok (.iconst 0, 1) := dk_3 (dk_at dksJ5_circularClear_1 11 rfl rfl)
theorem dJ5_circularClear_36 : decode cJ5_circularClear 36 = .ok (.istore_n 1, 1) := dk_60 (dk_at dksJ5_circularClear_1 12 rfl rfl)
theorem dJ5_circularClear_37 : decode cJ5_circularClear 37 = .ok (.iload_n 2, 1) := dk_28 (dk_at dksJ5_circularClear_1 13 rfl rfl)
theorem dJ5_circularClear_38 : decode cJ5_circularClear 38 = .ok (.istore_n 3, 1) := dk_62 (dk_at dksJ5_circularClear_1 14 rfl rfl)
theorem dJ5_circularClear_39 : decode cJ5_circularClear 39 = .ok (.goto (-27), 3) := dk_167 255 229 (dk_at dksJ5_circularClear_1 15 rfl rfl)
theorem dJ5_circularClear_42 : decode cJ5_circularClear 42 = .ok (.return_, 1) := dk_177 (dk_at dksJ5_circularClear_1 18 rfl rfl)
abbrev cJ5_addLast : ByteArray := prog_59_method_13_code
def yJ5_addLast : MethodName := ⟨RJ5, "addLast", "(Ljava/lang/Object;)V"⟩
def dkwJ5_addLast_2 : List UInt8 := [182, 0, 71, 177]
abbrev dktJ5_addLast_2 : List UInt8 := dkwJ5_addLast_2 ++ []
def dkwJ5_addLast_1 : List UInt8 := [42, 180, 0, 24, 42, 42, 180, 0, 20, 44, 190, 184, 0, 74, 90, 181, 0, 20, 160, 0, 8, 42, 4]
abbrev dktJ5_addLast_1 : List UInt8 := dkwJ5_addLast_1 ++ dktJ5_addLast_2
def dkwJ5_addLast_0 : List UInt8 := [43, 199, 0, 11, 187, 0, 65, 89, 183, 0, 67, 191, 42, 180, 0, 3, 77, 44, 42, 180, 0, 20, 43, 83]
abbrev dktJ5_addLast_0 : List UInt8 := dkwJ5_addLast_0 ++ dktJ5_addLast_1
theorem dksJ5_addLast_0 : cJ5_addLast.data.toList.drop 0 = dktJ5_addLast_0 := by decide +kernel
theorem dksJ5_addLast_1 : cJ5_addLast.data.toList.drop 24 = dktJ5_addLast_1 := dk_seg dksJ5_addLast_0 24 rfl rfl
theorem dksJ5_addLast_2 : cJ5_addLast.data.toList.drop 47 = dktJ5_addLast_2 := dk_seg dksJ5_addLast_1 23 rfl rfl
theorem dJ5_addLast_0 : decode cJ5_addLast 0 = .ok (.aload_n 1, 1) := dk_43 (dk_at dksJ5_addLast_0 0 rfl rfl)
theorem dJ5_addLast_1 : decode cJ5_addLast 1 = .ok (.ifnonnull 11, 3) := dk_199 0 11 (dk_at dksJ5_addLast_0 1 rfl rfl)
theorem dJ5_addLast_4 : decode cJ5_addLast 4 = .ok (.new 65, 3) := dk_187 0 65 (dk_at dksJ5_addLast_0 4 rfl rfl)
theorem dJ5_addLast_7 : decode cJ5_addLast 7 = .ok (.dup, 1) := dk_89 (dk_at dksJ5_addLast_0 7 rfl rfl)
theorem dJ5_addLast_8 : decode cJ5_addLast 8 = .ok (.invokespecial 67, 3) := dk_183 0 67 (dk_at dksJ5_addLast_0 8 rfl rfl)
theorem dJ5_addLast_11 : decode cJ5_addLast 11 = .ok (.athrow, 1) := dk_191 (dk_at dksJ5_addLast_0 11 rfl rfl)
theorem dJ5_addLast_12 : decode cJ5_addLast 12 = .ok (.aload_n 0, 1) := dk_42 (dk_at dksJ5_addLast_0 12 rfl rfl)
theorem dJ5_addLast_13 : decode cJ5_addLast 13 = .ok (.getfield 3, 3) := dk_180 0 3 (dk_at dksJ5_addLast_0 13 rfl rfl)
theorem dJ5_addLast_16 : decode cJ5_addLast 16 = .ok (.astore_n 2, 1) := dk_77 (dk_at dksJ5_addLast_0 16 rfl rfl)
theorem dJ5_addLast_17 : decode cJ5_addLast 17 = .ok (.aload_n 2, 1) := dk_44 (dk_at dksJ5_addLast_0 17 rfl rfl)
theorem dJ5_addLast_18 : decode cJ5_addLast 18 = .ok (.aload_n 0, 1) := dk_42 (dk_at dksJ5_addLast_0 18 rfl rfl)
theorem dJ5_addLast_19 : decode cJ5_addLast 19 = .ok (.getfield 20, 3) := dk_180 0 20 (dk_at dksJ5_addLast_0 19 rfl rfl)
theorem dJ5_addLast_22 : decode cJ5_addLast 22 = .ok (.aload_n 1, 1) := dk_43 (dk_at dksJ5_addLast_0 22 rfl rfl)
theorem dJ5_addLast_23 : decode cJ5_addLast 23 = .ok (.aastore, 1) := dk_83 (dk_at dksJ5_addLast_0 23 rfl rfl)
theorem dJ5_addLast_24 : decode cJ5_addLast 24 = .ok (.aload_n 0, 1) := dk_42 (dk_at dksJ5_addLast_1 0 rfl rfl)
theorem dJ5_addLast_25 : decode cJ5_addLast 25 = .ok (.getfield 24, 3) := dk_180 0 24 (dk_at dksJ5_addLast_1 1 rfl rfl)
theorem dJ5_addLast_28 : decode cJ5_addLast 28 = .ok (.aload_n 0, 1) := dk_42 (dk_at dksJ5_addLast_1 4 rfl rfl)
theorem dJ5_addLast_29 : decode cJ5_addLast 29 = .ok (.aload_n 0, 1) := dk_42 (dk_at dksJ5_addLast_1 5 rfl rfl)
theorem dJ5_addLast_30 : decode cJ5_addLast 30 = .ok (.getfield 20, 3) := dk_180 0 20 (dk_at dksJ5_addLast_1 6 rfl rfl)
theorem dJ5_addLast_33 : decode cJ5_addLast 33 = .ok (.aload_n 2, 1) := dk_44 (dk_at dksJ5_addLast_1 9 rfl rfl)
theorem dJ5_addLast_34 : decode cJ5_addLast 34 = .ok (.arraylength, 1) := dk_190 (dk_at dksJ5_addLast_1 10 rfl rfl)
theorem dJ5_addLast_35 : decode cJ5_addLast 35 = .ok (.invokestatic 74, 3) := dk_184 0 74 (dk_at dksJ5_addLast_1 11 rfl rfl)
theorem dJ5_addLast_38 : decode cJ5_addLast 38 = .ok (.dup_x1, 1) := dk_90 (dk_at dksJ5_addLast_1 14 rfl rfl)
theorem dJ5_addLast_39 : decode cJ5_addLast 39 = .ok (.putfield 20, 3) := dk_181 0 20 (dk_at dksJ5_addLast_1 15 rfl rfl)
theorem dJ5_addLast_42 : decode cJ5_addLast 42 = .ok (.if_icmp .ne 8, 3) := dk_160 0 8 (dk_at dksJ5_addLast_1 18 rfl rfl)
theorem dJ5_addLast_45 : decode cJ5_addLast 45 = .ok (.aload_n 0, 1) := dk_42 (dk_at dksJ5_addLast_1 21 rfl rfl)
theorem dJ5_addLast_46 : decode cJ5_addLast 46 = .ok (.iconst 1, 1) := dk_4 (dk_at dksJ5_addLast_1 22 rfl rfl)
theorem dJ5_addLast_47 : decode cJ5_addLast 47 = .ok (.invokevirtual 71, 3) := dk_182 0 71 (dk_at dksJ5_addLast_2 0 rfl rfl)
theorem dJ5_addLast_50 : decode cJ5_addLast 50 = .ok (.return_, 1) := dk_177 (dk_at dksJ5_addLast_2 3 rfl rfl)
abbrev cJ5_inc : ByteArray := prog_59_method_6_code
def yJ5_inc : MethodName := ⟨RJ5, "inc", "(II)I"⟩
def dkwJ5_inc_0 : List UInt8 := [132, 0, 1, 26, 27, 161, 0, 5, 3, 59, 26, 172]
abbrev dktJ5_inc_0 : List UInt8 := dkwJ5_inc_0 ++ []
theorem dksJ5_inc_0 : cJ5_inc.data.toList.drop 0 = dktJ5_inc_0 := by decide +kernel
theorem dJ5_inc_0 : decode cJ5_inc 0 = .ok (.iinc 0 1, 3) := dk_132 0 1 (dk_at dksJ5_inc_0 0 rfl rfl)
theorem dJ5_inc_3 : decode cJ5_inc 3 = .ok (.iload_n 0, 1) := dk_26 (dk_at dksJ5_inc_0 3 rfl rfl)
theorem dJ5_inc_4 : decode cJ5_inc 4 = .ok (.iload_n 1, 1) := dk_27 (dk_at dksJ5_inc_0 4 rfl rfl)
theorem dJ5_inc_5 : decode cJ5_inc 5 = .ok (.if_icmp .lt 5, 3) := dk_161 0 5 (dk_at dksJ5_inc_0 5 rfl rfl)
theorem dJ5_inc_8 : decode cJ5_inc 8 = .ok (.iconst 0, 1) := dk_3 (dk_at dksJ5_inc_0 8 rfl rfl)
theorem dJ5_inc_9 : decode cJ5_inc 9 = .ok (.istore_n 0, 1) := dk_59 (dk_at dksJ5_inc_0 9 rfl rfl)
theorem dJ5_inc_10 : decode cJ5_inc 10 = .ok (.iload_n 0, 1) := dk_26 (dk_at dksJ5_inc_0 10 rfl rfl)
theorem dJ5_inc_11 : decode cJ5_inc 11 = .ok (.ireturn, 1) := dk_172 (dk_at dksJ5_inc_0 11 rfl rfl)
abbrev cJ5_grow : ByteArray := prog_59_method_1_code
def yJ5_grow : MethodName := ⟨RJ5, "grow", "(I)V"⟩
def dkwJ5_grow_7 : List UInt8 := [177]
abbrev dktJ5_grow_7 : List UInt8 := dkwJ5_grow_7 ++ []
def dkwJ5_grow_6 : List UInt8 := [181, 0, 24, 54, 8, 21, 7, 21, 8, 162, 0, 15, 25, 5, 21, 7, 1, 83, 132, 7, 1, 167, 255, 240]
abbrev dktJ5_grow_6 : List UInt8 := dkwJ5_grow_6 ++ dktJ5_grow_7
def dkwJ5_grow_5 : List UInt8 := [42, 180, 0, 24, 100, 184, 0, 27, 42, 180, 0, 24, 54, 7, 42, 89, 180, 0, 24, 21, 6, 96, 90]
abbrev dktJ5_grow_5 : List UInt8 := dkwJ5_grow_5 ++ dktJ5_grow_6
def dkwJ5_grow_4 : List UInt8 := [198, 0, 71, 29, 28, 100, 54, 6, 25, 5, 42, 180, 0, 24, 25, 5, 42, 180, 0, 24, 21, 6, 96, 28]
abbrev dktJ5_grow_4 : List UInt8 := dkwJ5_grow_4 ++ dktJ5_grow_5
def dkwJ5_grow_3 : List UInt8 := [180, 0, 24, 161, 0, 24, 42, 180, 0, 20, 42, 180, 0, 24, 160, 0, 81, 25, 5, 42, 180, 0, 24, 50]
abbrev dktJ5_grow_3 : List UInt8 := dkwJ5_grow_3 ++ dktJ5_grow_4
def dkwJ5_grow_2 : List UInt8 := [182, 0, 10, 62, 42, 42, 180, 0, 3, 29, 184, 0, 14, 90, 181, 0, 3, 58, 5, 42, 180, 0, 20, 42]
abbrev dktJ5_grow_2 : List UInt8 := dkwJ5_grow_2 ++ dktJ5_grow_3
def dkwJ5_grow_1 : List UInt8 := [21, 4, 27, 161, 0, 15, 28, 21, 4, 96, 89, 62, 18, 9, 100, 158, 0, 11, 42, 27, 21, 4]
abbrev dktJ5_grow_1 : List UInt8 := dkwJ5_grow_1 ++ dktJ5_grow_2
def dkwJ5_grow_0 : List UInt8 := [42, 180, 0, 3, 190, 61, 28, 16, 64, 162, 0, 9, 28, 5, 96, 167, 0, 6, 28, 4, 122, 54, 4]
abbrev dktJ5_grow_0 : List UInt8 := dkwJ5_grow_0 ++ dktJ5_grow_1
theorem dksJ5_grow_0 : cJ5_grow.data.toList.drop 0 = dktJ5_grow_0 := by decide +kernel
theorem dksJ5_grow_1 : cJ5_grow.data.toList.drop 23 = dktJ5_grow_1 := dk_seg dksJ5_grow_0 23 rfl rfl
theorem dksJ5_grow_2 : cJ5_grow.data.toList.drop 45 = dktJ5_grow_2 := dk_seg dksJ5_grow_1 22 rfl rfl
theorem dksJ5_grow_3 : cJ5_grow.data.toList.drop 69 = dktJ5_grow_3 := dk_seg dksJ5_grow_2 24 rfl rfl
theorem dksJ5_grow_4 : cJ5_grow.data.toList.drop 93 = dktJ5_grow_4 := dk_seg dksJ5_grow_3 24 rfl rfl
theorem dksJ5_grow_5 : cJ5_grow.data.toList.drop 117 = dktJ5_grow_5 := dk_seg dksJ5_grow_4 24 rfl rfl
theorem dksJ5_grow_6 : cJ5_grow.data.toList.drop 140 = dktJ5_grow_6 := dk_seg dksJ5_grow_5 23 rfl rfl
theorem dksJ5_grow_7 : cJ5_grow.data.toList.drop 164 = dktJ5_grow_7 := dk_seg dksJ5_grow_6 24 rfl rfl
theorem dJ5_grow_0 : decode cJ5_grow 0 = .ok (.aload_n 0, 1) := dk_42 (dk_at dksJ5_grow_0 0 rfl rfl)
theorem dJ5_grow_1 : decode cJ5_grow 1 = .ok (.getfield 3, 3) := dk_180 0 3 (dk_at dksJ5_grow_0 1 rfl rfl)
theorem dJ5_grow_4 : decode cJ5_grow 4 = .ok (.arraylength, 1) := dk_190 (dk_at dksJ5_grow_0 4 rfl rfl)
theorem dJ5_grow_5 : decode cJ5_grow 5 = .ok (.istore_n 2, 1) := dk_61 (dk_at dksJ5_grow_0 5 rfl rfl)
theorem dJ5_grow_6 : decode cJ5_grow 6 = .ok (.iload_n 2, 1) := dk_28 (dk_at dksJ5_grow_0 6 rfl rfl)
theorem dJ5_grow_7 : decode cJ5_grow 7 = .ok (.bipush 64, 2) := dk_16 64 (dk_at dksJ5_grow_0 7 rfl rfl)
theorem dJ5_grow_9 : decode cJ5_grow 9 = .ok (.if_icmp .ge 9, 3) := dk_162 0 9 (dk_at dksJ5_grow_0 9 rfl rfl)
theorem dJ5_grow_12 : decode cJ5_grow 12 = .ok (.iload_n 2, 1) := dk_28 (dk_at dksJ5_grow_0 12 rfl rfl)
theorem dJ5_grow_13 : decode cJ5_grow 13 = .ok (.iconst 2, 1) := dk_5 (dk_at dksJ5_grow_0 13 rfl rfl)
theorem dJ5_grow_14 : decode cJ5_grow 14 = .ok (.iadd, 1) := dk_96 (dk_at dksJ5_grow_0 14 rfl rfl)
theorem dJ5_grow_15 : decode cJ5_grow 15 = .ok (.goto 6, 3) := dk_167 0 6 (dk_at dksJ5_grow_0 15 rfl rfl)
theorem dJ5_grow_18 : decode cJ5_grow 18 = .ok (.iload_n 2, 1) := dk_28 (dk_at dksJ5_grow_0 18 rfl rfl)
theorem dJ5_grow_19 : decode cJ5_grow 19 = .ok (.iconst 1, 1) := dk_4 (dk_at dksJ5_grow_0 19 rfl rfl)
theorem dJ5_grow_20 : decode cJ5_grow 20 = .ok (.ishr, 1) := dk_122 (dk_at dksJ5_grow_0 20 rfl rfl)
theorem dJ5_grow_21 : decode cJ5_grow 21 = .ok (.istore 4, 2) := dk_54 4 (dk_at dksJ5_grow_0 21 rfl rfl)
theorem dJ5_grow_23 : decode cJ5_grow 23 = .ok (.iload 4, 2) := dk_21 4 (dk_at dksJ5_grow_1 0 rfl rfl)
theorem dJ5_grow_25 : decode cJ5_grow 25 = .ok (.iload_n 1, 1) := dk_27 (dk_at dksJ5_grow_1 2 rfl rfl)
theorem dJ5_grow_26 : decode cJ5_grow 26 = .ok (.if_icmp .lt 15, 3) := dk_161 0 15 (dk_at dksJ5_grow_1 3 rfl rfl)
theorem dJ5_grow_29 : decode cJ5_grow 29 = .ok (.iload_n 2, 1) := dk_28 (dk_at dksJ5_grow_1 6 rfl rfl)
theorem dJ5_grow_30 : decode cJ5_grow 30 = .ok (.iload 4, 2) := dk_21 4 (dk_at dksJ5_grow_1 7 rfl rfl)
theorem dJ5_grow_32 : decode cJ5_grow 32 = .ok (.iadd, 1) := dk_96 (dk_at dksJ5_grow_1 9 rfl rfl)
theorem dJ5_grow_33 : decode cJ5_grow 33 = .ok (.dup, 1) := dk_89 (dk_at dksJ5_grow_1 10 rfl rfl)
theorem dJ5_grow_34 : decode cJ5_grow 34 = .ok (.istore_n 3, 1) := dk_62 (dk_at dksJ5_grow_1 11 rfl rfl)
theorem dJ5_grow_35 : decode cJ5_grow 35 = .ok (.ldc 9, 2) := dk_18 9 (dk_at dksJ5_grow_1 12 rfl rfl)
theorem dJ5_grow_37 : decode cJ5_grow 37 = .ok (.isub, 1) := dk_100 (dk_at dksJ5_grow_1 14 rfl rfl)
theorem dJ5_grow_38 : decode cJ5_grow 38 = .ok (.ifCond .le 11, 3) := dk_158 0 11 (dk_at dksJ5_grow_1 15 rfl rfl)
theorem dJ5_grow_41 : decode cJ5_grow 41 = .ok (.aload_n 0, 1) := dk_42 (dk_at dksJ5_grow_1 18 rfl rfl)
theorem dJ5_grow_42 : decode cJ5_grow 42 = .ok (.iload_n 1, 1) := dk_27 (dk_at dksJ5_grow_1 19 rfl rfl)
theorem dJ5_grow_43 : decode cJ5_grow 43 = .ok (.iload 4, 2) := dk_21 4 (dk_at dksJ5_grow_1 20 rfl rfl)
theorem dJ5_grow_45 : decode cJ5_grow 45 = .ok (.invokevirtual 10, 3) := dk_182 0 10 (dk_at dksJ5_grow_2 0 rfl rfl)
theorem dJ5_grow_48 : decode cJ5_grow 48 = .ok (.istore_n 3, 1) := dk_62 (dk_at dksJ5_grow_2 3 rfl rfl)
theorem dJ5_grow_49 : decode cJ5_grow 49 = .ok (.aload_n 0, 1) := dk_42 (dk_at dksJ5_grow_2 4 rfl rfl)
theorem dJ5_grow_50 : decode cJ5_grow 50 = .ok (.aload_n 0, 1) := dk_42 (dk_at dksJ5_grow_2 5 rfl rfl)
theorem dJ5_grow_51 : decode cJ5_grow 51 = .ok (.getfield 3, 3) := dk_180 0 3 (dk_at dksJ5_grow_2 6 rfl rfl)
theorem dJ5_grow_54 : decode cJ5_grow 54 = .ok (.iload_n 3, 1) := dk_29 (dk_at dksJ5_grow_2 9 rfl rfl)
theorem dJ5_grow_55 : decode cJ5_grow 55 = .ok (.invokestatic 14, 3) := dk_184 0 14 (dk_at dksJ5_grow_2 10 rfl rfl)
theorem dJ5_grow_58 : decode cJ5_grow 58 = .ok (.dup_x1, 1) := dk_90 (dk_at dksJ5_grow_2 13 rfl rfl)
theorem dJ5_grow_59 : decode cJ5_grow 59 = .ok (.putfield 3, 3) := dk_181 0 3 (dk_at dksJ5_grow_2 14 rfl rfl)
theorem dJ5_grow_62 : decode cJ5_grow 62 = .ok (.astore 5, 2) := dk_58 5 (dk_at dksJ5_grow_2 17 rfl rfl)
theorem dJ5_grow_64 : decode cJ5_grow 64 = .ok (.aload_n 0, 1) := dk_42 (dk_at dksJ5_grow_2 19 rfl rfl)
theorem dJ5_grow_65 : decode cJ5_grow 65 = .ok (.getfield 20, 3) := dk_180 0 20 (dk_at dksJ5_grow_2 20 rfl rfl)
theorem dJ5_grow_68 : decode cJ5_grow 68 = .ok (.aload_n 0, 1) := dk_42 (dk_at dksJ5_grow_2 23 rfl rfl)
theorem dJ5_grow_69 : decode cJ5_grow 69 = .ok (.getfield 24, 3) := dk_180 0 24 (dk_at dksJ5_grow_3 0 rfl rfl)
theorem dJ5_grow_72 : decode cJ5_grow 72 = .ok (.if_icmp .lt 24, 3) := dk_161 0 24 (dk_at dksJ5_grow_3 3 rfl rfl)
theorem dJ5_grow_75 : decode cJ5_grow 75 = .ok (.aload_n 0, 1) := dk_42 (dk_at dksJ5_grow_3 6 rfl rfl)
theorem dJ5_grow_76 : decode cJ5_grow 76 = .ok (.getfield 20, 3) := dk_180 0 20 (dk_at dksJ5_grow_3 7 rfl rfl)
theorem dJ5_grow_79 : decode cJ5_grow 79 = .ok (.aload_n 0, 1) := dk_42 (dk_at dksJ5_grow_3 10 rfl rfl)
theorem dJ5_grow_80 : decode cJ5_grow 80 = .ok (.getfield 24, 3) := dk_180 0 24 (dk_at dksJ5_grow_3 11 rfl rfl)
theorem dJ5_grow_83 : decode cJ5_grow 83 = .ok (.if_icmp .ne 81, 3) := dk_160 0 81 (dk_at dksJ5_grow_3 14 rfl rfl)
theorem dJ5_grow_86 : decode cJ5_grow 86 = .ok (.aload 5, 2) := dk_25 5 (dk_at dksJ5_grow_3 17 rfl rfl)
theorem dJ5_grow_88 : decode cJ5_grow 88 = .ok (.aload_n 0, 1) := dk_42 (dk_at dksJ5_grow_3 19 rfl rfl)
theorem dJ5_grow_89 : decode cJ5_grow 89 = .ok (.getfield 24, 3) := dk_180 0 24 (dk_at dksJ5_grow_3 20 rfl rfl)
theorem dJ5_grow_92 : decode cJ5_grow 92 = .ok (.aaload, 1) := dk_50 (dk_at dksJ5_grow_3 23 rfl rfl)
theorem dJ5_grow_93 : decode cJ5_grow 93 = .ok (.ifnull 71, 3) := dk_198 0 71 (dk_at dksJ5_grow_4 0 rfl rfl)
theorem dJ5_grow_96 : decode cJ5_grow 96 = .ok (.iload_n 3, 1) := dk_29 (dk_at dksJ5_grow_4 3 rfl rfl)
theorem dJ5_grow_97 : decode cJ5_grow 97 = .ok (.iload_n 2, 1) := dk_28 (dk_at dksJ5_grow_4 4 rfl rfl)
theorem dJ5_grow_98 : decode cJ5_grow 98 = .ok (.isub, 1) := dk_100 (dk_at dksJ5_grow_4 5 rfl rfl)
theorem dJ5_grow_99 : decode cJ5_grow 99 = .ok (.istore 6, 2) := dk_54 6 (dk_at dksJ5_grow_4 6 rfl rfl)
theorem dJ5_grow_101 : decode cJ5_grow 101 = .ok (.aload 5, 2) := dk_25 5 (dk_at dksJ5_grow_4 8 rfl rfl)
theorem dJ5_grow_103 : decode cJ5_grow 103 = .ok (.aload_n 0, 1) := dk_42 (dk_at dksJ5_grow_4 10 rfl rfl)
theorem dJ5_grow_104 : decode cJ5_grow 104 = .ok (.getfield 24, 3) := dk_180 0 24 (dk_at dksJ5_grow_4 11 rfl rfl)
theorem dJ5_grow_107 : decode cJ5_grow 107 = .ok (.aload 5, 2) := dk_25 5 (dk_at dksJ5_grow_4 14 rfl rfl)
theorem dJ5_grow_109 : decode cJ5_grow 109 = .ok (.aload_n 0, 1) := dk_42 (dk_at dksJ5_grow_4 16 rfl rfl)
theorem dJ5_grow_110 : decode cJ5_grow 110 = .ok (.getfield 24, 3) := dk_180 0 24 (dk_at dksJ5_grow_4 17 rfl rfl)
theorem dJ5_grow_113 : decode cJ5_grow 113 = .ok (.iload 6, 2) := dk_21 6 (dk_at dksJ5_grow_4 20 rfl rfl)
theorem dJ5_grow_115 : decode cJ5_grow 115 = .ok (.iadd, 1) := dk_96 (dk_at dksJ5_grow_4 22 rfl rfl)
theorem dJ5_grow_116 : decode cJ5_grow 116 = .ok (.iload_n 2, 1) := dk_28 (dk_at dksJ5_grow_4 23 rfl rfl)
theorem dJ5_grow_117 : decode cJ5_grow 117 = .ok (.aload_n 0, 1) := dk_42 (dk_at dksJ5_grow_5 0 rfl rfl)
theorem dJ5_grow_118 : decode cJ5_grow 118 = .ok (.getfield 24, 3) := dk_180 0 24 (dk_at dksJ5_grow_5 1 rfl rfl)
theorem dJ5_grow_121 : decode cJ5_grow 121 = .ok (.isub, 1) := dk_100 (dk_at dksJ5_grow_5 4 rfl rfl)
theorem dJ5_grow_122 : decode cJ5_grow 122 = .ok (.invokestatic 27, 3) := dk_184 0 27 (dk_at dksJ5_grow_5 5 rfl rfl)
theorem dJ5_grow_125 : decode cJ5_grow 125 = .ok (.aload_n 0, 1) := dk_42 (dk_at dksJ5_grow_5 8 rfl rfl)
theorem dJ5_grow_126 : decode cJ5_grow 126 = .ok (.getfield 24, 3) := dk_180 0 24 (dk_at dksJ5_grow_5 9 rfl rfl)
theorem dJ5_grow_129 : decode cJ5_grow 129 = .ok (.istore 7, 2) := dk_54 7 (dk_at dksJ5_grow_5 12 rfl rfl)
theorem dJ5_grow_131 : decode cJ5_grow 131 = .ok (.aload_n 0, 1) := dk_42 (dk_at dksJ5_grow_5 14 rfl rfl)
theorem dJ5_grow_132 : decode cJ5_grow 132 = .ok (.dup, 1) := dk_89 (dk_at dksJ5_grow_5 15 rfl rfl)
theorem dJ5_grow_133 : decode cJ5_grow 133 = .ok (.getfield 24, 3) := dk_180 0 24 (dk_at dksJ5_grow_5 16 rfl rfl)
theorem dJ5_grow_136 : decode cJ5_grow 136 = .ok (.iload 6, 2) := dk_21 6 (dk_at dksJ5_grow_5 19 rfl rfl)
theorem dJ5_grow_138 : decode cJ5_grow 138 = .ok (.iadd, 1) := dk_96 (dk_at dksJ5_grow_5 21 rfl rfl)
theorem dJ5_grow_139 : decode cJ5_grow 139 = .ok (.dup_x1, 1) := dk_90 (dk_at dksJ5_grow_5 22 rfl rfl)
theorem dJ5_grow_140 : decode cJ5_grow 140 = .ok (.putfield 24, 3) := dk_181 0 24 (dk_at dksJ5_grow_6 0 rfl rfl)
theorem dJ5_grow_143 : decode cJ5_grow 143 = .ok (.istore 8, 2) := dk_54 8 (dk_at dksJ5_grow_6 3 rfl rfl)
theorem dJ5_grow_145 : decode cJ5_grow 145 = .ok (.iload 7, 2) := dk_21 7 (dk_at dksJ5_grow_6 5 rfl rfl)
theorem dJ5_grow_147 : decode cJ5_grow 147 = .ok (.iload 8, 2) := dk_21 8 (dk_at dksJ5_grow_6 7 rfl rfl)
theorem dJ5_grow_149 : decode cJ5_grow 149 = .ok (.if_icmp .ge 15, 3) := dk_162 0 15 (dk_at dksJ5_grow_6 9 rfl rfl)
theorem dJ5_grow_152 : decode cJ5_grow 152 = .ok (.aload 5, 2) := dk_25 5 (dk_at dksJ5_grow_6 12 rfl rfl)
theorem dJ5_grow_154 : decode cJ5_grow 154 = .ok (.iload 7, 2) := dk_21 7 (dk_at dksJ5_grow_6 14 rfl rfl)
theorem dJ5_grow_156 : decode cJ5_grow 156 = .ok (.aconst_null, 1) := dk_1 (dk_at dksJ5_grow_6 16 rfl rfl)
theorem dJ5_grow_157 : decode cJ5_grow 157 = .ok (.aastore, 1) := dk_83 (dk_at dksJ5_grow_6 17 rfl rfl)
theorem dJ5_grow_158 : decode cJ5_grow 158 = .ok (.iinc 7 1, 3) := dk_132 7 1 (dk_at dksJ5_grow_6 18 rfl rfl)
theorem dJ5_grow_161 : decode cJ5_grow 161 = .ok (.goto (-16), 3) := dk_167 255 240 (dk_at dksJ5_grow_6 21 rfl rfl)
theorem dJ5_grow_164 : decode cJ5_grow 164 = .ok (.return_, 1) := dk_177 (dk_at dksJ5_grow_7 0 rfl rfl)
abbrev cJ5_newCapacity : ByteArray := prog_59_method_2_code
def yJ5_newCapacity : MethodName := ⟨RJ5, "newCapacity", "(II)I"⟩
def dkwJ5_newCapacity_2 : List UInt8 := [18, 9, 100, 156, 0, 9, 29, 28, 96, 167, 0, 5, 18, 9, 172]
abbrev dktJ5_newCapacity_2 : List UInt8 := dkwJ5_newCapacity_2 ++ []
def dkwJ5_newCapacity_1 : List UInt8 := [187, 0, 33, 89, 18, 35, 183, 0, 37, 191, 18, 41, 172, 27, 28, 164, 0, 6, 21, 4, 172, 29, 28, 96]
abbrev dktJ5_newCapacity_1 : List UInt8 := dkwJ5_newCapacity_1 ++ dktJ5_newCapacity_2
def dkwJ5_newCapacity_0 : List UInt8 := [42, 180, 0, 3, 190, 62, 29, 27, 96, 89, 54, 4, 18, 9, 100, 158, 0, 21, 21, 4, 156, 0, 13]
abbrev dktJ5_newCapacity_0 : List UInt8 := dkwJ5_newCapacity_0 ++ dktJ5_newCapacity_1
theorem dksJ5_newCapacity_0 : cJ5_newCapacity.data.toList.drop 0 = dktJ5_newCapacity_0 := by decide +kernel
theorem dksJ5_newCapacity_1 : cJ5_newCapacity.data.toList.drop 23 = dktJ5_newCapacity_1 := dk_seg dksJ5_newCapacity_0 23 rfl rfl
theorem dksJ5_newCapacity_2 : cJ5_newCapacity.data.toList.drop 47 = dktJ5_newCapacity_2 := dk_seg dksJ5_newCapacity_1 24 rfl rfl
theorem dJ5_newCapacity_0 : decode cJ5_newCapacity 0 = .ok (.aload_n 0, 1) := dk_42 (dk_at dksJ5_newCapacity_0 0 rfl rfl)
theorem dJ5_newCapacity_1 : decode cJ5_newCapacity 1 = .ok (.getfield 3, 3) := dk_180 0 3 (dk_at dksJ5_newCapacity_0 1 rfl rfl)
theorem dJ5_newCapacity_4 : decode cJ5_newCapacity 4 = .ok (.arraylength, 1) := dk_190 (dk_at dksJ5_newCapacity_0 4 rfl rfl)
theorem dJ5_newCapacity_5 : decode cJ5_newCapacity 5 = .ok (.istore_n 3, 1) := dk_62 (dk_at dksJ5_newCapacity_0 5 rfl rfl)
theorem dJ5_newCapacity_6 : decode cJ5_newCapacity 6 = .ok (.iload_n 3, 1) := dk_29 (dk_at dksJ5_newCapacity_0 6 rfl rfl)
theorem dJ5_newCapacity_7 : decode cJ5_newCapacity 7 = .ok (.iload_n 1, 1) := dk_27 (dk_at dksJ5_newCapacity_0 7 rfl rfl)
theorem dJ5_newCapacity_8 : decode cJ5_newCapacity 8 = .ok (.iadd, 1) := dk_96 (dk_at dksJ5_newCapacity_0 8 rfl rfl)
theorem dJ5_newCapacity_9 : decode cJ5_newCapacity 9 = .ok (.dup, 1) := dk_89 (dk_at dksJ5_newCapacity_0 9 rfl rfl)
theorem dJ5_newCapacity_10 : decode cJ5_newCapacity 10 = .ok (.istore 4, 2) := dk_54 4 (dk_at dksJ5_newCapacity_0 10 rfl rfl)
theorem dJ5_newCapacity_12 : decode cJ5_newCapacity 12 = .ok (.ldc 9, 2) := dk_18 9 (dk_at dksJ5_newCapacity_0 12 rfl rfl)
theorem dJ5_newCapacity_14 : decode cJ5_newCapacity 14 = .ok (.isub, 1) := dk_100 (dk_at dksJ5_newCapacity_0 14 rfl rfl)
theorem dJ5_newCapacity_15 : decode cJ5_newCapacity 15 = .ok (.ifCond .le 21, 3) := dk_158 0 21 (dk_at dksJ5_newCapacity_0 15 rfl rfl)
theorem dJ5_newCapacity_18 : decode cJ5_newCapacity 18 = .ok (.iload 4, 2) := dk_21 4 (dk_at dksJ5_newCapacity_0 18 rfl rfl)
theorem dJ5_newCapacity_20 : decode cJ5_newCapacity 20 = .ok (.ifCond .ge 13, 3) := dk_156 0 13 (dk_at dksJ5_newCapacity_0 20 rfl rfl)
theorem dJ5_newCapacity_23 : decode cJ5_newCapacity 23 = .ok (.new 33, 3) := dk_187 0 33 (dk_at dksJ5_newCapacity_1 0 rfl rfl)
theorem dJ5_newCapacity_26 : decode cJ5_newCapacity 26 = .ok (.dup, 1) := dk_89 (dk_at dksJ5_newCapacity_1 3 rfl rfl)
theorem dJ5_newCapacity_27 : decode cJ5_newCapacity 27 = .ok (.ldc 35, 2) := dk_18 35 (dk_at dksJ5_newCapacity_1 4 rfl rfl)
theorem dJ5_newCapacity_29 : decode cJ5_newCapacity 29 = .ok (.invokespecial 37, 3) := dk_183 0 37 (dk_at dksJ5_newCapacity_1 6 rfl rfl)
theorem dJ5_newCapacity_32 : decode cJ5_newCapacity 32 = .ok (.athrow, 1) := dk_191 (dk_at dksJ5_newCapacity_1 9 rfl rfl)
theorem dJ5_newCapacity_33 : decode cJ5_newCapacity 33 = .ok (.ldc 41, 2) := dk_18 41 (dk_at dksJ5_newCapacity_1 10 rfl rfl)
theorem dJ5_newCapacity_35 : decode cJ5_newCapacity 35 = .ok (.ireturn, 1) := dk_172 (dk_at dksJ5_newCapacity_1 12 rfl rfl)
theorem dJ5_newCapacity_36 : decode cJ5_newCapacity 36 = .ok (.iload_n 1, 1) := dk_27 (dk_at dksJ5_newCapacity_1 13 rfl rfl)
theorem dJ5_newCapacity_37 : decode cJ5_newCapacity 37 = .ok (.iload_n 2, 1) := dk_28 (dk_at dksJ5_newCapacity_1 14 rfl rfl)
theorem dJ5_newCapacity_38 : decode cJ5_newCapacity 38 = .ok (.if_icmp .le 6, 3) := dk_164 0 6 (dk_at dksJ5_newCapacity_1 15 rfl rfl)
theorem dJ5_newCapacity_41 : decode cJ5_newCapacity 41 = .ok (.iload 4, 2) := dk_21 4 (dk_at dksJ5_newCapacity_1 18 rfl rfl)
theorem dJ5_newCapacity_43 : decode cJ5_newCapacity 43 = .ok (.ireturn, 1) := dk_172 (dk_at dksJ5_newCapacity_1 20 rfl rfl)
theorem dJ5_newCapacity_44 : decode cJ5_newCapacity 44 = .ok (.iload_n 3, 1) := dk_29 (dk_at dksJ5_newCapacity_1 21 rfl rfl)
theorem dJ5_newCapacity_45 : decode cJ5_newCapacity 45 = .ok (.iload_n 2, 1) := dk_28 (dk_at dksJ5_newCapacity_1 22 rfl rfl)
theorem dJ5_newCapacity_46 : decode cJ5_newCapacity 46 = .ok (.iadd, 1) := dk_96 (dk_at dksJ5_newCapacity_1 23 rfl rfl)
theorem dJ5_newCapacity_47 : decode cJ5_newCapacity 47 = .ok (.ldc 9, 2) := dk_18 9 (dk_at dksJ5_newCapacity_2 0 rfl rfl)
theorem dJ5_newCapacity_49 : decode cJ5_newCapacity 49 = .ok (.isub, 1) := dk_100 (dk_at dksJ5_newCapacity_2 2 rfl rfl)
theorem dJ5_newCapacity_50 : decode cJ5_newCapacity 50 = .ok (.ifCond .ge 9, 3) := dk_156 0 9 (dk_at dksJ5_newCapacity_2 3 rfl rfl)
theorem dJ5_newCapacity_53 : decode cJ5_newCapacity 53 = .ok (.iload_n 3, 1) := dk_29 (dk_at dksJ5_newCapacity_2 6 rfl rfl)
theorem dJ5_newCapacity_54 : decode cJ5_newCapacity 54 = .ok (.iload_n 2, 1) := dk_28 (dk_at dksJ5_newCapacity_2 7 rfl rfl)
theorem dJ5_newCapacity_55 : decode cJ5_newCapacity 55 = .ok (.iadd, 1) := dk_96 (dk_at dksJ5_newCapacity_2 8 rfl rfl)
theorem dJ5_newCapacity_56 : decode cJ5_newCapacity 56 = .ok (.goto 5, 3) := dk_167 0 5 (dk_at dksJ5_newCapacity_2 9 rfl rfl)
theorem dJ5_newCapacity_59 : decode cJ5_newCapacity 59 = .ok (.ldc 9, 2) := dk_18 9 (dk_at dksJ5_newCapacity_2 12 rfl rfl)
theorem dJ5_newCapacity_61 : decode cJ5_newCapacity 61 = .ok (.ireturn, 1) := dk_172 (dk_at dksJ5_newCapacity_2 14 rfl rfl)
abbrev cJ5_removeFirst : ByteArray := prog_59_method_18_code
def yJ5_removeFirst : MethodName := ⟨RJ5, "removeFirst", "()Ljava/lang/Object;"⟩
def dkwJ5_removeFirst_0 : List UInt8 := [42, 182, 0, 93, 76, 43, 199, 0, 11, 187, 0, 97, 89, 183, 0, 99, 191, 43, 176]
abbrev dktJ5_removeFirst_0 : List UInt8 := dkwJ5_removeFirst_0 ++ []
theorem dksJ5_removeFirst_0 : cJ5_removeFirst.data.toList.drop 0 = dktJ5_removeFirst_0 := by decide +kernel
theorem dJ5_removeFirst_0 : decode cJ5_removeFirst 0 = .ok (.aload_n 0, 1) := dk_42 (dk_at dksJ5_removeFirst_0 0 rfl rfl)
theorem dJ5_removeFirst_1 : decode cJ5_removeFirst 1 = .ok (.invokevirtual 93, 3) := dk_182 0 93 (dk_at dksJ5_removeFirst_0 1 rfl rfl)
theorem dJ5_removeFirst_4 : decode cJ5_removeFirst 4 = .ok (.astore_n 1, 1) := dk_76 (dk_at dksJ5_removeFirst_0 4 rfl rfl)
theorem dJ5_removeFirst_5 : decode cJ5_removeFirst 5 = .ok (.aload_n 1, 1) := dk_43 (dk_at dksJ5_removeFirst_0 5 rfl rfl)
theorem dJ5_removeFirst_6 : decode cJ5_removeFirst 6 = .ok (.ifnonnull 11, 3) := dk_199 0 11 (dk_at dksJ5_removeFirst_0 6 rfl rfl)
theorem dJ5_removeFirst_9 : decode cJ5_removeFirst 9 = .ok (.new 97, 3) := dk_187 0 97 (dk_at dksJ5_removeFirst_0 9 rfl rfl)
theorem dJ5_removeFirst_12 : decode cJ5_removeFirst 12 = .ok (.dup, 1) := dk_89 (dk_at dksJ5_removeFirst_0 12 rfl rfl)
theorem dJ5_removeFirst_13 : decode cJ5_removeFirst 13 = .ok (.invokespecial 99, 3) := dk_183 0 99 (dk_at dksJ5_removeFirst_0 13 rfl rfl)
theorem dJ5_removeFirst_16 : decode cJ5_removeFirst 16 = .ok (.athrow, 1) := dk_191 (dk_at dksJ5_removeFirst_0 16 rfl rfl)
theorem dJ5_removeFirst_17 : decode cJ5_removeFirst 17 = .ok (.aload_n 1, 1) := dk_43 (dk_at dksJ5_removeFirst_0 17 rfl rfl)
theorem dJ5_removeFirst_18 : decode cJ5_removeFirst 18 = .ok (.areturn, 1) := dk_176 (dk_at dksJ5_removeFirst_0 18 rfl rfl)
abbrev cJ5_pollFirst : ByteArray := prog_59_method_20_code
def yJ5_pollFirst : MethodName := ⟨RJ5, "pollFirst", "()Ljava/lang/Object;"⟩
def dkwJ5_pollFirst_1 : List UInt8 := [42, 28, 43, 190, 184, 0, 74, 181, 0, 24, 45, 176]
abbrev dktJ5_pollFirst_1 : List UInt8 := dkwJ5_pollFirst_1 ++ []
def dkwJ5_pollFirst_0 : List UInt8 := [42, 180, 0, 3, 89, 76, 42, 180, 0, 24, 89, 61, 184, 0, 103, 78, 45, 198, 0, 17, 43, 28, 1, 83]
abbrev dktJ5_pollFirst_0 : List UInt8 := dkwJ5_pollFirst_0 ++ dktJ5_pollFirst_1
theorem dksJ5_pollFirst_0 : cJ5_pollFirst.data.toList.drop 0 = dktJ5_pollFirst_0 := by decide +kernel
theorem dksJ5_pollFirst_1 : cJ5_pollFirst.data.toList.drop 24 = dktJ5_pollFirst_1 := dk_seg dksJ5_pollFirst_0 24 rfl rfl
theorem dJ5_pollFirst_0 : decode cJ5_pollFirst 0 = .ok (.aload_n 0, 1) := dk_42 (dk_at dksJ5_pollFirst_0 0 rfl rfl)
theorem dJ5_pollFirst_1 : decode cJ5_pollFirst 1 = .ok (.getfield 3, 3) := dk_180 0 3 (dk_at dksJ5_pollFirst_0 1 rfl rfl)
theorem dJ5_pollFirst_4 : decode cJ5_pollFirst 4 = .ok (.dup, 1) := dk_89 (dk_at dksJ5_pollFirst_0 4 rfl rfl)
theorem dJ5_pollFirst_5 : decode cJ5_pollFirst 5 = .ok (.astore_n 1, 1) := dk_76 (dk_at dksJ5_pollFirst_0 5 rfl rfl)
theorem dJ5_pollFirst_6 : decode cJ5_pollFirst 6 = .ok (.aload_n 0, 1) := dk_42 (dk_at dksJ5_pollFirst_0 6 rfl rfl)
theorem dJ5_pollFirst_7 : decode cJ5_pollFirst 7 = .ok (.getfield 24, 3) := dk_180 0 24 (dk_at dksJ5_pollFirst_0 7 rfl rfl)
theorem dJ5_pollFirst_10 : decode cJ5_pollFirst 10 = .ok (.dup, 1) := dk_89 (dk_at dksJ5_pollFirst_0 10 rfl rfl)
theorem dJ5_pollFirst_11 : decode cJ5_pollFirst 11 = .ok (.istore_n 2, 1) := dk_61 (dk_at dksJ5_pollFirst_0 11 rfl rfl)
theorem dJ5_pollFirst_12 : decode cJ5_pollFirst 12 = .ok (.invokestatic 103, 3) := dk_184 0 103 (dk_at dksJ5_pollFirst_0 12 rfl rfl)
theorem dJ5_pollFirst_15 : decode cJ5_pollFirst 15 = .ok (.astore_n 3, 1) := dk_78 (dk_at dksJ5_pollFirst_0 15 rfl rfl)
theorem dJ5_pollFirst_16 : decode cJ5_pollFirst 16 = .ok (.aload_n 3, 1) := dk_45 (dk_at dksJ5_pollFirst_0 16 rfl rfl)
theorem dJ5_pollFirst_17 : decode cJ5_pollFirst 17 = .ok (.ifnull 17, 3) := dk_198 0 17 (dk_at dksJ5_pollFirst_0 17 rfl rfl)
theorem dJ5_pollFirst_20 : decode cJ5_pollFirst 20 = .ok (.aload_n 1, 1) := dk_43 (dk_at dksJ5_pollFirst_0 20 rfl rfl)
theorem dJ5_pollFirst_21 : decode cJ5_pollFirst 21 = .ok (.iload_n 2, 1) := dk_28 (dk_at dksJ5_pollFirst_0 21 rfl rfl)
theorem dJ5_pollFirst_22 : decode cJ5_pollFirst 22 = .ok (.aconst_null, 1) := dk_1 (dk_at dksJ5_pollFirst_0 22 rfl rfl)
theorem dJ5_pollFirst_23 : decode cJ5_pollFirst 23 = .ok (.aastore, 1) := dk_83 (dk_at dksJ5_pollFirst_0 23 rfl rfl)
theorem dJ5_pollFirst_24 : decode cJ5_pollFirst 24 = .ok (.aload_n 0, 1) := dk_42 (dk_at dksJ5_pollFirst_1 0 rfl rfl)
theorem dJ5_pollFirst_25 : decode cJ5_pollFirst 25 = .ok (.iload_n 2, 1) := dk_28 (dk_at dksJ5_pollFirst_1 1 rfl rfl)
theorem dJ5_pollFirst_26 : decode cJ5_pollFirst 26 = .ok (.aload_n 1, 1) := dk_43 (dk_at dksJ5_pollFirst_1 2 rfl rfl)
theorem dJ5_pollFirst_27 : decode cJ5_pollFirst 27 = .ok (.arraylength, 1) := dk_190 (dk_at dksJ5_pollFirst_1 3 rfl rfl)
theorem dJ5_pollFirst_28 : decode cJ5_pollFirst 28 = .ok (.invokestatic 74, 3) := dk_184 0 74 (dk_at dksJ5_pollFirst_1 4 rfl rfl)
theorem dJ5_pollFirst_31 : decode cJ5_pollFirst 31 = .ok (.putfield 24, 3) := dk_181 0 24 (dk_at dksJ5_pollFirst_1 7 rfl rfl)
theorem dJ5_pollFirst_34 : decode cJ5_pollFirst 34 = .ok (.aload_n 3, 1) := dk_45 (dk_at dksJ5_pollFirst_1 10 rfl rfl)
theorem dJ5_pollFirst_35 : decode cJ5_pollFirst 35 = .ok (.areturn, 1) := dk_176 (dk_at dksJ5_pollFirst_1 11 rfl rfl)
abbrev cJ5_elementAt : ByteArray := prog_59_method_10_code
def yJ5_elementAt : MethodName := ⟨RJ5, "elementAt", "([Ljava/lang/Object;I)Ljava/lang/Object;"⟩
def dkwJ5_elementAt_0 : List UInt8 := [42, 27, 50, 176]
abbrev dktJ5_elementAt_0 : List UInt8 := dkwJ5_elementAt_0 ++ []
theorem dksJ5_elementAt_0 : cJ5_elementAt.data.toList.drop 0 = dktJ5_elementAt_0 := by decide +kernel
theorem dJ5_elementAt_0 : decode cJ5_elementAt 0 = .ok (.aload_n 0, 1) := dk_42 (dk_at dksJ5_elementAt_0 0 rfl rfl)
theorem dJ5_elementAt_1 : decode cJ5_elementAt 1 = .ok (.iload_n 1, 1) := dk_27 (dk_at dksJ5_elementAt_0 1 rfl rfl)
theorem dJ5_elementAt_2 : decode cJ5_elementAt 2 = .ok (.aaload, 1) := dk_50 (dk_at dksJ5_elementAt_0 2 rfl rfl)
theorem dJ5_elementAt_3 : decode cJ5_elementAt 3 = .ok (.areturn, 1) := dk_176 (dk_at dksJ5_elementAt_0 3 rfl rfl)
abbrev cJ5_isEmpty : ByteArray := prog_59_method_38_code
def yJ5_isEmpty : MethodName := ⟨RJ5, "isEmpty", "()Z"⟩
def dkwJ5_isEmpty_0 : List UInt8 := [42, 180, 0, 24, 42, 180, 0, 20, 160, 0, 7, 4, 167, 0, 4, 3, 172]
abbrev dktJ5_isEmpty_0 : List UInt8 := dkwJ5_isEmpty_0 ++ []
theorem dksJ5_isEmpty_0 : cJ5_isEmpty.data.toList.drop 0 = dktJ5_isEmpty_0 := by decide +kernel
theorem dJ5_isEmpty_0 : decode cJ5_isEmpty 0 = .ok (.aload_n 0, 1) := dk_42 (dk_at dksJ5_isEmpty_0 0 rfl rfl)
theorem dJ5_isEmpty_1 : decode cJ5_isEmpty 1 = .ok (.getfield 24, 3) := dk_180 0 24 (dk_at dksJ5_isEmpty_0 1 rfl rfl)
theorem dJ5_isEmpty_4 : decode cJ5_isEmpty 4 = .ok (.aload_n 0, 1) := dk_42 (dk_at dksJ5_isEmpty_0 4 rfl rfl)
theorem dJ5_isEmpty_5 : decode cJ5_isEmpty 5 = .ok (.getfield 20, 3) := dk_180 0 20 (dk_at dksJ5_isEmpty_0 5 rfl rfl)
theorem dJ5_isEmpty_8 : decode cJ5_isEmpty 8 = .ok (.if_icmp .ne 7, 3) := dk_160 0 7 (dk_at dksJ5_isEmpty_0 8 rfl rfl)
theorem dJ5_isEmpty_11 : decode cJ5_isEmpty 11 = .ok (.iconst 1, 1) := dk_4 (dk_at dksJ5_isEmpty_0 11 rfl rfl)
theorem dJ5_isEmpty_12 : decode cJ5_isEmpty 12 = .ok (.goto 4, 3) := dk_167 0 4 (dk_at dksJ5_isEmpty_0 12 rfl rfl)
theorem dJ5_isEmpty_15 : decode cJ5_isEmpty 15 = .ok (.iconst 0, 1) := dk_3 (dk_at dksJ5_isEmpty_0 15 rfl rfl)
theorem dJ5_isEmpty_16 : decode cJ5_isEmpty 16 = .ok (.ireturn, 1) := dk_172 (dk_at dksJ5_isEmpty_0 16 rfl rfl)
abbrev cJ5_removeLast : ByteArray := prog_59_method_19_code
def yJ5_removeLast : MethodName := ⟨RJ5, "removeLast", "()Ljava/lang/Object;"⟩
def dkwJ5_removeLast_0 : List UInt8 := [42, 182, 0, 100, 76, 43, 199, 0, 11, 187, 0, 97, 89, 183, 0, 99, 191, 43, 176]
abbrev dktJ5_removeLast_0 : List UInt8 := dkwJ5_removeLast_0 ++ []
theorem dksJ5_removeLast_0 : cJ5_removeLast.data.toList.drop 0 = dktJ5_removeLast_0 := by decide +kernel
theorem dJ5_removeLast_0 : decode cJ5_removeLast 0 = .ok (.aload_n 0, 1) := dk_42 (dk_at dksJ5_removeLast_0 0 rfl rfl)
theorem dJ5_removeLast_1 : decode cJ5_removeLast 1 = .ok (.invokevirtual 100, 3) := dk_182 0 100 (dk_at dksJ5_removeLast_0 1 rfl rfl)
theorem dJ5_removeLast_4 : decode cJ5_removeLast 4 = .ok (.astore_n 1, 1) := dk_76 (dk_at dksJ5_removeLast_0 4 rfl rfl)
theorem dJ5_removeLast_5 : decode cJ5_removeLast 5 = .ok (.aload_n 1, 1) := dk_43 (dk_at dksJ5_removeLast_0 5 rfl rfl)
theorem dJ5_removeLast_6 : decode cJ5_removeLast 6 = .ok (.ifnonnull 11, 3) := dk_199 0 11 (dk_at dksJ5_removeLast_0 6 rfl rfl)
theorem dJ5_removeLast_9 : decode cJ5_removeLast 9 = .ok (.new 97, 3) := dk_187 0 97 (dk_at dksJ5_removeLast_0 9 rfl rfl)
theorem dJ5_removeLast_12 : decode cJ5_removeLast 12 = .ok (.dup, 1) := dk_89 (dk_at dksJ5_removeLast_0 12 rfl rfl)
theorem dJ5_removeLast_13 : decode cJ5_removeLast 13 = .ok (.invokespecial 99, 3) := dk_183 0 99 (dk_at dksJ5_removeLast_0 13 rfl rfl)
theorem dJ5_removeLast_16 : decode cJ5_removeLast 16 = .ok (.athrow, 1) := dk_191 (dk_at dksJ5_removeLast_0 16 rfl rfl)
theorem dJ5_removeLast_17 : decode cJ5_removeLast 17 = .ok (.aload_n 1, 1) := dk_43 (dk_at dksJ5_removeLast_0 17 rfl rfl)
theorem dJ5_removeLast_18 : decode cJ5_removeLast 18 = .ok (.areturn, 1) := dk_176 (dk_at dksJ5_removeLast_0 18 rfl rfl)
abbrev cJ5_pollLast : ByteArray := prog_59_method_21_code
def yJ5_pollLast : MethodName := ⟨RJ5, "pollLast", "()Ljava/lang/Object;"⟩
def dkwJ5_pollLast_1 : List UInt8 := [198, 0, 12, 43, 42, 28, 90, 181, 0, 20, 1, 83, 45, 176]
abbrev dktJ5_pollLast_1 : List UInt8 := dkwJ5_pollLast_1 ++ []
def dkwJ5_pollLast_0 : List UInt8 := [42, 180, 0, 3, 89, 76, 42, 180, 0, 20, 43, 190, 184, 0, 68, 89, 61, 184, 0, 103, 78, 45]
abbrev dktJ5_pollLast_0 : List UInt8 := dkwJ5_pollLast_0 ++ dktJ5_pollLast_1
theorem dksJ5_pollLast_0 : cJ5_pollLast.data.toList.drop 0 = dktJ5_pollLast_0 := by decide +kernel
theorem dksJ5_pollLast_1 : cJ5_pollLast.data.toList.drop 22 = dktJ5_pollLast_1 := dk_seg dksJ5_pollLast_0 22 rfl rfl
theorem dJ5_pollLast_0 : decode cJ5_pollLast 0 = .ok (.aload_n 0, 1) := dk_42 (dk_at dksJ5_pollLast_0 0 rfl rfl)
theorem dJ5_pollLast_1 : decode cJ5_pollLast 1 = .ok (.getfield 3, 3) := dk_180 0 3 (dk_at dksJ5_pollLast_0 1 rfl rfl)
theorem dJ5_pollLast_4 : decode cJ5_pollLast 4 = .ok (.dup, 1) := dk_89 (dk_at dksJ5_pollLast_0 4 rfl rfl)
theorem dJ5_pollLast_5 : decode cJ5_pollLast 5 = .ok (.astore_n 1, 1) := dk_76 (dk_at dksJ5_pollLast_0 5 rfl rfl)
theorem dJ5_pollLast_6 : decode cJ5_pollLast 6 = .ok (.aload_n 0, 1) := dk_42 (dk_at dksJ5_pollLast_0 6 rfl rfl)
theorem dJ5_pollLast_7 : decode cJ5_pollLast 7 = .ok (.getfield 20, 3) := dk_180 0 20 (dk_at dksJ5_pollLast_0 7 rfl rfl)
theorem dJ5_pollLast_10 : decode cJ5_pollLast 10 = .ok (.aload_n 1, 1) := dk_43 (dk_at dksJ5_pollLast_0 10 rfl rfl)
theorem dJ5_pollLast_11 : decode cJ5_pollLast 11 = .ok (.arraylength, 1) := dk_190 (dk_at dksJ5_pollLast_0 11 rfl rfl)
theorem dJ5_pollLast_12 : decode cJ5_pollLast 12 = .ok (.invokestatic 68, 3) := dk_184 0 68 (dk_at dksJ5_pollLast_0 12 rfl rfl)
theorem dJ5_pollLast_15 : decode cJ5_pollLast 15 = .ok (.dup, 1) := dk_89 (dk_at dksJ5_pollLast_0 15 rfl rfl)
theorem dJ5_pollLast_16 : decode cJ5_pollLast 16 = .ok (.istore_n 2, 1) := dk_61 (dk_at dksJ5_pollLast_0 16 rfl rfl)
theorem dJ5_pollLast_17 : decode cJ5_pollLast 17 = .ok (.invokestatic 103, 3) := dk_184 0 103 (dk_at dksJ5_pollLast_0 17 rfl rfl)
theorem dJ5_pollLast_20 : decode cJ5_pollLast 20 = .ok (.astore_n 3, 1) := dk_78 (dk_at dksJ5_pollLast_0 20 rfl rfl)
theorem dJ5_pollLast_21 : decode cJ5_pollLast 21 = .ok (.aload_n 3, 1) := dk_45 (dk_at dksJ5_pollLast_0 21 rfl rfl)
theorem dJ5_pollLast_22 : decode cJ5_pollLast 22 = .ok (.ifnull 12, 3) := dk_198 0 12 (dk_at dksJ5_pollLast_1 0 rfl rfl)
theorem dJ5_pollLast_25 : decode cJ5_pollLast 25 = .ok (.aload_n 1, 1) := dk_43 (dk_at dksJ5_pollLast_1 3 rfl rfl)
theorem dJ5_pollLast_26 : decode cJ5_pollLast 26 = .ok (.aload_n 0, 1) := dk_42 (dk_at dksJ5_pollLast_1 4 rfl rfl)
theorem dJ5_pollLast_27 : decode cJ5_pollLast 27 = .ok (.iload_n 2, 1) := dk_28 (dk_at dksJ5_pollLast_1 5 rfl rfl)
theorem dJ5_pollLast_28 : decode cJ5_pollLast 28 = .ok (.dup_x1, 1) := dk_90 (dk_at dksJ5_pollLast_1 6 rfl rfl)
theorem dJ5_pollLast_29 : decode cJ5_pollLast 29 = .ok (.putfield 20, 3) := dk_181 0 20 (dk_at dksJ5_pollLast_1 7 rfl rfl)
theorem dJ5_pollLast_32 : decode cJ5_pollLast 32 = .ok (.aconst_null, 1) := dk_1 (dk_at dksJ5_pollLast_1 10 rfl rfl)
theorem dJ5_pollLast_33 : decode cJ5_pollLast 33 = .ok (.aastore, 1) := dk_83 (dk_at dksJ5_pollLast_1 11 rfl rfl)
theorem dJ5_pollLast_34 : decode cJ5_pollLast 34 = .ok (.aload_n 3, 1) := dk_45 (dk_at dksJ5_pollLast_1 12 rfl rfl)
theorem dJ5_pollLast_35 : decode cJ5_pollLast 35 = .ok (.areturn, 1) := dk_176 (dk_at dksJ5_pollLast_1 13 rfl rfl)
abbrev cJ5_peekLast : ByteArray := prog_59_method_25_code
def yJ5_peekLast : MethodName := ⟨RJ5, "peekLast", "()Ljava/lang/Object;"⟩
def dkwJ5_peekLast_0 : List UInt8 := [42, 180, 0, 3, 89, 76, 42, 180, 0, 20, 43, 190, 184, 0, 68, 184, 0, 103, 176]
abbrev dktJ5_peekLast_0 : List UInt8 := dkwJ5_peekLast_0 ++ []
theorem dksJ5_peekLast_0 : cJ5_peekLast.data.toList.drop 0 = dktJ5_peekLast_0 := by decide +kernel
theorem dJ5_peekLast_0 : decode cJ5_peekLast 0 = .ok (.aload_n 0, 1) := dk_42 (dk_at dksJ5_peekLast_0 0 rfl rfl)
theorem dJ5_peekLast_1 : decode cJ5_peekLast 1 = .ok (.getfield 3, 3) := dk_180 0 3 (dk_at dksJ5_peekLast_0 1 rfl rfl)
theorem dJ5_peekLast_4 : decode cJ5_peekLast 4 = .ok (.dup, 1) := dk_89 (dk_at dksJ5_peekLast_0 4 rfl rfl)
theorem dJ5_peekLast_5 : decode cJ5_peekLast 5 = .ok (.astore_n 1, 1) := dk_76 (dk_at dksJ5_peekLast_0 5 rfl rfl)
theorem dJ5_peekLast_6 : decode cJ5_peekLast 6 = .ok (.aload_n 0, 1) := dk_42 (dk_at dksJ5_peekLast_0 6 rfl rfl)
theorem dJ5_peekLast_7 : decode cJ5_peekLast 7 = .ok (.getfield 20, 3) := dk_180 0 20 (dk_at dksJ5_peekLast_0 7 rfl rfl)
theorem dJ5_peekLast_10 : decode cJ5_peekLast 10 = .ok (.aload_n 1, 1) := dk_43 (dk_at dksJ5_peekLast_0 10 rfl rfl)
theorem dJ5_peekLast_11 : decode cJ5_peekLast 11 = .ok (.arraylength, 1) := dk_190 (dk_at dksJ5_peekLast_0 11 rfl rfl)
theorem dJ5_peekLast_12 : decode cJ5_peekLast 12 = .ok (.invokestatic 68, 3) := dk_184 0 68 (dk_at dksJ5_peekLast_0 12 rfl rfl)
theorem dJ5_peekLast_15 : decode cJ5_peekLast 15 = .ok (.invokestatic 103, 3) := dk_184 0 103 (dk_at dksJ5_peekLast_0 15 rfl rfl)
theorem dJ5_peekLast_18 : decode cJ5_peekLast 18 = .ok (.areturn, 1) := dk_176 (dk_at dksJ5_peekLast_0 18 rfl rfl)
abbrev cJ5_descendingIterator : ByteArray := prog_59_method_40_code
def yJ5_descendingIterator : MethodName := ⟨RJ5, "descendingIterator", "()Ljava/util/Iterator;"⟩
def dkwJ5_descendingIterator_0 : List UInt8 := [187, 0, 136, 89, 42, 183, 0, 138, 176]
abbrev dktJ5_descendingIterator_0 : List UInt8 := dkwJ5_descendingIterator_0 ++ []
theorem dksJ5_descendingIterator_0 : cJ5_descendingIterator.data.toList.drop 0 = dktJ5_descendingIterator_0 := by decide +kernel
theorem dJ5_descendingIterator_0 : decode cJ5_descendingIterator 0 = .ok (.new 136, 3) := dk_187 0 136 (dk_at dksJ5_descendingIterator_0 0 rfl rfl)
theorem dJ5_descendingIterator_3 : decode cJ5_descendingIterator 3 = .ok (.dup, 1) := dk_89 (dk_at dksJ5_descendingIterator_0 3 rfl rfl)
theorem dJ5_descendingIterator_4 : decode cJ5_descendingIterator 4 = .ok (.aload_n 0, 1) := dk_42 (dk_at dksJ5_descendingIterator_0 4 rfl rfl)
theorem dJ5_descendingIterator_5 : decode cJ5_descendingIterator 5 = .ok (.invokespecial 138, 3) := dk_183 0 138 (dk_at dksJ5_descendingIterator_0 5 rfl rfl)
theorem dJ5_descendingIterator_8 : decode cJ5_descendingIterator 8 = .ok (.areturn, 1) := dk_176 (dk_at dksJ5_descendingIterator_0 8 rfl rfl)
theorem q125 : (Jvm.Cond.initialized "java/util/ArrayDeque") ∈ lw_all := lw_g (lw_at lw_m1 8 rfl) rfl
theorem q257 : (Jvm.Cond.instantiable "java/util/ArrayDeque" (3 : Nat)) ∈ lw_all := lw_g (lw_at lw_m1 140 rfl) rfl
theorem q259 : (Jvm.Cond.instanceMethod ({ cls := "java/util/ArrayDeque", name := "<init>", desc := "()V" } : Jvm.MethodName)) ∈ lw_all := lw_g (lw_at lw_m1 142 rfl) rfl
theorem q260 : (Jvm.Cond.code ({ cls := "java/util/ArrayDeque", name := "<init>", desc := "()V" } : Jvm.MethodName) prog_59_method_3_code (1 : Nat) (Option.none : Option Jvm.ClassFile.FieldType)) ∈ lw_all := lw_g (lw_at lw_m1 143 rfl) rfl
theorem q261 : (Jvm.Cond.methodLink "java/util/ArrayDeque" (42 : Nat) ({ cls := "java/util/AbstractCollection", name := "<init>", desc := "()V" } : Jvm.MethodName)) ∈ lw_all := lw_g (lw_at lw_m1 144 rfl) rfl
theorem q262 : (Jvm.Cond.classLink "java/util/ArrayDeque" (47 : Nat) "java/lang/Object") ∈ lw_all := lw_g (lw_at lw_m1 145 rfl) rfl
theorem q264 : (Jvm.Cond.fieldLink "java/util/ArrayDeque" (3 : Nat) "java/util/ArrayDeque" "elements" "[Ljava/lang/Object;") ∈ lw_all := lw_g (lw_at lw_m1 147 rfl) rfl
theorem q267 : (Jvm.Cond.fieldLink "java/util/ArrayDeque" (24 : Nat) "java/util/ArrayDeque" "head" "I") ∈ lw_all := lw_g (lw_at lw_m1 150 rfl) rfl
theorem q269 : (Jvm.Cond.fieldLink "java/util/ArrayDeque" (20 : Nat) "java/util/ArrayDeque" "tail" "I") ∈ lw_all := lw_g (lw_at lw_m1 152 rfl) rfl
theorem q270 : (Jvm.Cond.lays "java/util/ArrayDeque" "java/util/ArrayDeque" "elements" "[Ljava/lang/Object;") ∈ lw_all := lw_g (lw_at lw_m1 153 rfl) rfl
theorem q271 : (Jvm.Cond.soleField "java/util/ArrayDeque" "elements") ∈ lw_all := lw_g (lw_at lw_m1 154 rfl) rfl
theorem q272 : (Jvm.Cond.lays "java/util/ArrayDeque" "java/util/ArrayDeque" "head" "I") ∈ lw_all := lw_g (lw_at lw_m1 155 rfl) rfl
theorem q273 : (Jvm.Cond.soleField "java/util/ArrayDeque" "head") ∈ lw_all := lw_g (lw_at lw_m1 156 rfl) rfl
theorem q274 : (Jvm.Cond.lays "java/util/ArrayDeque" "java/util/ArrayDeque" "tail" "I") ∈ lw_all := lw_g (lw_at lw_m1 157 rfl) rfl
theorem q275 : (Jvm.Cond.soleField "java/util/ArrayDeque" "tail") ∈ lw_all := lw_g (lw_at lw_m1 158 rfl) rfl
theorem q276 : (Jvm.Cond.superclass "java/util/ArrayDeque" "java/util/AbstractCollection") ∈ lw_all := lw_g (lw_at lw_m1 159 rfl) rfl
theorem q1079 : (Jvm.Cond.selects "java/util/ArrayDeque" ({ cls := "java/lang/Object", name := "getClass", desc := "()Ljava/lang/Class;" } : Jvm.MethodName) ({ cls := "java/lang/Object", name := "getClass", desc := "()Ljava/lang/Class;" } : Jvm.MethodName)) ∈ lw_all := lw_g (lw_at lw_m5 2 rfl) rfl
theorem q1209 : (Jvm.Cond.instanceMethod ({ cls := "java/util/ArrayDeque", name := "size", desc := "()I" } : Jvm.MethodName)) ∈ lw_all := lw_g (lw_at lw_m5 132 rfl) rfl
theorem q1210 : (Jvm.Cond.selects "java/util/ArrayDeque" ({ cls := "java/util/ArrayDeque", name := "size", desc := "()I" } : Jvm.MethodName) ({ cls := "java/util/ArrayDeque", name := "size", desc := "()I" } : Jvm.MethodName)) ∈ lw_all := lw_g (lw_at lw_m5 133 rfl) rfl
theorem q1211 : (Jvm.Cond.code ({ cls := "java/util/ArrayDeque", name := "size", desc := "()I" } : Jvm.MethodName) prog_59_method_37_code (1 : Nat) (Option.some Jvm.ClassFile.FieldType.int)) ∈ lw_all := lw_g (lw_at lw_m5 134 rfl) rfl
theorem q1212 : (Jvm.Cond.methodLink "java/util/ArrayDeque" (127 : Nat) ({ cls := "java/util/ArrayDeque", name := "sub", desc := "(III)I" } : Jvm.MethodName)) ∈ lw_all := lw_g (lw_at lw_m5 135 rfl) rfl
theorem q1213 : (Jvm.Cond.static ({ cls := "java/util/ArrayDeque", name := "sub", desc := "(III)I" } : Jvm.MethodName)) ∈ lw_all := lw_g (lw_at lw_m5 136 rfl) rfl
theorem q1214 : (Jvm.Cond.code ({ cls := "java/util/ArrayDeque", name := "sub", desc := "(III)I" } : Jvm.MethodName) prog_59_method_9_code (3 : Nat) (Option.some Jvm.ClassFile.FieldType.int)) ∈ lw_all := lw_g (lw_at lw_m5 137 rfl) rfl
theorem q1641 : (Jvm.Cond.static ({ cls := "java/util/ArrayDeque", name := "nonNullElementAt", desc := "([Ljava/lang/Object;I)Ljava/lang/Object;" } : Jvm.MethodName)) ∈ lw_all := lw_g (lw_at lw_m7 84 rfl) rfl
theorem q1642 : (Jvm.Cond.code ({ cls := "java/util/ArrayDeque", name := "nonNullElementAt", desc := "([Ljava/lang/Object;I)Ljava/lang/Object;" } : Jvm.MethodName) prog_59_method_11_code (3 : Nat) (Option.some (Jvm.ClassFile.FieldType.object "java/lang/Object"))) ∈ lw_all := lw_g (lw_at lw_m7 85 rfl) rfl
theorem q1644 : (Jvm.Cond.static ({ cls := "java/util/ArrayDeque", name := "dec", desc := "(II)I" } : Jvm.MethodName)) ∈ lw_all := lw_g (lw_at lw_m7 87 rfl) rfl
theorem q1645 : (Jvm.Cond.code ({ cls := "java/util/ArrayDeque", name := "dec", desc := "(II)I" } : Jvm.MethodName) prog_59_method_7_code (2 : Nat) (Option.some Jvm.ClassFile.FieldType.int)) ∈ lw_all := lw_g (lw_at lw_m7 88 rfl) rfl
theorem q1998 : (Jvm.Cond.instanceMethod ({ cls := "java/util/ArrayDeque", name := "clear", desc := "()V" } : Jvm.MethodName)) ∈ lw_all := lw_g (lw_at lw_m8 201 rfl) rfl
theorem q1999 : (Jvm.Cond.selects "java/util/ArrayDeque" ({ cls := "java/util/ArrayDeque", name := "clear", desc := "()V" } : Jvm.MethodName) ({ cls := "java/util/ArrayDeque", name := "clear", desc := "()V" } : Jvm.MethodName)) ∈ lw_all := lw_g (lw_at lw_m8 202 rfl) rfl
theorem q2000 : (Jvm.Cond.code ({ cls := "java/util/ArrayDeque", name := "clear", desc := "()V" } : Jvm.MethodName) prog_59_method_53_code (1 : Nat) (Option.none : Option Jvm.ClassFile.FieldType)) ∈ lw_all := lw_g (lw_at lw_m8 203 rfl) rfl
theorem q2001 : (Jvm.Cond.methodLink "java/util/ArrayDeque" (181 : Nat) ({ cls := "java/util/ArrayDeque", name := "circularClear", desc := "([Ljava/lang/Object;II)V" } : Jvm.MethodName)) ∈ lw_all := lw_g (lw_at lw_m8 204 rfl) rfl
theorem q2002 : (Jvm.Cond.static ({ cls := "java/util/ArrayDeque", name := "circularClear", desc := "([Ljava/lang/Object;II)V" } : Jvm.MethodName)) ∈ lw_all := lw_g (lw_at lw_m8 205 rfl) rfl
theorem q2003 : (Jvm.Cond.code ({ cls := "java/util/ArrayDeque", name := "circularClear", desc := "([Ljava/lang/Object;II)V" } : Jvm.MethodName) prog_59_method_54_code (4 : Nat) (Option.none : Option Jvm.ClassFile.FieldType)) ∈ lw_all := lw_g (lw_at lw_m8 206 rfl) rfl
theorem q2048 : (Jvm.Cond.instanceMethod ({ cls := "java/util/ArrayDeque", name := "addLast", desc := "(Ljava/lang/Object;)V" } : Jvm.MethodName)) ∈ lw_all := lw_g (lw_at lw_m9 11 rfl) rfl
theorem q2049 : (Jvm.Cond.selects "java/util/ArrayDeque" ({ cls := "java/util/ArrayDeque", name := "addLast", desc := "(Ljava/lang/Object;)V" } : Jvm.MethodName) ({ cls := "java/util/ArrayDeque", name := "addLast", desc := "(Ljava/lang/Object;)V" } : Jvm.MethodName)) ∈ lw_all := lw_g (lw_at lw_m9 12 rfl) rfl
theorem q2050 : (Jvm.Cond.code ({ cls := "java/util/ArrayDeque", name := "addLast", desc := "(Ljava/lang/Object;)V" } : Jvm.MethodName) prog_59_method_13_code (3 : Nat) (Option.none : Option Jvm.ClassFile.FieldType)) ∈ lw_all := lw_g (lw_at lw_m9 13 rfl) rfl
theorem q2051 : (Jvm.Cond.methodLink "java/util/ArrayDeque" (74 : Nat) ({ cls := "java/util/ArrayDeque", name := "inc", desc := "(II)I" } : Jvm.MethodName)) ∈ lw_all := lw_g (lw_at lw_m9 14 rfl) rfl
theorem q2052 : (Jvm.Cond.static ({ cls := "java/util/ArrayDeque", name := "inc", desc := "(II)I" } : Jvm.MethodName)) ∈ lw_all := lw_g (lw_at lw_m9 15 rfl) rfl
theorem q2053 : (Jvm.Cond.code ({ cls := "java/util/ArrayDeque", name := "inc", desc := "(II)I" } : Jvm.MethodName) prog_59_method_6_code (2 : Nat) (Option.some Jvm.ClassFile.FieldType.int)) ∈ lw_all := lw_g (lw_at lw_m9 16 rfl) rfl
theorem q2054 : (Jvm.Cond.methodLink "java/util/ArrayDeque" (71 : Nat) ({ cls := "java/util/ArrayDeque", name := "grow", desc := "(I)V" } : Jvm.MethodName)) ∈ lw_all := lw_g (lw_at lw_m9 17 rfl) rfl
theorem q2055 : (Jvm.Cond.privateMethod ({ cls := "java/util/ArrayDeque", name := "grow", desc := "(I)V" } : Jvm.MethodName)) ∈ lw_tbl := lw_at lw_m9 18 rfl
theorem q2056 : (Jvm.Cond.instanceMethod ({ cls := "java/util/ArrayDeque", name := "grow", desc := "(I)V" } : Jvm.MethodName)) ∈ lw_all := lw_g (lw_at lw_m9 19 rfl) rfl
theorem q2057 : (Jvm.Cond.code ({ cls := "java/util/ArrayDeque", name := "grow", desc := "(I)V" } : Jvm.MethodName) prog_59_method_1_code (9 : Nat) (Option.none : Option Jvm.ClassFile.FieldType)) ∈ lw_all := lw_g (lw_at lw_m9 20 rfl) rfl
theorem q2058 : (Jvm.Cond.constant "java/util/ArrayDeque" (9 : Nat) (2147483639 : Int32)) ∈ lw_all := lw_g (lw_at lw_m9 21 rfl) rfl
theorem q2059 : (Jvm.Cond.methodLink "java/util/ArrayDeque" (10 : Nat) ({ cls := "java/util/ArrayDeque", name := "newCapacity", desc := "(II)I" } : Jvm.MethodName)) ∈ lw_all := lw_g (lw_at lw_m9 22 rfl) rfl
theorem q2060 : (Jvm.Cond.privateMethod ({ cls := "java/util/ArrayDeque", name := "newCapacity", desc := "(II)I" } : Jvm.MethodName)) ∈ lw_tbl := lw_at lw_m9 23 rfl
theorem q2061 : (Jvm.Cond.instanceMethod ({ cls := "java/util/ArrayDeque", name := "newCapacity", desc := "(II)I" } : Jvm.MethodName)) ∈ lw_all := lw_g (lw_at lw_m9 24 rfl) rfl
theorem q2062 : (Jvm.Cond.code ({ cls := "java/util/ArrayDeque", name := "newCapacity", desc := "(II)I" } : Jvm.MethodName) prog_59_method_2_code (5 : Nat) (Option.some Jvm.ClassFile.FieldType.int)) ∈ lw_all := lw_g (lw_at lw_m9 25 rfl) rfl
theorem q2063 : (Jvm.Cond.classLink "java/util/ArrayDeque" (33 : Nat) "java/lang/IllegalStateException") ∈ lw_all := lw_g (lw_at lw_m9 26 rfl) rfl
theorem q2064 : (Jvm.Cond.stringRef "java/util/ArrayDeque" (35 : Nat) "Sorry, deque too big") ∈ lw_tbl := lw_at lw_m9 27 rfl
theorem q2065 : (Jvm.Cond.methodLink "java/util/ArrayDeque" (37 : Nat) ({ cls := "java/lang/IllegalStateException", name := "<init>", desc := "(Ljava/lang/String;)V" } : Jvm.MethodName)) ∈ lw_all := lw_g (lw_at lw_m9 28 rfl) rfl
theorem q2066 : (Jvm.Cond.constant "java/util/ArrayDeque" (41 : Nat) (2147483647 : Int32)) ∈ lw_all := lw_g (lw_at lw_m9 29 rfl) rfl
theorem q2067 : (Jvm.Cond.methodLink "java/util/ArrayDeque" (14 : Nat) ({ cls := "java/util/Arrays", name := "copyOf", desc := "([Ljava/lang/Object;I)[Ljava/lang/Object;" } : Jvm.MethodName)) ∈ lw_all := lw_g (lw_at lw_m9 30 rfl) rfl
theorem q2068 : (Jvm.Cond.methodLink "java/util/ArrayDeque" (27 : Nat) ({ cls := "java/lang/System", name := "arraycopy", desc := "(Ljava/lang/Object;ILjava/lang/Object;II)V" } : Jvm.MethodName)) ∈ lw_all := lw_g (lw_at lw_m9 31 rfl) rfl
theorem q2071 : (Jvm.Cond.instanceMethod ({ cls := "java/util/ArrayDeque", name := "removeFirst", desc := "()Ljava/lang/Object;" } : Jvm.MethodName)) ∈ lw_all := lw_g (lw_at lw_m9 34 rfl) rfl
theorem q2072 : (Jvm.Cond.selects "java/util/ArrayDeque" ({ cls := "java/util/ArrayDeque", name := "removeFirst", desc := "()Ljava/lang/Object;" } : Jvm.MethodName) ({ cls := "java/util/ArrayDeque", name := "removeFirst", desc := "()Ljava/lang/Object;" } : Jvm.MethodName)) ∈ lw_all := lw_g (lw_at lw_m9 35 rfl) rfl
theorem q2073 : (Jvm.Cond.code ({ cls := "java/util/ArrayDeque", name := "removeFirst", desc := "()Ljava/lang/Object;" } : Jvm.MethodName) prog_59_method_18_code (2 : Nat) (Option.some (Jvm.ClassFile.FieldType.object "java/lang/Object"))) ∈ lw_all := lw_g (lw_at lw_m9 36 rfl) rfl
theorem q2074 : (Jvm.Cond.methodLink "java/util/ArrayDeque" (93 : Nat) ({ cls := "java/util/ArrayDeque", name := "pollFirst", desc := "()Ljava/lang/Object;" } : Jvm.MethodName)) ∈ lw_all := lw_g (lw_at lw_m9 37 rfl) rfl
theorem q2075 : (Jvm.Cond.instanceMethod ({ cls := "java/util/ArrayDeque", name := "pollFirst", desc := "()Ljava/lang/Object;" } : Jvm.MethodName)) ∈ lw_all := lw_g (lw_at lw_m9 38 rfl) rfl
theorem q2076 : (Jvm.Cond.selects "java/util/ArrayDeque" ({ cls := "java/util/ArrayDeque", name := "pollFirst", desc := "()Ljava/lang/Object;" } : Jvm.MethodName) ({ cls := "java/util/ArrayDeque", name := "pollFirst", desc := "()Ljava/lang/Object;" } : Jvm.MethodName)) ∈ lw_all := lw_g (lw_at lw_m9 39 rfl) rfl
theorem q2077 : (Jvm.Cond.code ({ cls := "java/util/ArrayDeque", name := "pollFirst", desc := "()Ljava/lang/Object;" } : Jvm.MethodName) prog_59_method_20_code (4 : Nat) (Option.some (Jvm.ClassFile.FieldType.object "java/lang/Object"))) ∈ lw_all := lw_g (lw_at lw_m9 40 rfl) rfl
theorem q2078 : (Jvm.Cond.methodLink "java/util/ArrayDeque" (103 : Nat) ({ cls := "java/util/ArrayDeque", name := "elementAt", desc := "([Ljava/lang/Object;I)Ljava/lang/Object;" } : Jvm.MethodName)) ∈ lw_all := lw_g (lw_at lw_m9 41 rfl) rfl
theorem q2079 : (Jvm.Cond.static ({ cls := "java/util/ArrayDeque", name := "elementAt", desc := "([Ljava/lang/Object;I)Ljava/lang/Object;" } : Jvm.MethodName)) ∈ lw_all := lw_g (lw_at lw_m9 42 rfl) rfl
theorem q2080 : (Jvm.Cond.code ({ cls := "java/util/ArrayDeque", name := "elementAt", desc := "([Ljava/lang/Object;I)Ljava/lang/Object;" } : Jvm.MethodName) prog_59_method_10_code (2 : Nat) (Option.some (Jvm.ClassFile.FieldType.object "java/lang/Object"))) ∈ lw_all := lw_g (lw_at lw_m9 43 rfl) rfl
theorem q2081 : (Jvm.Cond.classLink "java/util/ArrayDeque" (97 : Nat) "java/util/NoSuchElementException") ∈ lw_all := lw_g (lw_at lw_m9 44 rfl) rfl
theorem q2082 : (Jvm.Cond.methodLink "java/util/ArrayDeque" (99 : Nat) ({ cls := "java/util/NoSuchElementException", name := "<init>", desc := "()V" } : Jvm.MethodName)) ∈ lw_all := lw_g (lw_at lw_m9 45 rfl) rfl
theorem q2310 : (Jvm.Cond.instanceMethod ({ cls := "java/util/ArrayDeque", name := "isEmpty", desc := "()Z" } : Jvm.MethodName)) ∈ lw_all := lw_g (lw_at lw_m10 33 rfl) rfl
theorem q2311 : (Jvm.Cond.selects "java/util/ArrayDeque" ({ cls := "java/util/ArrayDeque", name := "isEmpty", desc := "()Z" } : Jvm.MethodName) ({ cls := "java/util/ArrayDeque", name := "isEmpty", desc := "()Z" } : Jvm.MethodName)) ∈ lw_all := lw_g (lw_at lw_m10 34 rfl) rfl
theorem q2312 : (Jvm.Cond.code ({ cls := "java/util/ArrayDeque", name := "isEmpty", desc := "()Z" } : Jvm.MethodName) prog_59_method_38_code (1 : Nat) (Option.some Jvm.ClassFile.FieldType.boolean)) ∈ lw_all := lw_g (lw_at lw_m10 35 rfl) rfl
theorem q2314 : (Jvm.Cond.instanceMethod ({ cls := "java/util/ArrayDeque", name := "removeLast", desc := "()Ljava/lang/Object;" } : Jvm.MethodName)) ∈ lw_all := lw_g (lw_at lw_m10 37 rfl) rfl
theorem q2315 : (Jvm.Cond.selects "java/util/ArrayDeque" ({ cls := "java/util/ArrayDeque", name := "removeLast", desc := "()Ljava/lang/Object;" } : Jvm.MethodName) ({ cls := "java/util/ArrayDeque", name := "removeLast", desc := "()Ljava/lang/Object;" } : Jvm.MethodName)) ∈ lw_all := lw_g (lw_at lw_m10 38 rfl) rfl
theorem q2316 : (Jvm.Cond.code ({ cls := "java/util/ArrayDeque", name := "removeLast", desc := "()Ljava/lang/Object;" } : Jvm.MethodName) prog_59_method_19_code (2 : Nat) (Option.some (Jvm.ClassFile.FieldType.object "java/lang/Object"))) ∈ lw_all := lw_g (lw_at lw_m10 39 rfl) rfl
theorem q2317 : (Jvm.Cond.methodLink "java/util/ArrayDeque" (100 : Nat) ({ cls := "java/util/ArrayDeque", name := "pollLast", desc := "()Ljava/lang/Object;" } : Jvm.MethodName)) ∈ lw_all := lw_g (lw_at lw_m10 40 rfl) rfl
theorem q2318 : (Jvm.Cond.instanceMethod ({ cls := "java/util/ArrayDeque", name := "pollLast", desc := "()Ljava/lang/Object;" } : Jvm.MethodName)) ∈ lw_all := lw_g (lw_at lw_m10 41 rfl) rfl
theorem q2319 : (Jvm.Cond.selects "java/util/ArrayDeque" ({ cls := "java/util/ArrayDeque", name := "pollLast", desc := "()Ljava/lang/Object;" } : Jvm.MethodName) ({ cls := "java/util/ArrayDeque", name := "pollLast", desc := "()Ljava/lang/Object;" } : Jvm.MethodName)) ∈ lw_all := lw_g (lw_at lw_m10 42 rfl) rfl
theorem q2320 : (Jvm.Cond.code ({ cls := "java/util/ArrayDeque", name := "pollLast", desc := "()Ljava/lang/Object;" } : Jvm.MethodName) prog_59_method_21_code (4 : Nat) (Option.some (Jvm.ClassFile.FieldType.object "java/lang/Object"))) ∈ lw_all := lw_g (lw_at lw_m10 43 rfl) rfl
theorem q2321 : (Jvm.Cond.methodLink "java/util/ArrayDeque" (68 : Nat) ({ cls := "java/util/ArrayDeque", name := "dec", desc := "(II)I" } : Jvm.MethodName)) ∈ lw_all := lw_g (lw_at lw_m10 44 rfl) rfl
theorem q2464 : (Jvm.Cond.instanceMethod ({ cls := "java/util/ArrayDeque", name := "peekLast", desc := "()Ljava/lang/Object;" } : Jvm.MethodName)) ∈ lw_all := lw_g (lw_at lw_m10 187 rfl) rfl
theorem q2465 : (Jvm.Cond.selects "java/util/ArrayDeque" ({ cls := "java/util/ArrayDeque", name := "peekLast", desc := "()Ljava/lang/Object;" } : Jvm.MethodName) ({ cls := "java/util/ArrayDeque", name := "peekLast", desc := "()Ljava/lang/Object;" } : Jvm.MethodName)) ∈ lw_all := lw_g (lw_at lw_m10 188 rfl) rfl
theorem q2466 : (Jvm.Cond.code ({ cls := "java/util/ArrayDeque", name := "peekLast", desc := "()Ljava/lang/Object;" } : Jvm.MethodName) prog_59_method_25_code (2 : Nat) (Option.some (Jvm.ClassFile.FieldType.object "java/lang/Object"))) ∈ lw_all := lw_g (lw_at lw_m10 189 rfl) rfl
theorem q2493 : (Jvm.Cond.instanceMethod ({ cls := "java/util/ArrayDeque", name := "descendingIterator", desc := "()Ljava/util/Iterator;" } : Jvm.MethodName)) ∈ lw_all := lw_g (lw_at lw_m10 216 rfl) rfl
theorem q2494 : (Jvm.Cond.selects "java/util/ArrayDeque" ({ cls := "java/util/ArrayDeque", name := "descendingIterator", desc := "()Ljava/util/Iterator;" } : Jvm.MethodName) ({ cls := "java/util/ArrayDeque", name := "descendingIterator", desc := "()Ljava/util/Iterator;" } : Jvm.MethodName)) ∈ lw_all := lw_g (lw_at lw_m10 217 rfl) rfl
theorem q2495 : (Jvm.Cond.code ({ cls := "java/util/ArrayDeque", name := "descendingIterator", desc := "()Ljava/util/Iterator;" } : Jvm.MethodName) prog_59_method_40_code (1 : Nat) (Option.some (Jvm.ClassFile.FieldType.object "java/util/Iterator"))) ∈ lw_all := lw_g (lw_at lw_m10 218 rfl) rfl
theorem q2496 : (Jvm.Cond.classLink "java/util/ArrayDeque" (136 : Nat) "java/util/ArrayDeque$DescendingIterator") ∈ lw_all := lw_g (lw_at lw_m10 219 rfl) rfl
theorem q2498 : (Jvm.Cond.methodLink "java/util/ArrayDeque" (138 : Nat) ({ cls := "java/util/ArrayDeque$DescendingIterator", name := "<init>", desc := "(Ljava/util/ArrayDeque;)V" } : Jvm.MethodName)) ∈ lw_all := lw_g (lw_at lw_m10 221 rfl) rfl
theorem q3480 : (Jvm.Cond.castable "java/util/ArrayDeque" "java/lang/Object") ∈ lw_tbl := lw_at lw_m15 3 rfl
theorem in_J5 : ∀ w ∈ wsJ50, w ∈ lw_all := lw_in wsJ50 [270, 272, 274] (by decide +kernel) (by decide +kernel)

/-! java/lang/Throwable -/
def RJ6 : String := "java/lang/Throwable"
def TJ6 : u_T := fun k => match k with
  | 0 => ("java/lang/Throwable", "cause", "Ljava/lang/Throwable;", false)
  | 1 => ("java/lang/Throwable", "stackTrace", "[Ljava/lang/StackTraceElement;", false)
  | 2 => ("java/lang/Throwable", "suppressedExceptions", "Ljava/util/List;", false)
  | 3 => ("java/lang/Throwable", "detailMessage", "Ljava/lang/String;", false)
  | _ => ("java/lang/Throwable", "backtrace", "Ljava/lang/Object;", false)
def tyJ6 : Nat → FieldType := fun k => match k with
  | 0 => .object "java/lang/Throwable"
  | 1 => .array (.object "java/lang/StackTraceElement")
  | 2 => .object "java/util/List"
  | 3 => .object "java/lang/String"
  | _ => .object "java/lang/Object"
abbrev wsJ60 : List Cond := u_ws RJ6 TJ6 5
theorem nmJ6 : ∀ a, a < 5 → ∀ b, b < 5 → a ≠ b → (TJ6 a).2.1 ≠ (TJ6 b).2.1 := by decide +kernel
theorem tyJ6_ok : ∀ k, k < 5 → parseFieldDescriptor (TJ6 k).2.2.1 = some (tyJ6 k) := by decide +kernel
abbrev cJ6_init : ByteArray := prog_51_method_1_code
def yJ6_init : MethodName := ⟨RJ6, "<init>", "()V"⟩
def dkwJ6_init_1 : List UInt8 := [182, 0, 27, 87, 177]
abbrev dktJ6_init_1 : List UInt8 := dkwJ6_init_1 ++ []
def dkwJ6_init_0 : List UInt8 := [42, 183, 0, 1, 42, 42, 181, 0, 7, 42, 178, 0, 13, 181, 0, 17, 42, 178, 0, 20, 181, 0, 24, 42]
abbrev dktJ6_init_0 : List UInt8 := dkwJ6_init_0 ++ dktJ6_init_1
theorem dksJ6_init_0 : cJ6_init.data.toList.drop 0 = dktJ6_init_0 := by decide +kernel
theorem dksJ6_init_1 : cJ6_init.data.toList.drop 24 = dktJ6_init_1 := dk_seg dksJ6_init_0 24 rfl rfl
theorem dJ6_init_0 : decode cJ6_init 0 = .ok (.aload_n 0, 1) := dk_42 (dk_at dksJ6_init_0 0 rfl rfl)
theorem dJ6_init_1 : decode cJ6_init 1 = .ok (.invokespecial 1, 3) := dk_183 0 1 (dk_at dksJ6_init_0 1 rfl rfl)
theorem dJ6_init_4 : decode cJ6_init 4 = .ok (.aload_n 0, 1) := dk_42 (dk_at dksJ6_init_0 4 rfl rfl)
theorem dJ6_init_5 : decode cJ6_init 5 = .ok (.aload_n 0, 1) := dk_42 (dk_at dksJ6_init_0 5 rfl rfl)
theorem dJ6_init_6 : decode cJ6_init 6 = .ok (.putfield 7, 3) := dk_181 0 7 (dk_at dksJ6_init_0 6 rfl rfl)
theorem dJ6_init_9 : decode cJ6_init 9 = .ok (.aload_n 0, 1) := dk_42 (dk_at dksJ6_init_0 9 rfl rfl)
theorem dJ6_init_10 : decode cJ6_init 10 = .ok (.getstatic 13, 3) := dk_178 0 13 (dk_at dksJ6_init_0 10 rfl rfl)
theorem dJ6_init_13 : decode cJ6_init 13 = .ok (.putfield 17, 3) := dk_181 0 17 (dk_at dksJ6_init_0 13 rfl rfl)
theorem dJ6_init_16 : decode cJ6_init 16 = .ok (.aload_n 0, 1) := dk_42 (dk_at dksJ6_init_0 16 rfl rfl)
theorem dJ6_init_17 : decode cJ6_init 17 = .ok (.getstatic 20, 3) := dk_178 0 20 (dk_at dksJ6_init_0 17 rfl rfl)
theorem dJ6_init_20 : decode cJ6_init 20 = .ok (.putfield 24, 3) := dk_181 0 24 (dk_at dksJ6_init_0 20 rfl rfl)
theorem dJ6_init_23 : decode cJ6_init 23 = .ok (.aload_n 0, 1) := dk_42 (dk_at dksJ6_init_0 23 rfl rfl)
theorem dJ6_init_24 : decode cJ6_init 24 = .ok (.invokevirtual 27, 3) := dk_182 0 27 (dk_at dksJ6_init_1 0 rfl rfl)
theorem dJ6_init_27 : decode cJ6_init 27 = .ok (.pop, 1) := dk_87 (dk_at dksJ6_init_1 3 rfl rfl)
theorem dJ6_init_28 : decode cJ6_init 28 = .ok (.return_, 1) := dk_177 (dk_at dksJ6_init_1 4 rfl rfl)
abbrev cJ6_init_2 : ByteArray := prog_51_method_2_code
def yJ6_init_2 : MethodName := ⟨RJ6, "<init>", "(Ljava/lang/String;)V"⟩
def dkwJ6_init_2_1 : List UInt8 := [182, 0, 27, 87, 42, 43, 181, 0, 31, 177]
abbrev dktJ6_init_2_1 : List UInt8 := dkwJ6_init_2_1 ++ []
def dkwJ6_init_2_0 : List UInt8 := [42, 183, 0, 1, 42, 42, 181, 0, 7, 42, 178, 0, 13, 181, 0, 17, 42, 178, 0, 20, 181, 0, 24, 42]
abbrev dktJ6_init_2_0 : List UInt8 := dkwJ6_init_2_0 ++ dktJ6_init_2_1
theorem dksJ6_init_2_0 : cJ6_init_2.data.toList.drop 0 = dktJ6_init_2_0 := by decide +kernel
theorem dksJ6_init_2_1 : cJ6_init_2.data.toList.drop 24 = dktJ6_init_2_1 := dk_seg dksJ6_init_2_0 24 rfl rfl
theorem dJ6_init_2_0 : decode cJ6_init_2 0 = .ok (.aload_n 0, 1) := dk_42 (dk_at dksJ6_init_2_0 0 rfl rfl)
theorem dJ6_init_2_1 : decode cJ6_init_2 1 = .ok (.invokespecial 1, 3) := dk_183 0 1 (dk_at dksJ6_init_2_0 1 rfl rfl)
theorem dJ6_init_2_4 : decode cJ6_init_2 4 = .ok (.aload_n 0, 1) := dk_42 (dk_at dksJ6_init_2_0 4 rfl rfl)
theorem dJ6_init_2_5 : decode cJ6_init_2 5 = .ok (.aload_n 0, 1) := dk_42 (dk_at dksJ6_init_2_0 5 rfl rfl)
theorem dJ6_init_2_6 : decode cJ6_init_2 6 = .ok (.putfield 7, 3) := dk_181 0 7 (dk_at dksJ6_init_2_0 6 rfl rfl)
theorem dJ6_init_2_9 : decode cJ6_init_2 9 = .ok (.aload_n 0, 1) := dk_42 (dk_at dksJ6_init_2_0 9 rfl rfl)
theorem dJ6_init_2_10 : decode cJ6_init_2 10 = .ok (.getstatic 13, 3) := dk_178 0 13 (dk_at dksJ6_init_2_0 10 rfl rfl)
theorem dJ6_init_2_13 : decode cJ6_init_2 13 = .ok (.putfield 17, 3) := dk_181 0 17 (dk_at dksJ6_init_2_0 13 rfl rfl)
theorem dJ6_init_2_16 : decode cJ6_init_2 16 = .ok (.aload_n 0, 1) := dk_42 (dk_at dksJ6_init_2_0 16 rfl rfl)
theorem dJ6_init_2_17 : decode cJ6_init_2 17 = .ok (.getstatic 20, 3) := dk_178 0 20 (dk_at dksJ6_init_2_0 17 rfl rfl)
theorem dJ6_init_2_20 : decode cJ6_init_2 20 = .ok (.putfield 24, 3) := dk_181 0 24 (dk_at dksJ6_init_2_0 20 rfl rfl)
theorem dJ6_init_2_23 : decode cJ6_init_2 23 = .ok (.aload_n 0, 1) := dk_42 (dk_at dksJ6_init_2_0 23 rfl rfl)
theorem dJ6_init_2_24 : decode cJ6_init_2 24 = .ok (.invokevirtual 27, 3) := dk_182 0 27 (dk_at dksJ6_init_2_1 0 rfl rfl)
theorem dJ6_init_2_27 : decode cJ6_init_2 27 = .ok (.pop, 1) := dk_87 (dk_at dksJ6_init_2_1 3 rfl rfl)
theorem dJ6_init_2_28 : decode cJ6_init_2 28 = .ok (.aload_n 0, 1) := dk_42 (dk_at dksJ6_init_2_1 4 rfl rfl)
theorem dJ6_init_2_29 : decode cJ6_init_2 29 = .ok (.aload_n 1, 1) := dk_43 (dk_at dksJ6_init_2_1 5 rfl rfl)
theorem dJ6_init_2_30 : decode cJ6_init_2 30 = .ok (.putfield 31, 3) := dk_181 0 31 (dk_at dksJ6_init_2_1 6 rfl rfl)
theorem dJ6_init_2_33 : decode cJ6_init_2 33 = .ok (.return_, 1) := dk_177 (dk_at dksJ6_init_2_1 9 rfl rfl)
abbrev cJ6_init_3 : ByteArray := prog_51_method_4_code
def yJ6_init_3 : MethodName := ⟨RJ6, "<init>", "(Ljava/lang/Throwable;)V"⟩
def dkwJ6_init_3_2 : List UInt8 := [181, 0, 7, 177]
abbrev dktJ6_init_3_2 : List UInt8 := dkwJ6_init_3_2 ++ []
def dkwJ6_init_3_1 : List UInt8 := [182, 0, 27, 87, 42, 43, 199, 0, 7, 1, 167, 0, 7, 43, 182, 0, 35, 181, 0, 31, 42, 43]
abbrev dktJ6_init_3_1 : List UInt8 := dkwJ6_init_3_1 ++ dktJ6_init_3_2
def dkwJ6_init_3_0 : List UInt8 := [42, 183, 0, 1, 42, 42, 181, 0, 7, 42, 178, 0, 13, 181, 0, 17, 42, 178, 0, 20, 181, 0, 24, 42]
abbrev dktJ6_init_3_0 : List UInt8 := dkwJ6_init_3_0 ++ dktJ6_init_3_1
theorem dksJ6_init_3_0 : cJ6_init_3.data.toList.drop 0 = dktJ6_init_3_0 := by decide +kernel
theorem dksJ6_init_3_1 : cJ6_init_3.data.toList.drop 24 = dktJ6_init_3_1 := dk_seg dksJ6_init_3_0 24 rfl rfl
theorem dksJ6_init_3_2 : cJ6_init_3.data.toList.drop 46 = dktJ6_init_3_2 := dk_seg dksJ6_init_3_1 22 rfl rfl
theorem dJ6_init_3_0 : decode cJ6_init_3 0 = .ok (.aload_n 0, 1) := dk_42 (dk_at dksJ6_init_3_0 0 rfl rfl)
theorem dJ6_init_3_1 : decode cJ6_init_3 1 = .ok (.invokespecial 1, 3) := dk_183 0 1 (dk_at dksJ6_init_3_0 1 rfl rfl)
theorem dJ6_init_3_4 : decode cJ6_init_3 4 = .ok (.aload_n 0, 1) := dk_42 (dk_at dksJ6_init_3_0 4 rfl rfl)
theorem dJ6_init_3_5 : decode cJ6_init_3 5 = .ok (.aload_n 0, 1) := dk_42 (dk_at dksJ6_init_3_0 5 rfl rfl)
theorem dJ6_init_3_6 : decode cJ6_init_3 6 = .ok (.putfield 7, 3) := dk_181 0 7 (dk_at dksJ6_init_3_0 6 rfl rfl)
theorem dJ6_init_3_9 : decode cJ6_init_3 9 = .ok (.aload_n 0, 1) := dk_42 (dk_at dksJ6_init_3_0 9 rfl rfl)
theorem dJ6_init_3_10 : decode cJ6_init_3 10 = .ok (.getstatic 13, 3) := dk_178 0 13 (dk_at dksJ6_init_3_0 10 rfl rfl)
theorem dJ6_init_3_13 : decode cJ6_init_3 13 = .ok (.putfield 17, 3) := dk_181 0 17 (dk_at dksJ6_init_3_0 13 rfl rfl)
theorem dJ6_init_3_16 : decode cJ6_init_3 16 = .ok (.aload_n 0, 1) := dk_42 (dk_at dksJ6_init_3_0 16 rfl rfl)
theorem dJ6_init_3_17 : decode cJ6_init_3 17 = .ok (.getstatic 20, 3) := dk_178 0 20 (dk_at dksJ6_init_3_0 17 rfl rfl)
theorem dJ6_init_3_20 : decode cJ6_init_3 20 = .ok (.putfield 24, 3) := dk_181 0 24 (dk_at dksJ6_init_3_0 20 rfl rfl)
theorem dJ6_init_3_23 : decode cJ6_init_3 23 = .ok (.aload_n 0, 1) := dk_42 (dk_at dksJ6_init_3_0 23 rfl rfl)
theorem dJ6_init_3_24 : decode cJ6_init_3 24 = .ok (.invokevirtual 27, 3) := dk_182 0 27 (dk_at dksJ6_init_3_1 0 rfl rfl)
theorem dJ6_init_3_27 : decode cJ6_init_3 27 = .ok (.pop, 1) := dk_87 (dk_at dksJ6_init_3_1 3 rfl rfl)
theorem dJ6_init_3_28 : decode cJ6_init_3 28 = .ok (.aload_n 0, 1) := dk_42 (dk_at dksJ6_init_3_1 4 rfl rfl)
theorem dJ6_init_3_29 : decode cJ6_init_3 29 = .ok (.aload_n 1, 1) := dk_43 (dk_at dksJ6_init_3_1 5 rfl rfl)
theorem dJ6_init_3_30 : decode cJ6_init_3 30 = .ok (.ifnonnull 7, 3) := dk_199 0 7 (dk_at dksJ6_init_3_1 6 rfl rfl)
theorem dJ6_init_3_33 : decode cJ6_init_3 33 = .ok (.aconst_null, 1) := dk_1 (dk_at dksJ6_init_3_1 9 rfl rfl)
theorem dJ6_init_3_34 : decode cJ6_init_3 34 = .ok (.goto 7, 3) := dk_167 0 7 (dk_at dksJ6_init_3_1 10 rfl rfl)
theorem dJ6_init_3_37 : decode cJ6_init_3 37 = .ok (.aload_n 1, 1) := dk_43 (dk_at dksJ6_init_3_1 13 rfl rfl)
theorem dJ6_init_3_38 : decode cJ6_init_3 38 = .ok (.invokevirtual 35, 3) := dk_182 0 35 (dk_at dksJ6_init_3_1 14 rfl rfl)
theorem dJ6_init_3_41 : decode cJ6_init_3 41 = .ok (.putfield 31, 3) := dk_181 0 31 (dk_at dksJ6_init_3_1 17 rfl rfl)
theorem dJ6_init_3_44 : decode cJ6_init_3 44 = .ok (.aload_n 0, 1) := dk_42 (dk_at dksJ6_init_3_1 20 rfl rfl)
theorem dJ6_init_3_45 : decode cJ6_init_3 45 = .ok (.aload_n 1, 1) := dk_43 (dk_at dksJ6_init_3_1 21 rfl rfl)
theorem dJ6_init_3_46 : decode cJ6_init_3 46 = .ok (.putfield 7, 3) := dk_181 0 7 (dk_at dksJ6_init_3_2 0 rfl rfl)
theorem dJ6_init_3_49 : decode cJ6_init_3 49 = .ok (.return_, 1) := dk_177 (dk_at dksJ6_init_3_2 3 rfl rfl)
abbrev cJ6_toString : ByteArray := prog_51_method_11_code
def yJ6_toString : MethodName := ⟨RJ6, "toString", "()Ljava/lang/String;"⟩
def dkwJ6_toString_1 : List UInt8 := [43, 182, 0, 49, 18, 81, 182, 0, 49, 44, 182, 0, 49, 182, 0, 60, 167, 0, 4, 43, 176]
abbrev dktJ6_toString_1 : List UInt8 := dkwJ6_toString_1 ++ []
def dkwJ6_toString_0 : List UInt8 := [42, 182, 0, 69, 182, 0, 73, 76, 42, 182, 0, 78, 77, 44, 198, 0, 29, 187, 0, 44, 89, 183, 0, 46]
abbrev dktJ6_toString_0 : List UInt8 := dkwJ6_toString_0 ++ dktJ6_toString_1
theorem dksJ6_toString_0 : cJ6_toString.data.toList.drop 0 = dktJ6_toString_0 := by decide +kernel
theorem dksJ6_toString_1 : cJ6_toString.data.toList.drop 24 = dktJ6_toString_1 := dk_seg dksJ6_toString_0 24 rfl rfl
theorem dJ6_toString_0 : decode cJ6_toString 0 = .ok (.aload_n 0, 1) := dk_42 (dk_at dksJ6_toString_0 0 rfl rfl)
theorem dJ6_toString_1 : decode cJ6_toString 1 = .ok (.invokevirtual 69, 3) := dk_182 0 69 (dk_at dksJ6_toString_0 1 rfl rfl)
theorem dJ6_toString_4 : decode cJ6_toString 4 = .ok (.invokevirtual 73, 3) := dk_182 0 73 (dk_at dksJ6_toString_0 4 rfl rfl)
theorem dJ6_toString_7 : decode cJ6_toString 7 = .ok (.astore_n 1, 1) := dk_76 (dk_at dksJ6_toString_0 7 rfl rfl)
theorem dJ6_toString_8 : decode cJ6_toString 8 = .ok (.aload_n 0, 1) := dk_42 (dk_at dksJ6_toString_0 8 rfl rfl)
theorem dJ6_toString_9 : decode cJ6_toString 9 = .ok (.invokevirtual 78, 3) := dk_182 0 78 (dk_at dksJ6_toString_0 9 rfl rfl)
theorem dJ6_toString_12 : decode cJ6_toString 12 = .ok (.astore_n 2, 1) := dk_77 (dk_at dksJ6_toString_0 12 rfl rfl)
theorem dJ6_toString_13 : decode cJ6_toString 13 = .ok (.aload_n 2, 1) := dk_44 (dk_at dksJ6_toString_0 13 rfl rfl)
theorem dJ6_toString_14 : decode cJ6_toString 14 = .ok (.ifnull 29, 3) := dk_198 0 29 (dk_at dksJ6_toString_0 14 rfl rfl)
theorem dJ6_toString_17 : decode cJ6_toString 17 = .ok (.new 44, 3) := dk_187 0 44 (dk_at dksJ6_toString_0 17 rfl rfl)
theorem dJ6_toString_20 : decode cJ6_toString 20 = .ok (.dup, 1) := dk_89 (dk_at dksJ6_toString_0 20 rfl rfl)
theorem dJ6_toString_21 : decode cJ6_toString 21 = .ok (.invokespecial 46, 3) := dk_183 0 46 (dk_at dksJ6_toString_0 21 rfl rfl)
theorem dJ6_toString_24 : decode cJ6_toString 24 = .ok (.aload_n 1, 1) := dk_43 (dk_at dksJ6_toString_1 0 rfl rfl)
theorem dJ6_toString_25 : decode cJ6_toString 25 = .ok (.invokevirtual 49, 3) := dk_182 0 49 (dk_at dksJ6_toString_1 1 rfl rfl)
theorem dJ6_toString_28 : decode cJ6_toString 28 = .ok (.ldc 81, 2) := dk_18 81 (dk_at dksJ6_toString_1 4 rfl rfl)
theorem dJ6_toString_30 : decode cJ6_toString 30 = .ok (.invokevirtual 49, 3) := dk_182 0 49 (dk_at dksJ6_toString_1 6 rfl rfl)
theorem dJ6_toString_33 : decode cJ6_toString 33 = .ok (.aload_n 2, 1) := dk_44 (dk_at dksJ6_toString_1 9 rfl rfl)
theorem dJ6_toString_34 : decode cJ6_toString 34 = .ok (.invokevirtual 49, 3) := dk_182 0 49 (dk_at dksJ6_toString_1 10 rfl rfl)
theorem dJ6_toString_37 : decode cJ6_toString 37 = .ok (.invokevirtual 60, 3) := dk_182 0 60 (dk_at dksJ6_toString_1 13 rfl rfl)
theorem dJ6_toString_40 : decode cJ6_toString 40 = .ok (.goto 4, 3) := dk_167 0 4 (dk_at dksJ6_toString_1 16 rfl rfl)
theorem dJ6_toString_43 : decode cJ6_toString 43 = .ok (.aload_n 1, 1) := dk_43 (dk_at dksJ6_toString_1 19 rfl rfl)
theorem dJ6_toString_44 : decode cJ6_toString 44 = .ok (.areturn, 1) := dk_176 (dk_at dksJ6_toString_1 20 rfl rfl)
abbrev cJ6_getLocalizedMessage : ByteArray := prog_51_method_7_code
def yJ6_getLocalizedMessage : MethodName := ⟨RJ6, "getLocalizedMessage", "()Ljava/lang/String;"⟩
theorem dJ6_getLocalizedMessage_0 : decode cJ6_getLocalizedMessage 0 = .ok (.aload_n 0, 1) := by decide +kernel
theorem dJ6_getLocalizedMessage_1 : decode cJ6_getLocalizedMessage 1 = .ok (.invokevirtual 39, 3) := by decide +kernel
theorem dJ6_getLocalizedMessage_4 : decode cJ6_getLocalizedMessage 4 = .ok (.areturn, 1) := by decide +kernel
abbrev cJ6_getMessage : ByteArray := prog_51_method_6_code
def yJ6_getMessage : MethodName := ⟨RJ6, "getMessage", "()Ljava/lang/String;"⟩
theorem dJ6_getMessage_0 : decode cJ6_getMessage 0 = .ok (.aload_n 0, 1) := by decide +kernel
theorem dJ6_getMessage_1 : decode cJ6_getMessage 1 = .ok (.getfield 31, 3) := by decide +kernel
theorem dJ6_getMessage_4 : decode cJ6_getMessage 4 = .ok (.areturn, 1) := by decide +kernel
abbrev cJ6_init_4 : ByteArray := prog_51_method_3_code
def yJ6_init_4 : MethodName := ⟨RJ6, "<init>", "(Ljava/lang/String;Ljava/lang/Throwable;)V"⟩
def dkwJ6_init_4_1 : List UInt8 := [182, 0, 27, 87, 42, 43, 181, 0, 31, 42, 44, 181, 0, 7, 177]
abbrev dktJ6_init_4_1 : List UInt8 := dkwJ6_init_4_1 ++ []
def dkwJ6_init_4_0 : List UInt8 := [42, 183, 0, 1, 42, 42, 181, 0, 7, 42, 178, 0, 13, 181, 0, 17, 42, 178, 0, 20, 181, 0, 24, 42]
abbrev dktJ6_init_4_0 : List UInt8 := dkwJ6_init_4_0 ++ dktJ6_init_4_1
theorem dksJ6_init_4_0 : cJ6_init_4.data.toList.drop 0 = dktJ6_init_4_0 := by decide +kernel
theorem dksJ6_init_4_1 : cJ6_init_4.data.toList.drop 24 = dktJ6_init_4_1 := dk_seg dksJ6_init_4_0 24 rfl rfl
theorem dJ6_init_4_0 : decode cJ6_init_4 0 = .ok (.aload_n 0, 1) := dk_42 (dk_at dksJ6_init_4_0 0 rfl rfl)
theorem dJ6_init_4_1 : decode cJ6_init_4 1 = .ok (.invokespecial 1, 3) := dk_183 0 1 (dk_at dksJ6_init_4_0 1 rfl rfl)
theorem dJ6_init_4_4 : decode cJ6_init_4 4 = .ok (.aload_n 0, 1) := dk_42 (dk_at dksJ6_init_4_0 4 rfl rfl)
theorem dJ6_init_4_5 : decode cJ6_init_4 5 = .ok (.aload_n 0, 1) := dk_42 (dk_at dksJ6_init_4_0 5 rfl rfl)
theorem dJ6_init_4_6 : decode cJ6_init_4 6 = .ok (.putfield 7, 3) := dk_181 0 7 (dk_at dksJ6_init_4_0 6 rfl rfl)
theorem dJ6_init_4_9 : decode cJ6_init_4 9 = .ok (.aload_n 0, 1) := dk_42 (dk_at dksJ6_init_4_0 9 rfl rfl)
theorem dJ6_init_4_10 : decode cJ6_init_4 10 = .ok (.getstatic 13, 3) := dk_178 0 13 (dk_at dksJ6_init_4_0 10 rfl rfl)
theorem dJ6_init_4_13 : decode cJ6_init_4 13 = .ok (.putfield 17, 3) := dk_181 0 17 (dk_at dksJ6_init_4_0 13 rfl rfl)
theorem dJ6_init_4_16 : decode cJ6_init_4 16 = .ok (.aload_n 0, 1) := dk_42 (dk_at dksJ6_init_4_0 16 rfl rfl)
theorem dJ6_init_4_17 : decode cJ6_init_4 17 = .ok (.getstatic 20, 3) := dk_178 0 20 (dk_at dksJ6_init_4_0 17 rfl rfl)
theorem dJ6_init_4_20 : decode cJ6_init_4 20 = .ok (.putfield 24, 3) := dk_181 0 24 (dk_at dksJ6_init_4_0 20 rfl rfl)
theorem dJ6_init_4_23 : decode cJ6_init_4 23 = .ok (.aload_n 0, 1) := dk_42 (dk_at dksJ6_init_4_0 23 rfl rfl)
theorem dJ6_init_4_24 : decode cJ6_init_4 24 = .ok (.invokevirtual 27, 3) := dk_182 0 27 (dk_at dksJ6_init_4_1 0 rfl rfl)
theorem dJ6_init_4_27 : decode cJ6_init_4 27 = .ok (.pop, 1) := dk_87 (dk_at dksJ6_init_4_1 3 rfl rfl)
theorem dJ6_init_4_28 : decode cJ6_init_4 28 = .ok (.aload_n 0, 1) := dk_42 (dk_at dksJ6_init_4_1 4 rfl rfl)
theorem dJ6_init_4_29 : decode cJ6_init_4 29 = .ok (.aload_n 1, 1) := dk_43 (dk_at dksJ6_init_4_1 5 rfl rfl)
theorem dJ6_init_4_30 : decode cJ6_init_4 30 = .ok (.putfield 31, 3) := dk_181 0 31 (dk_at dksJ6_init_4_1 6 rfl rfl)
theorem dJ6_init_4_33 : decode cJ6_init_4 33 = .ok (.aload_n 0, 1) := dk_42 (dk_at dksJ6_init_4_1 9 rfl rfl)
theorem dJ6_init_4_34 : decode cJ6_init_4 34 = .ok (.aload_n 2, 1) := dk_44 (dk_at dksJ6_init_4_1 10 rfl rfl)
theorem dJ6_init_4_35 : decode cJ6_init_4 35 = .ok (.putfield 7, 3) := dk_181 0 7 (dk_at dksJ6_init_4_1 11 rfl rfl)
theorem dJ6_init_4_38 : decode cJ6_init_4 38 = .ok (.return_, 1) := dk_177 (dk_at dksJ6_init_4_1 14 rfl rfl)
theorem q127 : (Jvm.Cond.initialized "java/lang/Throwable") ∈ lw_all := lw_g (lw_at lw_m1 10 rfl) rfl
theorem q480 : (Jvm.Cond.declares ({ cls := "java/lang/Throwable", name := "<init>", desc := "()V" } : Jvm.MethodName)) ∈ lw_tbl := lw_at lw_m2 123 rfl
theorem q481 : (Jvm.Cond.declares ({ cls := "java/lang/Throwable", name := "<init>", desc := "(Ljava/lang/String;)V" } : Jvm.MethodName)) ∈ lw_tbl := lw_at lw_m2 124 rfl
theorem q485 : (Jvm.Cond.lays "java/lang/Throwable" "java/lang/Throwable" "cause" "Ljava/lang/Throwable;") ∈ lw_all := lw_g (lw_at lw_m2 128 rfl) rfl
theorem q487 : (Jvm.Cond.lays "java/lang/Throwable" "java/lang/Throwable" "stackTrace" "[Ljava/lang/StackTraceElement;") ∈ lw_all := lw_g (lw_at lw_m2 130 rfl) rfl
theorem q489 : (Jvm.Cond.lays "java/lang/Throwable" "java/lang/Throwable" "suppressedExceptions" "Ljava/util/List;") ∈ lw_all := lw_g (lw_at lw_m2 132 rfl) rfl
theorem q491 : (Jvm.Cond.lays "java/lang/Throwable" "java/lang/Throwable" "detailMessage" "Ljava/lang/String;") ∈ lw_all := lw_g (lw_at lw_m2 134 rfl) rfl
theorem q493 : (Jvm.Cond.lays "java/lang/Throwable" "java/lang/Throwable" "backtrace" "Ljava/lang/Object;") ∈ lw_all := lw_g (lw_at lw_m2 136 rfl) rfl
theorem q494 : (Jvm.Cond.fieldLink "java/lang/Throwable" (198 : Nat) "java/lang/Throwable" "backtrace" "Ljava/lang/Object;") ∈ lw_all := lw_g (lw_at lw_m2 137 rfl) rfl
theorem q495 : (Jvm.Cond.superclass "java/lang/Throwable" "java/lang/Object") ∈ lw_all := lw_g (lw_at lw_m2 138 rfl) rfl
theorem q496 : (Jvm.Cond.instanceMethod ({ cls := "java/lang/Throwable", name := "<init>", desc := "()V" } : Jvm.MethodName)) ∈ lw_all := lw_g (lw_at lw_m2 139 rfl) rfl
theorem q497 : (Jvm.Cond.code ({ cls := "java/lang/Throwable", name := "<init>", desc := "()V" } : Jvm.MethodName) prog_51_method_1_code (1 : Nat) (Option.none : Option Jvm.ClassFile.FieldType)) ∈ lw_all := lw_g (lw_at lw_m2 140 rfl) rfl
theorem q498 : (Jvm.Cond.methodLink "java/lang/Throwable" (1 : Nat) ({ cls := "java/lang/Object", name := "<init>", desc := "()V" } : Jvm.MethodName)) ∈ lw_all := lw_g (lw_at lw_m2 141 rfl) rfl
theorem q499 : (Jvm.Cond.fieldLink "java/lang/Throwable" (13 : Nat) "java/lang/Throwable" "UNASSIGNED_STACK" "[Ljava/lang/StackTraceElement;") ∈ lw_all := lw_g (lw_at lw_m2 142 rfl) rfl
theorem q500 : (Jvm.Cond.laysStatic "java/lang/Throwable" "UNASSIGNED_STACK" "[Ljava/lang/StackTraceElement;") ∈ lw_tbl := lw_at lw_m2 143 rfl
theorem q501 : (Jvm.Cond.fieldLink "java/lang/Throwable" (20 : Nat) "java/lang/Throwable" "SUPPRESSED_SENTINEL" "Ljava/util/List;") ∈ lw_all := lw_g (lw_at lw_m2 144 rfl) rfl
theorem q502 : (Jvm.Cond.laysStatic "java/lang/Throwable" "SUPPRESSED_SENTINEL" "Ljava/util/List;") ∈ lw_tbl := lw_at lw_m2 145 rfl
theorem q503 : (Jvm.Cond.methodLink "java/lang/Throwable" (27 : Nat) ({ cls := "java/lang/Throwable", name := "fillInStackTrace", desc := "()Ljava/lang/Throwable;" } : Jvm.MethodName)) ∈ lw_all := lw_g (lw_at lw_m2 146 rfl) rfl
theorem q504 : (Jvm.Cond.instanceMethod ({ cls := "java/lang/Throwable", name := "fillInStackTrace", desc := "()Ljava/lang/Throwable;" } : Jvm.MethodName)) ∈ lw_all := lw_g (lw_at lw_m2 147 rfl) rfl
theorem q505 : (Jvm.Cond.sameMethod "java/lang/Throwable" "java/lang/Throwable" "fillInStackTrace" "()Ljava/lang/Throwable;") ∈ lw_all := lw_g (lw_at lw_m2 148 rfl) rfl
theorem q516 : (Jvm.Cond.codeSync ({ cls := "java/lang/Throwable", name := "fillInStackTrace", desc := "()Ljava/lang/Throwable;" } : Jvm.MethodName) prog_51_method_18_code (1 : Nat) (Option.some (Jvm.ClassFile.FieldType.object "java/lang/Throwable"))) ∈ lw_all := lw_g (lw_at lw_m2 159 rfl) rfl
theorem q517 : (Jvm.Cond.methodLink "java/lang/Throwable" (202 : Nat) ({ cls := "java/lang/Throwable", name := "fillInStackTrace", desc := "(I)Ljava/lang/Throwable;" } : Jvm.MethodName)) ∈ lw_all := lw_g (lw_at lw_m2 160 rfl) rfl
theorem q518 : (Jvm.Cond.privateMethod ({ cls := "java/lang/Throwable", name := "fillInStackTrace", desc := "(I)Ljava/lang/Throwable;" } : Jvm.MethodName)) ∈ lw_tbl := lw_at lw_m2 161 rfl
theorem q519 : (Jvm.Cond.instanceMethod ({ cls := "java/lang/Throwable", name := "fillInStackTrace", desc := "(I)Ljava/lang/Throwable;" } : Jvm.MethodName)) ∈ lw_all := lw_g (lw_at lw_m2 162 rfl) rfl
theorem q520 : (Jvm.Cond.instantiable "java/lang/Throwable" (6 : Nat)) ∈ lw_all := lw_g (lw_at lw_m2 163 rfl) rfl
theorem q521 : (Jvm.Cond.native ({ cls := "java/lang/Throwable", name := "fillInStackTrace", desc := "(I)Ljava/lang/Throwable;" } : Jvm.MethodName)) ∈ lw_all := lw_g (lw_at lw_m2 164 rfl) rfl
theorem q767 : (Jvm.Cond.instanceMethod ({ cls := "java/lang/Throwable", name := "<init>", desc := "(Ljava/lang/String;)V" } : Jvm.MethodName)) ∈ lw_all := lw_g (lw_at lw_m3 170 rfl) rfl
theorem q768 : (Jvm.Cond.code ({ cls := "java/lang/Throwable", name := "<init>", desc := "(Ljava/lang/String;)V" } : Jvm.MethodName) prog_51_method_2_code (2 : Nat) (Option.none : Option Jvm.ClassFile.FieldType)) ∈ lw_all := lw_g (lw_at lw_m3 171 rfl) rfl
theorem q769 : (Jvm.Cond.fieldLink "java/lang/Throwable" (198 : Nat) "java/lang/Throwable" "backtrace" "Ljava/lang/Object;") ∈ lw_all := lw_g (lw_at lw_m3 172 rfl) rfl
theorem q770 : (Jvm.Cond.fieldLink "java/lang/Throwable" (31 : Nat) "java/lang/Throwable" "detailMessage" "Ljava/lang/String;") ∈ lw_all := lw_g (lw_at lw_m3 173 rfl) rfl
theorem q771 : (Jvm.Cond.fieldLink "java/lang/Throwable" (7 : Nat) "java/lang/Throwable" "cause" "Ljava/lang/Throwable;") ∈ lw_all := lw_g (lw_at lw_m3 174 rfl) rfl
theorem q772 : (Jvm.Cond.fieldLink "java/lang/Throwable" (17 : Nat) "java/lang/Throwable" "stackTrace" "[Ljava/lang/StackTraceElement;") ∈ lw_all := lw_g (lw_at lw_m3 175 rfl) rfl
theorem q773 : (Jvm.Cond.fieldLink "java/lang/Throwable" (24 : Nat) "java/lang/Throwable" "suppressedExceptions" "Ljava/util/List;") ∈ lw_all := lw_g (lw_at lw_m3 176 rfl) rfl
theorem q774 : (Jvm.Cond.soleField "java/lang/Throwable" "backtrace") ∈ lw_all := lw_g (lw_at lw_m3 177 rfl) rfl
theorem q775 : (Jvm.Cond.soleField "java/lang/Throwable" "detailMessage") ∈ lw_all := lw_g (lw_at lw_m3 178 rfl) rfl
theorem q776 : (Jvm.Cond.soleField "java/lang/Throwable" "cause") ∈ lw_all := lw_g (lw_at lw_m3 179 rfl) rfl
theorem q777 : (Jvm.Cond.soleField "java/lang/Throwable" "stackTrace") ∈ lw_all := lw_g (lw_at lw_m3 180 rfl) rfl
theorem q779 : (Jvm.Cond.soleField "java/lang/Throwable" "depth") ∈ lw_all := lw_g (lw_at lw_m3 182 rfl) rfl
theorem q780 : (Jvm.Cond.soleField "java/lang/Throwable" "suppressedExceptions") ∈ lw_all := lw_g (lw_at lw_m3 183 rfl) rfl
theorem q1569 : (Jvm.Cond.instanceMethod ({ cls := "java/lang/Throwable", name := "<init>", desc := "(Ljava/lang/Throwable;)V" } : Jvm.MethodName)) ∈ lw_all := lw_g (lw_at lw_m7 12 rfl) rfl
theorem q1570 : (Jvm.Cond.code ({ cls := "java/lang/Throwable", name := "<init>", desc := "(Ljava/lang/Throwable;)V" } : Jvm.MethodName) prog_51_method_4_code (2 : Nat) (Option.none : Option Jvm.ClassFile.FieldType)) ∈ lw_all := lw_g (lw_at lw_m7 13 rfl) rfl
theorem q1571 : (Jvm.Cond.methodLink "java/lang/Throwable" (35 : Nat) ({ cls := "java/lang/Throwable", name := "toString", desc := "()Ljava/lang/String;" } : Jvm.MethodName)) ∈ lw_all := lw_g (lw_at lw_m7 14 rfl) rfl
theorem q1572 : (Jvm.Cond.instanceMethod ({ cls := "java/lang/Throwable", name := "toString", desc := "()Ljava/lang/String;" } : Jvm.MethodName)) ∈ lw_all := lw_g (lw_at lw_m7 15 rfl) rfl
theorem q1573 : (Jvm.Cond.sameMethod "java/lang/Throwable" "java/lang/Throwable" "toString" "()Ljava/lang/String;") ∈ lw_all := lw_g (lw_at lw_m7 16 rfl) rfl
theorem q1585 : (Jvm.Cond.code ({ cls := "java/lang/Throwable", name := "toString", desc := "()Ljava/lang/String;" } : Jvm.MethodName) prog_51_method_11_code (3 : Nat) (Option.some (Jvm.ClassFile.FieldType.object "java/lang/String"))) ∈ lw_all := lw_g (lw_at lw_m7 28 rfl) rfl
theorem q1586 : (Jvm.Cond.methodLink "java/lang/Throwable" (69 : Nat) ({ cls := "java/lang/Object", name := "getClass", desc := "()Ljava/lang/Class;" } : Jvm.MethodName)) ∈ lw_all := lw_g (lw_at lw_m7 29 rfl) rfl
theorem q1587 : (Jvm.Cond.methodLink "java/lang/Throwable" (78 : Nat) ({ cls := "java/lang/Throwable", name := "getLocalizedMessage", desc := "()Ljava/lang/String;" } : Jvm.MethodName)) ∈ lw_all := lw_g (lw_at lw_m7 30 rfl) rfl
theorem q1588 : (Jvm.Cond.instanceMethod ({ cls := "java/lang/Throwable", name := "getLocalizedMessage", desc := "()Ljava/lang/String;" } : Jvm.MethodName)) ∈ lw_all := lw_g (lw_at lw_m7 31 rfl) rfl
theorem q1589 : (Jvm.Cond.sameMethod "java/lang/Throwable" "java/lang/Throwable" "getLocalizedMessage" "()Ljava/lang/String;") ∈ lw_all := lw_g (lw_at lw_m7 32 rfl) rfl
theorem q1601 : (Jvm.Cond.code ({ cls := "java/lang/Throwable", name := "getLocalizedMessage", desc := "()Ljava/lang/String;" } : Jvm.MethodName) prog_51_method_7_code (1 : Nat) (Option.some (Jvm.ClassFile.FieldType.object "java/lang/String"))) ∈ lw_all := lw_g (lw_at lw_m7 44 rfl) rfl
theorem q1602 : (Jvm.Cond.methodLink "java/lang/Throwable" (39 : Nat) ({ cls := "java/lang/Throwable", name := "getMessage", desc := "()Ljava/lang/String;" } : Jvm.MethodName)) ∈ lw_all := lw_g (lw_at lw_m7 45 rfl) rfl
theorem q1603 : (Jvm.Cond.instanceMethod ({ cls := "java/lang/Throwable", name := "getMessage", desc := "()Ljava/lang/String;" } : Jvm.MethodName)) ∈ lw_all := lw_g (lw_at lw_m7 46 rfl) rfl
theorem q1604 : (Jvm.Cond.sameMethod "java/lang/Throwable" "java/lang/Throwable" "getMessage" "()Ljava/lang/String;") ∈ lw_all := lw_g (lw_at lw_m7 47 rfl) rfl
theorem q1616 : (Jvm.Cond.code ({ cls := "java/lang/Throwable", name := "getMessage", desc := "()Ljava/lang/String;" } : Jvm.MethodName) prog_51_method_6_code (1 : Nat) (Option.some (Jvm.ClassFile.FieldType.object "java/lang/String"))) ∈ lw_all := lw_g (lw_at lw_m7 59 rfl) rfl
theorem q1617 : (Jvm.Cond.classLink "java/lang/Throwable" (44 : Nat) "java/lang/StringBuilder") ∈ lw_all := lw_g (lw_at lw_m7 60 rfl) rfl
theorem q1618 : (Jvm.Cond.methodLink "java/lang/Throwable" (46 : Nat) ({ cls := "java/lang/StringBuilder", name := "<init>", desc := "()V" } : Jvm.MethodName)) ∈ lw_all := lw_g (lw_at lw_m7 61 rfl) rfl
theorem q1619 : (Jvm.Cond.methodLink "java/lang/Throwable" (49 : Nat) ({ cls := "java/lang/StringBuilder", name := "append", desc := "(Ljava/lang/String;)Ljava/lang/StringBuilder;" } : Jvm.MethodName)) ∈ lw_all := lw_g (lw_at lw_m7 62 rfl) rfl
theorem q1620 : (Jvm.Cond.stringRef "java/lang/Throwable" (81 : Nat) ": ") ∈ lw_tbl := lw_at lw_m7 63 rfl
theorem q1621 : (Jvm.Cond.methodLink "java/lang/Throwable" (60 : Nat) ({ cls := "java/lang/StringBuilder", name := "toString", desc := "()Ljava/lang/String;" } : Jvm.MethodName)) ∈ lw_all := lw_g (lw_at lw_m7 64 rfl) rfl
theorem q1947 : (Jvm.Cond.instanceMethod ({ cls := "java/lang/Throwable", name := "<init>", desc := "(Ljava/lang/String;Ljava/lang/Throwable;)V" } : Jvm.MethodName)) ∈ lw_all := lw_g (lw_at lw_m8 150 rfl) rfl
theorem q1948 : (Jvm.Cond.code ({ cls := "java/lang/Throwable", name := "<init>", desc := "(Ljava/lang/String;Ljava/lang/Throwable;)V" } : Jvm.MethodName) prog_51_method_3_code (3 : Nat) (Option.none : Option Jvm.ClassFile.FieldType)) ∈ lw_all := lw_g (lw_at lw_m8 151 rfl) rfl
theorem q3449 : (Jvm.Cond.sameMethod "java/lang/Throwable" "java/lang/Throwable" "fillInStackTrace" "(I)Ljava/lang/Throwable;") ∈ lw_all := lw_g (lw_at lw_m14 212 rfl) rfl
theorem q3520 : (Jvm.Cond.castable "java/lang/Throwable" "java/lang/Object") ∈ lw_tbl := lw_at lw_m15 43 rfl
theorem in_J6 : ∀ w ∈ wsJ60, w ∈ lw_all := lw_in wsJ60 [485, 487, 489, 491, 493] (by decide +kernel) (by decide +kernel)

/-! java/lang/Exception -/
def RJ7 : String := "java/lang/Exception"
abbrev cJ7_init : ByteArray := prog_36_method_2_code
def yJ7_init : MethodName := ⟨RJ7, "<init>", "(Ljava/lang/String;)V"⟩
def dkwJ7_init_0 : List UInt8 := [42, 43, 183, 0, 7, 177]
abbrev dktJ7_init_0 : List UInt8 := dkwJ7_init_0 ++ []
theorem dksJ7_init_0 : cJ7_init.data.toList.drop 0 = dktJ7_init_0 := by decide +kernel
theorem dJ7_init_0 : decode cJ7_init 0 = .ok (.aload_n 0, 1) := dk_42 (dk_at dksJ7_init_0 0 rfl rfl)
theorem dJ7_init_1 : decode cJ7_init 1 = .ok (.aload_n 1, 1) := dk_43 (dk_at dksJ7_init_0 1 rfl rfl)
theorem dJ7_init_2 : decode cJ7_init 2 = .ok (.invokespecial 7, 3) := dk_183 0 7 (dk_at dksJ7_init_0 2 rfl rfl)
theorem dJ7_init_5 : decode cJ7_init 5 = .ok (.return_, 1) := dk_177 (dk_at dksJ7_init_0 5 rfl rfl)
abbrev cJ7_init_2 : ByteArray := prog_36_method_4_code
def yJ7_init_2 : MethodName := ⟨RJ7, "<init>", "(Ljava/lang/Throwable;)V"⟩
def dkwJ7_init_2_0 : List UInt8 := [42, 43, 183, 0, 13, 177]
abbrev dktJ7_init_2_0 : List UInt8 := dkwJ7_init_2_0 ++ []
theorem dksJ7_init_2_0 : cJ7_init_2.data.toList.drop 0 = dktJ7_init_2_0 := by decide +kernel
theorem dJ7_init_2_0 : decode cJ7_init_2 0 = .ok (.aload_n 0, 1) := dk_42 (dk_at dksJ7_init_2_0 0 rfl rfl)
theorem dJ7_init_2_1 : decode cJ7_init_2 1 = .ok (.aload_n 1, 1) := dk_43 (dk_at dksJ7_init_2_0 1 rfl rfl)
theorem dJ7_init_2_2 : decode cJ7_init_2 2 = .ok (.invokespecial 13, 3) := dk_183 0 13 (dk_at dksJ7_init_2_0 2 rfl rfl)
theorem dJ7_init_2_5 : decode cJ7_init_2 5 = .ok (.return_, 1) := dk_177 (dk_at dksJ7_init_2_0 5 rfl rfl)
abbrev cJ7_init_3 : ByteArray := prog_36_method_1_code
def yJ7_init_3 : MethodName := ⟨RJ7, "<init>", "()V"⟩
theorem dJ7_init_3_0 : decode cJ7_init_3 0 = .ok (.aload_n 0, 1) := by decide +kernel
theorem dJ7_init_3_1 : decode cJ7_init_3 1 = .ok (.invokespecial 1, 3) := by decide +kernel
theorem dJ7_init_3_4 : decode cJ7_init_3 4 = .ok (.return_, 1) := by decide +kernel
abbrev cJ7_init_4 : ByteArray := prog_36_method_3_code
def yJ7_init_4 : MethodName := ⟨RJ7, "<init>", "(Ljava/lang/String;Ljava/lang/Throwable;)V"⟩
def dkwJ7_init_4_0 : List UInt8 := [42, 43, 44, 183, 0, 10, 177]
abbrev dktJ7_init_4_0 : List UInt8 := dkwJ7_init_4_0 ++ []
theorem dksJ7_init_4_0 : cJ7_init_4.data.toList.drop 0 = dktJ7_init_4_0 := by decide +kernel
theorem dJ7_init_4_0 : decode cJ7_init_4 0 = .ok (.aload_n 0, 1) := dk_42 (dk_at dksJ7_init_4_0 0 rfl rfl)
theorem dJ7_init_4_1 : decode cJ7_init_4 1 = .ok (.aload_n 1, 1) := dk_43 (dk_at dksJ7_init_4_0 1 rfl rfl)
theorem dJ7_init_4_2 : decode cJ7_init_4 2 = .ok (.aload_n 2, 1) := dk_44 (dk_at dksJ7_init_4_0 2 rfl rfl)
theorem dJ7_init_4_3 : decode cJ7_init_4 3 = .ok (.invokespecial 10, 3) := dk_183 0 10 (dk_at dksJ7_init_4_0 3 rfl rfl)
theorem dJ7_init_4_6 : decode cJ7_init_4 6 = .ok (.return_, 1) := dk_177 (dk_at dksJ7_init_4_0 6 rfl rfl)
theorem q128 : (Jvm.Cond.initialized "java/lang/Exception") ∈ lw_all := lw_g (lw_at lw_m1 11 rfl) rfl
theorem q478 : (Jvm.Cond.declares ({ cls := "java/lang/Exception", name := "<init>", desc := "()V" } : Jvm.MethodName)) ∈ lw_tbl := lw_at lw_m2 121 rfl
theorem q479 : (Jvm.Cond.declares ({ cls := "java/lang/Exception", name := "<init>", desc := "(Ljava/lang/String;)V" } : Jvm.MethodName)) ∈ lw_tbl := lw_at lw_m2 122 rfl
theorem q764 : (Jvm.Cond.instanceMethod ({ cls := "java/lang/Exception", name := "<init>", desc := "(Ljava/lang/String;)V" } : Jvm.MethodName)) ∈ lw_all := lw_g (lw_at lw_m3 167 rfl) rfl
theorem q765 : (Jvm.Cond.code ({ cls := "java/lang/Exception", name := "<init>", desc := "(Ljava/lang/String;)V" } : Jvm.MethodName) prog_36_method_2_code (2 : Nat) (Option.none : Option Jvm.ClassFile.FieldType)) ∈ lw_all := lw_g (lw_at lw_m3 168 rfl) rfl
theorem q766 : (Jvm.Cond.methodLink "java/lang/Exception" (7 : Nat) ({ cls := "java/lang/Throwable", name := "<init>", desc := "(Ljava/lang/String;)V" } : Jvm.MethodName)) ∈ lw_all := lw_g (lw_at lw_m3 169 rfl) rfl
theorem q1566 : (Jvm.Cond.instanceMethod ({ cls := "java/lang/Exception", name := "<init>", desc := "(Ljava/lang/Throwable;)V" } : Jvm.MethodName)) ∈ lw_all := lw_g (lw_at lw_m7 9 rfl) rfl
theorem q1567 : (Jvm.Cond.code ({ cls := "java/lang/Exception", name := "<init>", desc := "(Ljava/lang/Throwable;)V" } : Jvm.MethodName) prog_36_method_4_code (2 : Nat) (Option.none : Option Jvm.ClassFile.FieldType)) ∈ lw_all := lw_g (lw_at lw_m7 10 rfl) rfl
theorem q1568 : (Jvm.Cond.methodLink "java/lang/Exception" (13 : Nat) ({ cls := "java/lang/Throwable", name := "<init>", desc := "(Ljava/lang/Throwable;)V" } : Jvm.MethodName)) ∈ lw_all := lw_g (lw_at lw_m7 11 rfl) rfl
theorem q1637 : (Jvm.Cond.instanceMethod ({ cls := "java/lang/Exception", name := "<init>", desc := "()V" } : Jvm.MethodName)) ∈ lw_all := lw_g (lw_at lw_m7 80 rfl) rfl
theorem q1638 : (Jvm.Cond.code ({ cls := "java/lang/Exception", name := "<init>", desc := "()V" } : Jvm.MethodName) prog_36_method_1_code (1 : Nat) (Option.none : Option Jvm.ClassFile.FieldType)) ∈ lw_all := lw_g (lw_at lw_m7 81 rfl) rfl
theorem q1639 : (Jvm.Cond.methodLink "java/lang/Exception" (1 : Nat) ({ cls := "java/lang/Throwable", name := "<init>", desc := "()V" } : Jvm.MethodName)) ∈ lw_all := lw_g (lw_at lw_m7 82 rfl) rfl
theorem q1944 : (Jvm.Cond.instanceMethod ({ cls := "java/lang/Exception", name := "<init>", desc := "(Ljava/lang/String;Ljava/lang/Throwable;)V" } : Jvm.MethodName)) ∈ lw_all := lw_g (lw_at lw_m8 147 rfl) rfl
theorem q1945 : (Jvm.Cond.code ({ cls := "java/lang/Exception", name := "<init>", desc := "(Ljava/lang/String;Ljava/lang/Throwable;)V" } : Jvm.MethodName) prog_36_method_3_code (3 : Nat) (Option.none : Option Jvm.ClassFile.FieldType)) ∈ lw_all := lw_g (lw_at lw_m8 148 rfl) rfl
theorem q1946 : (Jvm.Cond.methodLink "java/lang/Exception" (10 : Nat) ({ cls := "java/lang/Throwable", name := "<init>", desc := "(Ljava/lang/String;Ljava/lang/Throwable;)V" } : Jvm.MethodName)) ∈ lw_all := lw_g (lw_at lw_m8 149 rfl) rfl

/-! java/lang/RuntimeException -/
def RJ8 : String := "java/lang/RuntimeException"
abbrev cJ8_init : ByteArray := prog_45_method_2_code
def yJ8_init : MethodName := ⟨RJ8, "<init>", "(Ljava/lang/String;)V"⟩
def dkwJ8_init_0 : List UInt8 := [42, 43, 183, 0, 7, 177]
abbrev dktJ8_init_0 : List UInt8 := dkwJ8_init_0 ++ []
theorem dksJ8_init_0 : cJ8_init.data.toList.drop 0 = dktJ8_init_0 := by decide +kernel
theorem dJ8_init_0 : decode cJ8_init 0 = .ok (.aload_n 0, 1) := dk_42 (dk_at dksJ8_init_0 0 rfl rfl)
theorem dJ8_init_1 : decode cJ8_init 1 = .ok (.aload_n 1, 1) := dk_43 (dk_at dksJ8_init_0 1 rfl rfl)
theorem dJ8_init_2 : decode cJ8_init 2 = .ok (.invokespecial 7, 3) := dk_183 0 7 (dk_at dksJ8_init_0 2 rfl rfl)
theorem dJ8_init_5 : decode cJ8_init 5 = .ok (.return_, 1) := dk_177 (dk_at dksJ8_init_0 5 rfl rfl)
abbrev cJ8_init_2 : ByteArray := prog_45_method_4_code
def yJ8_init_2 : MethodName := ⟨RJ8, "<init>", "(Ljava/lang/Throwable;)V"⟩
def dkwJ8_init_2_0 : List UInt8 := [42, 43, 183, 0, 13, 177]
abbrev dktJ8_init_2_0 : List UInt8 := dkwJ8_init_2_0 ++ []
theorem dksJ8_init_2_0 : cJ8_init_2.data.toList.drop 0 = dktJ8_init_2_0 := by decide +kernel
theorem dJ8_init_2_0 : decode cJ8_init_2 0 = .ok (.aload_n 0, 1) := dk_42 (dk_at dksJ8_init_2_0 0 rfl rfl)
theorem dJ8_init_2_1 : decode cJ8_init_2 1 = .ok (.aload_n 1, 1) := dk_43 (dk_at dksJ8_init_2_0 1 rfl rfl)
theorem dJ8_init_2_2 : decode cJ8_init_2 2 = .ok (.invokespecial 13, 3) := dk_183 0 13 (dk_at dksJ8_init_2_0 2 rfl rfl)
theorem dJ8_init_2_5 : decode cJ8_init_2 5 = .ok (.return_, 1) := dk_177 (dk_at dksJ8_init_2_0 5 rfl rfl)
abbrev cJ8_init_3 : ByteArray := prog_45_method_1_code
def yJ8_init_3 : MethodName := ⟨RJ8, "<init>", "()V"⟩
theorem dJ8_init_3_0 : decode cJ8_init_3 0 = .ok (.aload_n 0, 1) := by decide +kernel
theorem dJ8_init_3_1 : decode cJ8_init_3 1 = .ok (.invokespecial 1, 3) := by decide +kernel
theorem dJ8_init_3_4 : decode cJ8_init_3 4 = .ok (.return_, 1) := by decide +kernel
abbrev cJ8_init_4 : ByteArray := prog_45_method_3_code
def yJ8_init_4 : MethodName := ⟨RJ8, "<init>", "(Ljava/lang/String;Ljava/lang/Throwable;)V"⟩
def dkwJ8_init_4_0 : List UInt8 := [42, 43, 44, 183, 0, 10, 177]
abbrev dktJ8_init_4_0 : List UInt8 := dkwJ8_init_4_0 ++ []
theorem dksJ8_init_4_0 : cJ8_init_4.data.toList.drop 0 = dktJ8_init_4_0 := by decide +kernel
theorem dJ8_init_4_0 : decode cJ8_init_4 0 = .ok (.aload_n 0, 1) := dk_42 (dk_at dksJ8_init_4_0 0 rfl rfl)
theorem dJ8_init_4_1 : decode cJ8_init_4 1 = .ok (.aload_n 1, 1) := dk_43 (dk_at dksJ8_init_4_0 1 rfl rfl)
theorem dJ8_init_4_2 : decode cJ8_init_4 2 = .ok (.aload_n 2, 1) := dk_44 (dk_at dksJ8_init_4_0 2 rfl rfl)
theorem dJ8_init_4_3 : decode cJ8_init_4 3 = .ok (.invokespecial 10, 3) := dk_183 0 10 (dk_at dksJ8_init_4_0 3 rfl rfl)
theorem dJ8_init_4_6 : decode cJ8_init_4 6 = .ok (.return_, 1) := dk_177 (dk_at dksJ8_init_4_0 6 rfl rfl)
theorem q129 : (Jvm.Cond.initialized "java/lang/RuntimeException") ∈ lw_all := lw_g (lw_at lw_m1 12 rfl) rfl
theorem q743 : (Jvm.Cond.declares ({ cls := "java/lang/RuntimeException", name := "<init>", desc := "()V" } : Jvm.MethodName)) ∈ lw_tbl := lw_at lw_m3 146 rfl
theorem q744 : (Jvm.Cond.declares ({ cls := "java/lang/RuntimeException", name := "<init>", desc := "(Ljava/lang/String;)V" } : Jvm.MethodName)) ∈ lw_tbl := lw_at lw_m3 147 rfl
theorem q761 : (Jvm.Cond.instanceMethod ({ cls := "java/lang/RuntimeException", name := "<init>", desc := "(Ljava/lang/String;)V" } : Jvm.MethodName)) ∈ lw_all := lw_g (lw_at lw_m3 164 rfl) rfl
theorem q762 : (Jvm.Cond.code ({ cls := "java/lang/RuntimeException", name := "<init>", desc := "(Ljava/lang/String;)V" } : Jvm.MethodName) prog_45_method_2_code (2 : Nat) (Option.none : Option Jvm.ClassFile.FieldType)) ∈ lw_all := lw_g (lw_at lw_m3 165 rfl) rfl
theorem q763 : (Jvm.Cond.methodLink "java/lang/RuntimeException" (7 : Nat) ({ cls := "java/lang/Exception", name := "<init>", desc := "(Ljava/lang/String;)V" } : Jvm.MethodName)) ∈ lw_all := lw_g (lw_at lw_m3 166 rfl) rfl
theorem q1563 : (Jvm.Cond.instanceMethod ({ cls := "java/lang/RuntimeException", name := "<init>", desc := "(Ljava/lang/Throwable;)V" } : Jvm.MethodName)) ∈ lw_all := lw_g (lw_at lw_m7 6 rfl) rfl
theorem q1564 : (Jvm.Cond.code ({ cls := "java/lang/RuntimeException", name := "<init>", desc := "(Ljava/lang/Throwable;)V" } : Jvm.MethodName) prog_45_method_4_code (2 : Nat) (Option.none : Option Jvm.ClassFile.FieldType)) ∈ lw_all := lw_g (lw_at lw_m7 7 rfl) rfl
theorem q1565 : (Jvm.Cond.methodLink "java/lang/RuntimeException" (13 : Nat) ({ cls := "java/lang/Exception", name := "<init>", desc := "(Ljava/lang/Throwable;)V" } : Jvm.MethodName)) ∈ lw_all := lw_g (lw_at lw_m7 8 rfl) rfl
theorem q1634 : (Jvm.Cond.instanceMethod ({ cls := "java/lang/RuntimeException", name := "<init>", desc := "()V" } : Jvm.MethodName)) ∈ lw_all := lw_g (lw_at lw_m7 77 rfl) rfl
theorem q1635 : (Jvm.Cond.code ({ cls := "java/lang/RuntimeException", name := "<init>", desc := "()V" } : Jvm.MethodName) prog_45_method_1_code (1 : Nat) (Option.none : Option Jvm.ClassFile.FieldType)) ∈ lw_all := lw_g (lw_at lw_m7 78 rfl) rfl
theorem q1636 : (Jvm.Cond.methodLink "java/lang/RuntimeException" (1 : Nat) ({ cls := "java/lang/Exception", name := "<init>", desc := "()V" } : Jvm.MethodName)) ∈ lw_all := lw_g (lw_at lw_m7 79 rfl) rfl
theorem q1941 : (Jvm.Cond.instanceMethod ({ cls := "java/lang/RuntimeException", name := "<init>", desc := "(Ljava/lang/String;Ljava/lang/Throwable;)V" } : Jvm.MethodName)) ∈ lw_all := lw_g (lw_at lw_m8 144 rfl) rfl
theorem q1942 : (Jvm.Cond.code ({ cls := "java/lang/RuntimeException", name := "<init>", desc := "(Ljava/lang/String;Ljava/lang/Throwable;)V" } : Jvm.MethodName) prog_45_method_3_code (3 : Nat) (Option.none : Option Jvm.ClassFile.FieldType)) ∈ lw_all := lw_g (lw_at lw_m8 145 rfl) rfl
theorem q1943 : (Jvm.Cond.methodLink "java/lang/RuntimeException" (10 : Nat) ({ cls := "java/lang/Exception", name := "<init>", desc := "(Ljava/lang/String;Ljava/lang/Throwable;)V" } : Jvm.MethodName)) ∈ lw_all := lw_g (lw_at lw_m8 146 rfl) rfl

/-! java/lang/IllegalArgumentException -/
def RJ9 : String := "java/lang/IllegalArgumentException"
def TJ9 : u_T := fun k => match k with
  | 0 => ("java/lang/Throwable", "cause", "Ljava/lang/Throwable;", false)
  | 1 => ("java/lang/Throwable", "stackTrace", "[Ljava/lang/StackTraceElement;", false)
  | 2 => ("java/lang/Throwable", "suppressedExceptions", "Ljava/util/List;", false)
  | 3 => ("java/lang/Throwable", "detailMessage", "Ljava/lang/String;", false)
  | 4 => ("java/lang/Throwable", "backtrace", "Ljava/lang/Object;", false)
  | _ => ("java/lang/Throwable", "depth", "I", false)
def tyJ9 : Nat → FieldType := fun k => match k with
  | 0 => .object "java/lang/Throwable"
  | 1 => .array (.object "java/lang/StackTraceElement")
  | 2 => .object "java/util/List"
  | 3 => .object "java/lang/String"
  | 4 => .object "java/lang/Object"
  | _ => .int
abbrev wsJ90 : List Cond := u_ws RJ9 TJ9 6
theorem nmJ9 : ∀ a, a < 6 → ∀ b, b < 6 → a ≠ b → (TJ9 a).2.1 ≠ (TJ9 b).2.1 := by decide +kernel
theorem tyJ9_ok : ∀ k, k < 6 → parseFieldDescriptor (TJ9 k).2.2.1 = some (tyJ9 k) := by decide +kernel
abbrev cJ9_init : ByteArray := prog_37_method_2_code
def yJ9_init : MethodName := ⟨RJ9, "<init>", "(Ljava/lang/String;)V"⟩
def dkwJ9_init_0 : List UInt8 := [42, 43, 183, 0, 7, 177]
abbrev dktJ9_init_0 : List UInt8 := dkwJ9_init_0 ++ []
theorem dksJ9_init_0 : cJ9_init.data.toList.drop 0 = dktJ9_init_0 := by decide +kernel
theorem dJ9_init_0 : decode cJ9_init 0 = .ok (.aload_n 0, 1) := dk_42 (dk_at dksJ9_init_0 0 rfl rfl)
theorem dJ9_init_1 : decode cJ9_init 1 = .ok (.aload_n 1, 1) := dk_43 (dk_at dksJ9_init_0 1 rfl rfl)
theorem dJ9_init_2 : decode cJ9_init 2 = .ok (.invokespecial 7, 3) := dk_183 0 7 (dk_at dksJ9_init_0 2 rfl rfl)
theorem dJ9_init_5 : decode cJ9_init 5 = .ok (.return_, 1) := dk_177 (dk_at dksJ9_init_0 5 rfl rfl)
theorem q130 : (Jvm.Cond.initialized "java/lang/IllegalArgumentException") ∈ lw_all := lw_g (lw_at lw_m1 13 rfl) rfl
theorem q511 : (Jvm.Cond.selects "java/lang/IllegalArgumentException" ({ cls := "java/lang/Throwable", name := "fillInStackTrace", desc := "()Ljava/lang/Throwable;" } : Jvm.MethodName) ({ cls := "java/lang/Throwable", name := "fillInStackTrace", desc := "()Ljava/lang/Throwable;" } : Jvm.MethodName)) ∈ lw_all := lw_g (lw_at lw_m2 154 rfl) rfl
theorem q741 : (Jvm.Cond.instantiable "java/lang/IllegalArgumentException" (6 : Nat)) ∈ lw_all := lw_g (lw_at lw_m3 144 rfl) rfl
theorem q742 : (Jvm.Cond.castable "java/lang/IllegalArgumentException" "java/lang/IllegalArgumentException") ∈ lw_tbl := lw_at lw_m3 145 rfl
theorem q745 : (Jvm.Cond.selects "java/lang/IllegalArgumentException" ({ cls := "java/lang/Throwable", name := "fillInStackTrace", desc := "(I)Ljava/lang/Throwable;" } : Jvm.MethodName) ({ cls := "java/lang/Throwable", name := "fillInStackTrace", desc := "(I)Ljava/lang/Throwable;" } : Jvm.MethodName)) ∈ lw_all := lw_g (lw_at lw_m3 148 rfl) rfl
theorem q746 : (Jvm.Cond.lays "java/lang/IllegalArgumentException" "java/lang/Throwable" "cause" "Ljava/lang/Throwable;") ∈ lw_all := lw_g (lw_at lw_m3 149 rfl) rfl
theorem q747 : (Jvm.Cond.lays "java/lang/IllegalArgumentException" "java/lang/Throwable" "stackTrace" "[Ljava/lang/StackTraceElement;") ∈ lw_all := lw_g (lw_at lw_m3 150 rfl) rfl
theorem q748 : (Jvm.Cond.lays "java/lang/IllegalArgumentException" "java/lang/Throwable" "suppressedExceptions" "Ljava/util/List;") ∈ lw_all := lw_g (lw_at lw_m3 151 rfl) rfl
theorem q749 : (Jvm.Cond.lays "java/lang/IllegalArgumentException" "java/lang/Throwable" "detailMessage" "Ljava/lang/String;") ∈ lw_all := lw_g (lw_at lw_m3 152 rfl) rfl
theorem q750 : (Jvm.Cond.lays "java/lang/IllegalArgumentException" "java/lang/Throwable" "backtrace" "Ljava/lang/Object;") ∈ lw_all := lw_g (lw_at lw_m3 153 rfl) rfl
theorem q758 : (Jvm.Cond.instanceMethod ({ cls := "java/lang/IllegalArgumentException", name := "<init>", desc := "(Ljava/lang/String;)V" } : Jvm.MethodName)) ∈ lw_all := lw_g (lw_at lw_m3 161 rfl) rfl
theorem q759 : (Jvm.Cond.code ({ cls := "java/lang/IllegalArgumentException", name := "<init>", desc := "(Ljava/lang/String;)V" } : Jvm.MethodName) prog_37_method_2_code (2 : Nat) (Option.none : Option Jvm.ClassFile.FieldType)) ∈ lw_all := lw_g (lw_at lw_m3 162 rfl) rfl
theorem q760 : (Jvm.Cond.methodLink "java/lang/IllegalArgumentException" (7 : Nat) ({ cls := "java/lang/RuntimeException", name := "<init>", desc := "(Ljava/lang/String;)V" } : Jvm.MethodName)) ∈ lw_all := lw_g (lw_at lw_m3 163 rfl) rfl
theorem q778 : (Jvm.Cond.lays "java/lang/IllegalArgumentException" "java/lang/Throwable" "depth" "I") ∈ lw_all := lw_g (lw_at lw_m3 181 rfl) rfl
theorem q781 : (Jvm.Cond.superclass "java/lang/IllegalArgumentException" "java/lang/RuntimeException") ∈ lw_all := lw_g (lw_at lw_m3 184 rfl) rfl
theorem q1072 : (Jvm.Cond.selects "java/lang/IllegalArgumentException" ({ cls := "java/lang/Object", name := "getClass", desc := "()Ljava/lang/Class;" } : Jvm.MethodName) ({ cls := "java/lang/Object", name := "getClass", desc := "()Ljava/lang/Class;" } : Jvm.MethodName)) ∈ lw_all := lw_g (lw_at lw_m4 235 rfl) rfl
theorem q1580 : (Jvm.Cond.selects "java/lang/IllegalArgumentException" ({ cls := "java/lang/Throwable", name := "toString", desc := "()Ljava/lang/String;" } : Jvm.MethodName) ({ cls := "java/lang/Throwable", name := "toString", desc := "()Ljava/lang/String;" } : Jvm.MethodName)) ∈ lw_all := lw_g (lw_at lw_m7 23 rfl) rfl
theorem q1596 : (Jvm.Cond.selects "java/lang/IllegalArgumentException" ({ cls := "java/lang/Throwable", name := "getLocalizedMessage", desc := "()Ljava/lang/String;" } : Jvm.MethodName) ({ cls := "java/lang/Throwable", name := "getLocalizedMessage", desc := "()Ljava/lang/String;" } : Jvm.MethodName)) ∈ lw_all := lw_g (lw_at lw_m7 39 rfl) rfl
theorem q1611 : (Jvm.Cond.selects "java/lang/IllegalArgumentException" ({ cls := "java/lang/Throwable", name := "getMessage", desc := "()Ljava/lang/String;" } : Jvm.MethodName) ({ cls := "java/lang/Throwable", name := "getMessage", desc := "()Ljava/lang/String;" } : Jvm.MethodName)) ∈ lw_all := lw_g (lw_at lw_m7 54 rfl) rfl
theorem q3482 : (Jvm.Cond.castable "java/lang/IllegalArgumentException" "java/lang/Object") ∈ lw_tbl := lw_at lw_m15 5 rfl
theorem in_J9 : ∀ w ∈ wsJ90, w ∈ lw_all := lw_in wsJ90 [746, 747, 748, 749, 750, 778] (by decide +kernel) (by decide +kernel)

