set_option maxRecDepth 100000
/-! KernelGym$Machine -/
def RX2 : String := "KernelGym$Machine"
def TX2 : u_T := fun k => match k with
  | 0 => ("KernelGym$Machine", "cells", "[I", true)
  | 1 => ("KernelGym$Machine", "keys", "Ljava/util/LinkedList;", true)
  | 2 => ("KernelGym$Machine", "kept", "Ljava/util/ArrayDeque;", true)
  | 3 => ("KernelGym$Machine", "keeps", "Z", true)
  | 4 => ("KernelGym$Machine", "present", "LKernelGym$Step;", false)
  | 5 => ("KernelGym$Machine", "image", "[I", false)
  | 6 => ("KernelGym$Machine", "diskAtStart", "[I", true)
  | 7 => ("KernelGym$Machine", "numbers", "[I", true)
  | 8 => ("KernelGym$Machine", "drafts", "[[I", false)
  | _ => ("KernelGym$Machine", "drafted", "I", false)
def tyX2 : Nat → FieldType := fun k => match k with
  | 0 => .array .int
  | 1 => .object "java/util/LinkedList"
  | 2 => .object "java/util/ArrayDeque"
  | 3 => .boolean
  | 4 => .object "KernelGym$Step"
  | 5 => .array .int
  | 6 => .array .int
  | 7 => .array .int
  | 8 => .array (.array .int)
  | _ => .int
abbrev wsX20 : List Cond := u_ws RX2 TX2 10
theorem nmX2 : ∀ a, a < 10 → ∀ b, b < 10 → a ≠ b → (TX2 a).2.1 ≠ (TX2 b).2.1 := by decide +kernel
theorem tyX2_ok : ∀ k, k < 10 → parseFieldDescriptor (TX2 k).2.2.1 = some (tyX2 k) := by decide +kernel
abbrev cX2_init : ByteArray := prog_16_method_1_code
def yX2_init : MethodName := ⟨RX2, "<init>", "(Z)V"⟩
def dkwX2_init_3 : List UInt8 := [181, 0, 43, 42, 182, 0, 47, 177]
abbrev dktX2_init_3 : List UInt8 := dkwX2_init_3 ++ []
def dkwX2_init_2 : List UInt8 := [181, 0, 32, 42, 6, 188, 10, 181, 0, 35, 42, 6, 16, 8, 197, 0, 38, 2, 181, 0, 40, 42, 27]
abbrev dktX2_init_2 : List UInt8 := dkwX2_init_2 ++ dktX2_init_3
def dkwX2_init_1 : List UInt8 := [42, 187, 0, 22, 89, 183, 0, 24, 181, 0, 25, 42, 3, 188, 10, 181, 0, 29, 42, 17, 1, 0, 188, 10]
abbrev dktX2_init_1 : List UInt8 := dkwX2_init_1 ++ dktX2_init_2
def dkwX2_init_0 : List UInt8 := [42, 183, 0, 3, 42, 17, 2, 109, 188, 10, 181, 0, 9, 42, 187, 0, 15, 89, 183, 0, 17, 181, 0, 18]
abbrev dktX2_init_0 : List UInt8 := dkwX2_init_0 ++ dktX2_init_1
theorem dksX2_init_0 : cX2_init.data.toList.drop 0 = dktX2_init_0 := by decide +kernel
theorem dksX2_init_1 : cX2_init.data.toList.drop 24 = dktX2_init_1 := dk_seg dksX2_init_0 24 rfl rfl
theorem dksX2_init_2 : cX2_init.data.toList.drop 48 = dktX2_init_2 := dk_seg dksX2_init_1 24 rfl rfl
theorem dksX2_init_3 : cX2_init.data.toList.drop 71 = dktX2_init_3 := dk_seg dksX2_init_2 23 rfl rfl
theorem dX2_init_0 : decode cX2_init 0 = .ok (.aload_n 0, 1) := dk_42 (dk_at dksX2_init_0 0 rfl rfl)
theorem dX2_init_1 : decode cX2_init 1 = .ok (.invokespecial 3, 3) := dk_183 0 3 (dk_at dksX2_init_0 1 rfl rfl)
theorem dX2_init_4 : decode cX2_init 4 = .ok (.aload_n 0, 1) := dk_42 (dk_at dksX2_init_0 4 rfl rfl)
theorem dX2_init_5 : decode cX2_init 5 = .ok (.sipush 621, 3) := dk_17 2 109 (dk_at dksX2_init_0 5 rfl rfl)
theorem dX2_init_8 : decode cX2_init 8 = .ok (.newarray .int, 2) := dk_188_10 (dk_at dksX2_init_0 8 rfl rfl)
theorem dX2_init_10 : decode cX2_init 10 = .ok (.putfield 9, 3) := dk_181 0 9 (dk_at dksX2_init_0 10 rfl rfl)
theorem dX2_init_13 : decode cX2_init 13 = .ok (.aload_n 0, 1) := dk_42 (dk_at dksX2_init_0 13 rfl rfl)
theorem dX2_init_14 : decode cX2_init 14 = .ok (.new 15, 3) := dk_187 0 15 (dk_at dksX2_init_0 14 rfl rfl)
theorem dX2_init_17 : decode cX2_init 17 = .ok (.dup, 1) := dk_89 (dk_at dksX2_init_0 17 rfl rfl)
theorem dX2_init_18 : decode cX2_init 18 = .ok (.invokespecial 17, 3) := dk_183 0 17 (dk_at dksX2_init_0 18 rfl rfl)
theorem dX2_init_21 : decode cX2_init 21 = .ok (.putfield 18, 3) := dk_181 0 18 (dk_at dksX2_init_0 21 rfl rfl)
theorem dX2_init_24 : decode cX2_init 24 = .ok (.aload_n 0, 1) := dk_42 (dk_at dksX2_init_1 0 rfl rfl)
theorem dX2_init_25 : decode cX2_init 25 = .ok (.new 22, 3) := dk_187 0 22 (dk_at dksX2_init_1 1 rfl rfl)
theorem dX2_init_28 : decode cX2_init 28 = .ok (.dup, 1) := dk_89 (dk_at dksX2_init_1 4 rfl rfl)
theorem dX2_init_29 : decode cX2_init 29 = .ok (.invokespecial 24, 3) := dk_183 0 24 (dk_at dksX2_init_1 5 rfl rfl)
theorem dX2_init_32 : decode cX2_init 32 = .ok (.putfield 25, 3) := dk_181 0 25 (dk_at dksX2_init_1 8 rfl rfl)
theorem dX2_init_35 : decode cX2_init 35 = .ok (.aload_n 0, 1) := dk_42 (dk_at dksX2_init_1 11 rfl rfl)
theorem dX2_init_36 : decode cX2_init 36 = .ok (.iconst 0, 1) := dk_3 (dk_at dksX2_init_1 12 rfl rfl)
theorem dX2_init_37 : decode cX2_init 37 = .ok (.newarray .int, 2) := dk_188_10 (dk_at dksX2_init_1 13 rfl rfl)
theorem dX2_init_39 : decode cX2_init 39 = .ok (.putfield 29, 3) := dk_181 0 29 (dk_at dksX2_init_1 15 rfl rfl)
theorem dX2_init_42 : decode cX2_init 42 = .ok (.aload_n 0, 1) := dk_42 (dk_at dksX2_init_1 18 rfl rfl)
theorem dX2_init_43 : decode cX2_init 43 = .ok (.sipush 256, 3) := dk_17 1 0 (dk_at dksX2_init_1 19 rfl rfl)
theorem dX2_init_46 : decode cX2_init 46 = .ok (.newarray .int, 2) := dk_188_10 (dk_at dksX2_init_1 22 rfl rfl)
theorem dX2_init_48 : decode cX2_init 48 = .ok (.putfield 32, 3) := dk_181 0 32 (dk_at dksX2_init_2 0 rfl rfl)
theorem dX2_init_51 : decode cX2_init 51 = .ok (.aload_n 0, 1) := dk_42 (dk_at dksX2_init_2 3 rfl rfl)
theorem dX2_init_52 : decode cX2_init 52 = .ok (.iconst 3, 1) := dk_6 (dk_at dksX2_init_2 4 rfl rfl)
theorem dX2_init_53 : decode cX2_init 53 = .ok (.newarray .int, 2) := dk_188_10 (dk_at dksX2_init_2 5 rfl rfl)
theorem dX2_init_55 : decode cX2_init 55 = .ok (.putfield 35, 3) := dk_181 0 35 (dk_at dksX2_init_2 7 rfl rfl)
theorem dX2_init_58 : decode cX2_init 58 = .ok (.aload_n 0, 1) := dk_42 (dk_at dksX2_init_2 10 rfl rfl)
theorem dX2_init_59 : decode cX2_init 59 = .ok (.iconst 3, 1) := dk_6 (dk_at dksX2_init_2 11 rfl rfl)
theorem dX2_init_60 : decode cX2_init 60 = .ok (.bipush 8, 2) := dk_16 8 (dk_at dksX2_init_2 12 rfl rfl)
theorem dX2_init_62 : decode cX2_init 62 = .ok (.multianewarray 38 2, 4) := by decide +kernel
theorem dX2_init_66 : decode cX2_init 66 = .ok (.putfield 40, 3) := dk_181 0 40 (dk_at dksX2_init_2 18 rfl rfl)
theorem dX2_init_69 : decode cX2_init 69 = .ok (.aload_n 0, 1) := dk_42 (dk_at dksX2_init_2 21 rfl rfl)
theorem dX2_init_70 : decode cX2_init 70 = .ok (.iload_n 1, 1) := dk_27 (dk_at dksX2_init_2 22 rfl rfl)
theorem dX2_init_71 : decode cX2_init 71 = .ok (.putfield 43, 3) := dk_181 0 43 (dk_at dksX2_init_3 0 rfl rfl)
theorem dX2_init_74 : decode cX2_init 74 = .ok (.aload_n 0, 1) := dk_42 (dk_at dksX2_init_3 3 rfl rfl)
theorem dX2_init_75 : decode cX2_init 75 = .ok (.invokevirtual 47, 3) := dk_182 0 47 (dk_at dksX2_init_3 4 rfl rfl)
theorem dX2_init_78 : decode cX2_init 78 = .ok (.return_, 1) := dk_177 (dk_at dksX2_init_3 7 rfl rfl)
abbrev cX2_format : ByteArray := prog_16_method_5_code
def yX2_format : MethodName := ⟨RX2, "format", "()V"⟩
def dkwX2_format_1 : List UInt8 := [42, 180, 0, 9, 17, 1, 141, 17, 0, 255, 79, 177]
abbrev dktX2_format_1 : List UInt8 := dkwX2_format_1 ++ []
def dkwX2_format_0 : List UInt8 := [17, 1, 108, 60, 27, 17, 2, 109, 162, 0, 16, 42, 180, 0, 9, 27, 3, 79, 132, 1, 1, 167, 255, 239]
abbrev dktX2_format_0 : List UInt8 := dkwX2_format_0 ++ dktX2_format_1
theorem dksX2_format_0 : cX2_format.data.toList.drop 0 = dktX2_format_0 := by decide +kernel
theorem dksX2_format_1 : cX2_format.data.toList.drop 24 = dktX2_format_1 := dk_seg dksX2_format_0 24 rfl rfl
theorem dX2_format_0 : decode cX2_format 0 = .ok (.sipush 364, 3) := dk_17 1 108 (dk_at dksX2_format_0 0 rfl rfl)
theorem dX2_format_3 : decode cX2_format 3 = .ok (.istore_n 1, 1) := dk_60 (dk_at dksX2_format_0 3 rfl rfl)
theorem dX2_format_4 : decode cX2_format 4 = .ok (.iload_n 1, 1) := dk_27 (dk_at dksX2_format_0 4 rfl rfl)
theorem dX2_format_5 : decode cX2_format 5 = .ok (.sipush 621, 3) := dk_17 2 109 (dk_at dksX2_format_0 5 rfl rfl)
theorem dX2_format_8 : decode cX2_format 8 = .ok (.if_icmp .ge 16, 3) := dk_162 0 16 (dk_at dksX2_format_0 8 rfl rfl)
theorem dX2_format_11 : decode cX2_format 11 = .ok (.aload_n 0, 1) := dk_42 (dk_at dksX2_format_0 11 rfl rfl)
theorem dX2_format_12 : decode cX2_format 12 = .ok (.getfield 9, 3) := dk_180 0 9 (dk_at dksX2_format_0 12 rfl rfl)
theorem dX2_format_15 : decode cX2_format 15 = .ok (.iload_n 1, 1) := dk_27 (dk_at dksX2_format_0 15 rfl rfl)
theorem dX2_format_16 : decode cX2_format 16 = .ok (.iconst 0, 1) := dk_3 (dk_at dksX2_format_0 16 rfl rfl)
theorem dX2_format_17 : decode cX2_format 17 = .ok (.iastore, 1) := dk_79 (dk_at dksX2_format_0 17 rfl rfl)
theorem dX2_format_18 : decode cX2_format 18 = .ok (.iinc 1 1, 3) := dk_132 1 1 (dk_at dksX2_format_0 18 rfl rfl)
theorem dX2_format_21 : decode cX2_format 21 = .ok (.goto (-17), 3) := dk_167 255 239 (dk_at dksX2_format_0 21 rfl rfl)
theorem dX2_format_24 : decode cX2_format 24 = .ok (.aload_n 0, 1) := dk_42 (dk_at dksX2_format_1 0 rfl rfl)
theorem dX2_format_25 : decode cX2_format 25 = .ok (.getfield 9, 3) := dk_180 0 9 (dk_at dksX2_format_1 1 rfl rfl)
theorem dX2_format_28 : decode cX2_format 28 = .ok (.sipush 397, 3) := dk_17 1 141 (dk_at dksX2_format_1 4 rfl rfl)
theorem dX2_format_31 : decode cX2_format 31 = .ok (.sipush 255, 3) := dk_17 0 255 (dk_at dksX2_format_1 7 rfl rfl)
theorem dX2_format_34 : decode cX2_format 34 = .ok (.iastore, 1) := dk_79 (dk_at dksX2_format_1 10 rfl rfl)
theorem dX2_format_35 : decode cX2_format 35 = .ok (.return_, 1) := dk_177 (dk_at dksX2_format_1 11 rfl rfl)
abbrev cX2_flags : ByteArray := prog_16_method_50_code
def yX2_flags : MethodName := ⟨RX2, "flags", "()I"⟩
def dkwX2_flags_2 : List UInt8 := [172]
abbrev dktX2_flags_2 : List UInt8 := dkwX2_flags_2 ++ []
def dkwX2_flags_1 : List UInt8 := [104, 96, 16, 8, 42, 180, 0, 9, 16, 8, 46, 104, 96, 16, 16, 42, 180, 0, 9, 16, 9, 46, 104, 96]
abbrev dktX2_flags_1 : List UInt8 := dkwX2_flags_1 ++ dktX2_flags_2
def dkwX2_flags_0 : List UInt8 := [42, 180, 0, 9, 8, 46, 5, 42, 180, 0, 9, 16, 6, 46, 104, 96, 7, 42, 180, 0, 9, 16, 7, 46]
abbrev dktX2_flags_0 : List UInt8 := dkwX2_flags_0 ++ dktX2_flags_1
theorem dksX2_flags_0 : cX2_flags.data.toList.drop 0 = dktX2_flags_0 := by decide +kernel
theorem dksX2_flags_1 : cX2_flags.data.toList.drop 24 = dktX2_flags_1 := dk_seg dksX2_flags_0 24 rfl rfl
theorem dksX2_flags_2 : cX2_flags.data.toList.drop 48 = dktX2_flags_2 := dk_seg dksX2_flags_1 24 rfl rfl
theorem dX2_flags_0 : decode cX2_flags 0 = .ok (.aload_n 0, 1) := dk_42 (dk_at dksX2_flags_0 0 rfl rfl)
theorem dX2_flags_1 : decode cX2_flags 1 = .ok (.getfield 9, 3) := dk_180 0 9 (dk_at dksX2_flags_0 1 rfl rfl)
theorem dX2_flags_4 : decode cX2_flags 4 = .ok (.iconst 5, 1) := dk_8 (dk_at dksX2_flags_0 4 rfl rfl)
theorem dX2_flags_5 : decode cX2_flags 5 = .ok (.iaload, 1) := dk_46 (dk_at dksX2_flags_0 5 rfl rfl)
theorem dX2_flags_6 : decode cX2_flags 6 = .ok (.iconst 2, 1) := dk_5 (dk_at dksX2_flags_0 6 rfl rfl)
theorem dX2_flags_7 : decode cX2_flags 7 = .ok (.aload_n 0, 1) := dk_42 (dk_at dksX2_flags_0 7 rfl rfl)
theorem dX2_flags_8 : decode cX2_flags 8 = .ok (.getfield 9, 3) := dk_180 0 9 (dk_at dksX2_flags_0 8 rfl rfl)
theorem dX2_flags_11 : decode cX2_flags 11 = .ok (.bipush 6, 2) := dk_16 6 (dk_at dksX2_flags_0 11 rfl rfl)
theorem dX2_flags_13 : decode cX2_flags 13 = .ok (.iaload, 1) := dk_46 (dk_at dksX2_flags_0 13 rfl rfl)
theorem dX2_flags_14 : decode cX2_flags 14 = .ok (.imul, 1) := dk_104 (dk_at dksX2_flags_0 14 rfl rfl)
theorem dX2_flags_15 : decode cX2_flags 15 = .ok (.iadd, 1) := dk_96 (dk_at dksX2_flags_0 15 rfl rfl)
theorem dX2_flags_16 : decode cX2_flags 16 = .ok (.iconst 4, 1) := dk_7 (dk_at dksX2_flags_0 16 rfl rfl)
theorem dX2_flags_17 : decode cX2_flags 17 = .ok (.aload_n 0, 1) := dk_42 (dk_at dksX2_flags_0 17 rfl rfl)
theorem dX2_flags_18 : decode cX2_flags 18 = .ok (.getfield 9, 3) := dk_180 0 9 (dk_at dksX2_flags_0 18 rfl rfl)
theorem dX2_flags_21 : decode cX2_flags 21 = .ok (.bipush 7, 2) := dk_16 7 (dk_at dksX2_flags_0 21 rfl rfl)
theorem dX2_flags_23 : decode cX2_flags 23 = .ok (.iaload, 1) := dk_46 (dk_at dksX2_flags_0 23 rfl rfl)
theorem dX2_flags_24 : decode cX2_flags 24 = .ok (.imul, 1) := dk_104 (dk_at dksX2_flags_1 0 rfl rfl)
theorem dX2_flags_25 : decode cX2_flags 25 = .ok (.iadd, 1) := dk_96 (dk_at dksX2_flags_1 1 rfl rfl)
theorem dX2_flags_26 : decode cX2_flags 26 = .ok (.bipush 8, 2) := dk_16 8 (dk_at dksX2_flags_1 2 rfl rfl)
theorem dX2_flags_28 : decode cX2_flags 28 = .ok (.aload_n 0, 1) := dk_42 (dk_at dksX2_flags_1 4 rfl rfl)
theorem dX2_flags_29 : decode cX2_flags 29 = .ok (.getfield 9, 3) := dk_180 0 9 (dk_at dksX2_flags_1 5 rfl rfl)
theorem dX2_flags_32 : decode cX2_flags 32 = .ok (.bipush 8, 2) := dk_16 8 (dk_at dksX2_flags_1 8 rfl rfl)
theorem dX2_flags_34 : decode cX2_flags 34 = .ok (.iaload, 1) := dk_46 (dk_at dksX2_flags_1 10 rfl rfl)
theorem dX2_flags_35 : decode cX2_flags 35 = .ok (.imul, 1) := dk_104 (dk_at dksX2_flags_1 11 rfl rfl)
theorem dX2_flags_36 : decode cX2_flags 36 = .ok (.iadd, 1) := dk_96 (dk_at dksX2_flags_1 12 rfl rfl)
theorem dX2_flags_37 : decode cX2_flags 37 = .ok (.bipush 16, 2) := dk_16 16 (dk_at dksX2_flags_1 13 rfl rfl)
theorem dX2_flags_39 : decode cX2_flags 39 = .ok (.aload_n 0, 1) := dk_42 (dk_at dksX2_flags_1 15 rfl rfl)
theorem dX2_flags_40 : decode cX2_flags 40 = .ok (.getfield 9, 3) := dk_180 0 9 (dk_at dksX2_flags_1 16 rfl rfl)
theorem dX2_flags_43 : decode cX2_flags 43 = .ok (.bipush 9, 2) := dk_16 9 (dk_at dksX2_flags_1 19 rfl rfl)
theorem dX2_flags_45 : decode cX2_flags 45 = .ok (.iaload, 1) := dk_46 (dk_at dksX2_flags_1 21 rfl rfl)
theorem dX2_flags_46 : decode cX2_flags 46 = .ok (.imul, 1) := dk_104 (dk_at dksX2_flags_1 22 rfl rfl)
theorem dX2_flags_47 : decode cX2_flags 47 = .ok (.iadd, 1) := dk_96 (dk_at dksX2_flags_1 23 rfl rfl)
theorem dX2_flags_48 : decode cX2_flags 48 = .ok (.ireturn, 1) := dk_172 (dk_at dksX2_flags_2 0 rfl rfl)
abbrev cX2_writesLeft : ByteArray := prog_16_method_43_code
def yX2_writesLeft : MethodName := ⟨RX2, "writesLeft", "()I"⟩
def dkwX2_writesLeft_1 : List UInt8 := [96, 42, 180, 0, 9, 16, 19, 46, 100, 172]
abbrev dktX2_writesLeft_1 : List UInt8 := dkwX2_writesLeft_1 ++ []
def dkwX2_writesLeft_0 : List UInt8 := [42, 180, 0, 9, 16, 18, 46, 154, 0, 7, 3, 167, 0, 22, 5, 42, 180, 0, 9, 16, 18, 46, 104, 5]
abbrev dktX2_writesLeft_0 : List UInt8 := dkwX2_writesLeft_0 ++ dktX2_writesLeft_1
theorem dksX2_writesLeft_0 : cX2_writesLeft.data.toList.drop 0 = dktX2_writesLeft_0 := by decide +kernel
theorem dksX2_writesLeft_1 : cX2_writesLeft.data.toList.drop 24 = dktX2_writesLeft_1 := dk_seg dksX2_writesLeft_0 24 rfl rfl
theorem dX2_writesLeft_0 : decode cX2_writesLeft 0 = .ok (.aload_n 0, 1) := dk_42 (dk_at dksX2_writesLeft_0 0 rfl rfl)
theorem dX2_writesLeft_1 : decode cX2_writesLeft 1 = .ok (.getfield 9, 3) := dk_180 0 9 (dk_at dksX2_writesLeft_0 1 rfl rfl)
theorem dX2_writesLeft_4 : decode cX2_writesLeft 4 = .ok (.bipush 18, 2) := dk_16 18 (dk_at dksX2_writesLeft_0 4 rfl rfl)
theorem dX2_writesLeft_6 : decode cX2_writesLeft 6 = .ok (.iaload, 1) := dk_46 (dk_at dksX2_writesLeft_0 6 rfl rfl)
theorem dX2_writesLeft_7 : decode cX2_writesLeft 7 = .ok (.ifCond .ne 7, 3) := dk_154 0 7 (dk_at dksX2_writesLeft_0 7 rfl rfl)
theorem dX2_writesLeft_10 : decode cX2_writesLeft 10 = .ok (.iconst 0, 1) := dk_3 (dk_at dksX2_writesLeft_0 10 rfl rfl)
theorem dX2_writesLeft_11 : decode cX2_writesLeft 11 = .ok (.goto 22, 3) := dk_167 0 22 (dk_at dksX2_writesLeft_0 11 rfl rfl)
theorem dX2_writesLeft_14 : decode cX2_writesLeft 14 = .ok (.iconst 2, 1) := dk_5 (dk_at dksX2_writesLeft_0 14 rfl rfl)
theorem dX2_writesLeft_15 : decode cX2_writesLeft 15 = .ok (.aload_n 0, 1) := dk_42 (dk_at dksX2_writesLeft_0 15 rfl rfl)
theorem dX2_writesLeft_16 : decode cX2_writesLeft 16 = .ok (.getfield 9, 3) := dk_180 0 9 (dk_at dksX2_writesLeft_0 16 rfl rfl)
theorem dX2_writesLeft_19 : decode cX2_writesLeft 19 = .ok (.bipush 18, 2) := dk_16 18 (dk_at dksX2_writesLeft_0 19 rfl rfl)
theorem dX2_writesLeft_21 : decode cX2_writesLeft 21 = .ok (.iaload, 1) := dk_46 (dk_at dksX2_writesLeft_0 21 rfl rfl)
theorem dX2_writesLeft_22 : decode cX2_writesLeft 22 = .ok (.imul, 1) := dk_104 (dk_at dksX2_writesLeft_0 22 rfl rfl)
theorem dX2_writesLeft_23 : decode cX2_writesLeft 23 = .ok (.iconst 2, 1) := dk_5 (dk_at dksX2_writesLeft_0 23 rfl rfl)
theorem dX2_writesLeft_24 : decode cX2_writesLeft 24 = .ok (.iadd, 1) := dk_96 (dk_at dksX2_writesLeft_1 0 rfl rfl)
theorem dX2_writesLeft_25 : decode cX2_writesLeft 25 = .ok (.aload_n 0, 1) := dk_42 (dk_at dksX2_writesLeft_1 1 rfl rfl)
theorem dX2_writesLeft_26 : decode cX2_writesLeft 26 = .ok (.getfield 9, 3) := dk_180 0 9 (dk_at dksX2_writesLeft_1 2 rfl rfl)
theorem dX2_writesLeft_29 : decode cX2_writesLeft 29 = .ok (.bipush 19, 2) := dk_16 19 (dk_at dksX2_writesLeft_1 5 rfl rfl)
theorem dX2_writesLeft_31 : decode cX2_writesLeft 31 = .ok (.iaload, 1) := dk_46 (dk_at dksX2_writesLeft_1 7 rfl rfl)
theorem dX2_writesLeft_32 : decode cX2_writesLeft 32 = .ok (.isub, 1) := dk_100 (dk_at dksX2_writesLeft_1 8 rfl rfl)
theorem dX2_writesLeft_33 : decode cX2_writesLeft 33 = .ok (.ireturn, 1) := dk_172 (dk_at dksX2_writesLeft_1 9 rfl rfl)
abbrev cX2_sum : ByteArray := prog_16_method_53_code
def yX2_sum : MethodName := ⟨RX2, "sum", "()I"⟩
def dkwX2_sum_4 : List UInt8 := [172]
abbrev dktX2_sum_4 : List UInt8 := dkwX2_sum_4 ++ []
def dkwX2_sum_3 : List UInt8 := [180, 0, 9, 16, 17, 46, 184, 1, 48, 60, 42, 27, 16, 48, 42, 180, 0, 9, 16, 17, 46, 182, 1, 42]
abbrev dktX2_sum_3 : List UInt8 := dkwX2_sum_3 ++ dktX2_sum_4
def dkwX2_sum_2 : List UInt8 := [16, 108, 17, 1, 0, 182, 1, 42, 60, 42, 27, 17, 1, 109, 17, 1, 0, 182, 1, 42, 60, 27, 42]
abbrev dktX2_sum_2 : List UInt8 := dkwX2_sum_2 ++ dktX2_sum_3
def dkwX2_sum_1 : List UInt8 := [182, 1, 42, 60, 42, 27, 16, 12, 7, 182, 1, 42, 60, 27, 42, 182, 1, 51, 184, 1, 48, 60, 42, 27]
abbrev dktX2_sum_1 : List UInt8 := dkwX2_sum_1 ++ dktX2_sum_2
def dkwX2_sum_0 : List UInt8 := [42, 16, 7, 3, 8, 182, 1, 42, 60, 27, 42, 182, 1, 45, 184, 1, 48, 60, 42, 27, 16, 10, 5]
abbrev dktX2_sum_0 : List UInt8 := dkwX2_sum_0 ++ dktX2_sum_1
theorem dksX2_sum_0 : cX2_sum.data.toList.drop 0 = dktX2_sum_0 := by decide +kernel
theorem dksX2_sum_1 : cX2_sum.data.toList.drop 23 = dktX2_sum_1 := dk_seg dksX2_sum_0 23 rfl rfl
theorem dksX2_sum_2 : cX2_sum.data.toList.drop 47 = dktX2_sum_2 := dk_seg dksX2_sum_1 24 rfl rfl
theorem dksX2_sum_3 : cX2_sum.data.toList.drop 70 = dktX2_sum_3 := dk_seg dksX2_sum_2 23 rfl rfl
theorem dksX2_sum_4 : cX2_sum.data.toList.drop 94 = dktX2_sum_4 := dk_seg dksX2_sum_3 24 rfl rfl
theorem dX2_sum_0 : decode cX2_sum 0 = .ok (.aload_n 0, 1) := dk_42 (dk_at dksX2_sum_0 0 rfl rfl)
theorem dX2_sum_1 : decode cX2_sum 1 = .ok (.bipush 7, 2) := dk_16 7 (dk_at dksX2_sum_0 1 rfl rfl)
theorem dX2_sum_3 : decode cX2_sum 3 = .ok (.iconst 0, 1) := dk_3 (dk_at dksX2_sum_0 3 rfl rfl)
theorem dX2_sum_4 : decode cX2_sum 4 = .ok (.iconst 5, 1) := dk_8 (dk_at dksX2_sum_0 4 rfl rfl)
theorem dX2_sum_5 : decode cX2_sum 5 = .ok (.invokevirtual 298, 3) := dk_182 1 42 (dk_at dksX2_sum_0 5 rfl rfl)
theorem dX2_sum_8 : decode cX2_sum 8 = .ok (.istore_n 1, 1) := dk_60 (dk_at dksX2_sum_0 8 rfl rfl)
theorem dX2_sum_9 : decode cX2_sum 9 = .ok (.iload_n 1, 1) := dk_27 (dk_at dksX2_sum_0 9 rfl rfl)
theorem dX2_sum_10 : decode cX2_sum 10 = .ok (.aload_n 0, 1) := dk_42 (dk_at dksX2_sum_0 10 rfl rfl)
theorem dX2_sum_11 : decode cX2_sum 11 = .ok (.invokevirtual 301, 3) := dk_182 1 45 (dk_at dksX2_sum_0 11 rfl rfl)
theorem dX2_sum_14 : decode cX2_sum 14 = .ok (.invokestatic 304, 3) := dk_184 1 48 (dk_at dksX2_sum_0 14 rfl rfl)
theorem dX2_sum_17 : decode cX2_sum 17 = .ok (.istore_n 1, 1) := dk_60 (dk_at dksX2_sum_0 17 rfl rfl)
theorem dX2_sum_18 : decode cX2_sum 18 = .ok (.aload_n 0, 1) := dk_42 (dk_at dksX2_sum_0 18 rfl rfl)
theorem dX2_sum_19 : decode cX2_sum 19 = .ok (.iload_n 1, 1) := dk_27 (dk_at dksX2_sum_0 19 rfl rfl)
theorem dX2_sum_20 : decode cX2_sum 20 = .ok (.bipush 10, 2) := dk_16 10 (dk_at dksX2_sum_0 20 rfl rfl)
theorem dX2_sum_22 : decode cX2_sum 22 = .ok (.iconst 2, 1) := dk_5 (dk_at dksX2_sum_0 22 rfl rfl)
theorem dX2_sum_23 : decode cX2_sum 23 = .ok (.invokevirtual 298, 3) := dk_182 1 42 (dk_at dksX2_sum_1 0 rfl rfl)
theorem dX2_sum_26 : decode cX2_sum 26 = .ok (.istore_n 1, 1) := dk_60 (dk_at dksX2_sum_1 3 rfl rfl)
theorem dX2_sum_27 : decode cX2_sum 27 = .ok (.aload_n 0, 1) := dk_42 (dk_at dksX2_sum_1 4 rfl rfl)
theorem dX2_sum_28 : decode cX2_sum 28 = .ok (.iload_n 1, 1) := dk_27 (dk_at dksX2_sum_1 5 rfl rfl)
theorem dX2_sum_29 : decode cX2_sum 29 = .ok (.bipush 12, 2) := dk_16 12 (dk_at dksX2_sum_1 6 rfl rfl)
theorem dX2_sum_31 : decode cX2_sum 31 = .ok (.iconst 4, 1) := dk_7 (dk_at dksX2_sum_1 8 rfl rfl)
theorem dX2_sum_32 : decode cX2_sum 32 = .ok (.invokevirtual 298, 3) := dk_182 1 42 (dk_at dksX2_sum_1 9 rfl rfl)
theorem dX2_sum_35 : decode cX2_sum 35 = .ok (.istore_n 1, 1) := dk_60 (dk_at dksX2_sum_1 12 rfl rfl)
theorem dX2_sum_36 : decode cX2_sum 36 = .ok (.iload_n 1, 1) := dk_27 (dk_at dksX2_sum_1 13 rfl rfl)
theorem dX2_sum_37 : decode cX2_sum 37 = .ok (.aload_n 0, 1) := dk_42 (dk_at dksX2_sum_1 14 rfl rfl)
theorem dX2_sum_38 : decode cX2_sum 38 = .ok (.invokevirtual 307, 3) := dk_182 1 51 (dk_at dksX2_sum_1 15 rfl rfl)
theorem dX2_sum_41 : decode cX2_sum 41 = .ok (.invokestatic 304, 3) := dk_184 1 48 (dk_at dksX2_sum_1 18 rfl rfl)
theorem dX2_sum_44 : decode cX2_sum 44 = .ok (.istore_n 1, 1) := dk_60 (dk_at dksX2_sum_1 21 rfl rfl)
theorem dX2_sum_45 : decode cX2_sum 45 = .ok (.aload_n 0, 1) := dk_42 (dk_at dksX2_sum_1 22 rfl rfl)
theorem dX2_sum_46 : decode cX2_sum 46 = .ok (.iload_n 1, 1) := dk_27 (dk_at dksX2_sum_1 23 rfl rfl)
theorem dX2_sum_47 : decode cX2_sum 47 = .ok (.bipush 108, 2) := dk_16 108 (dk_at dksX2_sum_2 0 rfl rfl)
theorem dX2_sum_49 : decode cX2_sum 49 = .ok (.sipush 256, 3) := dk_17 1 0 (dk_at dksX2_sum_2 2 rfl rfl)
theorem dX2_sum_52 : decode cX2_sum 52 = .ok (.invokevirtual 298, 3) := dk_182 1 42 (dk_at dksX2_sum_2 5 rfl rfl)
theorem dX2_sum_55 : decode cX2_sum 55 = .ok (.istore_n 1, 1) := dk_60 (dk_at dksX2_sum_2 8 rfl rfl)
theorem dX2_sum_56 : decode cX2_sum 56 = .ok (.aload_n 0, 1) := dk_42 (dk_at dksX2_sum_2 9 rfl rfl)
theorem dX2_sum_57 : decode cX2_sum 57 = .ok (.iload_n 1, 1) := dk_27 (dk_at dksX2_sum_2 10 rfl rfl)
theorem dX2_sum_58 : decode cX2_sum 58 = .ok (.sipush 365, 3) := dk_17 1 109 (dk_at dksX2_sum_2 11 rfl rfl)
theorem dX2_sum_61 : decode cX2_sum 61 = .ok (.sipush 256, 3) := dk_17 1 0 (dk_at dksX2_sum_2 14 rfl rfl)
theorem dX2_sum_64 : decode cX2_sum 64 = .ok (.invokevirtual 298, 3) := dk_182 1 42 (dk_at dksX2_sum_2 17 rfl rfl)
theorem dX2_sum_67 : decode cX2_sum 67 = .ok (.istore_n 1, 1) := dk_60 (dk_at dksX2_sum_2 20 rfl rfl)
theorem dX2_sum_68 : decode cX2_sum 68 = .ok (.iload_n 1, 1) := dk_27 (dk_at dksX2_sum_2 21 rfl rfl)
theorem dX2_sum_69 : decode cX2_sum 69 = .ok (.aload_n 0, 1) := dk_42 (dk_at dksX2_sum_2 22 rfl rfl)
theorem dX2_sum_70 : decode cX2_sum 70 = .ok (.getfield 9, 3) := dk_180 0 9 (dk_at dksX2_sum_3 0 rfl rfl)
theorem dX2_sum_73 : decode cX2_sum 73 = .ok (.bipush 17, 2) := dk_16 17 (dk_at dksX2_sum_3 3 rfl rfl)
theorem dX2_sum_75 : decode cX2_sum 75 = .ok (.iaload, 1) := dk_46 (dk_at dksX2_sum_3 5 rfl rfl)
theorem dX2_sum_76 : decode cX2_sum 76 = .ok (.invokestatic 304, 3) := dk_184 1 48 (dk_at dksX2_sum_3 6 rfl rfl)
theorem dX2_sum_79 : decode cX2_sum 79 = .ok (.istore_n 1, 1) := dk_60 (dk_at dksX2_sum_3 9 rfl rfl)
theorem dX2_sum_80 : decode cX2_sum 80 = .ok (.aload_n 0, 1) := dk_42 (dk_at dksX2_sum_3 10 rfl rfl)
theorem dX2_sum_81 : decode cX2_sum 81 = .ok (.iload_n 1, 1) := dk_27 (dk_at dksX2_sum_3 11 rfl rfl)
theorem dX2_sum_82 : decode cX2_sum 82 = .ok (.bipush 48, 2) := dk_16 48 (dk_at dksX2_sum_3 12 rfl rfl)
theorem dX2_sum_84 : decode cX2_sum 84 = .ok (.aload_n 0, 1) := dk_42 (dk_at dksX2_sum_3 14 rfl rfl)
theorem dX2_sum_85 : decode cX2_sum 85 = .ok (.getfield 9, 3) := dk_180 0 9 (dk_at dksX2_sum_3 15 rfl rfl)
theorem dX2_sum_88 : decode cX2_sum 88 = .ok (.bipush 17, 2) := dk_16 17 (dk_at dksX2_sum_3 18 rfl rfl)
theorem dX2_sum_90 : decode cX2_sum 90 = .ok (.iaload, 1) := dk_46 (dk_at dksX2_sum_3 20 rfl rfl)
theorem dX2_sum_91 : decode cX2_sum 91 = .ok (.invokevirtual 298, 3) := dk_182 1 42 (dk_at dksX2_sum_3 21 rfl rfl)
theorem dX2_sum_94 : decode cX2_sum 94 = .ok (.ireturn, 1) := dk_172 (dk_at dksX2_sum_4 0 rfl rfl)
abbrev cX2_added : ByteArray := prog_16_method_51_code
def yX2_added : MethodName := ⟨RX2, "added", "(III)I"⟩
def dkwX2_added_1 : List UInt8 := [21, 5, 46, 96, 19, 1, 41, 112, 54, 4, 132, 5, 1, 167, 255, 226, 21, 4, 172]
abbrev dktX2_added_1 : List UInt8 := dkwX2_added_1 ++ []
def dkwX2_added_0 : List UInt8 := [27, 54, 4, 28, 54, 5, 21, 5, 28, 29, 96, 162, 0, 28, 16, 31, 21, 4, 104, 42, 180, 0, 9]
abbrev dktX2_added_0 : List UInt8 := dkwX2_added_0 ++ dktX2_added_1
theorem dksX2_added_0 : cX2_added.data.toList.drop 0 = dktX2_added_0 := by decide +kernel
theorem dksX2_added_1 : cX2_added.data.toList.drop 23 = dktX2_added_1 := dk_seg dksX2_added_0 23 rfl rfl
theorem dX2_added_0 : decode cX2_added 0 = .ok (.iload_n 1, 1) := dk_27 (dk_at dksX2_added_0 0 rfl rfl)
theorem dX2_added_1 : decode cX2_added 1 = .ok (.istore 4, 2) := dk_54 4 (dk_at dksX2_added_0 1 rfl rfl)
theorem dX2_added_3 : decode cX2_added 3 = .ok (.iload_n 2, 1) := dk_28 (dk_at dksX2_added_0 3 rfl rfl)
theorem dX2_added_4 : decode cX2_added 4 = .ok (.istore 5, 2) := dk_54 5 (dk_at dksX2_added_0 4 rfl rfl)
theorem dX2_added_6 : decode cX2_added 6 = .ok (.iload 5, 2) := dk_21 5 (dk_at dksX2_added_0 6 rfl rfl)
theorem dX2_added_8 : decode cX2_added 8 = .ok (.iload_n 2, 1) := dk_28 (dk_at dksX2_added_0 8 rfl rfl)
theorem dX2_added_9 : decode cX2_added 9 = .ok (.iload_n 3, 1) := dk_29 (dk_at dksX2_added_0 9 rfl rfl)
theorem dX2_added_10 : decode cX2_added 10 = .ok (.iadd, 1) := dk_96 (dk_at dksX2_added_0 10 rfl rfl)
theorem dX2_added_11 : decode cX2_added 11 = .ok (.if_icmp .ge 28, 3) := dk_162 0 28 (dk_at dksX2_added_0 11 rfl rfl)
theorem dX2_added_14 : decode cX2_added 14 = .ok (.bipush 31, 2) := dk_16 31 (dk_at dksX2_added_0 14 rfl rfl)
theorem dX2_added_16 : decode cX2_added 16 = .ok (.iload 4, 2) := dk_21 4 (dk_at dksX2_added_0 16 rfl rfl)
theorem dX2_added_18 : decode cX2_added 18 = .ok (.imul, 1) := dk_104 (dk_at dksX2_added_0 18 rfl rfl)
theorem dX2_added_19 : decode cX2_added 19 = .ok (.aload_n 0, 1) := dk_42 (dk_at dksX2_added_0 19 rfl rfl)
theorem dX2_added_20 : decode cX2_added 20 = .ok (.getfield 9, 3) := dk_180 0 9 (dk_at dksX2_added_0 20 rfl rfl)
theorem dX2_added_23 : decode cX2_added 23 = .ok (.iload 5, 2) := dk_21 5 (dk_at dksX2_added_1 0 rfl rfl)
theorem dX2_added_25 : decode cX2_added 25 = .ok (.iaload, 1) := dk_46 (dk_at dksX2_added_1 2 rfl rfl)
theorem dX2_added_26 : decode cX2_added 26 = .ok (.iadd, 1) := dk_96 (dk_at dksX2_added_1 3 rfl rfl)
theorem dX2_added_27 : decode cX2_added 27 = .ok (.ldc_w 297, 3) := dk_19 1 41 (dk_at dksX2_added_1 4 rfl rfl)
theorem dX2_added_30 : decode cX2_added 30 = .ok (.irem, 1) := dk_112 (dk_at dksX2_added_1 7 rfl rfl)
theorem dX2_added_31 : decode cX2_added 31 = .ok (.istore 4, 2) := dk_54 4 (dk_at dksX2_added_1 8 rfl rfl)
theorem dX2_added_33 : decode cX2_added 33 = .ok (.iinc 5 1, 3) := dk_132 5 1 (dk_at dksX2_added_1 10 rfl rfl)
theorem dX2_added_36 : decode cX2_added 36 = .ok (.goto (-30), 3) := dk_167 255 226 (dk_at dksX2_added_1 13 rfl rfl)
theorem dX2_added_39 : decode cX2_added 39 = .ok (.iload 4, 2) := dk_21 4 (dk_at dksX2_added_1 16 rfl rfl)
theorem dX2_added_41 : decode cX2_added 41 = .ok (.ireturn, 1) := dk_172 (dk_at dksX2_added_1 18 rfl rfl)
abbrev cX2_joined : ByteArray := prog_16_method_52_code
def yX2_joined : MethodName := ⟨RX2, "joined", "(II)I"⟩
def dkwX2_joined_0 : List UInt8 := [16, 31, 26, 104, 27, 96, 19, 1, 41, 112, 172]
abbrev dktX2_joined_0 : List UInt8 := dkwX2_joined_0 ++ []
theorem dksX2_joined_0 : cX2_joined.data.toList.drop 0 = dktX2_joined_0 := by decide +kernel
theorem dX2_joined_0 : decode cX2_joined 0 = .ok (.bipush 31, 2) := dk_16 31 (dk_at dksX2_joined_0 0 rfl rfl)
theorem dX2_joined_2 : decode cX2_joined 2 = .ok (.iload_n 0, 1) := dk_26 (dk_at dksX2_joined_0 2 rfl rfl)
theorem dX2_joined_3 : decode cX2_joined 3 = .ok (.imul, 1) := dk_104 (dk_at dksX2_joined_0 3 rfl rfl)
theorem dX2_joined_4 : decode cX2_joined 4 = .ok (.iload_n 1, 1) := dk_27 (dk_at dksX2_joined_0 4 rfl rfl)
theorem dX2_joined_5 : decode cX2_joined 5 = .ok (.iadd, 1) := dk_96 (dk_at dksX2_joined_0 5 rfl rfl)
theorem dX2_joined_6 : decode cX2_joined 6 = .ok (.ldc_w 297, 3) := dk_19 1 41 (dk_at dksX2_joined_0 6 rfl rfl)
theorem dX2_joined_9 : decode cX2_joined 9 = .ok (.irem, 1) := dk_112 (dk_at dksX2_joined_0 9 rfl rfl)
theorem dX2_joined_10 : decode cX2_joined 10 = .ok (.ireturn, 1) := dk_172 (dk_at dksX2_joined_0 10 rfl rfl)
abbrev cX2_entry : ByteArray := prog_16_method_29_code
def yX2_entry : MethodName := ⟨RX2, "entry", "(II)I"⟩
def dkwX2_entry_1 : List UInt8 := [46, 172]
abbrev dktX2_entry_1 : List UInt8 := dkwX2_entry_1 ++ []
def dkwX2_entry_0 : List UInt8 := [42, 180, 0, 9, 17, 1, 109, 16, 8, 8, 27, 5, 108, 96, 104, 96, 7, 27, 5, 112, 104, 96, 28, 96]
abbrev dktX2_entry_0 : List UInt8 := dkwX2_entry_0 ++ dktX2_entry_1
theorem dksX2_entry_0 : cX2_entry.data.toList.drop 0 = dktX2_entry_0 := by decide +kernel
theorem dksX2_entry_1 : cX2_entry.data.toList.drop 24 = dktX2_entry_1 := dk_seg dksX2_entry_0 24 rfl rfl
theorem dX2_entry_0 : decode cX2_entry 0 = .ok (.aload_n 0, 1) := dk_42 (dk_at dksX2_entry_0 0 rfl rfl)
theorem dX2_entry_1 : decode cX2_entry 1 = .ok (.getfield 9, 3) := dk_180 0 9 (dk_at dksX2_entry_0 1 rfl rfl)
theorem dX2_entry_4 : decode cX2_entry 4 = .ok (.sipush 365, 3) := dk_17 1 109 (dk_at dksX2_entry_0 4 rfl rfl)
theorem dX2_entry_7 : decode cX2_entry 7 = .ok (.bipush 8, 2) := dk_16 8 (dk_at dksX2_entry_0 7 rfl rfl)
theorem dX2_entry_9 : decode cX2_entry 9 = .ok (.iconst 5, 1) := dk_8 (dk_at dksX2_entry_0 9 rfl rfl)
theorem dX2_entry_10 : decode cX2_entry 10 = .ok (.iload_n 1, 1) := dk_27 (dk_at dksX2_entry_0 10 rfl rfl)
theorem dX2_entry_11 : decode cX2_entry 11 = .ok (.iconst 2, 1) := dk_5 (dk_at dksX2_entry_0 11 rfl rfl)
theorem dX2_entry_12 : decode cX2_entry 12 = .ok (.idiv, 1) := dk_108 (dk_at dksX2_entry_0 12 rfl rfl)
theorem dX2_entry_13 : decode cX2_entry 13 = .ok (.iadd, 1) := dk_96 (dk_at dksX2_entry_0 13 rfl rfl)
theorem dX2_entry_14 : decode cX2_entry 14 = .ok (.imul, 1) := dk_104 (dk_at dksX2_entry_0 14 rfl rfl)
theorem dX2_entry_15 : decode cX2_entry 15 = .ok (.iadd, 1) := dk_96 (dk_at dksX2_entry_0 15 rfl rfl)
theorem dX2_entry_16 : decode cX2_entry 16 = .ok (.iconst 4, 1) := dk_7 (dk_at dksX2_entry_0 16 rfl rfl)
theorem dX2_entry_17 : decode cX2_entry 17 = .ok (.iload_n 1, 1) := dk_27 (dk_at dksX2_entry_0 17 rfl rfl)
theorem dX2_entry_18 : decode cX2_entry 18 = .ok (.iconst 2, 1) := dk_5 (dk_at dksX2_entry_0 18 rfl rfl)
theorem dX2_entry_19 : decode cX2_entry 19 = .ok (.irem, 1) := dk_112 (dk_at dksX2_entry_0 19 rfl rfl)
theorem dX2_entry_20 : decode cX2_entry 20 = .ok (.imul, 1) := dk_104 (dk_at dksX2_entry_0 20 rfl rfl)
theorem dX2_entry_21 : decode cX2_entry 21 = .ok (.iadd, 1) := dk_96 (dk_at dksX2_entry_0 21 rfl rfl)
theorem dX2_entry_22 : decode cX2_entry 22 = .ok (.iload_n 2, 1) := dk_28 (dk_at dksX2_entry_0 22 rfl rfl)
theorem dX2_entry_23 : decode cX2_entry 23 = .ok (.iadd, 1) := dk_96 (dk_at dksX2_entry_0 23 rfl rfl)
theorem dX2_entry_24 : decode cX2_entry 24 = .ok (.iaload, 1) := dk_46 (dk_at dksX2_entry_1 0 rfl rfl)
theorem dX2_entry_25 : decode cX2_entry 25 = .ok (.ireturn, 1) := dk_172 (dk_at dksX2_entry_1 1 rfl rfl)
abbrev cX2_isUsed : ByteArray := prog_16_method_30_code
def yX2_isUsed : MethodName := ⟨RX2, "isUsed", "(I)Z"⟩
def dkwX2_isUsed_1 : List UInt8 := [167, 0, 4, 3, 172]
abbrev dktX2_isUsed_1 : List UInt8 := dkwX2_isUsed_1 ++ []
def dkwX2_isUsed_0 : List UInt8 := [42, 180, 0, 9, 17, 1, 141, 27, 16, 16, 108, 96, 46, 27, 16, 16, 112, 122, 4, 126, 153, 0, 7, 4]
abbrev dktX2_isUsed_0 : List UInt8 := dkwX2_isUsed_0 ++ dktX2_isUsed_1
theorem dksX2_isUsed_0 : cX2_isUsed.data.toList.drop 0 = dktX2_isUsed_0 := by decide +kernel
theorem dksX2_isUsed_1 : cX2_isUsed.data.toList.drop 24 = dktX2_isUsed_1 := dk_seg dksX2_isUsed_0 24 rfl rfl
theorem dX2_isUsed_0 : decode cX2_isUsed 0 = .ok (.aload_n 0, 1) := dk_42 (dk_at dksX2_isUsed_0 0 rfl rfl)
theorem dX2_isUsed_1 : decode cX2_isUsed 1 = .ok (.getfield 9, 3) := dk_180 0 9 (dk_at dksX2_isUsed_0 1 rfl rfl)
theorem dX2_isUsed_4 : decode cX2_isUsed 4 = .ok (.sipush 397, 3) := dk_17 1 141 (dk_at dksX2_isUsed_0 4 rfl rfl)
theorem dX2_isUsed_7 : decode cX2_isUsed 7 = .ok (.iload_n 1, 1) := dk_27 (dk_at dksX2_isUsed_0 7 rfl rfl)
theorem dX2_isUsed_8 : decode cX2_isUsed 8 = .ok (.bipush 16, 2) := dk_16 16 (dk_at dksX2_isUsed_0 8 rfl rfl)
theorem dX2_isUsed_10 : decode cX2_isUsed 10 = .ok (.idiv, 1) := dk_108 (dk_at dksX2_isUsed_0 10 rfl rfl)
theorem dX2_isUsed_11 : decode cX2_isUsed 11 = .ok (.iadd, 1) := dk_96 (dk_at dksX2_isUsed_0 11 rfl rfl)
theorem dX2_isUsed_12 : decode cX2_isUsed 12 = .ok (.iaload, 1) := dk_46 (dk_at dksX2_isUsed_0 12 rfl rfl)
theorem dX2_isUsed_13 : decode cX2_isUsed 13 = .ok (.iload_n 1, 1) := dk_27 (dk_at dksX2_isUsed_0 13 rfl rfl)
theorem dX2_isUsed_14 : decode cX2_isUsed 14 = .ok (.bipush 16, 2) := dk_16 16 (dk_at dksX2_isUsed_0 14 rfl rfl)
theorem dX2_isUsed_16 : decode cX2_isUsed 16 = .ok (.irem, 1) := dk_112 (dk_at dksX2_isUsed_0 16 rfl rfl)
theorem dX2_isUsed_17 : decode cX2_isUsed 17 = .ok (.ishr, 1) := dk_122 (dk_at dksX2_isUsed_0 17 rfl rfl)
theorem dX2_isUsed_18 : decode cX2_isUsed 18 = .ok (.iconst 1, 1) := dk_4 (dk_at dksX2_isUsed_0 18 rfl rfl)
theorem dX2_isUsed_19 : decode cX2_isUsed 19 = .ok (.iand, 1) := dk_126 (dk_at dksX2_isUsed_0 19 rfl rfl)
theorem dX2_isUsed_20 : decode cX2_isUsed 20 = .ok (.ifCond .eq 7, 3) := dk_153 0 7 (dk_at dksX2_isUsed_0 20 rfl rfl)
theorem dX2_isUsed_23 : decode cX2_isUsed 23 = .ok (.iconst 1, 1) := dk_4 (dk_at dksX2_isUsed_0 23 rfl rfl)
theorem dX2_isUsed_24 : decode cX2_isUsed 24 = .ok (.goto 4, 3) := dk_167 0 4 (dk_at dksX2_isUsed_1 0 rfl rfl)
theorem dX2_isUsed_27 : decode cX2_isUsed 27 = .ok (.iconst 0, 1) := dk_3 (dk_at dksX2_isUsed_1 3 rfl rfl)
theorem dX2_isUsed_28 : decode cX2_isUsed 28 = .ok (.ireturn, 1) := dk_172 (dk_at dksX2_isUsed_1 4 rfl rfl)
abbrev cX2_isWhole : ByteArray := prog_16_method_47_code
def yX2_isWhole : MethodName := ⟨RX2, "isWhole", "()Z"⟩
def dkwX2_isWhole_10 : List UInt8 := [29, 182, 1, 13, 160, 0, 7, 4, 167, 0, 4, 3, 126, 61, 132, 3, 1, 167, 255, 226, 28, 172]
abbrev dktX2_isWhole_10 : List UInt8 := dkwX2_isWhole_10 ++ []
def dkwX2_isWhole_9 : List UInt8 := [167, 255, 164, 132, 3, 1, 167, 255, 78, 3, 62, 29, 16, 32, 162, 0, 30, 28, 42, 29, 182, 0, 220, 43]
abbrev dktX2_isWhole_9 : List UInt8 := dkwX2_isWhole_9 ++ dktX2_isWhole_10
def dkwX2_isWhole_8 : List UInt8 := [167, 0, 4, 3, 126, 61, 21, 7, 16, 32, 162, 0, 9, 43, 21, 7, 182, 1, 15, 132, 6, 1]
abbrev dktX2_isWhole_8 : List UInt8 := dkwX2_isWhole_8 ++ dktX2_isWhole_9
def dkwX2_isWhole_7 : List UInt8 := [21, 7, 182, 1, 13, 154, 0, 7, 4, 167, 0, 17, 3, 167, 0, 13, 21, 7, 154, 0, 7, 4]
abbrev dktX2_isWhole_7 : List UInt8 := dkwX2_isWhole_7 ++ dktX2_isWhole_8
def dkwX2_isWhole_6 : List UInt8 := [21, 6, 5, 100, 104, 164, 0, 34, 21, 7, 16, 8, 161, 0, 23, 21, 7, 16, 32, 162, 0, 16, 43]
abbrev dktX2_isWhole_6 : List UInt8 := dkwX2_isWhole_6 ++ dktX2_isWhole_7
def dkwX2_isWhole_5 : List UInt8 := [7, 162, 0, 92, 42, 29, 21, 6, 182, 0, 214, 54, 7, 28, 21, 5, 153, 0, 46, 21, 4, 16, 8]
abbrev dktX2_isWhole_5 : List UInt8 := dkwX2_isWhole_5 ++ dktX2_isWhole_6
def dkwX2_isWhole_4 : List UInt8 := [167, 0, 17, 3, 167, 0, 13, 21, 4, 154, 0, 7, 4, 167, 0, 4, 3, 126, 61, 5, 54, 6, 21, 6]
abbrev dktX2_isWhole_4 : List UInt8 := dkwX2_isWhole_4 ++ dktX2_isWhole_5
def dkwX2_isWhole_3 : List UInt8 := [42, 42, 29, 3, 182, 0, 214, 182, 0, 217, 29, 160, 0, 14, 21, 4, 16, 16, 163, 0, 7, 4]
abbrev dktX2_isWhole_3 : List UInt8 := dkwX2_isWhole_3 ++ dktX2_isWhole_4
def dkwX2_isWhole_2 : List UInt8 := [54, 4, 42, 29, 3, 182, 0, 214, 153, 0, 7, 4, 167, 0, 4, 3, 54, 5, 28, 21, 5, 153, 0, 32]
abbrev dktX2_isWhole_2 : List UInt8 := dkwX2_isWhole_2 ++ dktX2_isWhole_3
def dkwX2_isWhole_1 : List UInt8 := [46, 154, 0, 7, 4, 167, 0, 4, 3, 61, 3, 62, 29, 16, 6, 162, 0, 178, 42, 29, 4, 182, 0, 214]
abbrev dktX2_isWhole_1 : List UInt8 := dkwX2_isWhole_1 ++ dktX2_isWhole_2
def dkwX2_isWhole_0 : List UInt8 := [187, 1, 9, 89, 16, 32, 183, 1, 11, 76, 43, 3, 16, 8, 182, 1, 12, 42, 180, 0, 9, 17, 1, 109]
abbrev dktX2_isWhole_0 : List UInt8 := dkwX2_isWhole_0 ++ dktX2_isWhole_1
theorem dksX2_isWhole_0 : cX2_isWhole.data.toList.drop 0 = dktX2_isWhole_0 := by decide +kernel
theorem dksX2_isWhole_1 : cX2_isWhole.data.toList.drop 24 = dktX2_isWhole_1 := dk_seg dksX2_isWhole_0 24 rfl rfl
theorem dksX2_isWhole_2 : cX2_isWhole.data.toList.drop 48 = dktX2_isWhole_2 := dk_seg dksX2_isWhole_1 24 rfl rfl
theorem dksX2_isWhole_3 : cX2_isWhole.data.toList.drop 72 = dktX2_isWhole_3 := dk_seg dksX2_isWhole_2 24 rfl rfl
theorem dksX2_isWhole_4 : cX2_isWhole.data.toList.drop 94 = dktX2_isWhole_4 := dk_seg dksX2_isWhole_3 22 rfl rfl
theorem dksX2_isWhole_5 : cX2_isWhole.data.toList.drop 118 = dktX2_isWhole_5 := dk_seg dksX2_isWhole_4 24 rfl rfl
theorem dksX2_isWhole_6 : cX2_isWhole.data.toList.drop 141 = dktX2_isWhole_6 := dk_seg dksX2_isWhole_5 23 rfl rfl
theorem dksX2_isWhole_7 : cX2_isWhole.data.toList.drop 164 = dktX2_isWhole_7 := dk_seg dksX2_isWhole_6 23 rfl rfl
theorem dksX2_isWhole_8 : cX2_isWhole.data.toList.drop 186 = dktX2_isWhole_8 := dk_seg dksX2_isWhole_7 22 rfl rfl
theorem dksX2_isWhole_9 : cX2_isWhole.data.toList.drop 208 = dktX2_isWhole_9 := dk_seg dksX2_isWhole_8 22 rfl rfl
theorem dksX2_isWhole_10 : cX2_isWhole.data.toList.drop 232 = dktX2_isWhole_10 := dk_seg dksX2_isWhole_9 24 rfl rfl
theorem dX2_isWhole_0 : decode cX2_isWhole 0 = .ok (.new 265, 3) := dk_187 1 9 (dk_at dksX2_isWhole_0 0 rfl rfl)
theorem dX2_isWhole_3 : decode cX2_isWhole 3 = .ok (.dup, 1) := dk_89 (dk_at dksX2_isWhole_0 3 rfl rfl)
theorem dX2_isWhole_4 : decode cX2_isWhole 4 = .ok (.bipush 32, 2) := dk_16 32 (dk_at dksX2_isWhole_0 4 rfl rfl)
theorem dX2_isWhole_6 : decode cX2_isWhole 6 = .ok (.invokespecial 267, 3) := dk_183 1 11 (dk_at dksX2_isWhole_0 6 rfl rfl)
theorem dX2_isWhole_9 : decode cX2_isWhole 9 = .ok (.astore_n 1, 1) := dk_76 (dk_at dksX2_isWhole_0 9 rfl rfl)
theorem dX2_isWhole_10 : decode cX2_isWhole 10 = .ok (.aload_n 1, 1) := dk_43 (dk_at dksX2_isWhole_0 10 rfl rfl)
theorem dX2_isWhole_11 : decode cX2_isWhole 11 = .ok (.iconst 0, 1) := dk_3 (dk_at dksX2_isWhole_0 11 rfl rfl)
theorem dX2_isWhole_12 : decode cX2_isWhole 12 = .ok (.bipush 8, 2) := dk_16 8 (dk_at dksX2_isWhole_0 12 rfl rfl)
theorem dX2_isWhole_14 : decode cX2_isWhole 14 = .ok (.invokevirtual 268, 3) := dk_182 1 12 (dk_at dksX2_isWhole_0 14 rfl rfl)
theorem dX2_isWhole_17 : decode cX2_isWhole 17 = .ok (.aload_n 0, 1) := dk_42 (dk_at dksX2_isWhole_0 17 rfl rfl)
theorem dX2_isWhole_18 : decode cX2_isWhole 18 = .ok (.getfield 9, 3) := dk_180 0 9 (dk_at dksX2_isWhole_0 18 rfl rfl)
theorem dX2_isWhole_21 : decode cX2_isWhole 21 = .ok (.sipush 365, 3) := dk_17 1 109 (dk_at dksX2_isWhole_0 21 rfl rfl)
theorem dX2_isWhole_24 : decode cX2_isWhole 24 = .ok (.iaload, 1) := dk_46 (dk_at dksX2_isWhole_1 0 rfl rfl)
theorem dX2_isWhole_25 : decode cX2_isWhole 25 = .ok (.ifCond .ne 7, 3) := dk_154 0 7 (dk_at dksX2_isWhole_1 1 rfl rfl)
theorem dX2_isWhole_28 : decode cX2_isWhole 28 = .ok (.iconst 1, 1) := dk_4 (dk_at dksX2_isWhole_1 4 rfl rfl)
theorem dX2_isWhole_29 : decode cX2_isWhole 29 = .ok (.goto 4, 3) := dk_167 0 4 (dk_at dksX2_isWhole_1 5 rfl rfl)
theorem dX2_isWhole_32 : decode cX2_isWhole 32 = .ok (.iconst 0, 1) := dk_3 (dk_at dksX2_isWhole_1 8 rfl rfl)
theorem dX2_isWhole_33 : decode cX2_isWhole 33 = .ok (.istore_n 2, 1) := dk_61 (dk_at dksX2_isWhole_1 9 rfl rfl)
theorem dX2_isWhole_34 : decode cX2_isWhole 34 = .ok (.iconst 0, 1) := dk_3 (dk_at dksX2_isWhole_1 10 rfl rfl)
theorem dX2_isWhole_35 : decode cX2_isWhole 35 = .ok (.istore_n 3, 1) := dk_62 (dk_at dksX2_isWhole_1 11 rfl rfl)
theorem dX2_isWhole_36 : decode cX2_isWhole 36 = .ok (.iload_n 3, 1) := dk_29 (dk_at dksX2_isWhole_1 12 rfl rfl)
theorem dX2_isWhole_37 : decode cX2_isWhole 37 = .ok (.bipush 6, 2) := dk_16 6 (dk_at dksX2_isWhole_1 13 rfl rfl)
theorem dX2_isWhole_39 : decode cX2_isWhole 39 = .ok (.if_icmp .ge 178, 3) := dk_162 0 178 (dk_at dksX2_isWhole_1 15 rfl rfl)
theorem dX2_isWhole_42 : decode cX2_isWhole 42 = .ok (.aload_n 0, 1) := dk_42 (dk_at dksX2_isWhole_1 18 rfl rfl)
theorem dX2_isWhole_43 : decode cX2_isWhole 43 = .ok (.iload_n 3, 1) := dk_29 (dk_at dksX2_isWhole_1 19 rfl rfl)
theorem dX2_isWhole_44 : decode cX2_isWhole 44 = .ok (.iconst 1, 1) := dk_4 (dk_at dksX2_isWhole_1 20 rfl rfl)
theorem dX2_isWhole_45 : decode cX2_isWhole 45 = .ok (.invokevirtual 214, 3) := dk_182 0 214 (dk_at dksX2_isWhole_1 21 rfl rfl)
theorem dX2_isWhole_48 : decode cX2_isWhole 48 = .ok (.istore 4, 2) := dk_54 4 (dk_at dksX2_isWhole_2 0 rfl rfl)
theorem dX2_isWhole_50 : decode cX2_isWhole 50 = .ok (.aload_n 0, 1) := dk_42 (dk_at dksX2_isWhole_2 2 rfl rfl)
theorem dX2_isWhole_51 : decode cX2_isWhole 51 = .ok (.iload_n 3, 1) := dk_29 (dk_at dksX2_isWhole_2 3 rfl rfl)
theorem dX2_isWhole_52 : decode cX2_isWhole 52 = .ok (.iconst 0, 1) := dk_3 (dk_at dksX2_isWhole_2 4 rfl rfl)
theorem dX2_isWhole_53 : decode cX2_isWhole 53 = .ok (.invokevirtual 214, 3) := dk_182 0 214 (dk_at dksX2_isWhole_2 5 rfl rfl)
theorem dX2_isWhole_56 : decode cX2_isWhole 56 = .ok (.ifCond .eq 7, 3) := dk_153 0 7 (dk_at dksX2_isWhole_2 8 rfl rfl)
theorem dX2_isWhole_59 : decode cX2_isWhole 59 = .ok (.iconst 1, 1) := dk_4 (dk_at dksX2_isWhole_2 11 rfl rfl)
theorem dX2_isWhole_60 : decode cX2_isWhole 60 = .ok (.goto 4, 3) := dk_167 0 4 (dk_at dksX2_isWhole_2 12 rfl rfl)
theorem dX2_isWhole_63 : decode cX2_isWhole 63 = .ok (.iconst 0, 1) := dk_3 (dk_at dksX2_isWhole_2 15 rfl rfl)
theorem dX2_isWhole_64 : decode cX2_isWhole 64 = .ok (.istore 5, 2) := dk_54 5 (dk_at dksX2_isWhole_2 16 rfl rfl)
theorem dX2_isWhole_66 : decode cX2_isWhole 66 = .ok (.iload_n 2, 1) := dk_28 (dk_at dksX2_isWhole_2 18 rfl rfl)
theorem dX2_isWhole_67 : decode cX2_isWhole 67 = .ok (.iload 5, 2) := dk_21 5 (dk_at dksX2_isWhole_2 19 rfl rfl)
theorem dX2_isWhole_69 : decode cX2_isWhole 69 = .ok (.ifCond .eq 32, 3) := dk_153 0 32 (dk_at dksX2_isWhole_2 21 rfl rfl)
theorem dX2_isWhole_72 : decode cX2_isWhole 72 = .ok (.aload_n 0, 1) := dk_42 (dk_at dksX2_isWhole_3 0 rfl rfl)
theorem dX2_isWhole_73 : decode cX2_isWhole 73 = .ok (.aload_n 0, 1) := dk_42 (dk_at dksX2_isWhole_3 1 rfl rfl)
theorem dX2_isWhole_74 : decode cX2_isWhole 74 = .ok (.iload_n 3, 1) := dk_29 (dk_at dksX2_isWhole_3 2 rfl rfl)
theorem dX2_isWhole_75 : decode cX2_isWhole 75 = .ok (.iconst 0, 1) := dk_3 (dk_at dksX2_isWhole_3 3 rfl rfl)
theorem dX2_isWhole_76 : decode cX2_isWhole 76 = .ok (.invokevirtual 214, 3) := dk_182 0 214 (dk_at dksX2_isWhole_3 4 rfl rfl)
theorem dX2_isWhole_79 : decode cX2_isWhole 79 = .ok (.invokevirtual 217, 3) := dk_182 0 217 (dk_at dksX2_isWhole_3 7 rfl rfl)
theorem dX2_isWhole_82 : decode cX2_isWhole 82 = .ok (.iload_n 3, 1) := dk_29 (dk_at dksX2_isWhole_3 10 rfl rfl)
theorem dX2_isWhole_83 : decode cX2_isWhole 83 = .ok (.if_icmp .ne 14, 3) := dk_160 0 14 (dk_at dksX2_isWhole_3 11 rfl rfl)
theorem dX2_isWhole_86 : decode cX2_isWhole 86 = .ok (.iload 4, 2) := dk_21 4 (dk_at dksX2_isWhole_3 14 rfl rfl)
theorem dX2_isWhole_88 : decode cX2_isWhole 88 = .ok (.bipush 16, 2) := dk_16 16 (dk_at dksX2_isWhole_3 16 rfl rfl)
theorem dX2_isWhole_90 : decode cX2_isWhole 90 = .ok (.if_icmp .gt 7, 3) := dk_163 0 7 (dk_at dksX2_isWhole_3 18 rfl rfl)
theorem dX2_isWhole_93 : decode cX2_isWhole 93 = .ok (.iconst 1, 1) := dk_4 (dk_at dksX2_isWhole_3 21 rfl rfl)
theorem dX2_isWhole_94 : decode cX2_isWhole 94 = .ok (.goto 17, 3) := dk_167 0 17 (dk_at dksX2_isWhole_4 0 rfl rfl)
theorem dX2_isWhole_97 : decode cX2_isWhole 97 = .ok (.iconst 0, 1) := dk_3 (dk_at dksX2_isWhole_4 3 rfl rfl)
theorem dX2_isWhole_98 : decode cX2_isWhole 98 = .ok (.goto 13, 3) := dk_167 0 13 (dk_at dksX2_isWhole_4 4 rfl rfl)
theorem dX2_isWhole_101 : decode cX2_isWhole 101 = .ok (.iload 4, 2) := dk_21 4 (dk_at dksX2_isWhole_4 7 rfl rfl)
theorem dX2_isWhole_103 : decode cX2_isWhole 103 = .ok (.ifCond .ne 7, 3) := dk_154 0 7 (dk_at dksX2_isWhole_4 9 rfl rfl)
theorem dX2_isWhole_106 : decode cX2_isWhole 106 = .ok (.iconst 1, 1) := dk_4 (dk_at dksX2_isWhole_4 12 rfl rfl)
theorem dX2_isWhole_107 : decode cX2_isWhole 107 = .ok (.goto 4, 3) := dk_167 0 4 (dk_at dksX2_isWhole_4 13 rfl rfl)
theorem dX2_isWhole_110 : decode cX2_isWhole 110 = .ok (.iconst 0, 1) := dk_3 (dk_at dksX2_isWhole_4 16 rfl rfl)
theorem dX2_isWhole_111 : decode cX2_isWhole 111 = .ok (.iand, 1) := dk_126 (dk_at dksX2_isWhole_4 17 rfl rfl)
theorem dX2_isWhole_112 : decode cX2_isWhole 112 = .ok (.istore_n 2, 1) := dk_61 (dk_at dksX2_isWhole_4 18 rfl rfl)
theorem dX2_isWhole_113 : decode cX2_isWhole 113 = .ok (.iconst 2, 1) := dk_5 (dk_at dksX2_isWhole_4 19 rfl rfl)
theorem dX2_isWhole_114 : decode cX2_isWhole 114 = .ok (.istore 6, 2) := dk_54 6 (dk_at dksX2_isWhole_4 20 rfl rfl)
theorem dX2_isWhole_116 : decode cX2_isWhole 116 = .ok (.iload 6, 2) := dk_21 6 (dk_at dksX2_isWhole_4 22 rfl rfl)
theorem dX2_isWhole_118 : decode cX2_isWhole 118 = .ok (.iconst 4, 1) := dk_7 (dk_at dksX2_isWhole_5 0 rfl rfl)
theorem dX2_isWhole_119 : decode cX2_isWhole 119 = .ok (.if_icmp .ge 92, 3) := dk_162 0 92 (dk_at dksX2_isWhole_5 1 rfl rfl)
theorem dX2_isWhole_122 : decode cX2_isWhole 122 = .ok (.aload_n 0, 1) := dk_42 (dk_at dksX2_isWhole_5 4 rfl rfl)
theorem dX2_isWhole_123 : decode cX2_isWhole 123 = .ok (.iload_n 3, 1) := dk_29 (dk_at dksX2_isWhole_5 5 rfl rfl)
theorem dX2_isWhole_124 : decode cX2_isWhole 124 = .ok (.iload 6, 2) := dk_21 6 (dk_at dksX2_isWhole_5 6 rfl rfl)
theorem dX2_isWhole_126 : decode cX2_isWhole 126 = .ok (.invokevirtual 214, 3) := dk_182 0 214 (dk_at dksX2_isWhole_5 8 rfl rfl)
theorem dX2_isWhole_129 : decode cX2_isWhole 129 = .ok (.istore 7, 2) := dk_54 7 (dk_at dksX2_isWhole_5 11 rfl rfl)
theorem dX2_isWhole_131 : decode cX2_isWhole 131 = .ok (.iload_n 2, 1) := dk_28 (dk_at dksX2_isWhole_5 13 rfl rfl)
theorem dX2_isWhole_132 : decode cX2_isWhole 132 = .ok (.iload 5, 2) := dk_21 5 (dk_at dksX2_isWhole_5 14 rfl rfl)
theorem dX2_isWhole_134 : decode cX2_isWhole 134 = .ok (.ifCond .eq 46, 3) := dk_153 0 46 (dk_at dksX2_isWhole_5 16 rfl rfl)
theorem dX2_isWhole_137 : decode cX2_isWhole 137 = .ok (.iload 4, 2) := dk_21 4 (dk_at dksX2_isWhole_5 19 rfl rfl)
theorem dX2_isWhole_139 : decode cX2_isWhole 139 = .ok (.bipush 8, 2) := dk_16 8 (dk_at dksX2_isWhole_5 21 rfl rfl)
theorem dX2_isWhole_141 : decode cX2_isWhole 141 = .ok (.iload 6, 2) := dk_21 6 (dk_at dksX2_isWhole_6 0 rfl rfl)
theorem dX2_isWhole_143 : decode cX2_isWhole 143 = .ok (.iconst 2, 1) := dk_5 (dk_at dksX2_isWhole_6 2 rfl rfl)
theorem dX2_isWhole_144 : decode cX2_isWhole 144 = .ok (.isub, 1) := dk_100 (dk_at dksX2_isWhole_6 3 rfl rfl)
theorem dX2_isWhole_145 : decode cX2_isWhole 145 = .ok (.imul, 1) := dk_104 (dk_at dksX2_isWhole_6 4 rfl rfl)
theorem dX2_isWhole_146 : decode cX2_isWhole 146 = .ok (.if_icmp .le 34, 3) := dk_164 0 34 (dk_at dksX2_isWhole_6 5 rfl rfl)
theorem dX2_isWhole_149 : decode cX2_isWhole 149 = .ok (.iload 7, 2) := dk_21 7 (dk_at dksX2_isWhole_6 8 rfl rfl)
theorem dX2_isWhole_151 : decode cX2_isWhole 151 = .ok (.bipush 8, 2) := dk_16 8 (dk_at dksX2_isWhole_6 10 rfl rfl)
theorem dX2_isWhole_153 : decode cX2_isWhole 153 = .ok (.if_icmp .lt 23, 3) := dk_161 0 23 (dk_at dksX2_isWhole_6 12 rfl rfl)
theorem dX2_isWhole_156 : decode cX2_isWhole 156 = .ok (.iload 7, 2) := dk_21 7 (dk_at dksX2_isWhole_6 15 rfl rfl)
theorem dX2_isWhole_158 : decode cX2_isWhole 158 = .ok (.bipush 32, 2) := dk_16 32 (dk_at dksX2_isWhole_6 17 rfl rfl)
theorem dX2_isWhole_160 : decode cX2_isWhole 160 = .ok (.if_icmp .ge 16, 3) := dk_162 0 16 (dk_at dksX2_isWhole_6 19 rfl rfl)
theorem dX2_isWhole_163 : decode cX2_isWhole 163 = .ok (.aload_n 1, 1) := dk_43 (dk_at dksX2_isWhole_6 22 rfl rfl)
theorem dX2_isWhole_164 : decode cX2_isWhole 164 = .ok (.iload 7, 2) := dk_21 7 (dk_at dksX2_isWhole_7 0 rfl rfl)
theorem dX2_isWhole_166 : decode cX2_isWhole 166 = .ok (.invokevirtual 269, 3) := dk_182 1 13 (dk_at dksX2_isWhole_7 2 rfl rfl)
theorem dX2_isWhole_169 : decode cX2_isWhole 169 = .ok (.ifCond .ne 7, 3) := dk_154 0 7 (dk_at dksX2_isWhole_7 5 rfl rfl)
theorem dX2_isWhole_172 : decode cX2_isWhole 172 = .ok (.iconst 1, 1) := dk_4 (dk_at dksX2_isWhole_7 8 rfl rfl)
theorem dX2_isWhole_173 : decode cX2_isWhole 173 = .ok (.goto 17, 3) := dk_167 0 17 (dk_at dksX2_isWhole_7 9 rfl rfl)
theorem dX2_isWhole_176 : decode cX2_isWhole 176 = .ok (.iconst 0, 1) := dk_3 (dk_at dksX2_isWhole_7 12 rfl rfl)
theorem dX2_isWhole_177 : decode cX2_isWhole 177 = .ok (.goto 13, 3) := dk_167 0 13 (dk_at dksX2_isWhole_7 13 rfl rfl)
theorem dX2_isWhole_180 : decode cX2_isWhole 180 = .ok (.iload 7, 2) := dk_21 7 (dk_at dksX2_isWhole_7 16 rfl rfl)
theorem dX2_isWhole_182 : decode cX2_isWhole 182 = .ok (.ifCond .ne 7, 3) := dk_154 0 7 (dk_at dksX2_isWhole_7 18 rfl rfl)
theorem dX2_isWhole_185 : decode cX2_isWhole 185 = .ok (.iconst 1, 1) := dk_4 (dk_at dksX2_isWhole_7 21 rfl rfl)
theorem dX2_isWhole_186 : decode cX2_isWhole 186 = .ok (.goto 4, 3) := dk_167 0 4 (dk_at dksX2_isWhole_8 0 rfl rfl)
theorem dX2_isWhole_189 : decode cX2_isWhole 189 = .ok (.iconst 0, 1) := dk_3 (dk_at dksX2_isWhole_8 3 rfl rfl)
theorem dX2_isWhole_190 : decode cX2_isWhole 190 = .ok (.iand, 1) := dk_126 (dk_at dksX2_isWhole_8 4 rfl rfl)
theorem dX2_isWhole_191 : decode cX2_isWhole 191 = .ok (.istore_n 2, 1) := dk_61 (dk_at dksX2_isWhole_8 5 rfl rfl)
theorem dX2_isWhole_192 : decode cX2_isWhole 192 = .ok (.iload 7, 2) := dk_21 7 (dk_at dksX2_isWhole_8 6 rfl rfl)
theorem dX2_isWhole_194 : decode cX2_isWhole 194 = .ok (.bipush 32, 2) := dk_16 32 (dk_at dksX2_isWhole_8 8 rfl rfl)
theorem dX2_isWhole_196 : decode cX2_isWhole 196 = .ok (.if_icmp .ge 9, 3) := dk_162 0 9 (dk_at dksX2_isWhole_8 10 rfl rfl)
theorem dX2_isWhole_199 : decode cX2_isWhole 199 = .ok (.aload_n 1, 1) := dk_43 (dk_at dksX2_isWhole_8 13 rfl rfl)
theorem dX2_isWhole_200 : decode cX2_isWhole 200 = .ok (.iload 7, 2) := dk_21 7 (dk_at dksX2_isWhole_8 14 rfl rfl)
theorem dX2_isWhole_202 : decode cX2_isWhole 202 = .ok (.invokevirtual 271, 3) := dk_182 1 15 (dk_at dksX2_isWhole_8 16 rfl rfl)
theorem dX2_isWhole_205 : decode cX2_isWhole 205 = .ok (.iinc 6 1, 3) := dk_132 6 1 (dk_at dksX2_isWhole_8 19 rfl rfl)
theorem dX2_isWhole_208 : decode cX2_isWhole 208 = .ok (.goto (-92), 3) := dk_167 255 164 (dk_at dksX2_isWhole_9 0 rfl rfl)
theorem dX2_isWhole_211 : decode cX2_isWhole 211 = .ok (.iinc 3 1, 3) := dk_132 3 1 (dk_at dksX2_isWhole_9 3 rfl rfl)
theorem dX2_isWhole_214 : decode cX2_isWhole 214 = .ok (.goto (-178), 3) := dk_167 255 78 (dk_at dksX2_isWhole_9 6 rfl rfl)
theorem dX2_isWhole_217 : decode cX2_isWhole 217 = .ok (.iconst 0, 1) := dk_3 (dk_at dksX2_isWhole_9 9 rfl rfl)
theorem dX2_isWhole_218 : decode cX2_isWhole 218 = .ok (.istore_n 3, 1) := dk_62 (dk_at dksX2_isWhole_9 10 rfl rfl)
theorem dX2_isWhole_219 : decode cX2_isWhole 219 = .ok (.iload_n 3, 1) := dk_29 (dk_at dksX2_isWhole_9 11 rfl rfl)
theorem dX2_isWhole_220 : decode cX2_isWhole 220 = .ok (.bipush 32, 2) := dk_16 32 (dk_at dksX2_isWhole_9 12 rfl rfl)
theorem dX2_isWhole_222 : decode cX2_isWhole 222 = .ok (.if_icmp .ge 30, 3) := dk_162 0 30 (dk_at dksX2_isWhole_9 14 rfl rfl)
theorem dX2_isWhole_225 : decode cX2_isWhole 225 = .ok (.iload_n 2, 1) := dk_28 (dk_at dksX2_isWhole_9 17 rfl rfl)
theorem dX2_isWhole_226 : decode cX2_isWhole 226 = .ok (.aload_n 0, 1) := dk_42 (dk_at dksX2_isWhole_9 18 rfl rfl)
theorem dX2_isWhole_227 : decode cX2_isWhole 227 = .ok (.iload_n 3, 1) := dk_29 (dk_at dksX2_isWhole_9 19 rfl rfl)
theorem dX2_isWhole_228 : decode cX2_isWhole 228 = .ok (.invokevirtual 220, 3) := dk_182 0 220 (dk_at dksX2_isWhole_9 20 rfl rfl)
theorem dX2_isWhole_231 : decode cX2_isWhole 231 = .ok (.aload_n 1, 1) := dk_43 (dk_at dksX2_isWhole_9 23 rfl rfl)
theorem dX2_isWhole_232 : decode cX2_isWhole 232 = .ok (.iload_n 3, 1) := dk_29 (dk_at dksX2_isWhole_10 0 rfl rfl)
theorem dX2_isWhole_233 : decode cX2_isWhole 233 = .ok (.invokevirtual 269, 3) := dk_182 1 13 (dk_at dksX2_isWhole_10 1 rfl rfl)
theorem dX2_isWhole_236 : decode cX2_isWhole 236 = .ok (.if_icmp .ne 7, 3) := dk_160 0 7 (dk_at dksX2_isWhole_10 4 rfl rfl)
theorem dX2_isWhole_239 : decode cX2_isWhole 239 = .ok (.iconst 1, 1) := dk_4 (dk_at dksX2_isWhole_10 7 rfl rfl)
theorem dX2_isWhole_240 : decode cX2_isWhole 240 = .ok (.goto 4, 3) := dk_167 0 4 (dk_at dksX2_isWhole_10 8 rfl rfl)
theorem dX2_isWhole_243 : decode cX2_isWhole 243 = .ok (.iconst 0, 1) := dk_3 (dk_at dksX2_isWhole_10 11 rfl rfl)
theorem dX2_isWhole_244 : decode cX2_isWhole 244 = .ok (.iand, 1) := dk_126 (dk_at dksX2_isWhole_10 12 rfl rfl)
theorem dX2_isWhole_245 : decode cX2_isWhole 245 = .ok (.istore_n 2, 1) := dk_61 (dk_at dksX2_isWhole_10 13 rfl rfl)
theorem dX2_isWhole_246 : decode cX2_isWhole 246 = .ok (.iinc 3 1, 3) := dk_132 3 1 (dk_at dksX2_isWhole_10 14 rfl rfl)
theorem dX2_isWhole_249 : decode cX2_isWhole 249 = .ok (.goto (-30), 3) := dk_167 255 226 (dk_at dksX2_isWhole_10 17 rfl rfl)
theorem dX2_isWhole_252 : decode cX2_isWhole 252 = .ok (.iload_n 2, 1) := dk_28 (dk_at dksX2_isWhole_10 20 rfl rfl)
theorem dX2_isWhole_253 : decode cX2_isWhole 253 = .ok (.ireturn, 1) := dk_172 (dk_at dksX2_isWhole_10 21 rfl rfl)
abbrev cX2_find : ByteArray := prog_16_method_31_code
def yX2_find : MethodName := ⟨RX2, "find", "(I)I"⟩
def dkwX2_find_1 : List UInt8 := [132, 3, 255, 167, 255, 233, 28, 172]
abbrev dktX2_find_1 : List UInt8 := dkwX2_find_1 ++ []
def dkwX2_find_0 : List UInt8 := [2, 61, 8, 62, 29, 155, 0, 25, 42, 29, 3, 182, 0, 214, 27, 160, 0, 7, 29, 167, 0, 4, 28, 61]
abbrev dktX2_find_0 : List UInt8 := dkwX2_find_0 ++ dktX2_find_1
theorem dksX2_find_0 : cX2_find.data.toList.drop 0 = dktX2_find_0 := by decide +kernel
theorem dksX2_find_1 : cX2_find.data.toList.drop 24 = dktX2_find_1 := dk_seg dksX2_find_0 24 rfl rfl
theorem dX2_find_0 : decode cX2_find 0 = .ok (.iconst (-1), 1) := dk_2 (dk_at dksX2_find_0 0 rfl rfl)
theorem dX2_find_1 : decode cX2_find 1 = .ok (.istore_n 2, 1) := dk_61 (dk_at dksX2_find_0 1 rfl rfl)
theorem dX2_find_2 : decode cX2_find 2 = .ok (.iconst 5, 1) := dk_8 (dk_at dksX2_find_0 2 rfl rfl)
theorem dX2_find_3 : decode cX2_find 3 = .ok (.istore_n 3, 1) := dk_62 (dk_at dksX2_find_0 3 rfl rfl)
theorem dX2_find_4 : decode cX2_find 4 = .ok (.iload_n 3, 1) := dk_29 (dk_at dksX2_find_0 4 rfl rfl)
theorem dX2_find_5 : decode cX2_find 5 = .ok (.ifCond .lt 25, 3) := dk_155 0 25 (dk_at dksX2_find_0 5 rfl rfl)
theorem dX2_find_8 : decode cX2_find 8 = .ok (.aload_n 0, 1) := dk_42 (dk_at dksX2_find_0 8 rfl rfl)
theorem dX2_find_9 : decode cX2_find 9 = .ok (.iload_n 3, 1) := dk_29 (dk_at dksX2_find_0 9 rfl rfl)
theorem dX2_find_10 : decode cX2_find 10 = .ok (.iconst 0, 1) := dk_3 (dk_at dksX2_find_0 10 rfl rfl)
theorem dX2_find_11 : decode cX2_find 11 = .ok (.invokevirtual 214, 3) := dk_182 0 214 (dk_at dksX2_find_0 11 rfl rfl)
theorem dX2_find_14 : decode cX2_find 14 = .ok (.iload_n 1, 1) := dk_27 (dk_at dksX2_find_0 14 rfl rfl)
theorem dX2_find_15 : decode cX2_find 15 = .ok (.if_icmp .ne 7, 3) := dk_160 0 7 (dk_at dksX2_find_0 15 rfl rfl)
theorem dX2_find_18 : decode cX2_find 18 = .ok (.iload_n 3, 1) := dk_29 (dk_at dksX2_find_0 18 rfl rfl)
theorem dX2_find_19 : decode cX2_find 19 = .ok (.goto 4, 3) := dk_167 0 4 (dk_at dksX2_find_0 19 rfl rfl)
theorem dX2_find_22 : decode cX2_find 22 = .ok (.iload_n 2, 1) := dk_28 (dk_at dksX2_find_0 22 rfl rfl)
theorem dX2_find_23 : decode cX2_find 23 = .ok (.istore_n 2, 1) := dk_61 (dk_at dksX2_find_0 23 rfl rfl)
theorem dX2_find_24 : decode cX2_find 24 = .ok (.iinc 3 (-1), 3) := dk_132 3 255 (dk_at dksX2_find_1 0 rfl rfl)
theorem dX2_find_27 : decode cX2_find 27 = .ok (.goto (-23), 3) := dk_167 255 233 (dk_at dksX2_find_1 3 rfl rfl)
theorem dX2_find_30 : decode cX2_find 30 = .ok (.iload_n 2, 1) := dk_28 (dk_at dksX2_find_1 6 rfl rfl)
theorem dX2_find_31 : decode cX2_find 31 = .ok (.ireturn, 1) := dk_172 (dk_at dksX2_find_1 7 rfl rfl)
abbrev cX2_isOn : ByteArray := prog_16_method_3_code
def yX2_isOn : MethodName := ⟨RX2, "isOn", "()Z"⟩
def dkwX2_isOn_0 : List UInt8 := [42, 180, 0, 9, 3, 46, 153, 0, 7, 4, 167, 0, 4, 3, 172]
abbrev dktX2_isOn_0 : List UInt8 := dkwX2_isOn_0 ++ []
theorem dksX2_isOn_0 : cX2_isOn.data.toList.drop 0 = dktX2_isOn_0 := by decide +kernel
theorem dX2_isOn_0 : decode cX2_isOn 0 = .ok (.aload_n 0, 1) := dk_42 (dk_at dksX2_isOn_0 0 rfl rfl)
theorem dX2_isOn_1 : decode cX2_isOn 1 = .ok (.getfield 9, 3) := dk_180 0 9 (dk_at dksX2_isOn_0 1 rfl rfl)
theorem dX2_isOn_4 : decode cX2_isOn 4 = .ok (.iconst 0, 1) := dk_3 (dk_at dksX2_isOn_0 4 rfl rfl)
theorem dX2_isOn_5 : decode cX2_isOn 5 = .ok (.iaload, 1) := dk_46 (dk_at dksX2_isOn_0 5 rfl rfl)
theorem dX2_isOn_6 : decode cX2_isOn 6 = .ok (.ifCond .eq 7, 3) := dk_153 0 7 (dk_at dksX2_isOn_0 6 rfl rfl)
theorem dX2_isOn_9 : decode cX2_isOn 9 = .ok (.iconst 1, 1) := dk_4 (dk_at dksX2_isOn_0 9 rfl rfl)
theorem dX2_isOn_10 : decode cX2_isOn 10 = .ok (.goto 4, 3) := dk_167 0 4 (dk_at dksX2_isOn_0 10 rfl rfl)
theorem dX2_isOn_13 : decode cX2_isOn 13 = .ok (.iconst 0, 1) := dk_3 (dk_at dksX2_isOn_0 13 rfl rfl)
theorem dX2_isOn_14 : decode cX2_isOn 14 = .ok (.ireturn, 1) := dk_172 (dk_at dksX2_isOn_0 14 rfl rfl)
abbrev cX2_start : ByteArray := prog_16_method_8_code
def yX2_start : MethodName := ⟨RX2, "start", "([I)I"⟩
def dkwX2_start_1 : List UInt8 := [184, 0, 64, 42, 43, 182, 0, 78, 28, 172]
abbrev dktX2_start_1 : List UInt8 := dkwX2_start_1 ++ []
def dkwX2_start_0 : List UInt8 := [42, 182, 0, 74, 61, 42, 180, 0, 9, 17, 1, 109, 42, 180, 0, 32, 3, 42, 180, 0, 32, 190]
abbrev dktX2_start_0 : List UInt8 := dkwX2_start_0 ++ dktX2_start_1
theorem dksX2_start_0 : cX2_start.data.toList.drop 0 = dktX2_start_0 := by decide +kernel
theorem dksX2_start_1 : cX2_start.data.toList.drop 22 = dktX2_start_1 := dk_seg dksX2_start_0 22 rfl rfl
theorem dX2_start_0 : decode cX2_start 0 = .ok (.aload_n 0, 1) := dk_42 (dk_at dksX2_start_0 0 rfl rfl)
theorem dX2_start_1 : decode cX2_start 1 = .ok (.invokevirtual 74, 3) := dk_182 0 74 (dk_at dksX2_start_0 1 rfl rfl)
theorem dX2_start_4 : decode cX2_start 4 = .ok (.istore_n 2, 1) := dk_61 (dk_at dksX2_start_0 4 rfl rfl)
theorem dX2_start_5 : decode cX2_start 5 = .ok (.aload_n 0, 1) := dk_42 (dk_at dksX2_start_0 5 rfl rfl)
theorem dX2_start_6 : decode cX2_start 6 = .ok (.getfield 9, 3) := dk_180 0 9 (dk_at dksX2_start_0 6 rfl rfl)
theorem dX2_start_9 : decode cX2_start 9 = .ok (.sipush 365, 3) := dk_17 1 109 (dk_at dksX2_start_0 9 rfl rfl)
theorem dX2_start_12 : decode cX2_start 12 = .ok (.aload_n 0, 1) := dk_42 (dk_at dksX2_start_0 12 rfl rfl)
theorem dX2_start_13 : decode cX2_start 13 = .ok (.getfield 32, 3) := dk_180 0 32 (dk_at dksX2_start_0 13 rfl rfl)
theorem dX2_start_16 : decode cX2_start 16 = .ok (.iconst 0, 1) := dk_3 (dk_at dksX2_start_0 16 rfl rfl)
theorem dX2_start_17 : decode cX2_start 17 = .ok (.aload_n 0, 1) := dk_42 (dk_at dksX2_start_0 17 rfl rfl)
theorem dX2_start_18 : decode cX2_start 18 = .ok (.getfield 32, 3) := dk_180 0 32 (dk_at dksX2_start_0 18 rfl rfl)
theorem dX2_start_21 : decode cX2_start 21 = .ok (.arraylength, 1) := dk_190 (dk_at dksX2_start_0 21 rfl rfl)
theorem dX2_start_22 : decode cX2_start 22 = .ok (.invokestatic 64, 3) := dk_184 0 64 (dk_at dksX2_start_1 0 rfl rfl)
theorem dX2_start_25 : decode cX2_start 25 = .ok (.aload_n 0, 1) := dk_42 (dk_at dksX2_start_1 3 rfl rfl)
theorem dX2_start_26 : decode cX2_start 26 = .ok (.aload_n 1, 1) := dk_43 (dk_at dksX2_start_1 4 rfl rfl)
theorem dX2_start_27 : decode cX2_start 27 = .ok (.invokevirtual 78, 3) := dk_182 0 78 (dk_at dksX2_start_1 5 rfl rfl)
theorem dX2_start_30 : decode cX2_start 30 = .ok (.iload_n 2, 1) := dk_28 (dk_at dksX2_start_1 8 rfl rfl)
theorem dX2_start_31 : decode cX2_start 31 = .ok (.ireturn, 1) := dk_172 (dk_at dksX2_start_1 9 rfl rfl)
abbrev cX2_mend : ByteArray := prog_16_method_6_code
def yX2_mend : MethodName := ⟨RX2, "mend", "()I"⟩
def dkwX2_mend_5 : List UInt8 := [167, 255, 236, 42, 180, 0, 9, 17, 1, 108, 92, 46, 28, 96, 79, 28, 172]
abbrev dktX2_mend_5 : List UInt8 := dkwX2_mend_5 ++ []
def dkwX2_mend_4 : List UInt8 := [96, 61, 3, 62, 29, 16, 8, 162, 0, 20, 42, 180, 0, 9, 17, 1, 109, 29, 96, 3, 79, 132, 3, 1]
abbrev dktX2_mend_4 : List UInt8 := dkwX2_mend_4 ++ dktX2_mend_5
def dkwX2_mend_3 : List UInt8 := [180, 0, 9, 17, 1, 110, 29, 96, 46, 104, 96, 16, 8, 184, 0, 64, 132, 3, 1, 167, 255, 208, 28, 27]
abbrev dktX2_mend_3 : List UInt8 := dkwX2_mend_3 ++ dktX2_mend_4
def dkwX2_mend_2 : List UInt8 := [180, 0, 9, 17, 1, 109, 16, 8, 4, 29, 96, 104, 96, 42, 180, 0, 9, 17, 1, 109, 16, 8, 42]
abbrev dktX2_mend_2 : List UInt8 := dkwX2_mend_2 ++ dktX2_mend_3
def dkwX2_mend_1 : List UInt8 := [182, 0, 60, 42, 180, 0, 9, 17, 1, 113, 46, 160, 0, 60, 3, 62, 29, 27, 162, 0, 49, 42]
abbrev dktX2_mend_1 : List UInt8 := dkwX2_mend_1 ++ dktX2_mend_2
def dkwX2_mend_0 : List UInt8 := [42, 180, 0, 9, 17, 1, 109, 46, 60, 27, 154, 0, 5, 3, 172, 4, 61, 27, 6, 163, 0, 76, 42, 27]
abbrev dktX2_mend_0 : List UInt8 := dkwX2_mend_0 ++ dktX2_mend_1
theorem dksX2_mend_0 : cX2_mend.data.toList.drop 0 = dktX2_mend_0 := by decide +kernel
theorem dksX2_mend_1 : cX2_mend.data.toList.drop 24 = dktX2_mend_1 := dk_seg dksX2_mend_0 24 rfl rfl
theorem dksX2_mend_2 : cX2_mend.data.toList.drop 46 = dktX2_mend_2 := dk_seg dksX2_mend_1 22 rfl rfl
theorem dksX2_mend_3 : cX2_mend.data.toList.drop 69 = dktX2_mend_3 := dk_seg dksX2_mend_2 23 rfl rfl
theorem dksX2_mend_4 : cX2_mend.data.toList.drop 93 = dktX2_mend_4 := dk_seg dksX2_mend_3 24 rfl rfl
theorem dksX2_mend_5 : cX2_mend.data.toList.drop 117 = dktX2_mend_5 := dk_seg dksX2_mend_4 24 rfl rfl
theorem dX2_mend_0 : decode cX2_mend 0 = .ok (.aload_n 0, 1) := dk_42 (dk_at dksX2_mend_0 0 rfl rfl)
theorem dX2_mend_1 : decode cX2_mend 1 = .ok (.getfield 9, 3) := dk_180 0 9 (dk_at dksX2_mend_0 1 rfl rfl)
theorem dX2_mend_4 : decode cX2_mend 4 = .ok (.sipush 365, 3) := dk_17 1 109 (dk_at dksX2_mend_0 4 rfl rfl)
theorem dX2_mend_7 : decode cX2_mend 7 = .ok (.iaload, 1) := dk_46 (dk_at dksX2_mend_0 7 rfl rfl)
theorem dX2_mend_8 : decode cX2_mend 8 = .ok (.istore_n 1, 1) := dk_60 (dk_at dksX2_mend_0 8 rfl rfl)
theorem dX2_mend_9 : decode cX2_mend 9 = .ok (.iload_n 1, 1) := dk_27 (dk_at dksX2_mend_0 9 rfl rfl)
theorem dX2_mend_10 : decode cX2_mend 10 = .ok (.ifCond .ne 5, 3) := dk_154 0 5 (dk_at dksX2_mend_0 10 rfl rfl)
theorem dX2_mend_13 : decode cX2_mend 13 = .ok (.iconst 0, 1) := dk_3 (dk_at dksX2_mend_0 13 rfl rfl)
theorem dX2_mend_14 : decode cX2_mend 14 = .ok (.ireturn, 1) := dk_172 (dk_at dksX2_mend_0 14 rfl rfl)
theorem dX2_mend_15 : decode cX2_mend 15 = .ok (.iconst 1, 1) := dk_4 (dk_at dksX2_mend_0 15 rfl rfl)
theorem dX2_mend_16 : decode cX2_mend 16 = .ok (.istore_n 2, 1) := dk_61 (dk_at dksX2_mend_0 16 rfl rfl)
theorem dX2_mend_17 : decode cX2_mend 17 = .ok (.iload_n 1, 1) := dk_27 (dk_at dksX2_mend_0 17 rfl rfl)
theorem dX2_mend_18 : decode cX2_mend 18 = .ok (.iconst 3, 1) := dk_6 (dk_at dksX2_mend_0 18 rfl rfl)
theorem dX2_mend_19 : decode cX2_mend 19 = .ok (.if_icmp .gt 76, 3) := dk_163 0 76 (dk_at dksX2_mend_0 19 rfl rfl)
theorem dX2_mend_22 : decode cX2_mend 22 = .ok (.aload_n 0, 1) := dk_42 (dk_at dksX2_mend_0 22 rfl rfl)
theorem dX2_mend_23 : decode cX2_mend 23 = .ok (.iload_n 1, 1) := dk_27 (dk_at dksX2_mend_0 23 rfl rfl)
theorem dX2_mend_24 : decode cX2_mend 24 = .ok (.invokevirtual 60, 3) := dk_182 0 60 (dk_at dksX2_mend_1 0 rfl rfl)
theorem dX2_mend_27 : decode cX2_mend 27 = .ok (.aload_n 0, 1) := dk_42 (dk_at dksX2_mend_1 3 rfl rfl)
theorem dX2_mend_28 : decode cX2_mend 28 = .ok (.getfield 9, 3) := dk_180 0 9 (dk_at dksX2_mend_1 4 rfl rfl)
theorem dX2_mend_31 : decode cX2_mend 31 = .ok (.sipush 369, 3) := dk_17 1 113 (dk_at dksX2_mend_1 7 rfl rfl)
theorem dX2_mend_34 : decode cX2_mend 34 = .ok (.iaload, 1) := dk_46 (dk_at dksX2_mend_1 10 rfl rfl)
theorem dX2_mend_35 : decode cX2_mend 35 = .ok (.if_icmp .ne 60, 3) := dk_160 0 60 (dk_at dksX2_mend_1 11 rfl rfl)
theorem dX2_mend_38 : decode cX2_mend 38 = .ok (.iconst 0, 1) := dk_3 (dk_at dksX2_mend_1 14 rfl rfl)
theorem dX2_mend_39 : decode cX2_mend 39 = .ok (.istore_n 3, 1) := dk_62 (dk_at dksX2_mend_1 15 rfl rfl)
theorem dX2_mend_40 : decode cX2_mend 40 = .ok (.iload_n 3, 1) := dk_29 (dk_at dksX2_mend_1 16 rfl rfl)
theorem dX2_mend_41 : decode cX2_mend 41 = .ok (.iload_n 1, 1) := dk_27 (dk_at dksX2_mend_1 17 rfl rfl)
theorem dX2_mend_42 : decode cX2_mend 42 = .ok (.if_icmp .ge 49, 3) := dk_162 0 49 (dk_at dksX2_mend_1 18 rfl rfl)
theorem dX2_mend_45 : decode cX2_mend 45 = .ok (.aload_n 0, 1) := dk_42 (dk_at dksX2_mend_1 21 rfl rfl)
theorem dX2_mend_46 : decode cX2_mend 46 = .ok (.getfield 9, 3) := dk_180 0 9 (dk_at dksX2_mend_2 0 rfl rfl)
theorem dX2_mend_49 : decode cX2_mend 49 = .ok (.sipush 365, 3) := dk_17 1 109 (dk_at dksX2_mend_2 3 rfl rfl)
theorem dX2_mend_52 : decode cX2_mend 52 = .ok (.bipush 8, 2) := dk_16 8 (dk_at dksX2_mend_2 6 rfl rfl)
theorem dX2_mend_54 : decode cX2_mend 54 = .ok (.iconst 1, 1) := dk_4 (dk_at dksX2_mend_2 8 rfl rfl)
theorem dX2_mend_55 : decode cX2_mend 55 = .ok (.iload_n 3, 1) := dk_29 (dk_at dksX2_mend_2 9 rfl rfl)
theorem dX2_mend_56 : decode cX2_mend 56 = .ok (.iadd, 1) := dk_96 (dk_at dksX2_mend_2 10 rfl rfl)
theorem dX2_mend_57 : decode cX2_mend 57 = .ok (.imul, 1) := dk_104 (dk_at dksX2_mend_2 11 rfl rfl)
theorem dX2_mend_58 : decode cX2_mend 58 = .ok (.iadd, 1) := dk_96 (dk_at dksX2_mend_2 12 rfl rfl)
theorem dX2_mend_59 : decode cX2_mend 59 = .ok (.aload_n 0, 1) := dk_42 (dk_at dksX2_mend_2 13 rfl rfl)
theorem dX2_mend_60 : decode cX2_mend 60 = .ok (.getfield 9, 3) := dk_180 0 9 (dk_at dksX2_mend_2 14 rfl rfl)
theorem dX2_mend_63 : decode cX2_mend 63 = .ok (.sipush 365, 3) := dk_17 1 109 (dk_at dksX2_mend_2 17 rfl rfl)
theorem dX2_mend_66 : decode cX2_mend 66 = .ok (.bipush 8, 2) := dk_16 8 (dk_at dksX2_mend_2 20 rfl rfl)
theorem dX2_mend_68 : decode cX2_mend 68 = .ok (.aload_n 0, 1) := dk_42 (dk_at dksX2_mend_2 22 rfl rfl)
theorem dX2_mend_69 : decode cX2_mend 69 = .ok (.getfield 9, 3) := dk_180 0 9 (dk_at dksX2_mend_3 0 rfl rfl)
theorem dX2_mend_72 : decode cX2_mend 72 = .ok (.sipush 366, 3) := dk_17 1 110 (dk_at dksX2_mend_3 3 rfl rfl)
theorem dX2_mend_75 : decode cX2_mend 75 = .ok (.iload_n 3, 1) := dk_29 (dk_at dksX2_mend_3 6 rfl rfl)
theorem dX2_mend_76 : decode cX2_mend 76 = .ok (.iadd, 1) := dk_96 (dk_at dksX2_mend_3 7 rfl rfl)
theorem dX2_mend_77 : decode cX2_mend 77 = .ok (.iaload, 1) := dk_46 (dk_at dksX2_mend_3 8 rfl rfl)
theorem dX2_mend_78 : decode cX2_mend 78 = .ok (.imul, 1) := dk_104 (dk_at dksX2_mend_3 9 rfl rfl)
theorem dX2_mend_79 : decode cX2_mend 79 = .ok (.iadd, 1) := dk_96 (dk_at dksX2_mend_3 10 rfl rfl)
theorem dX2_mend_80 : decode cX2_mend 80 = .ok (.bipush 8, 2) := dk_16 8 (dk_at dksX2_mend_3 11 rfl rfl)
theorem dX2_mend_82 : decode cX2_mend 82 = .ok (.invokestatic 64, 3) := dk_184 0 64 (dk_at dksX2_mend_3 13 rfl rfl)
theorem dX2_mend_85 : decode cX2_mend 85 = .ok (.iinc 3 1, 3) := dk_132 3 1 (dk_at dksX2_mend_3 16 rfl rfl)
theorem dX2_mend_88 : decode cX2_mend 88 = .ok (.goto (-48), 3) := dk_167 255 208 (dk_at dksX2_mend_3 19 rfl rfl)
theorem dX2_mend_91 : decode cX2_mend 91 = .ok (.iload_n 2, 1) := dk_28 (dk_at dksX2_mend_3 22 rfl rfl)
theorem dX2_mend_92 : decode cX2_mend 92 = .ok (.iload_n 1, 1) := dk_27 (dk_at dksX2_mend_3 23 rfl rfl)
theorem dX2_mend_93 : decode cX2_mend 93 = .ok (.iadd, 1) := dk_96 (dk_at dksX2_mend_4 0 rfl rfl)
theorem dX2_mend_94 : decode cX2_mend 94 = .ok (.istore_n 2, 1) := dk_61 (dk_at dksX2_mend_4 1 rfl rfl)
theorem dX2_mend_95 : decode cX2_mend 95 = .ok (.iconst 0, 1) := dk_3 (dk_at dksX2_mend_4 2 rfl rfl)
theorem dX2_mend_96 : decode cX2_mend 96 = .ok (.istore_n 3, 1) := dk_62 (dk_at dksX2_mend_4 3 rfl rfl)
theorem dX2_mend_97 : decode cX2_mend 97 = .ok (.iload_n 3, 1) := dk_29 (dk_at dksX2_mend_4 4 rfl rfl)
theorem dX2_mend_98 : decode cX2_mend 98 = .ok (.bipush 8, 2) := dk_16 8 (dk_at dksX2_mend_4 5 rfl rfl)
theorem dX2_mend_100 : decode cX2_mend 100 = .ok (.if_icmp .ge 20, 3) := dk_162 0 20 (dk_at dksX2_mend_4 7 rfl rfl)
theorem dX2_mend_103 : decode cX2_mend 103 = .ok (.aload_n 0, 1) := dk_42 (dk_at dksX2_mend_4 10 rfl rfl)
theorem dX2_mend_104 : decode cX2_mend 104 = .ok (.getfield 9, 3) := dk_180 0 9 (dk_at dksX2_mend_4 11 rfl rfl)
theorem dX2_mend_107 : decode cX2_mend 107 = .ok (.sipush 365, 3) := dk_17 1 109 (dk_at dksX2_mend_4 14 rfl rfl)
theorem dX2_mend_110 : decode cX2_mend 110 = .ok (.iload_n 3, 1) := dk_29 (dk_at dksX2_mend_4 17 rfl rfl)
theorem dX2_mend_111 : decode cX2_mend 111 = .ok (.iadd, 1) := dk_96 (dk_at dksX2_mend_4 18 rfl rfl)
theorem dX2_mend_112 : decode cX2_mend 112 = .ok (.iconst 0, 1) := dk_3 (dk_at dksX2_mend_4 19 rfl rfl)
theorem dX2_mend_113 : decode cX2_mend 113 = .ok (.iastore, 1) := dk_79 (dk_at dksX2_mend_4 20 rfl rfl)
theorem dX2_mend_114 : decode cX2_mend 114 = .ok (.iinc 3 1, 3) := dk_132 3 1 (dk_at dksX2_mend_4 21 rfl rfl)
theorem dX2_mend_117 : decode cX2_mend 117 = .ok (.goto (-20), 3) := dk_167 255 236 (dk_at dksX2_mend_5 0 rfl rfl)
theorem dX2_mend_120 : decode cX2_mend 120 = .ok (.aload_n 0, 1) := dk_42 (dk_at dksX2_mend_5 3 rfl rfl)
theorem dX2_mend_121 : decode cX2_mend 121 = .ok (.getfield 9, 3) := dk_180 0 9 (dk_at dksX2_mend_5 4 rfl rfl)
theorem dX2_mend_124 : decode cX2_mend 124 = .ok (.sipush 364, 3) := dk_17 1 108 (dk_at dksX2_mend_5 7 rfl rfl)
theorem dX2_mend_127 : decode cX2_mend 127 = .ok (.dup2, 1) := dk_92 (dk_at dksX2_mend_5 10 rfl rfl)
theorem dX2_mend_128 : decode cX2_mend 128 = .ok (.iaload, 1) := dk_46 (dk_at dksX2_mend_5 11 rfl rfl)
theorem dX2_mend_129 : decode cX2_mend 129 = .ok (.iload_n 2, 1) := dk_28 (dk_at dksX2_mend_5 12 rfl rfl)
theorem dX2_mend_130 : decode cX2_mend 130 = .ok (.iadd, 1) := dk_96 (dk_at dksX2_mend_5 13 rfl rfl)
theorem dX2_mend_131 : decode cX2_mend 131 = .ok (.iastore, 1) := dk_79 (dk_at dksX2_mend_5 14 rfl rfl)
theorem dX2_mend_132 : decode cX2_mend 132 = .ok (.iload_n 2, 1) := dk_28 (dk_at dksX2_mend_5 15 rfl rfl)
theorem dX2_mend_133 : decode cX2_mend 133 = .ok (.ireturn, 1) := dk_172 (dk_at dksX2_mend_5 16 rfl rfl)
abbrev cX2_logged : ByteArray := prog_16_method_7_code
def yX2_logged : MethodName := ⟨RX2, "logged", "(I)I"⟩
def dkwX2_logged_2 : List UInt8 := [180, 0, 9, 17, 1, 109, 29, 96, 46, 96, 61, 132, 3, 1, 167, 255, 229, 28, 133, 184, 0, 70, 172]
abbrev dktX2_logged_2 : List UInt8 := dkwX2_logged_2 ++ []
def dkwX2_logged_1 : List UInt8 := [132, 3, 1, 167, 255, 235, 16, 8, 62, 29, 16, 8, 16, 8, 27, 104, 96, 162, 0, 22, 28, 42]
abbrev dktX2_logged_1 : List UInt8 := dkwX2_logged_1 ++ dktX2_logged_2
def dkwX2_logged_0 : List UInt8 := [3, 61, 3, 62, 29, 7, 162, 0, 22, 28, 42, 180, 0, 9, 17, 1, 109, 29, 96, 46, 96, 61]
abbrev dktX2_logged_0 : List UInt8 := dkwX2_logged_0 ++ dktX2_logged_1
theorem dksX2_logged_0 : cX2_logged.data.toList.drop 0 = dktX2_logged_0 := by decide +kernel
theorem dksX2_logged_1 : cX2_logged.data.toList.drop 22 = dktX2_logged_1 := dk_seg dksX2_logged_0 22 rfl rfl
theorem dksX2_logged_2 : cX2_logged.data.toList.drop 44 = dktX2_logged_2 := dk_seg dksX2_logged_1 22 rfl rfl
theorem dX2_logged_0 : decode cX2_logged 0 = .ok (.iconst 0, 1) := dk_3 (dk_at dksX2_logged_0 0 rfl rfl)
theorem dX2_logged_1 : decode cX2_logged 1 = .ok (.istore_n 2, 1) := dk_61 (dk_at dksX2_logged_0 1 rfl rfl)
theorem dX2_logged_2 : decode cX2_logged 2 = .ok (.iconst 0, 1) := dk_3 (dk_at dksX2_logged_0 2 rfl rfl)
theorem dX2_logged_3 : decode cX2_logged 3 = .ok (.istore_n 3, 1) := dk_62 (dk_at dksX2_logged_0 3 rfl rfl)
theorem dX2_logged_4 : decode cX2_logged 4 = .ok (.iload_n 3, 1) := dk_29 (dk_at dksX2_logged_0 4 rfl rfl)
theorem dX2_logged_5 : decode cX2_logged 5 = .ok (.iconst 4, 1) := dk_7 (dk_at dksX2_logged_0 5 rfl rfl)
theorem dX2_logged_6 : decode cX2_logged 6 = .ok (.if_icmp .ge 22, 3) := dk_162 0 22 (dk_at dksX2_logged_0 6 rfl rfl)
theorem dX2_logged_9 : decode cX2_logged 9 = .ok (.iload_n 2, 1) := dk_28 (dk_at dksX2_logged_0 9 rfl rfl)
theorem dX2_logged_10 : decode cX2_logged 10 = .ok (.aload_n 0, 1) := dk_42 (dk_at dksX2_logged_0 10 rfl rfl)
theorem dX2_logged_11 : decode cX2_logged 11 = .ok (.getfield 9, 3) := dk_180 0 9 (dk_at dksX2_logged_0 11 rfl rfl)
theorem dX2_logged_14 : decode cX2_logged 14 = .ok (.sipush 365, 3) := dk_17 1 109 (dk_at dksX2_logged_0 14 rfl rfl)
theorem dX2_logged_17 : decode cX2_logged 17 = .ok (.iload_n 3, 1) := dk_29 (dk_at dksX2_logged_0 17 rfl rfl)
theorem dX2_logged_18 : decode cX2_logged 18 = .ok (.iadd, 1) := dk_96 (dk_at dksX2_logged_0 18 rfl rfl)
theorem dX2_logged_19 : decode cX2_logged 19 = .ok (.iaload, 1) := dk_46 (dk_at dksX2_logged_0 19 rfl rfl)
theorem dX2_logged_20 : decode cX2_logged 20 = .ok (.iadd, 1) := dk_96 (dk_at dksX2_logged_0 20 rfl rfl)
theorem dX2_logged_21 : decode cX2_logged 21 = .ok (.istore_n 2, 1) := dk_61 (dk_at dksX2_logged_0 21 rfl rfl)
theorem dX2_logged_22 : decode cX2_logged 22 = .ok (.iinc 3 1, 3) := dk_132 3 1 (dk_at dksX2_logged_1 0 rfl rfl)
theorem dX2_logged_25 : decode cX2_logged 25 = .ok (.goto (-21), 3) := dk_167 255 235 (dk_at dksX2_logged_1 3 rfl rfl)
theorem dX2_logged_28 : decode cX2_logged 28 = .ok (.bipush 8, 2) := dk_16 8 (dk_at dksX2_logged_1 6 rfl rfl)
theorem dX2_logged_30 : decode cX2_logged 30 = .ok (.istore_n 3, 1) := dk_62 (dk_at dksX2_logged_1 8 rfl rfl)
theorem dX2_logged_31 : decode cX2_logged 31 = .ok (.iload_n 3, 1) := dk_29 (dk_at dksX2_logged_1 9 rfl rfl)
theorem dX2_logged_32 : decode cX2_logged 32 = .ok (.bipush 8, 2) := dk_16 8 (dk_at dksX2_logged_1 10 rfl rfl)
theorem dX2_logged_34 : decode cX2_logged 34 = .ok (.bipush 8, 2) := dk_16 8 (dk_at dksX2_logged_1 12 rfl rfl)
theorem dX2_logged_36 : decode cX2_logged 36 = .ok (.iload_n 1, 1) := dk_27 (dk_at dksX2_logged_1 14 rfl rfl)
theorem dX2_logged_37 : decode cX2_logged 37 = .ok (.imul, 1) := dk_104 (dk_at dksX2_logged_1 15 rfl rfl)
theorem dX2_logged_38 : decode cX2_logged 38 = .ok (.iadd, 1) := dk_96 (dk_at dksX2_logged_1 16 rfl rfl)
theorem dX2_logged_39 : decode cX2_logged 39 = .ok (.if_icmp .ge 22, 3) := dk_162 0 22 (dk_at dksX2_logged_1 17 rfl rfl)
theorem dX2_logged_42 : decode cX2_logged 42 = .ok (.iload_n 2, 1) := dk_28 (dk_at dksX2_logged_1 20 rfl rfl)
theorem dX2_logged_43 : decode cX2_logged 43 = .ok (.aload_n 0, 1) := dk_42 (dk_at dksX2_logged_1 21 rfl rfl)
theorem dX2_logged_44 : decode cX2_logged 44 = .ok (.getfield 9, 3) := dk_180 0 9 (dk_at dksX2_logged_2 0 rfl rfl)
theorem dX2_logged_47 : decode cX2_logged 47 = .ok (.sipush 365, 3) := dk_17 1 109 (dk_at dksX2_logged_2 3 rfl rfl)
theorem dX2_logged_50 : decode cX2_logged 50 = .ok (.iload_n 3, 1) := dk_29 (dk_at dksX2_logged_2 6 rfl rfl)
theorem dX2_logged_51 : decode cX2_logged 51 = .ok (.iadd, 1) := dk_96 (dk_at dksX2_logged_2 7 rfl rfl)
theorem dX2_logged_52 : decode cX2_logged 52 = .ok (.iaload, 1) := dk_46 (dk_at dksX2_logged_2 8 rfl rfl)
theorem dX2_logged_53 : decode cX2_logged 53 = .ok (.iadd, 1) := dk_96 (dk_at dksX2_logged_2 9 rfl rfl)
theorem dX2_logged_54 : decode cX2_logged 54 = .ok (.istore_n 2, 1) := dk_61 (dk_at dksX2_logged_2 10 rfl rfl)
theorem dX2_logged_55 : decode cX2_logged 55 = .ok (.iinc 3 1, 3) := dk_132 3 1 (dk_at dksX2_logged_2 11 rfl rfl)
theorem dX2_logged_58 : decode cX2_logged 58 = .ok (.goto (-27), 3) := dk_167 255 229 (dk_at dksX2_logged_2 14 rfl rfl)
theorem dX2_logged_61 : decode cX2_logged 61 = .ok (.iload_n 2, 1) := dk_28 (dk_at dksX2_logged_2 17 rfl rfl)
theorem dX2_logged_62 : decode cX2_logged 62 = .ok (.i2l, 1) := dk_133 (dk_at dksX2_logged_2 18 rfl rfl)
theorem dX2_logged_63 : decode cX2_logged 63 = .ok (.invokestatic 70, 3) := dk_184 0 70 (dk_at dksX2_logged_2 19 rfl rfl)
theorem dX2_logged_66 : decode cX2_logged 66 = .ok (.ireturn, 1) := dk_172 (dk_at dksX2_logged_2 22 rfl rfl)
abbrev cX2_begin : ByteArray := prog_16_method_9_code
def yX2_begin : MethodName := ⟨RX2, "begin", "([I)V"⟩
def dkwX2_begin_1 : List UInt8 := [4, 79, 42, 180, 0, 9, 6, 16, 8, 79, 42, 180, 0, 9, 7, 17, 1, 0, 79, 177]
abbrev dktX2_begin_1 : List UInt8 := dkwX2_begin_1 ++ []
def dkwX2_begin_0 : List UInt8 := [42, 43, 181, 0, 29, 43, 3, 42, 180, 0, 9, 16, 108, 17, 1, 0, 184, 0, 64, 42, 180, 0, 9, 3]
abbrev dktX2_begin_0 : List UInt8 := dkwX2_begin_0 ++ dktX2_begin_1
theorem dksX2_begin_0 : cX2_begin.data.toList.drop 0 = dktX2_begin_0 := by decide +kernel
theorem dksX2_begin_1 : cX2_begin.data.toList.drop 24 = dktX2_begin_1 := dk_seg dksX2_begin_0 24 rfl rfl
theorem dX2_begin_0 : decode cX2_begin 0 = .ok (.aload_n 0, 1) := dk_42 (dk_at dksX2_begin_0 0 rfl rfl)
theorem dX2_begin_1 : decode cX2_begin 1 = .ok (.aload_n 1, 1) := dk_43 (dk_at dksX2_begin_0 1 rfl rfl)
theorem dX2_begin_2 : decode cX2_begin 2 = .ok (.putfield 29, 3) := dk_181 0 29 (dk_at dksX2_begin_0 2 rfl rfl)
theorem dX2_begin_5 : decode cX2_begin 5 = .ok (.aload_n 1, 1) := dk_43 (dk_at dksX2_begin_0 5 rfl rfl)
theorem dX2_begin_6 : decode cX2_begin 6 = .ok (.iconst 0, 1) := dk_3 (dk_at dksX2_begin_0 6 rfl rfl)
theorem dX2_begin_7 : decode cX2_begin 7 = .ok (.aload_n 0, 1) := dk_42 (dk_at dksX2_begin_0 7 rfl rfl)
theorem dX2_begin_8 : decode cX2_begin 8 = .ok (.getfield 9, 3) := dk_180 0 9 (dk_at dksX2_begin_0 8 rfl rfl)
theorem dX2_begin_11 : decode cX2_begin 11 = .ok (.bipush 108, 2) := dk_16 108 (dk_at dksX2_begin_0 11 rfl rfl)
theorem dX2_begin_13 : decode cX2_begin 13 = .ok (.sipush 256, 3) := dk_17 1 0 (dk_at dksX2_begin_0 13 rfl rfl)
theorem dX2_begin_16 : decode cX2_begin 16 = .ok (.invokestatic 64, 3) := dk_184 0 64 (dk_at dksX2_begin_0 16 rfl rfl)
theorem dX2_begin_19 : decode cX2_begin 19 = .ok (.aload_n 0, 1) := dk_42 (dk_at dksX2_begin_0 19 rfl rfl)
theorem dX2_begin_20 : decode cX2_begin 20 = .ok (.getfield 9, 3) := dk_180 0 9 (dk_at dksX2_begin_0 20 rfl rfl)
theorem dX2_begin_23 : decode cX2_begin 23 = .ok (.iconst 0, 1) := dk_3 (dk_at dksX2_begin_0 23 rfl rfl)
theorem dX2_begin_24 : decode cX2_begin 24 = .ok (.iconst 1, 1) := dk_4 (dk_at dksX2_begin_1 0 rfl rfl)
theorem dX2_begin_25 : decode cX2_begin 25 = .ok (.iastore, 1) := dk_79 (dk_at dksX2_begin_1 1 rfl rfl)
theorem dX2_begin_26 : decode cX2_begin 26 = .ok (.aload_n 0, 1) := dk_42 (dk_at dksX2_begin_1 2 rfl rfl)
theorem dX2_begin_27 : decode cX2_begin 27 = .ok (.getfield 9, 3) := dk_180 0 9 (dk_at dksX2_begin_1 3 rfl rfl)
theorem dX2_begin_30 : decode cX2_begin 30 = .ok (.iconst 3, 1) := dk_6 (dk_at dksX2_begin_1 6 rfl rfl)
theorem dX2_begin_31 : decode cX2_begin 31 = .ok (.bipush 8, 2) := dk_16 8 (dk_at dksX2_begin_1 7 rfl rfl)
theorem dX2_begin_33 : decode cX2_begin 33 = .ok (.iastore, 1) := dk_79 (dk_at dksX2_begin_1 9 rfl rfl)
theorem dX2_begin_34 : decode cX2_begin 34 = .ok (.aload_n 0, 1) := dk_42 (dk_at dksX2_begin_1 10 rfl rfl)
theorem dX2_begin_35 : decode cX2_begin 35 = .ok (.getfield 9, 3) := dk_180 0 9 (dk_at dksX2_begin_1 11 rfl rfl)
theorem dX2_begin_38 : decode cX2_begin 38 = .ok (.iconst 4, 1) := dk_7 (dk_at dksX2_begin_1 14 rfl rfl)
theorem dX2_begin_39 : decode cX2_begin 39 = .ok (.sipush 256, 3) := dk_17 1 0 (dk_at dksX2_begin_1 15 rfl rfl)
theorem dX2_begin_42 : decode cX2_begin 42 = .ok (.iastore, 1) := dk_79 (dk_at dksX2_begin_1 18 rfl rfl)
theorem dX2_begin_43 : decode cX2_begin 43 = .ok (.return_, 1) := dk_177 (dk_at dksX2_begin_1 19 rfl rfl)
abbrev cX2_crash : ByteArray := prog_16_method_10_code
def yX2_crash : MethodName := ⟨RX2, "crash", "()I"⟩
def dkwX2_crash_1 : List UInt8 := [132, 2, 1, 167, 255, 239, 42, 180, 0, 18, 182, 0, 82, 42, 180, 0, 25, 182, 0, 85, 27, 172]
abbrev dktX2_crash_1 : List UInt8 := dkwX2_crash_1 ++ []
def dkwX2_crash_0 : List UInt8 := [42, 180, 0, 9, 5, 46, 60, 3, 61, 28, 17, 1, 108, 162, 0, 16, 42, 180, 0, 9, 28, 3, 79]
abbrev dktX2_crash_0 : List UInt8 := dkwX2_crash_0 ++ dktX2_crash_1
theorem dksX2_crash_0 : cX2_crash.data.toList.drop 0 = dktX2_crash_0 := by decide +kernel
theorem dksX2_crash_1 : cX2_crash.data.toList.drop 23 = dktX2_crash_1 := dk_seg dksX2_crash_0 23 rfl rfl
theorem dX2_crash_0 : decode cX2_crash 0 = .ok (.aload_n 0, 1) := dk_42 (dk_at dksX2_crash_0 0 rfl rfl)
theorem dX2_crash_1 : decode cX2_crash 1 = .ok (.getfield 9, 3) := dk_180 0 9 (dk_at dksX2_crash_0 1 rfl rfl)
theorem dX2_crash_4 : decode cX2_crash 4 = .ok (.iconst 2, 1) := dk_5 (dk_at dksX2_crash_0 4 rfl rfl)
theorem dX2_crash_5 : decode cX2_crash 5 = .ok (.iaload, 1) := dk_46 (dk_at dksX2_crash_0 5 rfl rfl)
theorem dX2_crash_6 : decode cX2_crash 6 = .ok (.istore_n 1, 1) := dk_60 (dk_at dksX2_crash_0 6 rfl rfl)
theorem dX2_crash_7 : decode cX2_crash 7 = .ok (.iconst 0, 1) := dk_3 (dk_at dksX2_crash_0 7 rfl rfl)
theorem dX2_crash_8 : decode cX2_crash 8 = .ok (.istore_n 2, 1) := dk_61 (dk_at dksX2_crash_0 8 rfl rfl)
theorem dX2_crash_9 : decode cX2_crash 9 = .ok (.iload_n 2, 1) := dk_28 (dk_at dksX2_crash_0 9 rfl rfl)
theorem dX2_crash_10 : decode cX2_crash 10 = .ok (.sipush 364, 3) := dk_17 1 108 (dk_at dksX2_crash_0 10 rfl rfl)
theorem dX2_crash_13 : decode cX2_crash 13 = .ok (.if_icmp .ge 16, 3) := dk_162 0 16 (dk_at dksX2_crash_0 13 rfl rfl)
theorem dX2_crash_16 : decode cX2_crash 16 = .ok (.aload_n 0, 1) := dk_42 (dk_at dksX2_crash_0 16 rfl rfl)
theorem dX2_crash_17 : decode cX2_crash 17 = .ok (.getfield 9, 3) := dk_180 0 9 (dk_at dksX2_crash_0 17 rfl rfl)
theorem dX2_crash_20 : decode cX2_crash 20 = .ok (.iload_n 2, 1) := dk_28 (dk_at dksX2_crash_0 20 rfl rfl)
theorem dX2_crash_21 : decode cX2_crash 21 = .ok (.iconst 0, 1) := dk_3 (dk_at dksX2_crash_0 21 rfl rfl)
theorem dX2_crash_22 : decode cX2_crash 22 = .ok (.iastore, 1) := dk_79 (dk_at dksX2_crash_0 22 rfl rfl)
theorem dX2_crash_23 : decode cX2_crash 23 = .ok (.iinc 2 1, 3) := dk_132 2 1 (dk_at dksX2_crash_1 0 rfl rfl)
theorem dX2_crash_26 : decode cX2_crash 26 = .ok (.goto (-17), 3) := dk_167 255 239 (dk_at dksX2_crash_1 3 rfl rfl)
theorem dX2_crash_29 : decode cX2_crash 29 = .ok (.aload_n 0, 1) := dk_42 (dk_at dksX2_crash_1 6 rfl rfl)
theorem dX2_crash_30 : decode cX2_crash 30 = .ok (.getfield 18, 3) := dk_180 0 18 (dk_at dksX2_crash_1 7 rfl rfl)
theorem dX2_crash_33 : decode cX2_crash 33 = .ok (.invokevirtual 82, 3) := dk_182 0 82 (dk_at dksX2_crash_1 10 rfl rfl)
theorem dX2_crash_36 : decode cX2_crash 36 = .ok (.aload_n 0, 1) := dk_42 (dk_at dksX2_crash_1 13 rfl rfl)
theorem dX2_crash_37 : decode cX2_crash 37 = .ok (.getfield 25, 3) := dk_180 0 25 (dk_at dksX2_crash_1 14 rfl rfl)
theorem dX2_crash_40 : decode cX2_crash 40 = .ok (.invokevirtual 85, 3) := dk_182 0 85 (dk_at dksX2_crash_1 17 rfl rfl)
theorem dX2_crash_43 : decode cX2_crash 43 = .ok (.iload_n 1, 1) := dk_27 (dk_at dksX2_crash_1 20 rfl rfl)
theorem dX2_crash_44 : decode cX2_crash 44 = .ok (.ireturn, 1) := dk_172 (dk_at dksX2_crash_1 21 rfl rfl)
abbrev cX2_goesOn : ByteArray := prog_16_method_4_code
def yX2_goesOn : MethodName := ⟨RX2, "goesOn", "()Z"⟩
def dkwX2_goesOn_1 : List UInt8 := [167, 0, 4, 3, 172]
abbrev dktX2_goesOn_1 : List UInt8 := dkwX2_goesOn_1 ++ []
def dkwX2_goesOn_0 : List UInt8 := [42, 180, 0, 9, 3, 46, 4, 160, 0, 19, 42, 180, 0, 9, 5, 46, 17, 3, 232, 162, 0, 7, 4]
abbrev dktX2_goesOn_0 : List UInt8 := dkwX2_goesOn_0 ++ dktX2_goesOn_1
theorem dksX2_goesOn_0 : cX2_goesOn.data.toList.drop 0 = dktX2_goesOn_0 := by decide +kernel
theorem dksX2_goesOn_1 : cX2_goesOn.data.toList.drop 23 = dktX2_goesOn_1 := dk_seg dksX2_goesOn_0 23 rfl rfl
theorem dX2_goesOn_0 : decode cX2_goesOn 0 = .ok (.aload_n 0, 1) := dk_42 (dk_at dksX2_goesOn_0 0 rfl rfl)
theorem dX2_goesOn_1 : decode cX2_goesOn 1 = .ok (.getfield 9, 3) := dk_180 0 9 (dk_at dksX2_goesOn_0 1 rfl rfl)
theorem dX2_goesOn_4 : decode cX2_goesOn 4 = .ok (.iconst 0, 1) := dk_3 (dk_at dksX2_goesOn_0 4 rfl rfl)
theorem dX2_goesOn_5 : decode cX2_goesOn 5 = .ok (.iaload, 1) := dk_46 (dk_at dksX2_goesOn_0 5 rfl rfl)
theorem dX2_goesOn_6 : decode cX2_goesOn 6 = .ok (.iconst 1, 1) := dk_4 (dk_at dksX2_goesOn_0 6 rfl rfl)
theorem dX2_goesOn_7 : decode cX2_goesOn 7 = .ok (.if_icmp .ne 19, 3) := dk_160 0 19 (dk_at dksX2_goesOn_0 7 rfl rfl)
theorem dX2_goesOn_10 : decode cX2_goesOn 10 = .ok (.aload_n 0, 1) := dk_42 (dk_at dksX2_goesOn_0 10 rfl rfl)
theorem dX2_goesOn_11 : decode cX2_goesOn 11 = .ok (.getfield 9, 3) := dk_180 0 9 (dk_at dksX2_goesOn_0 11 rfl rfl)
theorem dX2_goesOn_14 : decode cX2_goesOn 14 = .ok (.iconst 2, 1) := dk_5 (dk_at dksX2_goesOn_0 14 rfl rfl)
theorem dX2_goesOn_15 : decode cX2_goesOn 15 = .ok (.iaload, 1) := dk_46 (dk_at dksX2_goesOn_0 15 rfl rfl)
theorem dX2_goesOn_16 : decode cX2_goesOn 16 = .ok (.sipush 1000, 3) := dk_17 3 232 (dk_at dksX2_goesOn_0 16 rfl rfl)
theorem dX2_goesOn_19 : decode cX2_goesOn 19 = .ok (.if_icmp .ge 7, 3) := dk_162 0 7 (dk_at dksX2_goesOn_0 19 rfl rfl)
theorem dX2_goesOn_22 : decode cX2_goesOn 22 = .ok (.iconst 1, 1) := dk_4 (dk_at dksX2_goesOn_0 22 rfl rfl)
theorem dX2_goesOn_23 : decode cX2_goesOn 23 = .ok (.goto 4, 3) := dk_167 0 4 (dk_at dksX2_goesOn_1 0 rfl rfl)
theorem dX2_goesOn_26 : decode cX2_goesOn 26 = .ok (.iconst 0, 1) := dk_3 (dk_at dksX2_goesOn_1 3 rfl rfl)
theorem dX2_goesOn_27 : decode cX2_goesOn 27 = .ok (.ireturn, 1) := dk_172 (dk_at dksX2_goesOn_1 4 rfl rfl)
abbrev cX2_make : ByteArray := prog_16_method_14_code
def yX2_make : MethodName := ⟨RX2, "make", "()V"⟩
def dkwX2_make_4 : List UInt8 := [42, 182, 0, 159, 42, 1, 181, 0, 50, 177]
abbrev dktX2_make_4 : List UInt8 := dkwX2_make_4 ++ []
def dkwX2_make_3 : List UInt8 := [5, 182, 0, 151, 167, 0, 20, 76, 42, 43, 193, 0, 155, 153, 0, 7, 6, 167, 0, 4, 7, 182, 0, 151]
abbrev dktX2_make_3 : List UInt8 := dkwX2_make_3 ++ dktX2_make_4
def dkwX2_make_2 : List UInt8 := [182, 0, 141, 87, 42, 182, 0, 144, 167, 0, 40, 76, 42, 43, 193, 0, 147, 153, 0, 7, 4, 167, 0, 4]
abbrev dktX2_make_2 : List UInt8 := dkwX2_make_2 ++ dktX2_make_3
def dkwX2_make_1 : List UInt8 := [180, 0, 50, 182, 0, 137, 42, 180, 0, 25, 182, 0, 140, 17, 0, 200, 164, 0, 11, 42, 180, 0, 25]
abbrev dktX2_make_1 : List UInt8 := dkwX2_make_1 ++ dktX2_make_2
def dkwX2_make_0 : List UInt8 := [42, 180, 0, 43, 153, 0, 46, 42, 187, 0, 55, 89, 183, 0, 136, 181, 0, 50, 42, 180, 0, 25, 42]
abbrev dktX2_make_0 : List UInt8 := dkwX2_make_0 ++ dktX2_make_1
theorem dksX2_make_0 : cX2_make.data.toList.drop 0 = dktX2_make_0 := by decide +kernel
theorem dksX2_make_1 : cX2_make.data.toList.drop 23 = dktX2_make_1 := dk_seg dksX2_make_0 23 rfl rfl
theorem dksX2_make_2 : cX2_make.data.toList.drop 46 = dktX2_make_2 := dk_seg dksX2_make_1 23 rfl rfl
theorem dksX2_make_3 : cX2_make.data.toList.drop 70 = dktX2_make_3 := dk_seg dksX2_make_2 24 rfl rfl
theorem dksX2_make_4 : cX2_make.data.toList.drop 94 = dktX2_make_4 := dk_seg dksX2_make_3 24 rfl rfl
theorem dX2_make_0 : decode cX2_make 0 = .ok (.aload_n 0, 1) := dk_42 (dk_at dksX2_make_0 0 rfl rfl)
theorem dX2_make_1 : decode cX2_make 1 = .ok (.getfield 43, 3) := dk_180 0 43 (dk_at dksX2_make_0 1 rfl rfl)
theorem dX2_make_4 : decode cX2_make 4 = .ok (.ifCond .eq 46, 3) := dk_153 0 46 (dk_at dksX2_make_0 4 rfl rfl)
theorem dX2_make_7 : decode cX2_make 7 = .ok (.aload_n 0, 1) := dk_42 (dk_at dksX2_make_0 7 rfl rfl)
theorem dX2_make_8 : decode cX2_make 8 = .ok (.new 55, 3) := dk_187 0 55 (dk_at dksX2_make_0 8 rfl rfl)
theorem dX2_make_11 : decode cX2_make 11 = .ok (.dup, 1) := dk_89 (dk_at dksX2_make_0 11 rfl rfl)
theorem dX2_make_12 : decode cX2_make 12 = .ok (.invokespecial 136, 3) := dk_183 0 136 (dk_at dksX2_make_0 12 rfl rfl)
theorem dX2_make_15 : decode cX2_make 15 = .ok (.putfield 50, 3) := dk_181 0 50 (dk_at dksX2_make_0 15 rfl rfl)
theorem dX2_make_18 : decode cX2_make 18 = .ok (.aload_n 0, 1) := dk_42 (dk_at dksX2_make_0 18 rfl rfl)
theorem dX2_make_19 : decode cX2_make 19 = .ok (.getfield 25, 3) := dk_180 0 25 (dk_at dksX2_make_0 19 rfl rfl)
theorem dX2_make_22 : decode cX2_make 22 = .ok (.aload_n 0, 1) := dk_42 (dk_at dksX2_make_0 22 rfl rfl)
theorem dX2_make_23 : decode cX2_make 23 = .ok (.getfield 50, 3) := dk_180 0 50 (dk_at dksX2_make_1 0 rfl rfl)
theorem dX2_make_26 : decode cX2_make 26 = .ok (.invokevirtual 137, 3) := dk_182 0 137 (dk_at dksX2_make_1 3 rfl rfl)
theorem dX2_make_29 : decode cX2_make 29 = .ok (.aload_n 0, 1) := dk_42 (dk_at dksX2_make_1 6 rfl rfl)
theorem dX2_make_30 : decode cX2_make 30 = .ok (.getfield 25, 3) := dk_180 0 25 (dk_at dksX2_make_1 7 rfl rfl)
theorem dX2_make_33 : decode cX2_make 33 = .ok (.invokevirtual 140, 3) := dk_182 0 140 (dk_at dksX2_make_1 10 rfl rfl)
theorem dX2_make_36 : decode cX2_make 36 = .ok (.sipush 200, 3) := dk_17 0 200 (dk_at dksX2_make_1 13 rfl rfl)
theorem dX2_make_39 : decode cX2_make 39 = .ok (.if_icmp .le 11, 3) := dk_164 0 11 (dk_at dksX2_make_1 16 rfl rfl)
theorem dX2_make_42 : decode cX2_make 42 = .ok (.aload_n 0, 1) := dk_42 (dk_at dksX2_make_1 19 rfl rfl)
theorem dX2_make_43 : decode cX2_make 43 = .ok (.getfield 25, 3) := dk_180 0 25 (dk_at dksX2_make_1 20 rfl rfl)
theorem dX2_make_46 : decode cX2_make 46 = .ok (.invokevirtual 141, 3) := dk_182 0 141 (dk_at dksX2_make_2 0 rfl rfl)
theorem dX2_make_49 : decode cX2_make 49 = .ok (.pop, 1) := dk_87 (dk_at dksX2_make_2 3 rfl rfl)
theorem dX2_make_50 : decode cX2_make 50 = .ok (.aload_n 0, 1) := dk_42 (dk_at dksX2_make_2 4 rfl rfl)
theorem dX2_make_51 : decode cX2_make 51 = .ok (.invokevirtual 144, 3) := dk_182 0 144 (dk_at dksX2_make_2 5 rfl rfl)
theorem dX2_make_54 : decode cX2_make 54 = .ok (.goto 40, 3) := dk_167 0 40 (dk_at dksX2_make_2 8 rfl rfl)
theorem dX2_make_57 : decode cX2_make 57 = .ok (.astore_n 1, 1) := dk_76 (dk_at dksX2_make_2 11 rfl rfl)
theorem dX2_make_58 : decode cX2_make 58 = .ok (.aload_n 0, 1) := dk_42 (dk_at dksX2_make_2 12 rfl rfl)
theorem dX2_make_59 : decode cX2_make 59 = .ok (.aload_n 1, 1) := dk_43 (dk_at dksX2_make_2 13 rfl rfl)
theorem dX2_make_60 : decode cX2_make 60 = .ok (.instanceof 147, 3) := dk_193 0 147 (dk_at dksX2_make_2 14 rfl rfl)
theorem dX2_make_63 : decode cX2_make 63 = .ok (.ifCond .eq 7, 3) := dk_153 0 7 (dk_at dksX2_make_2 17 rfl rfl)
theorem dX2_make_66 : decode cX2_make 66 = .ok (.iconst 1, 1) := dk_4 (dk_at dksX2_make_2 20 rfl rfl)
theorem dX2_make_67 : decode cX2_make 67 = .ok (.goto 4, 3) := dk_167 0 4 (dk_at dksX2_make_2 21 rfl rfl)
theorem dX2_make_70 : decode cX2_make 70 = .ok (.iconst 2, 1) := dk_5 (dk_at dksX2_make_3 0 rfl rfl)
theorem dX2_make_71 : decode cX2_make 71 = .ok (.invokevirtual 151, 3) := dk_182 0 151 (dk_at dksX2_make_3 1 rfl rfl)
theorem dX2_make_74 : decode cX2_make 74 = .ok (.goto 20, 3) := dk_167 0 20 (dk_at dksX2_make_3 4 rfl rfl)
theorem dX2_make_77 : decode cX2_make 77 = .ok (.astore_n 1, 1) := dk_76 (dk_at dksX2_make_3 7 rfl rfl)
theorem dX2_make_78 : decode cX2_make 78 = .ok (.aload_n 0, 1) := dk_42 (dk_at dksX2_make_3 8 rfl rfl)
theorem dX2_make_79 : decode cX2_make 79 = .ok (.aload_n 1, 1) := dk_43 (dk_at dksX2_make_3 9 rfl rfl)
theorem dX2_make_80 : decode cX2_make 80 = .ok (.instanceof 155, 3) := dk_193 0 155 (dk_at dksX2_make_3 10 rfl rfl)
theorem dX2_make_83 : decode cX2_make 83 = .ok (.ifCond .eq 7, 3) := dk_153 0 7 (dk_at dksX2_make_3 13 rfl rfl)
theorem dX2_make_86 : decode cX2_make 86 = .ok (.iconst 3, 1) := dk_6 (dk_at dksX2_make_3 16 rfl rfl)
theorem dX2_make_87 : decode cX2_make 87 = .ok (.goto 4, 3) := dk_167 0 4 (dk_at dksX2_make_3 17 rfl rfl)
theorem dX2_make_90 : decode cX2_make 90 = .ok (.iconst 4, 1) := dk_7 (dk_at dksX2_make_3 20 rfl rfl)
theorem dX2_make_91 : decode cX2_make 91 = .ok (.invokevirtual 151, 3) := dk_182 0 151 (dk_at dksX2_make_3 21 rfl rfl)
theorem dX2_make_94 : decode cX2_make 94 = .ok (.aload_n 0, 1) := dk_42 (dk_at dksX2_make_4 0 rfl rfl)
theorem dX2_make_95 : decode cX2_make 95 = .ok (.invokevirtual 159, 3) := dk_182 0 159 (dk_at dksX2_make_4 1 rfl rfl)
theorem dX2_make_98 : decode cX2_make 98 = .ok (.aload_n 0, 1) := dk_42 (dk_at dksX2_make_4 4 rfl rfl)
theorem dX2_make_99 : decode cX2_make 99 = .ok (.aconst_null, 1) := dk_1 (dk_at dksX2_make_4 5 rfl rfl)
theorem dX2_make_100 : decode cX2_make 100 = .ok (.putfield 50, 3) := dk_181 0 50 (dk_at dksX2_make_4 6 rfl rfl)
theorem dX2_make_103 : decode cX2_make 103 = .ok (.return_, 1) := dk_177 (dk_at dksX2_make_4 9 rfl rfl)
abbrev cX2_act : ByteArray := prog_16_method_18_code
def yX2_act : MethodName := ⟨RX2, "act", "()V"⟩
def dkwX2_act_1 : List UInt8 := [4, 160, 0, 17, 42, 182, 0, 165, 153, 0, 10, 42, 182, 0, 168, 167, 0, 7, 42, 182, 0, 171, 177]
abbrev dktX2_act_1 : List UInt8 := dkwX2_act_1 ++ []
def dkwX2_act_0 : List UInt8 := [42, 180, 0, 9, 16, 18, 46, 158, 0, 10, 42, 182, 0, 162, 167, 0, 32, 42, 180, 0, 9, 16, 7, 46]
abbrev dktX2_act_0 : List UInt8 := dkwX2_act_0 ++ dktX2_act_1
theorem dksX2_act_0 : cX2_act.data.toList.drop 0 = dktX2_act_0 := by decide +kernel
theorem dksX2_act_1 : cX2_act.data.toList.drop 24 = dktX2_act_1 := dk_seg dksX2_act_0 24 rfl rfl
theorem dX2_act_0 : decode cX2_act 0 = .ok (.aload_n 0, 1) := dk_42 (dk_at dksX2_act_0 0 rfl rfl)
theorem dX2_act_1 : decode cX2_act 1 = .ok (.getfield 9, 3) := dk_180 0 9 (dk_at dksX2_act_0 1 rfl rfl)
theorem dX2_act_4 : decode cX2_act 4 = .ok (.bipush 18, 2) := dk_16 18 (dk_at dksX2_act_0 4 rfl rfl)
theorem dX2_act_6 : decode cX2_act 6 = .ok (.iaload, 1) := dk_46 (dk_at dksX2_act_0 6 rfl rfl)
theorem dX2_act_7 : decode cX2_act 7 = .ok (.ifCond .le 10, 3) := dk_158 0 10 (dk_at dksX2_act_0 7 rfl rfl)
theorem dX2_act_10 : decode cX2_act 10 = .ok (.aload_n 0, 1) := dk_42 (dk_at dksX2_act_0 10 rfl rfl)
theorem dX2_act_11 : decode cX2_act 11 = .ok (.invokevirtual 162, 3) := dk_182 0 162 (dk_at dksX2_act_0 11 rfl rfl)
theorem dX2_act_14 : decode cX2_act 14 = .ok (.goto 32, 3) := dk_167 0 32 (dk_at dksX2_act_0 14 rfl rfl)
theorem dX2_act_17 : decode cX2_act 17 = .ok (.aload_n 0, 1) := dk_42 (dk_at dksX2_act_0 17 rfl rfl)
theorem dX2_act_18 : decode cX2_act 18 = .ok (.getfield 9, 3) := dk_180 0 9 (dk_at dksX2_act_0 18 rfl rfl)
theorem dX2_act_21 : decode cX2_act 21 = .ok (.bipush 7, 2) := dk_16 7 (dk_at dksX2_act_0 21 rfl rfl)
theorem dX2_act_23 : decode cX2_act 23 = .ok (.iaload, 1) := dk_46 (dk_at dksX2_act_0 23 rfl rfl)
theorem dX2_act_24 : decode cX2_act 24 = .ok (.iconst 1, 1) := dk_4 (dk_at dksX2_act_1 0 rfl rfl)
theorem dX2_act_25 : decode cX2_act 25 = .ok (.if_icmp .ne 17, 3) := dk_160 0 17 (dk_at dksX2_act_1 1 rfl rfl)
theorem dX2_act_28 : decode cX2_act 28 = .ok (.aload_n 0, 1) := dk_42 (dk_at dksX2_act_1 4 rfl rfl)
theorem dX2_act_29 : decode cX2_act 29 = .ok (.invokevirtual 165, 3) := dk_182 0 165 (dk_at dksX2_act_1 5 rfl rfl)
theorem dX2_act_32 : decode cX2_act 32 = .ok (.ifCond .eq 10, 3) := dk_153 0 10 (dk_at dksX2_act_1 8 rfl rfl)
theorem dX2_act_35 : decode cX2_act 35 = .ok (.aload_n 0, 1) := dk_42 (dk_at dksX2_act_1 11 rfl rfl)
theorem dX2_act_36 : decode cX2_act 36 = .ok (.invokevirtual 168, 3) := dk_182 0 168 (dk_at dksX2_act_1 12 rfl rfl)
theorem dX2_act_39 : decode cX2_act 39 = .ok (.goto 7, 3) := dk_167 0 7 (dk_at dksX2_act_1 15 rfl rfl)
theorem dX2_act_42 : decode cX2_act 42 = .ok (.aload_n 0, 1) := dk_42 (dk_at dksX2_act_1 18 rfl rfl)
theorem dX2_act_43 : decode cX2_act 43 = .ok (.invokevirtual 171, 3) := dk_182 0 171 (dk_at dksX2_act_1 19 rfl rfl)
theorem dX2_act_46 : decode cX2_act 46 = .ok (.return_, 1) := dk_177 (dk_at dksX2_act_1 22 rfl rfl)
abbrev cX2_write : ByteArray := prog_16_method_46_code
def yX2_write : MethodName := ⟨RX2, "write", "()V"⟩
def dkwX2_write_6 : List UInt8 := [182, 0, 133, 42, 6, 42, 180, 0, 9, 6, 46, 5, 96, 182, 0, 133, 177]
abbrev dktX2_write_6 : List UInt8 := dkwX2_write_6 ++ []
def dkwX2_write_5 : List UInt8 := [182, 0, 133, 28, 5, 27, 104, 4, 96, 160, 0, 30, 42, 16, 18, 3, 182, 0, 133, 42, 16, 15, 3]
abbrev dktX2_write_5 : List UInt8 := dkwX2_write_5 ++ dktX2_write_6
def dkwX2_write_4 : List UInt8 := [42, 17, 1, 108, 42, 180, 0, 9, 17, 1, 108, 46, 4, 96, 182, 0, 133, 42, 16, 19, 28, 4, 96]
abbrev dktX2_write_4 : List UInt8 := dkwX2_write_4 ++ dktX2_write_5
def dkwX2_write_3 : List UInt8 := [4, 100, 104, 96, 182, 1, 3, 167, 0, 17, 42, 28, 27, 160, 0, 7, 27, 167, 0, 4, 3, 182, 1, 6]
abbrev dktX2_write_3 : List UInt8 := dkwX2_write_3 ++ dktX2_write_4
def dkwX2_write_2 : List UInt8 := [163, 0, 34, 42, 42, 180, 0, 9, 16, 20, 28, 96, 27, 100, 4, 100, 46, 16, 24, 16, 8, 28, 27, 100]
abbrev dktX2_write_2 : List UInt8 := dkwX2_write_2 ++ dktX2_write_3
def dkwX2_write_1 : List UInt8 := [96, 16, 24, 16, 8, 28, 104, 96, 182, 1, 3, 167, 0, 60, 28, 27, 164, 0, 41, 28, 5, 27, 104]
abbrev dktX2_write_1 : List UInt8 := dkwX2_write_1 ++ dktX2_write_2
def dkwX2_write_0 : List UInt8 := [42, 180, 0, 9, 16, 18, 46, 60, 42, 180, 0, 9, 16, 19, 46, 61, 28, 27, 162, 0, 20, 42, 4, 28]
abbrev dktX2_write_0 : List UInt8 := dkwX2_write_0 ++ dktX2_write_1
theorem dksX2_write_0 : cX2_write.data.toList.drop 0 = dktX2_write_0 := by decide +kernel
theorem dksX2_write_1 : cX2_write.data.toList.drop 24 = dktX2_write_1 := dk_seg dksX2_write_0 24 rfl rfl
theorem dksX2_write_2 : cX2_write.data.toList.drop 47 = dktX2_write_2 := dk_seg dksX2_write_1 23 rfl rfl
theorem dksX2_write_3 : cX2_write.data.toList.drop 71 = dktX2_write_3 := dk_seg dksX2_write_2 24 rfl rfl
theorem dksX2_write_4 : cX2_write.data.toList.drop 95 = dktX2_write_4 := dk_seg dksX2_write_3 24 rfl rfl
theorem dksX2_write_5 : cX2_write.data.toList.drop 118 = dktX2_write_5 := dk_seg dksX2_write_4 23 rfl rfl
theorem dksX2_write_6 : cX2_write.data.toList.drop 141 = dktX2_write_6 := dk_seg dksX2_write_5 23 rfl rfl
theorem dX2_write_0 : decode cX2_write 0 = .ok (.aload_n 0, 1) := dk_42 (dk_at dksX2_write_0 0 rfl rfl)
theorem dX2_write_1 : decode cX2_write 1 = .ok (.getfield 9, 3) := dk_180 0 9 (dk_at dksX2_write_0 1 rfl rfl)
theorem dX2_write_4 : decode cX2_write 4 = .ok (.bipush 18, 2) := dk_16 18 (dk_at dksX2_write_0 4 rfl rfl)
theorem dX2_write_6 : decode cX2_write 6 = .ok (.iaload, 1) := dk_46 (dk_at dksX2_write_0 6 rfl rfl)
theorem dX2_write_7 : decode cX2_write 7 = .ok (.istore_n 1, 1) := dk_60 (dk_at dksX2_write_0 7 rfl rfl)
theorem dX2_write_8 : decode cX2_write 8 = .ok (.aload_n 0, 1) := dk_42 (dk_at dksX2_write_0 8 rfl rfl)
theorem dX2_write_9 : decode cX2_write 9 = .ok (.getfield 9, 3) := dk_180 0 9 (dk_at dksX2_write_0 9 rfl rfl)
theorem dX2_write_12 : decode cX2_write 12 = .ok (.bipush 19, 2) := dk_16 19 (dk_at dksX2_write_0 12 rfl rfl)
theorem dX2_write_14 : decode cX2_write 14 = .ok (.iaload, 1) := dk_46 (dk_at dksX2_write_0 14 rfl rfl)
theorem dX2_write_15 : decode cX2_write 15 = .ok (.istore_n 2, 1) := dk_61 (dk_at dksX2_write_0 15 rfl rfl)
theorem dX2_write_16 : decode cX2_write 16 = .ok (.iload_n 2, 1) := dk_28 (dk_at dksX2_write_0 16 rfl rfl)
theorem dX2_write_17 : decode cX2_write 17 = .ok (.iload_n 1, 1) := dk_27 (dk_at dksX2_write_0 17 rfl rfl)
theorem dX2_write_18 : decode cX2_write 18 = .ok (.if_icmp .ge 20, 3) := dk_162 0 20 (dk_at dksX2_write_0 18 rfl rfl)
theorem dX2_write_21 : decode cX2_write 21 = .ok (.aload_n 0, 1) := dk_42 (dk_at dksX2_write_0 21 rfl rfl)
theorem dX2_write_22 : decode cX2_write 22 = .ok (.iconst 1, 1) := dk_4 (dk_at dksX2_write_0 22 rfl rfl)
theorem dX2_write_23 : decode cX2_write 23 = .ok (.iload_n 2, 1) := dk_28 (dk_at dksX2_write_0 23 rfl rfl)
theorem dX2_write_24 : decode cX2_write 24 = .ok (.iadd, 1) := dk_96 (dk_at dksX2_write_1 0 rfl rfl)
theorem dX2_write_25 : decode cX2_write 25 = .ok (.bipush 24, 2) := dk_16 24 (dk_at dksX2_write_1 1 rfl rfl)
theorem dX2_write_27 : decode cX2_write 27 = .ok (.bipush 8, 2) := dk_16 8 (dk_at dksX2_write_1 3 rfl rfl)
theorem dX2_write_29 : decode cX2_write 29 = .ok (.iload_n 2, 1) := dk_28 (dk_at dksX2_write_1 5 rfl rfl)
theorem dX2_write_30 : decode cX2_write 30 = .ok (.imul, 1) := dk_104 (dk_at dksX2_write_1 6 rfl rfl)
theorem dX2_write_31 : decode cX2_write 31 = .ok (.iadd, 1) := dk_96 (dk_at dksX2_write_1 7 rfl rfl)
theorem dX2_write_32 : decode cX2_write 32 = .ok (.invokevirtual 259, 3) := dk_182 1 3 (dk_at dksX2_write_1 8 rfl rfl)
theorem dX2_write_35 : decode cX2_write 35 = .ok (.goto 60, 3) := dk_167 0 60 (dk_at dksX2_write_1 11 rfl rfl)
theorem dX2_write_38 : decode cX2_write 38 = .ok (.iload_n 2, 1) := dk_28 (dk_at dksX2_write_1 14 rfl rfl)
theorem dX2_write_39 : decode cX2_write 39 = .ok (.iload_n 1, 1) := dk_27 (dk_at dksX2_write_1 15 rfl rfl)
theorem dX2_write_40 : decode cX2_write 40 = .ok (.if_icmp .le 41, 3) := dk_164 0 41 (dk_at dksX2_write_1 16 rfl rfl)
theorem dX2_write_43 : decode cX2_write 43 = .ok (.iload_n 2, 1) := dk_28 (dk_at dksX2_write_1 19 rfl rfl)
theorem dX2_write_44 : decode cX2_write 44 = .ok (.iconst 2, 1) := dk_5 (dk_at dksX2_write_1 20 rfl rfl)
theorem dX2_write_45 : decode cX2_write 45 = .ok (.iload_n 1, 1) := dk_27 (dk_at dksX2_write_1 21 rfl rfl)
theorem dX2_write_46 : decode cX2_write 46 = .ok (.imul, 1) := dk_104 (dk_at dksX2_write_1 22 rfl rfl)
theorem dX2_write_47 : decode cX2_write 47 = .ok (.if_icmp .gt 34, 3) := dk_163 0 34 (dk_at dksX2_write_2 0 rfl rfl)
theorem dX2_write_50 : decode cX2_write 50 = .ok (.aload_n 0, 1) := dk_42 (dk_at dksX2_write_2 3 rfl rfl)
theorem dX2_write_51 : decode cX2_write 51 = .ok (.aload_n 0, 1) := dk_42 (dk_at dksX2_write_2 4 rfl rfl)
theorem dX2_write_52 : decode cX2_write 52 = .ok (.getfield 9, 3) := dk_180 0 9 (dk_at dksX2_write_2 5 rfl rfl)
theorem dX2_write_55 : decode cX2_write 55 = .ok (.bipush 20, 2) := dk_16 20 (dk_at dksX2_write_2 8 rfl rfl)
theorem dX2_write_57 : decode cX2_write 57 = .ok (.iload_n 2, 1) := dk_28 (dk_at dksX2_write_2 10 rfl rfl)
theorem dX2_write_58 : decode cX2_write 58 = .ok (.iadd, 1) := dk_96 (dk_at dksX2_write_2 11 rfl rfl)
theorem dX2_write_59 : decode cX2_write 59 = .ok (.iload_n 1, 1) := dk_27 (dk_at dksX2_write_2 12 rfl rfl)
theorem dX2_write_60 : decode cX2_write 60 = .ok (.isub, 1) := dk_100 (dk_at dksX2_write_2 13 rfl rfl)
theorem dX2_write_61 : decode cX2_write 61 = .ok (.iconst 1, 1) := dk_4 (dk_at dksX2_write_2 14 rfl rfl)
theorem dX2_write_62 : decode cX2_write 62 = .ok (.isub, 1) := dk_100 (dk_at dksX2_write_2 15 rfl rfl)
theorem dX2_write_63 : decode cX2_write 63 = .ok (.iaload, 1) := dk_46 (dk_at dksX2_write_2 16 rfl rfl)
theorem dX2_write_64 : decode cX2_write 64 = .ok (.bipush 24, 2) := dk_16 24 (dk_at dksX2_write_2 17 rfl rfl)
theorem dX2_write_66 : decode cX2_write 66 = .ok (.bipush 8, 2) := dk_16 8 (dk_at dksX2_write_2 19 rfl rfl)
theorem dX2_write_68 : decode cX2_write 68 = .ok (.iload_n 2, 1) := dk_28 (dk_at dksX2_write_2 21 rfl rfl)
theorem dX2_write_69 : decode cX2_write 69 = .ok (.iload_n 1, 1) := dk_27 (dk_at dksX2_write_2 22 rfl rfl)
theorem dX2_write_70 : decode cX2_write 70 = .ok (.isub, 1) := dk_100 (dk_at dksX2_write_2 23 rfl rfl)
theorem dX2_write_71 : decode cX2_write 71 = .ok (.iconst 1, 1) := dk_4 (dk_at dksX2_write_3 0 rfl rfl)
theorem dX2_write_72 : decode cX2_write 72 = .ok (.isub, 1) := dk_100 (dk_at dksX2_write_3 1 rfl rfl)
theorem dX2_write_73 : decode cX2_write 73 = .ok (.imul, 1) := dk_104 (dk_at dksX2_write_3 2 rfl rfl)
theorem dX2_write_74 : decode cX2_write 74 = .ok (.iadd, 1) := dk_96 (dk_at dksX2_write_3 3 rfl rfl)
theorem dX2_write_75 : decode cX2_write 75 = .ok (.invokevirtual 259, 3) := dk_182 1 3 (dk_at dksX2_write_3 4 rfl rfl)
theorem dX2_write_78 : decode cX2_write 78 = .ok (.goto 17, 3) := dk_167 0 17 (dk_at dksX2_write_3 7 rfl rfl)
theorem dX2_write_81 : decode cX2_write 81 = .ok (.aload_n 0, 1) := dk_42 (dk_at dksX2_write_3 10 rfl rfl)
theorem dX2_write_82 : decode cX2_write 82 = .ok (.iload_n 2, 1) := dk_28 (dk_at dksX2_write_3 11 rfl rfl)
theorem dX2_write_83 : decode cX2_write 83 = .ok (.iload_n 1, 1) := dk_27 (dk_at dksX2_write_3 12 rfl rfl)
theorem dX2_write_84 : decode cX2_write 84 = .ok (.if_icmp .ne 7, 3) := dk_160 0 7 (dk_at dksX2_write_3 13 rfl rfl)
theorem dX2_write_87 : decode cX2_write 87 = .ok (.iload_n 1, 1) := dk_27 (dk_at dksX2_write_3 16 rfl rfl)
theorem dX2_write_88 : decode cX2_write 88 = .ok (.goto 4, 3) := dk_167 0 4 (dk_at dksX2_write_3 17 rfl rfl)
theorem dX2_write_91 : decode cX2_write 91 = .ok (.iconst 0, 1) := dk_3 (dk_at dksX2_write_3 20 rfl rfl)
theorem dX2_write_92 : decode cX2_write 92 = .ok (.invokevirtual 262, 3) := dk_182 1 6 (dk_at dksX2_write_3 21 rfl rfl)
theorem dX2_write_95 : decode cX2_write 95 = .ok (.aload_n 0, 1) := dk_42 (dk_at dksX2_write_4 0 rfl rfl)
theorem dX2_write_96 : decode cX2_write 96 = .ok (.sipush 364, 3) := dk_17 1 108 (dk_at dksX2_write_4 1 rfl rfl)
theorem dX2_write_99 : decode cX2_write 99 = .ok (.aload_n 0, 1) := dk_42 (dk_at dksX2_write_4 4 rfl rfl)
theorem dX2_write_100 : decode cX2_write 100 = .ok (.getfield 9, 3) := dk_180 0 9 (dk_at dksX2_write_4 5 rfl rfl)
theorem dX2_write_103 : decode cX2_write 103 = .ok (.sipush 364, 3) := dk_17 1 108 (dk_at dksX2_write_4 8 rfl rfl)
theorem dX2_write_106 : decode cX2_write 106 = .ok (.iaload, 1) := dk_46 (dk_at dksX2_write_4 11 rfl rfl)
theorem dX2_write_107 : decode cX2_write 107 = .ok (.iconst 1, 1) := dk_4 (dk_at dksX2_write_4 12 rfl rfl)
theorem dX2_write_108 : decode cX2_write 108 = .ok (.iadd, 1) := dk_96 (dk_at dksX2_write_4 13 rfl rfl)
theorem dX2_write_109 : decode cX2_write 109 = .ok (.invokevirtual 133, 3) := dk_182 0 133 (dk_at dksX2_write_4 14 rfl rfl)
theorem dX2_write_112 : decode cX2_write 112 = .ok (.aload_n 0, 1) := dk_42 (dk_at dksX2_write_4 17 rfl rfl)
theorem dX2_write_113 : decode cX2_write 113 = .ok (.bipush 19, 2) := dk_16 19 (dk_at dksX2_write_4 18 rfl rfl)
theorem dX2_write_115 : decode cX2_write 115 = .ok (.iload_n 2, 1) := dk_28 (dk_at dksX2_write_4 20 rfl rfl)
theorem dX2_write_116 : decode cX2_write 116 = .ok (.iconst 1, 1) := dk_4 (dk_at dksX2_write_4 21 rfl rfl)
theorem dX2_write_117 : decode cX2_write 117 = .ok (.iadd, 1) := dk_96 (dk_at dksX2_write_4 22 rfl rfl)
theorem dX2_write_118 : decode cX2_write 118 = .ok (.invokevirtual 133, 3) := dk_182 0 133 (dk_at dksX2_write_5 0 rfl rfl)
theorem dX2_write_121 : decode cX2_write 121 = .ok (.iload_n 2, 1) := dk_28 (dk_at dksX2_write_5 3 rfl rfl)
theorem dX2_write_122 : decode cX2_write 122 = .ok (.iconst 2, 1) := dk_5 (dk_at dksX2_write_5 4 rfl rfl)
theorem dX2_write_123 : decode cX2_write 123 = .ok (.iload_n 1, 1) := dk_27 (dk_at dksX2_write_5 5 rfl rfl)
theorem dX2_write_124 : decode cX2_write 124 = .ok (.imul, 1) := dk_104 (dk_at dksX2_write_5 6 rfl rfl)
theorem dX2_write_125 : decode cX2_write 125 = .ok (.iconst 1, 1) := dk_4 (dk_at dksX2_write_5 7 rfl rfl)
theorem dX2_write_126 : decode cX2_write 126 = .ok (.iadd, 1) := dk_96 (dk_at dksX2_write_5 8 rfl rfl)
theorem dX2_write_127 : decode cX2_write 127 = .ok (.if_icmp .ne 30, 3) := dk_160 0 30 (dk_at dksX2_write_5 9 rfl rfl)
theorem dX2_write_130 : decode cX2_write 130 = .ok (.aload_n 0, 1) := dk_42 (dk_at dksX2_write_5 12 rfl rfl)
theorem dX2_write_131 : decode cX2_write 131 = .ok (.bipush 18, 2) := dk_16 18 (dk_at dksX2_write_5 13 rfl rfl)
theorem dX2_write_133 : decode cX2_write 133 = .ok (.iconst 0, 1) := dk_3 (dk_at dksX2_write_5 15 rfl rfl)
theorem dX2_write_134 : decode cX2_write 134 = .ok (.invokevirtual 133, 3) := dk_182 0 133 (dk_at dksX2_write_5 16 rfl rfl)
theorem dX2_write_137 : decode cX2_write 137 = .ok (.aload_n 0, 1) := dk_42 (dk_at dksX2_write_5 19 rfl rfl)
theorem dX2_write_138 : decode cX2_write 138 = .ok (.bipush 15, 2) := dk_16 15 (dk_at dksX2_write_5 20 rfl rfl)
theorem dX2_write_140 : decode cX2_write 140 = .ok (.iconst 0, 1) := dk_3 (dk_at dksX2_write_5 22 rfl rfl)
theorem dX2_write_141 : decode cX2_write 141 = .ok (.invokevirtual 133, 3) := dk_182 0 133 (dk_at dksX2_write_6 0 rfl rfl)
theorem dX2_write_144 : decode cX2_write 144 = .ok (.aload_n 0, 1) := dk_42 (dk_at dksX2_write_6 3 rfl rfl)
theorem dX2_write_145 : decode cX2_write 145 = .ok (.iconst 3, 1) := dk_6 (dk_at dksX2_write_6 4 rfl rfl)
theorem dX2_write_146 : decode cX2_write 146 = .ok (.aload_n 0, 1) := dk_42 (dk_at dksX2_write_6 5 rfl rfl)
theorem dX2_write_147 : decode cX2_write 147 = .ok (.getfield 9, 3) := dk_180 0 9 (dk_at dksX2_write_6 6 rfl rfl)
theorem dX2_write_150 : decode cX2_write 150 = .ok (.iconst 3, 1) := dk_6 (dk_at dksX2_write_6 9 rfl rfl)
theorem dX2_write_151 : decode cX2_write 151 = .ok (.iaload, 1) := dk_46 (dk_at dksX2_write_6 10 rfl rfl)
theorem dX2_write_152 : decode cX2_write 152 = .ok (.iconst 2, 1) := dk_5 (dk_at dksX2_write_6 11 rfl rfl)
theorem dX2_write_153 : decode cX2_write 153 = .ok (.iadd, 1) := dk_96 (dk_at dksX2_write_6 12 rfl rfl)
theorem dX2_write_154 : decode cX2_write 154 = .ok (.invokevirtual 133, 3) := dk_182 0 133 (dk_at dksX2_write_6 13 rfl rfl)
theorem dX2_write_157 : decode cX2_write 157 = .ok (.return_, 1) := dk_177 (dk_at dksX2_write_6 16 rfl rfl)
abbrev cX2_writeBlock : ByteArray := prog_16_method_44_code
def yX2_writeBlock : MethodName := ⟨RX2, "writeBlock", "(II)V"⟩
def dkwX2_writeBlock_1 : List UInt8 := [29, 96, 46, 182, 0, 133, 132, 3, 1, 167, 255, 225, 177]
abbrev dktX2_writeBlock_1 : List UInt8 := dkwX2_writeBlock_1 ++ []
def dkwX2_writeBlock_0 : List UInt8 := [3, 62, 29, 16, 8, 162, 0, 31, 42, 17, 1, 109, 16, 8, 27, 104, 96, 29, 96, 42, 180, 0, 9, 28]
abbrev dktX2_writeBlock_0 : List UInt8 := dkwX2_writeBlock_0 ++ dktX2_writeBlock_1
theorem dksX2_writeBlock_0 : cX2_writeBlock.data.toList.drop 0 = dktX2_writeBlock_0 := by decide +kernel
theorem dksX2_writeBlock_1 : cX2_writeBlock.data.toList.drop 24 = dktX2_writeBlock_1 := dk_seg dksX2_writeBlock_0 24 rfl rfl
theorem dX2_writeBlock_0 : decode cX2_writeBlock 0 = .ok (.iconst 0, 1) := dk_3 (dk_at dksX2_writeBlock_0 0 rfl rfl)
theorem dX2_writeBlock_1 : decode cX2_writeBlock 1 = .ok (.istore_n 3, 1) := dk_62 (dk_at dksX2_writeBlock_0 1 rfl rfl)
theorem dX2_writeBlock_2 : decode cX2_writeBlock 2 = .ok (.iload_n 3, 1) := dk_29 (dk_at dksX2_writeBlock_0 2 rfl rfl)
theorem dX2_writeBlock_3 : decode cX2_writeBlock 3 = .ok (.bipush 8, 2) := dk_16 8 (dk_at dksX2_writeBlock_0 3 rfl rfl)
theorem dX2_writeBlock_5 : decode cX2_writeBlock 5 = .ok (.if_icmp .ge 31, 3) := dk_162 0 31 (dk_at dksX2_writeBlock_0 5 rfl rfl)
theorem dX2_writeBlock_8 : decode cX2_writeBlock 8 = .ok (.aload_n 0, 1) := dk_42 (dk_at dksX2_writeBlock_0 8 rfl rfl)
theorem dX2_writeBlock_9 : decode cX2_writeBlock 9 = .ok (.sipush 365, 3) := dk_17 1 109 (dk_at dksX2_writeBlock_0 9 rfl rfl)
theorem dX2_writeBlock_12 : decode cX2_writeBlock 12 = .ok (.bipush 8, 2) := dk_16 8 (dk_at dksX2_writeBlock_0 12 rfl rfl)
theorem dX2_writeBlock_14 : decode cX2_writeBlock 14 = .ok (.iload_n 1, 1) := dk_27 (dk_at dksX2_writeBlock_0 14 rfl rfl)
theorem dX2_writeBlock_15 : decode cX2_writeBlock 15 = .ok (.imul, 1) := dk_104 (dk_at dksX2_writeBlock_0 15 rfl rfl)
theorem dX2_writeBlock_16 : decode cX2_writeBlock 16 = .ok (.iadd, 1) := dk_96 (dk_at dksX2_writeBlock_0 16 rfl rfl)
theorem dX2_writeBlock_17 : decode cX2_writeBlock 17 = .ok (.iload_n 3, 1) := dk_29 (dk_at dksX2_writeBlock_0 17 rfl rfl)
theorem dX2_writeBlock_18 : decode cX2_writeBlock 18 = .ok (.iadd, 1) := dk_96 (dk_at dksX2_writeBlock_0 18 rfl rfl)
theorem dX2_writeBlock_19 : decode cX2_writeBlock 19 = .ok (.aload_n 0, 1) := dk_42 (dk_at dksX2_writeBlock_0 19 rfl rfl)
theorem dX2_writeBlock_20 : decode cX2_writeBlock 20 = .ok (.getfield 9, 3) := dk_180 0 9 (dk_at dksX2_writeBlock_0 20 rfl rfl)
theorem dX2_writeBlock_23 : decode cX2_writeBlock 23 = .ok (.iload_n 2, 1) := dk_28 (dk_at dksX2_writeBlock_0 23 rfl rfl)
theorem dX2_writeBlock_24 : decode cX2_writeBlock 24 = .ok (.iload_n 3, 1) := dk_29 (dk_at dksX2_writeBlock_1 0 rfl rfl)
theorem dX2_writeBlock_25 : decode cX2_writeBlock 25 = .ok (.iadd, 1) := dk_96 (dk_at dksX2_writeBlock_1 1 rfl rfl)
theorem dX2_writeBlock_26 : decode cX2_writeBlock 26 = .ok (.iaload, 1) := dk_46 (dk_at dksX2_writeBlock_1 2 rfl rfl)
theorem dX2_writeBlock_27 : decode cX2_writeBlock 27 = .ok (.invokevirtual 133, 3) := dk_182 0 133 (dk_at dksX2_writeBlock_1 3 rfl rfl)
theorem dX2_writeBlock_30 : decode cX2_writeBlock 30 = .ok (.iinc 3 1, 3) := dk_132 3 1 (dk_at dksX2_writeBlock_1 6 rfl rfl)
theorem dX2_writeBlock_33 : decode cX2_writeBlock 33 = .ok (.goto (-31), 3) := dk_167 255 225 (dk_at dksX2_writeBlock_1 9 rfl rfl)
theorem dX2_writeBlock_36 : decode cX2_writeBlock 36 = .ok (.return_, 1) := dk_177 (dk_at dksX2_writeBlock_1 12 rfl rfl)
abbrev cX2_set : ByteArray := prog_16_method_2_code
def yX2_set : MethodName := ⟨RX2, "set", "(II)V"⟩
def dkwX2_set_1 : List UInt8 := [180, 0, 9, 27, 28, 79, 177]
abbrev dktX2_set_1 : List UInt8 := dkwX2_set_1 ++ []
def dkwX2_set_0 : List UInt8 := [42, 180, 0, 50, 198, 0, 17, 42, 180, 0, 50, 27, 42, 180, 0, 9, 27, 46, 182, 0, 54, 42]
abbrev dktX2_set_0 : List UInt8 := dkwX2_set_0 ++ dktX2_set_1
theorem dksX2_set_0 : cX2_set.data.toList.drop 0 = dktX2_set_0 := by decide +kernel
theorem dksX2_set_1 : cX2_set.data.toList.drop 22 = dktX2_set_1 := dk_seg dksX2_set_0 22 rfl rfl
theorem dX2_set_0 : decode cX2_set 0 = .ok (.aload_n 0, 1) := dk_42 (dk_at dksX2_set_0 0 rfl rfl)
theorem dX2_set_1 : decode cX2_set 1 = .ok (.getfield 50, 3) := dk_180 0 50 (dk_at dksX2_set_0 1 rfl rfl)
theorem dX2_set_4 : decode cX2_set 4 = .ok (.ifnull 17, 3) := dk_198 0 17 (dk_at dksX2_set_0 4 rfl rfl)
theorem dX2_set_7 : decode cX2_set 7 = .ok (.aload_n 0, 1) := dk_42 (dk_at dksX2_set_0 7 rfl rfl)
theorem dX2_set_8 : decode cX2_set 8 = .ok (.getfield 50, 3) := dk_180 0 50 (dk_at dksX2_set_0 8 rfl rfl)
theorem dX2_set_11 : decode cX2_set 11 = .ok (.iload_n 1, 1) := dk_27 (dk_at dksX2_set_0 11 rfl rfl)
theorem dX2_set_12 : decode cX2_set 12 = .ok (.aload_n 0, 1) := dk_42 (dk_at dksX2_set_0 12 rfl rfl)
theorem dX2_set_13 : decode cX2_set 13 = .ok (.getfield 9, 3) := dk_180 0 9 (dk_at dksX2_set_0 13 rfl rfl)
theorem dX2_set_16 : decode cX2_set 16 = .ok (.iload_n 1, 1) := dk_27 (dk_at dksX2_set_0 16 rfl rfl)
theorem dX2_set_17 : decode cX2_set 17 = .ok (.iaload, 1) := dk_46 (dk_at dksX2_set_0 17 rfl rfl)
theorem dX2_set_18 : decode cX2_set 18 = .ok (.invokevirtual 54, 3) := dk_182 0 54 (dk_at dksX2_set_0 18 rfl rfl)
theorem dX2_set_21 : decode cX2_set 21 = .ok (.aload_n 0, 1) := dk_42 (dk_at dksX2_set_0 21 rfl rfl)
theorem dX2_set_22 : decode cX2_set 22 = .ok (.getfield 9, 3) := dk_180 0 9 (dk_at dksX2_set_1 0 rfl rfl)
theorem dX2_set_25 : decode cX2_set 25 = .ok (.iload_n 1, 1) := dk_27 (dk_at dksX2_set_1 3 rfl rfl)
theorem dX2_set_26 : decode cX2_set 26 = .ok (.iload_n 2, 1) := dk_28 (dk_at dksX2_set_1 4 rfl rfl)
theorem dX2_set_27 : decode cX2_set 27 = .ok (.iastore, 1) := dk_79 (dk_at dksX2_set_1 5 rfl rfl)
theorem dX2_set_28 : decode cX2_set 28 = .ok (.return_, 1) := dk_177 (dk_at dksX2_set_1 6 rfl rfl)
abbrev cX2_writeHead : ByteArray := prog_16_method_45_code
def yX2_writeHead : MethodName := ⟨RX2, "writeHead", "(I)V"⟩
def dkwX2_writeHead_4 : List UInt8 := [17, 1, 113, 28, 133, 184, 0, 70, 182, 0, 133, 177]
abbrev dktX2_writeHead_4 : List UInt8 := dkwX2_writeHead_4 ++ []
def dkwX2_writeHead_3 : List UInt8 := [104, 162, 0, 21, 28, 42, 180, 0, 9, 16, 24, 29, 96, 46, 96, 61, 132, 3, 1, 167, 255, 233, 42]
abbrev dktX2_writeHead_3 : List UInt8 := dkwX2_writeHead_3 ++ dktX2_writeHead_4
def dkwX2_writeHead_2 : List UInt8 := [29, 96, 21, 4, 182, 0, 133, 28, 21, 4, 96, 61, 132, 3, 1, 167, 255, 197, 3, 62, 29, 16, 8, 27]
abbrev dktX2_writeHead_2 : List UInt8 := dkwX2_writeHead_2 ++ dktX2_writeHead_3
def dkwX2_writeHead_1 : List UInt8 := [154, 0, 7, 27, 167, 0, 14, 42, 180, 0, 9, 16, 20, 29, 96, 4, 100, 46, 54, 4, 42, 17, 1, 109]
abbrev dktX2_writeHead_1 : List UInt8 := dkwX2_writeHead_1 ++ dktX2_writeHead_2
def dkwX2_writeHead_0 : List UInt8 := [3, 61, 3, 62, 29, 16, 8, 162, 0, 59, 27, 153, 0, 8, 29, 6, 164, 0, 7, 3, 167, 0, 22, 29]
abbrev dktX2_writeHead_0 : List UInt8 := dkwX2_writeHead_0 ++ dktX2_writeHead_1
theorem dksX2_writeHead_0 : cX2_writeHead.data.toList.drop 0 = dktX2_writeHead_0 := by decide +kernel
theorem dksX2_writeHead_1 : cX2_writeHead.data.toList.drop 24 = dktX2_writeHead_1 := dk_seg dksX2_writeHead_0 24 rfl rfl
theorem dksX2_writeHead_2 : cX2_writeHead.data.toList.drop 48 = dktX2_writeHead_2 := dk_seg dksX2_writeHead_1 24 rfl rfl
theorem dksX2_writeHead_3 : cX2_writeHead.data.toList.drop 72 = dktX2_writeHead_3 := dk_seg dksX2_writeHead_2 24 rfl rfl
theorem dksX2_writeHead_4 : cX2_writeHead.data.toList.drop 95 = dktX2_writeHead_4 := dk_seg dksX2_writeHead_3 23 rfl rfl
theorem dX2_writeHead_0 : decode cX2_writeHead 0 = .ok (.iconst 0, 1) := dk_3 (dk_at dksX2_writeHead_0 0 rfl rfl)
theorem dX2_writeHead_1 : decode cX2_writeHead 1 = .ok (.istore_n 2, 1) := dk_61 (dk_at dksX2_writeHead_0 1 rfl rfl)
theorem dX2_writeHead_2 : decode cX2_writeHead 2 = .ok (.iconst 0, 1) := dk_3 (dk_at dksX2_writeHead_0 2 rfl rfl)
theorem dX2_writeHead_3 : decode cX2_writeHead 3 = .ok (.istore_n 3, 1) := dk_62 (dk_at dksX2_writeHead_0 3 rfl rfl)
theorem dX2_writeHead_4 : decode cX2_writeHead 4 = .ok (.iload_n 3, 1) := dk_29 (dk_at dksX2_writeHead_0 4 rfl rfl)
theorem dX2_writeHead_5 : decode cX2_writeHead 5 = .ok (.bipush 8, 2) := dk_16 8 (dk_at dksX2_writeHead_0 5 rfl rfl)
theorem dX2_writeHead_7 : decode cX2_writeHead 7 = .ok (.if_icmp .ge 59, 3) := dk_162 0 59 (dk_at dksX2_writeHead_0 7 rfl rfl)
theorem dX2_writeHead_10 : decode cX2_writeHead 10 = .ok (.iload_n 1, 1) := dk_27 (dk_at dksX2_writeHead_0 10 rfl rfl)
theorem dX2_writeHead_11 : decode cX2_writeHead 11 = .ok (.ifCond .eq 8, 3) := dk_153 0 8 (dk_at dksX2_writeHead_0 11 rfl rfl)
theorem dX2_writeHead_14 : decode cX2_writeHead 14 = .ok (.iload_n 3, 1) := dk_29 (dk_at dksX2_writeHead_0 14 rfl rfl)
theorem dX2_writeHead_15 : decode cX2_writeHead 15 = .ok (.iconst 3, 1) := dk_6 (dk_at dksX2_writeHead_0 15 rfl rfl)
theorem dX2_writeHead_16 : decode cX2_writeHead 16 = .ok (.if_icmp .le 7, 3) := dk_164 0 7 (dk_at dksX2_writeHead_0 16 rfl rfl)
theorem dX2_writeHead_19 : decode cX2_writeHead 19 = .ok (.iconst 0, 1) := dk_3 (dk_at dksX2_writeHead_0 19 rfl rfl)
theorem dX2_writeHead_20 : decode cX2_writeHead 20 = .ok (.goto 22, 3) := dk_167 0 22 (dk_at dksX2_writeHead_0 20 rfl rfl)
theorem dX2_writeHead_23 : decode cX2_writeHead 23 = .ok (.iload_n 3, 1) := dk_29 (dk_at dksX2_writeHead_0 23 rfl rfl)
theorem dX2_writeHead_24 : decode cX2_writeHead 24 = .ok (.ifCond .ne 7, 3) := dk_154 0 7 (dk_at dksX2_writeHead_1 0 rfl rfl)
theorem dX2_writeHead_27 : decode cX2_writeHead 27 = .ok (.iload_n 1, 1) := dk_27 (dk_at dksX2_writeHead_1 3 rfl rfl)
theorem dX2_writeHead_28 : decode cX2_writeHead 28 = .ok (.goto 14, 3) := dk_167 0 14 (dk_at dksX2_writeHead_1 4 rfl rfl)
theorem dX2_writeHead_31 : decode cX2_writeHead 31 = .ok (.aload_n 0, 1) := dk_42 (dk_at dksX2_writeHead_1 7 rfl rfl)
theorem dX2_writeHead_32 : decode cX2_writeHead 32 = .ok (.getfield 9, 3) := dk_180 0 9 (dk_at dksX2_writeHead_1 8 rfl rfl)
theorem dX2_writeHead_35 : decode cX2_writeHead 35 = .ok (.bipush 20, 2) := dk_16 20 (dk_at dksX2_writeHead_1 11 rfl rfl)
theorem dX2_writeHead_37 : decode cX2_writeHead 37 = .ok (.iload_n 3, 1) := dk_29 (dk_at dksX2_writeHead_1 13 rfl rfl)
theorem dX2_writeHead_38 : decode cX2_writeHead 38 = .ok (.iadd, 1) := dk_96 (dk_at dksX2_writeHead_1 14 rfl rfl)
theorem dX2_writeHead_39 : decode cX2_writeHead 39 = .ok (.iconst 1, 1) := dk_4 (dk_at dksX2_writeHead_1 15 rfl rfl)
theorem dX2_writeHead_40 : decode cX2_writeHead 40 = .ok (.isub, 1) := dk_100 (dk_at dksX2_writeHead_1 16 rfl rfl)
theorem dX2_writeHead_41 : decode cX2_writeHead 41 = .ok (.iaload, 1) := dk_46 (dk_at dksX2_writeHead_1 17 rfl rfl)
theorem dX2_writeHead_42 : decode cX2_writeHead 42 = .ok (.istore 4, 2) := dk_54 4 (dk_at dksX2_writeHead_1 18 rfl rfl)
theorem dX2_writeHead_44 : decode cX2_writeHead 44 = .ok (.aload_n 0, 1) := dk_42 (dk_at dksX2_writeHead_1 20 rfl rfl)
theorem dX2_writeHead_45 : decode cX2_writeHead 45 = .ok (.sipush 365, 3) := dk_17 1 109 (dk_at dksX2_writeHead_1 21 rfl rfl)
theorem dX2_writeHead_48 : decode cX2_writeHead 48 = .ok (.iload_n 3, 1) := dk_29 (dk_at dksX2_writeHead_2 0 rfl rfl)
theorem dX2_writeHead_49 : decode cX2_writeHead 49 = .ok (.iadd, 1) := dk_96 (dk_at dksX2_writeHead_2 1 rfl rfl)
theorem dX2_writeHead_50 : decode cX2_writeHead 50 = .ok (.iload 4, 2) := dk_21 4 (dk_at dksX2_writeHead_2 2 rfl rfl)
theorem dX2_writeHead_52 : decode cX2_writeHead 52 = .ok (.invokevirtual 133, 3) := dk_182 0 133 (dk_at dksX2_writeHead_2 4 rfl rfl)
theorem dX2_writeHead_55 : decode cX2_writeHead 55 = .ok (.iload_n 2, 1) := dk_28 (dk_at dksX2_writeHead_2 7 rfl rfl)
theorem dX2_writeHead_56 : decode cX2_writeHead 56 = .ok (.iload 4, 2) := dk_21 4 (dk_at dksX2_writeHead_2 8 rfl rfl)
theorem dX2_writeHead_58 : decode cX2_writeHead 58 = .ok (.iadd, 1) := dk_96 (dk_at dksX2_writeHead_2 10 rfl rfl)
theorem dX2_writeHead_59 : decode cX2_writeHead 59 = .ok (.istore_n 2, 1) := dk_61 (dk_at dksX2_writeHead_2 11 rfl rfl)
theorem dX2_writeHead_60 : decode cX2_writeHead 60 = .ok (.iinc 3 1, 3) := dk_132 3 1 (dk_at dksX2_writeHead_2 12 rfl rfl)
theorem dX2_writeHead_63 : decode cX2_writeHead 63 = .ok (.goto (-59), 3) := dk_167 255 197 (dk_at dksX2_writeHead_2 15 rfl rfl)
theorem dX2_writeHead_66 : decode cX2_writeHead 66 = .ok (.iconst 0, 1) := dk_3 (dk_at dksX2_writeHead_2 18 rfl rfl)
theorem dX2_writeHead_67 : decode cX2_writeHead 67 = .ok (.istore_n 3, 1) := dk_62 (dk_at dksX2_writeHead_2 19 rfl rfl)
theorem dX2_writeHead_68 : decode cX2_writeHead 68 = .ok (.iload_n 3, 1) := dk_29 (dk_at dksX2_writeHead_2 20 rfl rfl)
theorem dX2_writeHead_69 : decode cX2_writeHead 69 = .ok (.bipush 8, 2) := dk_16 8 (dk_at dksX2_writeHead_2 21 rfl rfl)
theorem dX2_writeHead_71 : decode cX2_writeHead 71 = .ok (.iload_n 1, 1) := dk_27 (dk_at dksX2_writeHead_2 23 rfl rfl)
theorem dX2_writeHead_72 : decode cX2_writeHead 72 = .ok (.imul, 1) := dk_104 (dk_at dksX2_writeHead_3 0 rfl rfl)
theorem dX2_writeHead_73 : decode cX2_writeHead 73 = .ok (.if_icmp .ge 21, 3) := dk_162 0 21 (dk_at dksX2_writeHead_3 1 rfl rfl)
theorem dX2_writeHead_76 : decode cX2_writeHead 76 = .ok (.iload_n 2, 1) := dk_28 (dk_at dksX2_writeHead_3 4 rfl rfl)
theorem dX2_writeHead_77 : decode cX2_writeHead 77 = .ok (.aload_n 0, 1) := dk_42 (dk_at dksX2_writeHead_3 5 rfl rfl)
theorem dX2_writeHead_78 : decode cX2_writeHead 78 = .ok (.getfield 9, 3) := dk_180 0 9 (dk_at dksX2_writeHead_3 6 rfl rfl)
theorem dX2_writeHead_81 : decode cX2_writeHead 81 = .ok (.bipush 24, 2) := dk_16 24 (dk_at dksX2_writeHead_3 9 rfl rfl)
theorem dX2_writeHead_83 : decode cX2_writeHead 83 = .ok (.iload_n 3, 1) := dk_29 (dk_at dksX2_writeHead_3 11 rfl rfl)
theorem dX2_writeHead_84 : decode cX2_writeHead 84 = .ok (.iadd, 1) := dk_96 (dk_at dksX2_writeHead_3 12 rfl rfl)
theorem dX2_writeHead_85 : decode cX2_writeHead 85 = .ok (.iaload, 1) := dk_46 (dk_at dksX2_writeHead_3 13 rfl rfl)
theorem dX2_writeHead_86 : decode cX2_writeHead 86 = .ok (.iadd, 1) := dk_96 (dk_at dksX2_writeHead_3 14 rfl rfl)
theorem dX2_writeHead_87 : decode cX2_writeHead 87 = .ok (.istore_n 2, 1) := dk_61 (dk_at dksX2_writeHead_3 15 rfl rfl)
theorem dX2_writeHead_88 : decode cX2_writeHead 88 = .ok (.iinc 3 1, 3) := dk_132 3 1 (dk_at dksX2_writeHead_3 16 rfl rfl)
theorem dX2_writeHead_91 : decode cX2_writeHead 91 = .ok (.goto (-23), 3) := dk_167 255 233 (dk_at dksX2_writeHead_3 19 rfl rfl)
theorem dX2_writeHead_94 : decode cX2_writeHead 94 = .ok (.aload_n 0, 1) := dk_42 (dk_at dksX2_writeHead_3 22 rfl rfl)
theorem dX2_writeHead_95 : decode cX2_writeHead 95 = .ok (.sipush 369, 3) := dk_17 1 113 (dk_at dksX2_writeHead_4 0 rfl rfl)
theorem dX2_writeHead_98 : decode cX2_writeHead 98 = .ok (.iload_n 2, 1) := dk_28 (dk_at dksX2_writeHead_4 3 rfl rfl)
theorem dX2_writeHead_99 : decode cX2_writeHead 99 = .ok (.i2l, 1) := dk_133 (dk_at dksX2_writeHead_4 4 rfl rfl)
theorem dX2_writeHead_100 : decode cX2_writeHead 100 = .ok (.invokestatic 70, 3) := dk_184 0 70 (dk_at dksX2_writeHead_4 5 rfl rfl)
theorem dX2_writeHead_103 : decode cX2_writeHead 103 = .ok (.invokevirtual 133, 3) := dk_182 0 133 (dk_at dksX2_writeHead_4 8 rfl rfl)
theorem dX2_writeHead_106 : decode cX2_writeHead 106 = .ok (.return_, 1) := dk_177 (dk_at dksX2_writeHead_4 11 rfl rfl)
abbrev cX2_isWaiting : ByteArray := prog_16_method_17_code
def yX2_isWaiting : MethodName := ⟨RX2, "isWaiting", "()Z"⟩
def dkwX2_isWaiting_0 : List UInt8 := [42, 180, 0, 9, 16, 8, 46, 42, 180, 0, 9, 16, 9, 46, 96, 158, 0, 7, 4, 167, 0, 4, 3, 172]
abbrev dktX2_isWaiting_0 : List UInt8 := dkwX2_isWaiting_0 ++ []
theorem dksX2_isWaiting_0 : cX2_isWaiting.data.toList.drop 0 = dktX2_isWaiting_0 := by decide +kernel
theorem dX2_isWaiting_0 : decode cX2_isWaiting 0 = .ok (.aload_n 0, 1) := dk_42 (dk_at dksX2_isWaiting_0 0 rfl rfl)
theorem dX2_isWaiting_1 : decode cX2_isWaiting 1 = .ok (.getfield 9, 3) := dk_180 0 9 (dk_at dksX2_isWaiting_0 1 rfl rfl)
theorem dX2_isWaiting_4 : decode cX2_isWaiting 4 = .ok (.bipush 8, 2) := dk_16 8 (dk_at dksX2_isWaiting_0 4 rfl rfl)
theorem dX2_isWaiting_6 : decode cX2_isWaiting 6 = .ok (.iaload, 1) := dk_46 (dk_at dksX2_isWaiting_0 6 rfl rfl)
theorem dX2_isWaiting_7 : decode cX2_isWaiting 7 = .ok (.aload_n 0, 1) := dk_42 (dk_at dksX2_isWaiting_0 7 rfl rfl)
theorem dX2_isWaiting_8 : decode cX2_isWaiting 8 = .ok (.getfield 9, 3) := dk_180 0 9 (dk_at dksX2_isWaiting_0 8 rfl rfl)
theorem dX2_isWaiting_11 : decode cX2_isWaiting 11 = .ok (.bipush 9, 2) := dk_16 9 (dk_at dksX2_isWaiting_0 11 rfl rfl)
theorem dX2_isWaiting_13 : decode cX2_isWaiting 13 = .ok (.iaload, 1) := dk_46 (dk_at dksX2_isWaiting_0 13 rfl rfl)
theorem dX2_isWaiting_14 : decode cX2_isWaiting 14 = .ok (.iadd, 1) := dk_96 (dk_at dksX2_isWaiting_0 14 rfl rfl)
theorem dX2_isWaiting_15 : decode cX2_isWaiting 15 = .ok (.ifCond .le 7, 3) := dk_158 0 7 (dk_at dksX2_isWaiting_0 15 rfl rfl)
theorem dX2_isWaiting_18 : decode cX2_isWaiting 18 = .ok (.iconst 1, 1) := dk_4 (dk_at dksX2_isWaiting_0 18 rfl rfl)
theorem dX2_isWaiting_19 : decode cX2_isWaiting 19 = .ok (.goto 4, 3) := dk_167 0 4 (dk_at dksX2_isWaiting_0 19 rfl rfl)
theorem dX2_isWaiting_22 : decode cX2_isWaiting 22 = .ok (.iconst 0, 1) := dk_3 (dk_at dksX2_isWaiting_0 22 rfl rfl)
theorem dX2_isWaiting_23 : decode cX2_isWaiting 23 = .ok (.ireturn, 1) := dk_172 (dk_at dksX2_isWaiting_0 23 rfl rfl)
abbrev cX2_interrupt : ByteArray := prog_16_method_23_code
def yX2_interrupt : MethodName := ⟨RX2, "interrupt", "()V"⟩
def dkwX2_interrupt_3 : List UInt8 := [180, 0, 9, 16, 108, 27, 96, 46, 182, 0, 133, 177]
abbrev dktX2_interrupt_3 : List UInt8 := dkwX2_interrupt_3 ++ []
def dkwX2_interrupt_2 : List UInt8 := [46, 5, 42, 180, 0, 9, 16, 6, 46, 104, 96, 182, 0, 179, 42, 16, 7, 3, 182, 0, 133, 42, 6, 42]
abbrev dktX2_interrupt_2 : List UInt8 := dkwX2_interrupt_2 ++ dktX2_interrupt_3
def dkwX2_interrupt_1 : List UInt8 := [16, 8, 27, 96, 3, 182, 0, 133, 42, 42, 180, 0, 9, 6, 46, 182, 0, 179, 42, 42, 180, 0, 9, 8]
abbrev dktX2_interrupt_1 : List UInt8 := dkwX2_interrupt_1 ++ dktX2_interrupt_2
def dkwX2_interrupt_0 : List UInt8 := [42, 5, 182, 0, 176, 42, 180, 0, 9, 16, 8, 46, 4, 160, 0, 7, 3, 167, 0, 4, 4, 60, 42]
abbrev dktX2_interrupt_0 : List UInt8 := dkwX2_interrupt_0 ++ dktX2_interrupt_1
theorem dksX2_interrupt_0 : cX2_interrupt.data.toList.drop 0 = dktX2_interrupt_0 := by decide +kernel
theorem dksX2_interrupt_1 : cX2_interrupt.data.toList.drop 23 = dktX2_interrupt_1 := dk_seg dksX2_interrupt_0 23 rfl rfl
theorem dksX2_interrupt_2 : cX2_interrupt.data.toList.drop 47 = dktX2_interrupt_2 := dk_seg dksX2_interrupt_1 24 rfl rfl
theorem dksX2_interrupt_3 : cX2_interrupt.data.toList.drop 71 = dktX2_interrupt_3 := dk_seg dksX2_interrupt_2 24 rfl rfl
theorem dX2_interrupt_0 : decode cX2_interrupt 0 = .ok (.aload_n 0, 1) := dk_42 (dk_at dksX2_interrupt_0 0 rfl rfl)
theorem dX2_interrupt_1 : decode cX2_interrupt 1 = .ok (.iconst 2, 1) := dk_5 (dk_at dksX2_interrupt_0 1 rfl rfl)
theorem dX2_interrupt_2 : decode cX2_interrupt 2 = .ok (.invokevirtual 176, 3) := dk_182 0 176 (dk_at dksX2_interrupt_0 2 rfl rfl)
theorem dX2_interrupt_5 : decode cX2_interrupt 5 = .ok (.aload_n 0, 1) := dk_42 (dk_at dksX2_interrupt_0 5 rfl rfl)
theorem dX2_interrupt_6 : decode cX2_interrupt 6 = .ok (.getfield 9, 3) := dk_180 0 9 (dk_at dksX2_interrupt_0 6 rfl rfl)
theorem dX2_interrupt_9 : decode cX2_interrupt 9 = .ok (.bipush 8, 2) := dk_16 8 (dk_at dksX2_interrupt_0 9 rfl rfl)
theorem dX2_interrupt_11 : decode cX2_interrupt 11 = .ok (.iaload, 1) := dk_46 (dk_at dksX2_interrupt_0 11 rfl rfl)
theorem dX2_interrupt_12 : decode cX2_interrupt 12 = .ok (.iconst 1, 1) := dk_4 (dk_at dksX2_interrupt_0 12 rfl rfl)
theorem dX2_interrupt_13 : decode cX2_interrupt 13 = .ok (.if_icmp .ne 7, 3) := dk_160 0 7 (dk_at dksX2_interrupt_0 13 rfl rfl)
theorem dX2_interrupt_16 : decode cX2_interrupt 16 = .ok (.iconst 0, 1) := dk_3 (dk_at dksX2_interrupt_0 16 rfl rfl)
theorem dX2_interrupt_17 : decode cX2_interrupt 17 = .ok (.goto 4, 3) := dk_167 0 4 (dk_at dksX2_interrupt_0 17 rfl rfl)
theorem dX2_interrupt_20 : decode cX2_interrupt 20 = .ok (.iconst 1, 1) := dk_4 (dk_at dksX2_interrupt_0 20 rfl rfl)
theorem dX2_interrupt_21 : decode cX2_interrupt 21 = .ok (.istore_n 1, 1) := dk_60 (dk_at dksX2_interrupt_0 21 rfl rfl)
theorem dX2_interrupt_22 : decode cX2_interrupt 22 = .ok (.aload_n 0, 1) := dk_42 (dk_at dksX2_interrupt_0 22 rfl rfl)
theorem dX2_interrupt_23 : decode cX2_interrupt 23 = .ok (.bipush 8, 2) := dk_16 8 (dk_at dksX2_interrupt_1 0 rfl rfl)
theorem dX2_interrupt_25 : decode cX2_interrupt 25 = .ok (.iload_n 1, 1) := dk_27 (dk_at dksX2_interrupt_1 2 rfl rfl)
theorem dX2_interrupt_26 : decode cX2_interrupt 26 = .ok (.iadd, 1) := dk_96 (dk_at dksX2_interrupt_1 3 rfl rfl)
theorem dX2_interrupt_27 : decode cX2_interrupt 27 = .ok (.iconst 0, 1) := dk_3 (dk_at dksX2_interrupt_1 4 rfl rfl)
theorem dX2_interrupt_28 : decode cX2_interrupt 28 = .ok (.invokevirtual 133, 3) := dk_182 0 133 (dk_at dksX2_interrupt_1 5 rfl rfl)
theorem dX2_interrupt_31 : decode cX2_interrupt 31 = .ok (.aload_n 0, 1) := dk_42 (dk_at dksX2_interrupt_1 8 rfl rfl)
theorem dX2_interrupt_32 : decode cX2_interrupt 32 = .ok (.aload_n 0, 1) := dk_42 (dk_at dksX2_interrupt_1 9 rfl rfl)
theorem dX2_interrupt_33 : decode cX2_interrupt 33 = .ok (.getfield 9, 3) := dk_180 0 9 (dk_at dksX2_interrupt_1 10 rfl rfl)
theorem dX2_interrupt_36 : decode cX2_interrupt 36 = .ok (.iconst 3, 1) := dk_6 (dk_at dksX2_interrupt_1 13 rfl rfl)
theorem dX2_interrupt_37 : decode cX2_interrupt 37 = .ok (.iaload, 1) := dk_46 (dk_at dksX2_interrupt_1 14 rfl rfl)
theorem dX2_interrupt_38 : decode cX2_interrupt 38 = .ok (.invokevirtual 179, 3) := dk_182 0 179 (dk_at dksX2_interrupt_1 15 rfl rfl)
theorem dX2_interrupt_41 : decode cX2_interrupt 41 = .ok (.aload_n 0, 1) := dk_42 (dk_at dksX2_interrupt_1 18 rfl rfl)
theorem dX2_interrupt_42 : decode cX2_interrupt 42 = .ok (.aload_n 0, 1) := dk_42 (dk_at dksX2_interrupt_1 19 rfl rfl)
theorem dX2_interrupt_43 : decode cX2_interrupt 43 = .ok (.getfield 9, 3) := dk_180 0 9 (dk_at dksX2_interrupt_1 20 rfl rfl)
theorem dX2_interrupt_46 : decode cX2_interrupt 46 = .ok (.iconst 5, 1) := dk_8 (dk_at dksX2_interrupt_1 23 rfl rfl)
theorem dX2_interrupt_47 : decode cX2_interrupt 47 = .ok (.iaload, 1) := dk_46 (dk_at dksX2_interrupt_2 0 rfl rfl)
theorem dX2_interrupt_48 : decode cX2_interrupt 48 = .ok (.iconst 2, 1) := dk_5 (dk_at dksX2_interrupt_2 1 rfl rfl)
theorem dX2_interrupt_49 : decode cX2_interrupt 49 = .ok (.aload_n 0, 1) := dk_42 (dk_at dksX2_interrupt_2 2 rfl rfl)
theorem dX2_interrupt_50 : decode cX2_interrupt 50 = .ok (.getfield 9, 3) := dk_180 0 9 (dk_at dksX2_interrupt_2 3 rfl rfl)
theorem dX2_interrupt_53 : decode cX2_interrupt 53 = .ok (.bipush 6, 2) := dk_16 6 (dk_at dksX2_interrupt_2 6 rfl rfl)
theorem dX2_interrupt_55 : decode cX2_interrupt 55 = .ok (.iaload, 1) := dk_46 (dk_at dksX2_interrupt_2 8 rfl rfl)
theorem dX2_interrupt_56 : decode cX2_interrupt 56 = .ok (.imul, 1) := dk_104 (dk_at dksX2_interrupt_2 9 rfl rfl)
theorem dX2_interrupt_57 : decode cX2_interrupt 57 = .ok (.iadd, 1) := dk_96 (dk_at dksX2_interrupt_2 10 rfl rfl)
theorem dX2_interrupt_58 : decode cX2_interrupt 58 = .ok (.invokevirtual 179, 3) := dk_182 0 179 (dk_at dksX2_interrupt_2 11 rfl rfl)
theorem dX2_interrupt_61 : decode cX2_interrupt 61 = .ok (.aload_n 0, 1) := dk_42 (dk_at dksX2_interrupt_2 14 rfl rfl)
theorem dX2_interrupt_62 : decode cX2_interrupt 62 = .ok (.bipush 7, 2) := dk_16 7 (dk_at dksX2_interrupt_2 15 rfl rfl)
theorem dX2_interrupt_64 : decode cX2_interrupt 64 = .ok (.iconst 0, 1) := dk_3 (dk_at dksX2_interrupt_2 17 rfl rfl)
theorem dX2_interrupt_65 : decode cX2_interrupt 65 = .ok (.invokevirtual 133, 3) := dk_182 0 133 (dk_at dksX2_interrupt_2 18 rfl rfl)
theorem dX2_interrupt_68 : decode cX2_interrupt 68 = .ok (.aload_n 0, 1) := dk_42 (dk_at dksX2_interrupt_2 21 rfl rfl)
theorem dX2_interrupt_69 : decode cX2_interrupt 69 = .ok (.iconst 3, 1) := dk_6 (dk_at dksX2_interrupt_2 22 rfl rfl)
theorem dX2_interrupt_70 : decode cX2_interrupt 70 = .ok (.aload_n 0, 1) := dk_42 (dk_at dksX2_interrupt_2 23 rfl rfl)
theorem dX2_interrupt_71 : decode cX2_interrupt 71 = .ok (.getfield 9, 3) := dk_180 0 9 (dk_at dksX2_interrupt_3 0 rfl rfl)
theorem dX2_interrupt_74 : decode cX2_interrupt 74 = .ok (.bipush 108, 2) := dk_16 108 (dk_at dksX2_interrupt_3 3 rfl rfl)
theorem dX2_interrupt_76 : decode cX2_interrupt 76 = .ok (.iload_n 1, 1) := dk_27 (dk_at dksX2_interrupt_3 5 rfl rfl)
theorem dX2_interrupt_77 : decode cX2_interrupt 77 = .ok (.iadd, 1) := dk_96 (dk_at dksX2_interrupt_3 6 rfl rfl)
theorem dX2_interrupt_78 : decode cX2_interrupt 78 = .ok (.iaload, 1) := dk_46 (dk_at dksX2_interrupt_3 7 rfl rfl)
theorem dX2_interrupt_79 : decode cX2_interrupt 79 = .ok (.invokevirtual 133, 3) := dk_182 0 133 (dk_at dksX2_interrupt_3 8 rfl rfl)
theorem dX2_interrupt_82 : decode cX2_interrupt 82 = .ok (.return_, 1) := dk_177 (dk_at dksX2_interrupt_3 11 rfl rfl)
abbrev cX2_room : ByteArray := prog_16_method_19_code
def yX2_room : MethodName := ⟨RX2, "room", "(I)V"⟩
def dkwX2_room_1 : List UInt8 := [177]
abbrev dktX2_room_1 : List UInt8 := dkwX2_room_1 ++ []
def dkwX2_room_0 : List UInt8 := [42, 180, 0, 9, 7, 46, 27, 162, 0, 17, 187, 0, 155, 89, 42, 180, 0, 9, 7, 46, 183, 0, 174, 191]
abbrev dktX2_room_0 : List UInt8 := dkwX2_room_0 ++ dktX2_room_1
theorem dksX2_room_0 : cX2_room.data.toList.drop 0 = dktX2_room_0 := by decide +kernel
theorem dksX2_room_1 : cX2_room.data.toList.drop 24 = dktX2_room_1 := dk_seg dksX2_room_0 24 rfl rfl
theorem dX2_room_0 : decode cX2_room 0 = .ok (.aload_n 0, 1) := dk_42 (dk_at dksX2_room_0 0 rfl rfl)
theorem dX2_room_1 : decode cX2_room 1 = .ok (.getfield 9, 3) := dk_180 0 9 (dk_at dksX2_room_0 1 rfl rfl)
theorem dX2_room_4 : decode cX2_room 4 = .ok (.iconst 4, 1) := dk_7 (dk_at dksX2_room_0 4 rfl rfl)
theorem dX2_room_5 : decode cX2_room 5 = .ok (.iaload, 1) := dk_46 (dk_at dksX2_room_0 5 rfl rfl)
theorem dX2_room_6 : decode cX2_room 6 = .ok (.iload_n 1, 1) := dk_27 (dk_at dksX2_room_0 6 rfl rfl)
theorem dX2_room_7 : decode cX2_room 7 = .ok (.if_icmp .ge 17, 3) := dk_162 0 17 (dk_at dksX2_room_0 7 rfl rfl)
theorem dX2_room_10 : decode cX2_room 10 = .ok (.new 155, 3) := dk_187 0 155 (dk_at dksX2_room_0 10 rfl rfl)
theorem dX2_room_13 : decode cX2_room 13 = .ok (.dup, 1) := dk_89 (dk_at dksX2_room_0 13 rfl rfl)
theorem dX2_room_14 : decode cX2_room 14 = .ok (.aload_n 0, 1) := dk_42 (dk_at dksX2_room_0 14 rfl rfl)
theorem dX2_room_15 : decode cX2_room 15 = .ok (.getfield 9, 3) := dk_180 0 9 (dk_at dksX2_room_0 15 rfl rfl)
theorem dX2_room_18 : decode cX2_room 18 = .ok (.iconst 4, 1) := dk_7 (dk_at dksX2_room_0 18 rfl rfl)
theorem dX2_room_19 : decode cX2_room 19 = .ok (.iaload, 1) := dk_46 (dk_at dksX2_room_0 19 rfl rfl)
theorem dX2_room_20 : decode cX2_room 20 = .ok (.invokespecial 174, 3) := dk_183 0 174 (dk_at dksX2_room_0 20 rfl rfl)
theorem dX2_room_23 : decode cX2_room 23 = .ok (.athrow, 1) := dk_191 (dk_at dksX2_room_0 23 rfl rfl)
theorem dX2_room_24 : decode cX2_room 24 = .ok (.return_, 1) := dk_177 (dk_at dksX2_room_1 0 rfl rfl)
abbrev cX2_push : ByteArray := prog_16_method_21_code
def yX2_push : MethodName := ⟨RX2, "push", "(I)V"⟩
def dkwX2_push_1 : List UInt8 := [182, 0, 133, 177]
abbrev dktX2_push_1 : List UInt8 := dkwX2_push_1 ++ []
def dkwX2_push_0 : List UInt8 := [42, 7, 42, 180, 0, 9, 7, 46, 4, 100, 182, 0, 133, 42, 16, 108, 42, 180, 0, 9, 7, 46, 96, 27]
abbrev dktX2_push_0 : List UInt8 := dkwX2_push_0 ++ dktX2_push_1
theorem dksX2_push_0 : cX2_push.data.toList.drop 0 = dktX2_push_0 := by decide +kernel
theorem dksX2_push_1 : cX2_push.data.toList.drop 24 = dktX2_push_1 := dk_seg dksX2_push_0 24 rfl rfl
theorem dX2_push_0 : decode cX2_push 0 = .ok (.aload_n 0, 1) := dk_42 (dk_at dksX2_push_0 0 rfl rfl)
theorem dX2_push_1 : decode cX2_push 1 = .ok (.iconst 4, 1) := dk_7 (dk_at dksX2_push_0 1 rfl rfl)
theorem dX2_push_2 : decode cX2_push 2 = .ok (.aload_n 0, 1) := dk_42 (dk_at dksX2_push_0 2 rfl rfl)
theorem dX2_push_3 : decode cX2_push 3 = .ok (.getfield 9, 3) := dk_180 0 9 (dk_at dksX2_push_0 3 rfl rfl)
theorem dX2_push_6 : decode cX2_push 6 = .ok (.iconst 4, 1) := dk_7 (dk_at dksX2_push_0 6 rfl rfl)
theorem dX2_push_7 : decode cX2_push 7 = .ok (.iaload, 1) := dk_46 (dk_at dksX2_push_0 7 rfl rfl)
theorem dX2_push_8 : decode cX2_push 8 = .ok (.iconst 1, 1) := dk_4 (dk_at dksX2_push_0 8 rfl rfl)
theorem dX2_push_9 : decode cX2_push 9 = .ok (.isub, 1) := dk_100 (dk_at dksX2_push_0 9 rfl rfl)
theorem dX2_push_10 : decode cX2_push 10 = .ok (.invokevirtual 133, 3) := dk_182 0 133 (dk_at dksX2_push_0 10 rfl rfl)
theorem dX2_push_13 : decode cX2_push 13 = .ok (.aload_n 0, 1) := dk_42 (dk_at dksX2_push_0 13 rfl rfl)
theorem dX2_push_14 : decode cX2_push 14 = .ok (.bipush 108, 2) := dk_16 108 (dk_at dksX2_push_0 14 rfl rfl)
theorem dX2_push_16 : decode cX2_push 16 = .ok (.aload_n 0, 1) := dk_42 (dk_at dksX2_push_0 16 rfl rfl)
theorem dX2_push_17 : decode cX2_push 17 = .ok (.getfield 9, 3) := dk_180 0 9 (dk_at dksX2_push_0 17 rfl rfl)
theorem dX2_push_20 : decode cX2_push 20 = .ok (.iconst 4, 1) := dk_7 (dk_at dksX2_push_0 20 rfl rfl)
theorem dX2_push_21 : decode cX2_push 21 = .ok (.iaload, 1) := dk_46 (dk_at dksX2_push_0 21 rfl rfl)
theorem dX2_push_22 : decode cX2_push 22 = .ok (.iadd, 1) := dk_96 (dk_at dksX2_push_0 22 rfl rfl)
theorem dX2_push_23 : decode cX2_push 23 = .ok (.iload_n 1, 1) := dk_27 (dk_at dksX2_push_0 23 rfl rfl)
theorem dX2_push_24 : decode cX2_push 24 = .ok (.invokevirtual 133, 3) := dk_182 0 133 (dk_at dksX2_push_1 0 rfl rfl)
theorem dX2_push_27 : decode cX2_push 27 = .ok (.return_, 1) := dk_177 (dk_at dksX2_push_1 3 rfl rfl)
abbrev cX2_instruct : ByteArray := prog_16_method_25_code
def yX2_instruct : MethodName := ⟨RX2, "instruct", "()V"⟩
def dkwX2_instruct_7 : List UInt8 := [21, 7, 182, 0, 133, 177]
abbrev dktX2_instruct_7 : List UInt8 := dkwX2_instruct_7 ++ []
def dkwX2_instruct_6 : List UInt8 := [182, 0, 191, 54, 7, 167, 0, 16, 42, 29, 21, 4, 21, 6, 21, 7, 182, 0, 195, 54, 7, 42, 6]
abbrev dktX2_instruct_6 : List UInt8 := dkwX2_instruct_6 ++ dktX2_instruct_7
def dkwX2_instruct_5 : List UInt8 := [21, 6, 182, 0, 187, 167, 0, 38, 29, 16, 18, 163, 0, 19, 42, 29, 21, 4, 21, 6, 21, 7]
abbrev dktX2_instruct_5 : List UInt8 := dkwX2_instruct_5 ++ dktX2_instruct_6
def dkwX2_instruct_4 : List UInt8 := [180, 0, 9, 6, 46, 5, 96, 54, 7, 29, 7, 161, 0, 21, 29, 16, 11, 163, 0, 15, 42, 29, 21, 4]
abbrev dktX2_instruct_4 : List UInt8 := dkwX2_instruct_4 ++ dktX2_instruct_5
def dkwX2_instruct_3 : List UInt8 := [167, 0, 21, 42, 180, 0, 9, 21, 5, 46, 42, 180, 0, 9, 27, 46, 96, 133, 184, 0, 70, 54, 6, 42]
abbrev dktX2_instruct_3 : List UInt8 := dkwX2_instruct_3 ++ dktX2_instruct_4
def dkwX2_instruct_2 : List UInt8 := [54, 4, 16, 12, 28, 6, 126, 96, 54, 5, 21, 4, 21, 5, 160, 0, 12, 42, 180, 0, 9, 27, 46]
abbrev dktX2_instruct_2 : List UInt8 := dkwX2_instruct_2 ++ dktX2_instruct_3
def dkwX2_instruct_1 : List UInt8 := [62, 29, 16, 26, 164, 0, 12, 187, 0, 149, 89, 29, 183, 0, 186, 191, 16, 12, 28, 5, 122, 6, 126, 96]
abbrev dktX2_instruct_1 : List UInt8 := dkwX2_instruct_1 ++ dktX2_instruct_2
def dkwX2_instruct_0 : List UInt8 := [42, 180, 0, 9, 6, 46, 4, 96, 184, 0, 183, 60, 42, 180, 0, 9, 27, 4, 100, 46, 61, 28, 7, 122]
abbrev dktX2_instruct_0 : List UInt8 := dkwX2_instruct_0 ++ dktX2_instruct_1
theorem dksX2_instruct_0 : cX2_instruct.data.toList.drop 0 = dktX2_instruct_0 := by decide +kernel
theorem dksX2_instruct_1 : cX2_instruct.data.toList.drop 24 = dktX2_instruct_1 := dk_seg dksX2_instruct_0 24 rfl rfl
theorem dksX2_instruct_2 : cX2_instruct.data.toList.drop 48 = dktX2_instruct_2 := dk_seg dksX2_instruct_1 24 rfl rfl
theorem dksX2_instruct_3 : cX2_instruct.data.toList.drop 71 = dktX2_instruct_3 := dk_seg dksX2_instruct_2 23 rfl rfl
theorem dksX2_instruct_4 : cX2_instruct.data.toList.drop 95 = dktX2_instruct_4 := dk_seg dksX2_instruct_3 24 rfl rfl
theorem dksX2_instruct_5 : cX2_instruct.data.toList.drop 119 = dktX2_instruct_5 := dk_seg dksX2_instruct_4 24 rfl rfl
theorem dksX2_instruct_6 : cX2_instruct.data.toList.drop 141 = dktX2_instruct_6 := dk_seg dksX2_instruct_5 22 rfl rfl
theorem dksX2_instruct_7 : cX2_instruct.data.toList.drop 164 = dktX2_instruct_7 := dk_seg dksX2_instruct_6 23 rfl rfl
theorem dX2_instruct_0 : decode cX2_instruct 0 = .ok (.aload_n 0, 1) := dk_42 (dk_at dksX2_instruct_0 0 rfl rfl)
theorem dX2_instruct_1 : decode cX2_instruct 1 = .ok (.getfield 9, 3) := dk_180 0 9 (dk_at dksX2_instruct_0 1 rfl rfl)
theorem dX2_instruct_4 : decode cX2_instruct 4 = .ok (.iconst 3, 1) := dk_6 (dk_at dksX2_instruct_0 4 rfl rfl)
theorem dX2_instruct_5 : decode cX2_instruct 5 = .ok (.iaload, 1) := dk_46 (dk_at dksX2_instruct_0 5 rfl rfl)
theorem dX2_instruct_6 : decode cX2_instruct 6 = .ok (.iconst 1, 1) := dk_4 (dk_at dksX2_instruct_0 6 rfl rfl)
theorem dX2_instruct_7 : decode cX2_instruct 7 = .ok (.iadd, 1) := dk_96 (dk_at dksX2_instruct_0 7 rfl rfl)
theorem dX2_instruct_8 : decode cX2_instruct 8 = .ok (.invokestatic 183, 3) := dk_184 0 183 (dk_at dksX2_instruct_0 8 rfl rfl)
theorem dX2_instruct_11 : decode cX2_instruct 11 = .ok (.istore_n 1, 1) := dk_60 (dk_at dksX2_instruct_0 11 rfl rfl)
theorem dX2_instruct_12 : decode cX2_instruct 12 = .ok (.aload_n 0, 1) := dk_42 (dk_at dksX2_instruct_0 12 rfl rfl)
theorem dX2_instruct_13 : decode cX2_instruct 13 = .ok (.getfield 9, 3) := dk_180 0 9 (dk_at dksX2_instruct_0 13 rfl rfl)
theorem dX2_instruct_16 : decode cX2_instruct 16 = .ok (.iload_n 1, 1) := dk_27 (dk_at dksX2_instruct_0 16 rfl rfl)
theorem dX2_instruct_17 : decode cX2_instruct 17 = .ok (.iconst 1, 1) := dk_4 (dk_at dksX2_instruct_0 17 rfl rfl)
theorem dX2_instruct_18 : decode cX2_instruct 18 = .ok (.isub, 1) := dk_100 (dk_at dksX2_instruct_0 18 rfl rfl)
theorem dX2_instruct_19 : decode cX2_instruct 19 = .ok (.iaload, 1) := dk_46 (dk_at dksX2_instruct_0 19 rfl rfl)
theorem dX2_instruct_20 : decode cX2_instruct 20 = .ok (.istore_n 2, 1) := dk_61 (dk_at dksX2_instruct_0 20 rfl rfl)
theorem dX2_instruct_21 : decode cX2_instruct 21 = .ok (.iload_n 2, 1) := dk_28 (dk_at dksX2_instruct_0 21 rfl rfl)
theorem dX2_instruct_22 : decode cX2_instruct 22 = .ok (.iconst 4, 1) := dk_7 (dk_at dksX2_instruct_0 22 rfl rfl)
theorem dX2_instruct_23 : decode cX2_instruct 23 = .ok (.ishr, 1) := dk_122 (dk_at dksX2_instruct_0 23 rfl rfl)
theorem dX2_instruct_24 : decode cX2_instruct 24 = .ok (.istore_n 3, 1) := dk_62 (dk_at dksX2_instruct_1 0 rfl rfl)
theorem dX2_instruct_25 : decode cX2_instruct 25 = .ok (.iload_n 3, 1) := dk_29 (dk_at dksX2_instruct_1 1 rfl rfl)
theorem dX2_instruct_26 : decode cX2_instruct 26 = .ok (.bipush 26, 2) := dk_16 26 (dk_at dksX2_instruct_1 2 rfl rfl)
theorem dX2_instruct_28 : decode cX2_instruct 28 = .ok (.if_icmp .le 12, 3) := dk_164 0 12 (dk_at dksX2_instruct_1 4 rfl rfl)
theorem dX2_instruct_31 : decode cX2_instruct 31 = .ok (.new 149, 3) := dk_187 0 149 (dk_at dksX2_instruct_1 7 rfl rfl)
theorem dX2_instruct_34 : decode cX2_instruct 34 = .ok (.dup, 1) := dk_89 (dk_at dksX2_instruct_1 10 rfl rfl)
theorem dX2_instruct_35 : decode cX2_instruct 35 = .ok (.iload_n 3, 1) := dk_29 (dk_at dksX2_instruct_1 11 rfl rfl)
theorem dX2_instruct_36 : decode cX2_instruct 36 = .ok (.invokespecial 186, 3) := dk_183 0 186 (dk_at dksX2_instruct_1 12 rfl rfl)
theorem dX2_instruct_39 : decode cX2_instruct 39 = .ok (.athrow, 1) := dk_191 (dk_at dksX2_instruct_1 15 rfl rfl)
theorem dX2_instruct_40 : decode cX2_instruct 40 = .ok (.bipush 12, 2) := dk_16 12 (dk_at dksX2_instruct_1 16 rfl rfl)
theorem dX2_instruct_42 : decode cX2_instruct 42 = .ok (.iload_n 2, 1) := dk_28 (dk_at dksX2_instruct_1 18 rfl rfl)
theorem dX2_instruct_43 : decode cX2_instruct 43 = .ok (.iconst 2, 1) := dk_5 (dk_at dksX2_instruct_1 19 rfl rfl)
theorem dX2_instruct_44 : decode cX2_instruct 44 = .ok (.ishr, 1) := dk_122 (dk_at dksX2_instruct_1 20 rfl rfl)
theorem dX2_instruct_45 : decode cX2_instruct 45 = .ok (.iconst 3, 1) := dk_6 (dk_at dksX2_instruct_1 21 rfl rfl)
theorem dX2_instruct_46 : decode cX2_instruct 46 = .ok (.iand, 1) := dk_126 (dk_at dksX2_instruct_1 22 rfl rfl)
theorem dX2_instruct_47 : decode cX2_instruct 47 = .ok (.iadd, 1) := dk_96 (dk_at dksX2_instruct_1 23 rfl rfl)
theorem dX2_instruct_48 : decode cX2_instruct 48 = .ok (.istore 4, 2) := dk_54 4 (dk_at dksX2_instruct_2 0 rfl rfl)
theorem dX2_instruct_50 : decode cX2_instruct 50 = .ok (.bipush 12, 2) := dk_16 12 (dk_at dksX2_instruct_2 2 rfl rfl)
theorem dX2_instruct_52 : decode cX2_instruct 52 = .ok (.iload_n 2, 1) := dk_28 (dk_at dksX2_instruct_2 4 rfl rfl)
theorem dX2_instruct_53 : decode cX2_instruct 53 = .ok (.iconst 3, 1) := dk_6 (dk_at dksX2_instruct_2 5 rfl rfl)
theorem dX2_instruct_54 : decode cX2_instruct 54 = .ok (.iand, 1) := dk_126 (dk_at dksX2_instruct_2 6 rfl rfl)
theorem dX2_instruct_55 : decode cX2_instruct 55 = .ok (.iadd, 1) := dk_96 (dk_at dksX2_instruct_2 7 rfl rfl)
theorem dX2_instruct_56 : decode cX2_instruct 56 = .ok (.istore 5, 2) := dk_54 5 (dk_at dksX2_instruct_2 8 rfl rfl)
theorem dX2_instruct_58 : decode cX2_instruct 58 = .ok (.iload 4, 2) := dk_21 4 (dk_at dksX2_instruct_2 10 rfl rfl)
theorem dX2_instruct_60 : decode cX2_instruct 60 = .ok (.iload 5, 2) := dk_21 5 (dk_at dksX2_instruct_2 12 rfl rfl)
theorem dX2_instruct_62 : decode cX2_instruct 62 = .ok (.if_icmp .ne 12, 3) := dk_160 0 12 (dk_at dksX2_instruct_2 14 rfl rfl)
theorem dX2_instruct_65 : decode cX2_instruct 65 = .ok (.aload_n 0, 1) := dk_42 (dk_at dksX2_instruct_2 17 rfl rfl)
theorem dX2_instruct_66 : decode cX2_instruct 66 = .ok (.getfield 9, 3) := dk_180 0 9 (dk_at dksX2_instruct_2 18 rfl rfl)
theorem dX2_instruct_69 : decode cX2_instruct 69 = .ok (.iload_n 1, 1) := dk_27 (dk_at dksX2_instruct_2 21 rfl rfl)
theorem dX2_instruct_70 : decode cX2_instruct 70 = .ok (.iaload, 1) := dk_46 (dk_at dksX2_instruct_2 22 rfl rfl)
theorem dX2_instruct_71 : decode cX2_instruct 71 = .ok (.goto 21, 3) := dk_167 0 21 (dk_at dksX2_instruct_3 0 rfl rfl)
theorem dX2_instruct_74 : decode cX2_instruct 74 = .ok (.aload_n 0, 1) := dk_42 (dk_at dksX2_instruct_3 3 rfl rfl)
theorem dX2_instruct_75 : decode cX2_instruct 75 = .ok (.getfield 9, 3) := dk_180 0 9 (dk_at dksX2_instruct_3 4 rfl rfl)
theorem dX2_instruct_78 : decode cX2_instruct 78 = .ok (.iload 5, 2) := dk_21 5 (dk_at dksX2_instruct_3 7 rfl rfl)
theorem dX2_instruct_80 : decode cX2_instruct 80 = .ok (.iaload, 1) := dk_46 (dk_at dksX2_instruct_3 9 rfl rfl)
theorem dX2_instruct_81 : decode cX2_instruct 81 = .ok (.aload_n 0, 1) := dk_42 (dk_at dksX2_instruct_3 10 rfl rfl)
theorem dX2_instruct_82 : decode cX2_instruct 82 = .ok (.getfield 9, 3) := dk_180 0 9 (dk_at dksX2_instruct_3 11 rfl rfl)
theorem dX2_instruct_85 : decode cX2_instruct 85 = .ok (.iload_n 1, 1) := dk_27 (dk_at dksX2_instruct_3 14 rfl rfl)
theorem dX2_instruct_86 : decode cX2_instruct 86 = .ok (.iaload, 1) := dk_46 (dk_at dksX2_instruct_3 15 rfl rfl)
theorem dX2_instruct_87 : decode cX2_instruct 87 = .ok (.iadd, 1) := dk_96 (dk_at dksX2_instruct_3 16 rfl rfl)
theorem dX2_instruct_88 : decode cX2_instruct 88 = .ok (.i2l, 1) := dk_133 (dk_at dksX2_instruct_3 17 rfl rfl)
theorem dX2_instruct_89 : decode cX2_instruct 89 = .ok (.invokestatic 70, 3) := dk_184 0 70 (dk_at dksX2_instruct_3 18 rfl rfl)
theorem dX2_instruct_92 : decode cX2_instruct 92 = .ok (.istore 6, 2) := dk_54 6 (dk_at dksX2_instruct_3 21 rfl rfl)
theorem dX2_instruct_94 : decode cX2_instruct 94 = .ok (.aload_n 0, 1) := dk_42 (dk_at dksX2_instruct_3 23 rfl rfl)
theorem dX2_instruct_95 : decode cX2_instruct 95 = .ok (.getfield 9, 3) := dk_180 0 9 (dk_at dksX2_instruct_4 0 rfl rfl)
theorem dX2_instruct_98 : decode cX2_instruct 98 = .ok (.iconst 3, 1) := dk_6 (dk_at dksX2_instruct_4 3 rfl rfl)
theorem dX2_instruct_99 : decode cX2_instruct 99 = .ok (.iaload, 1) := dk_46 (dk_at dksX2_instruct_4 4 rfl rfl)
theorem dX2_instruct_100 : decode cX2_instruct 100 = .ok (.iconst 2, 1) := dk_5 (dk_at dksX2_instruct_4 5 rfl rfl)
theorem dX2_instruct_101 : decode cX2_instruct 101 = .ok (.iadd, 1) := dk_96 (dk_at dksX2_instruct_4 6 rfl rfl)
theorem dX2_instruct_102 : decode cX2_instruct 102 = .ok (.istore 7, 2) := dk_54 7 (dk_at dksX2_instruct_4 7 rfl rfl)
theorem dX2_instruct_104 : decode cX2_instruct 104 = .ok (.iload_n 3, 1) := dk_29 (dk_at dksX2_instruct_4 9 rfl rfl)
theorem dX2_instruct_105 : decode cX2_instruct 105 = .ok (.iconst 4, 1) := dk_7 (dk_at dksX2_instruct_4 10 rfl rfl)
theorem dX2_instruct_106 : decode cX2_instruct 106 = .ok (.if_icmp .lt 21, 3) := dk_161 0 21 (dk_at dksX2_instruct_4 11 rfl rfl)
theorem dX2_instruct_109 : decode cX2_instruct 109 = .ok (.iload_n 3, 1) := dk_29 (dk_at dksX2_instruct_4 14 rfl rfl)
theorem dX2_instruct_110 : decode cX2_instruct 110 = .ok (.bipush 11, 2) := dk_16 11 (dk_at dksX2_instruct_4 15 rfl rfl)
theorem dX2_instruct_112 : decode cX2_instruct 112 = .ok (.if_icmp .gt 15, 3) := dk_163 0 15 (dk_at dksX2_instruct_4 17 rfl rfl)
theorem dX2_instruct_115 : decode cX2_instruct 115 = .ok (.aload_n 0, 1) := dk_42 (dk_at dksX2_instruct_4 20 rfl rfl)
theorem dX2_instruct_116 : decode cX2_instruct 116 = .ok (.iload_n 3, 1) := dk_29 (dk_at dksX2_instruct_4 21 rfl rfl)
theorem dX2_instruct_117 : decode cX2_instruct 117 = .ok (.iload 4, 2) := dk_21 4 (dk_at dksX2_instruct_4 22 rfl rfl)
theorem dX2_instruct_119 : decode cX2_instruct 119 = .ok (.iload 6, 2) := dk_21 6 (dk_at dksX2_instruct_5 0 rfl rfl)
theorem dX2_instruct_121 : decode cX2_instruct 121 = .ok (.invokevirtual 187, 3) := dk_182 0 187 (dk_at dksX2_instruct_5 2 rfl rfl)
theorem dX2_instruct_124 : decode cX2_instruct 124 = .ok (.goto 38, 3) := dk_167 0 38 (dk_at dksX2_instruct_5 5 rfl rfl)
theorem dX2_instruct_127 : decode cX2_instruct 127 = .ok (.iload_n 3, 1) := dk_29 (dk_at dksX2_instruct_5 8 rfl rfl)
theorem dX2_instruct_128 : decode cX2_instruct 128 = .ok (.bipush 18, 2) := dk_16 18 (dk_at dksX2_instruct_5 9 rfl rfl)
theorem dX2_instruct_130 : decode cX2_instruct 130 = .ok (.if_icmp .gt 19, 3) := dk_163 0 19 (dk_at dksX2_instruct_5 11 rfl rfl)
theorem dX2_instruct_133 : decode cX2_instruct 133 = .ok (.aload_n 0, 1) := dk_42 (dk_at dksX2_instruct_5 14 rfl rfl)
theorem dX2_instruct_134 : decode cX2_instruct 134 = .ok (.iload_n 3, 1) := dk_29 (dk_at dksX2_instruct_5 15 rfl rfl)
theorem dX2_instruct_135 : decode cX2_instruct 135 = .ok (.iload 4, 2) := dk_21 4 (dk_at dksX2_instruct_5 16 rfl rfl)
theorem dX2_instruct_137 : decode cX2_instruct 137 = .ok (.iload 6, 2) := dk_21 6 (dk_at dksX2_instruct_5 18 rfl rfl)
theorem dX2_instruct_139 : decode cX2_instruct 139 = .ok (.iload 7, 2) := dk_21 7 (dk_at dksX2_instruct_5 20 rfl rfl)
theorem dX2_instruct_141 : decode cX2_instruct 141 = .ok (.invokevirtual 191, 3) := dk_182 0 191 (dk_at dksX2_instruct_6 0 rfl rfl)
theorem dX2_instruct_144 : decode cX2_instruct 144 = .ok (.istore 7, 2) := dk_54 7 (dk_at dksX2_instruct_6 3 rfl rfl)
theorem dX2_instruct_146 : decode cX2_instruct 146 = .ok (.goto 16, 3) := dk_167 0 16 (dk_at dksX2_instruct_6 5 rfl rfl)
theorem dX2_instruct_149 : decode cX2_instruct 149 = .ok (.aload_n 0, 1) := dk_42 (dk_at dksX2_instruct_6 8 rfl rfl)
theorem dX2_instruct_150 : decode cX2_instruct 150 = .ok (.iload_n 3, 1) := dk_29 (dk_at dksX2_instruct_6 9 rfl rfl)
theorem dX2_instruct_151 : decode cX2_instruct 151 = .ok (.iload 4, 2) := dk_21 4 (dk_at dksX2_instruct_6 10 rfl rfl)
theorem dX2_instruct_153 : decode cX2_instruct 153 = .ok (.iload 6, 2) := dk_21 6 (dk_at dksX2_instruct_6 12 rfl rfl)
theorem dX2_instruct_155 : decode cX2_instruct 155 = .ok (.iload 7, 2) := dk_21 7 (dk_at dksX2_instruct_6 14 rfl rfl)
theorem dX2_instruct_157 : decode cX2_instruct 157 = .ok (.invokevirtual 195, 3) := dk_182 0 195 (dk_at dksX2_instruct_6 16 rfl rfl)
theorem dX2_instruct_160 : decode cX2_instruct 160 = .ok (.istore 7, 2) := dk_54 7 (dk_at dksX2_instruct_6 19 rfl rfl)
theorem dX2_instruct_162 : decode cX2_instruct 162 = .ok (.aload_n 0, 1) := dk_42 (dk_at dksX2_instruct_6 21 rfl rfl)
theorem dX2_instruct_163 : decode cX2_instruct 163 = .ok (.iconst 3, 1) := dk_6 (dk_at dksX2_instruct_6 22 rfl rfl)
theorem dX2_instruct_164 : decode cX2_instruct 164 = .ok (.iload 7, 2) := dk_21 7 (dk_at dksX2_instruct_7 0 rfl rfl)
theorem dX2_instruct_166 : decode cX2_instruct 166 = .ok (.invokevirtual 133, 3) := dk_182 0 133 (dk_at dksX2_instruct_7 2 rfl rfl)
theorem dX2_instruct_169 : decode cX2_instruct 169 = .ok (.return_, 1) := dk_177 (dk_at dksX2_instruct_7 5 rfl rfl)
abbrev cX2_address : ByteArray := prog_16_method_24_code
def yX2_address : MethodName := ⟨RX2, "address", "(I)I"⟩
def dkwX2_address_0 : List UInt8 := [26, 17, 1, 0, 161, 0, 12, 187, 0, 147, 89, 26, 183, 0, 182, 191, 16, 108, 26, 96, 172]
abbrev dktX2_address_0 : List UInt8 := dkwX2_address_0 ++ []
theorem dksX2_address_0 : cX2_address.data.toList.drop 0 = dktX2_address_0 := by decide +kernel
theorem dX2_address_0 : decode cX2_address 0 = .ok (.iload_n 0, 1) := dk_26 (dk_at dksX2_address_0 0 rfl rfl)
theorem dX2_address_1 : decode cX2_address 1 = .ok (.sipush 256, 3) := dk_17 1 0 (dk_at dksX2_address_0 1 rfl rfl)
theorem dX2_address_4 : decode cX2_address 4 = .ok (.if_icmp .lt 12, 3) := dk_161 0 12 (dk_at dksX2_address_0 4 rfl rfl)
theorem dX2_address_7 : decode cX2_address 7 = .ok (.new 147, 3) := dk_187 0 147 (dk_at dksX2_address_0 7 rfl rfl)
theorem dX2_address_10 : decode cX2_address 10 = .ok (.dup, 1) := dk_89 (dk_at dksX2_address_0 10 rfl rfl)
theorem dX2_address_11 : decode cX2_address 11 = .ok (.iload_n 0, 1) := dk_26 (dk_at dksX2_address_0 11 rfl rfl)
theorem dX2_address_12 : decode cX2_address 12 = .ok (.invokespecial 182, 3) := dk_183 0 182 (dk_at dksX2_address_0 12 rfl rfl)
theorem dX2_address_15 : decode cX2_address 15 = .ok (.athrow, 1) := dk_191 (dk_at dksX2_address_0 15 rfl rfl)
theorem dX2_address_16 : decode cX2_address 16 = .ok (.bipush 108, 2) := dk_16 108 (dk_at dksX2_address_0 16 rfl rfl)
theorem dX2_address_18 : decode cX2_address 18 = .ok (.iload_n 0, 1) := dk_26 (dk_at dksX2_address_0 18 rfl rfl)
theorem dX2_address_19 : decode cX2_address 19 = .ok (.iadd, 1) := dk_96 (dk_at dksX2_address_0 19 rfl rfl)
theorem dX2_address_20 : decode cX2_address 20 = .ok (.ireturn, 1) := dk_172 (dk_at dksX2_address_0 20 rfl rfl)
abbrev cX2_reckon : ByteArray := prog_16_method_26_code
def yX2_reckon : MethodName := ⟨RX2, "reckon", "(III)V"⟩
def dkwX2_reckon_9 : List UInt8 := [182, 0, 133, 177]
abbrev dktX2_reckon_9 : List UInt8 := dkwX2_reckon_9 ++ []
def dkwX2_reckon_8 : List UInt8 := [154, 0, 7, 4, 167, 0, 4, 3, 182, 0, 133, 27, 16, 11, 159, 0, 13, 42, 28, 22, 4, 184, 0, 70]
abbrev dktX2_reckon_8 : List UInt8 := dkwX2_reckon_8 ++ dktX2_reckon_9
def dkwX2_reckon_7 : List UInt8 := [42, 16, 6, 21, 6, 153, 0, 7, 4, 167, 0, 4, 3, 182, 0, 133, 42, 8, 22, 4, 184, 0, 70]
abbrev dktX2_reckon_7 : List UInt8 := dkwX2_reckon_7 ++ dktX2_reckon_8
def dkwX2_reckon_6 : List UInt8 := [167, 0, 24, 22, 4, 29, 133, 101, 55, 4, 22, 4, 9, 148, 156, 0, 7, 4, 167, 0, 4, 3, 54, 6]
abbrev dktX2_reckon_6 : List UInt8 := dkwX2_reckon_6 ++ dktX2_reckon_7
def dkwX2_reckon_5 : List UInt8 := [167, 0, 48, 22, 4, 29, 16, 16, 112, 121, 55, 4, 167, 0, 36, 22, 4, 29, 16, 16, 112, 123, 55, 4]
abbrev dktX2_reckon_5 : List UInt8 := dkwX2_reckon_5 ++ dktX2_reckon_6
def dkwX2_reckon_4 : List UInt8 := [54, 6, 167, 0, 68, 22, 4, 29, 133, 127, 55, 4, 167, 0, 58, 22, 4, 29, 133, 131, 55, 4]
abbrev dktX2_reckon_4 : List UInt8 := dkwX2_reckon_4 ++ dktX2_reckon_5
def dkwX2_reckon_3 : List UInt8 := [167, 0, 94, 22, 4, 29, 133, 105, 55, 4, 22, 4, 20, 0, 198, 148, 158, 0, 7, 4, 167, 0, 4, 3]
abbrev dktX2_reckon_3 : List UInt8 := dkwX2_reckon_3 ++ dktX2_reckon_4
def dkwX2_reckon_2 : List UInt8 := [22, 4, 29, 133, 97, 55, 4, 22, 4, 20, 0, 198, 148, 158, 0, 7, 4, 167, 0, 4, 3, 54, 6]
abbrev dktX2_reckon_2 : List UInt8 := dkwX2_reckon_2 ++ dktX2_reckon_3
def dkwX2_reckon_1 : List UInt8 := [170, 0, 0, 0, 0, 0, 139, 0, 0, 0, 4, 0, 0, 0, 10, 0, 0, 0, 43, 0, 0, 0, 139, 0, 0, 0, 69, 0, 0, 0, 95, 0, 0, 0, 105, 0, 0, 0, 115, 0, 0, 0, 127]
abbrev dktX2_reckon_1 : List UInt8 := dkwX2_reckon_1 ++ dktX2_reckon_2
def dkwX2_reckon_0 : List UInt8 := [42, 180, 0, 9, 28, 46, 133, 55, 4, 3, 54, 6, 27]
abbrev dktX2_reckon_0 : List UInt8 := dkwX2_reckon_0 ++ dktX2_reckon_1
theorem dksX2_reckon_0 : cX2_reckon.data.toList.drop 0 = dktX2_reckon_0 := by decide +kernel
theorem dksX2_reckon_1 : cX2_reckon.data.toList.drop 13 = dktX2_reckon_1 := dk_seg dksX2_reckon_0 13 rfl rfl
theorem dksX2_reckon_2 : cX2_reckon.data.toList.drop 56 = dktX2_reckon_2 := dk_seg dksX2_reckon_1 43 rfl rfl
theorem dksX2_reckon_3 : cX2_reckon.data.toList.drop 79 = dktX2_reckon_3 := dk_seg dksX2_reckon_2 23 rfl rfl
theorem dksX2_reckon_4 : cX2_reckon.data.toList.drop 103 = dktX2_reckon_4 := dk_seg dksX2_reckon_3 24 rfl rfl
theorem dksX2_reckon_5 : cX2_reckon.data.toList.drop 125 = dktX2_reckon_5 := dk_seg dksX2_reckon_4 22 rfl rfl
theorem dksX2_reckon_6 : cX2_reckon.data.toList.drop 149 = dktX2_reckon_6 := dk_seg dksX2_reckon_5 24 rfl rfl
theorem dksX2_reckon_7 : cX2_reckon.data.toList.drop 173 = dktX2_reckon_7 := dk_seg dksX2_reckon_6 24 rfl rfl
theorem dksX2_reckon_8 : cX2_reckon.data.toList.drop 196 = dktX2_reckon_8 := dk_seg dksX2_reckon_7 23 rfl rfl
theorem dksX2_reckon_9 : cX2_reckon.data.toList.drop 220 = dktX2_reckon_9 := dk_seg dksX2_reckon_8 24 rfl rfl
theorem dX2_reckon_0 : decode cX2_reckon 0 = .ok (.aload_n 0, 1) := dk_42 (dk_at dksX2_reckon_0 0 rfl rfl)
theorem dX2_reckon_1 : decode cX2_reckon 1 = .ok (.getfield 9, 3) := dk_180 0 9 (dk_at dksX2_reckon_0 1 rfl rfl)
theorem dX2_reckon_4 : decode cX2_reckon 4 = .ok (.iload_n 2, 1) := dk_28 (dk_at dksX2_reckon_0 4 rfl rfl)
theorem dX2_reckon_5 : decode cX2_reckon 5 = .ok (.iaload, 1) := dk_46 (dk_at dksX2_reckon_0 5 rfl rfl)
theorem dX2_reckon_6 : decode cX2_reckon 6 = .ok (.i2l, 1) := dk_133 (dk_at dksX2_reckon_0 6 rfl rfl)
theorem dX2_reckon_7 : decode cX2_reckon 7 = .ok (.lstore 4, 2) := dk_55 4 (dk_at dksX2_reckon_0 7 rfl rfl)
theorem dX2_reckon_9 : decode cX2_reckon 9 = .ok (.iconst 0, 1) := dk_3 (dk_at dksX2_reckon_0 9 rfl rfl)
theorem dX2_reckon_10 : decode cX2_reckon 10 = .ok (.istore 6, 2) := dk_54 6 (dk_at dksX2_reckon_0 10 rfl rfl)
theorem dX2_reckon_12 : decode cX2_reckon 12 = .ok (.iload_n 1, 1) := dk_27 (dk_at dksX2_reckon_0 12 rfl rfl)
theorem dX2_reckon_13 : decode cX2_reckon 13 = .ok (.tableswitch 139 4 10 #[43, 139, 69, 95, 105, 115, 127], 43) := by decide +kernel
theorem dX2_reckon_56 : decode cX2_reckon 56 = .ok (.lload 4, 2) := dk_22 4 (dk_at dksX2_reckon_2 0 rfl rfl)
theorem dX2_reckon_58 : decode cX2_reckon 58 = .ok (.iload_n 3, 1) := dk_29 (dk_at dksX2_reckon_2 2 rfl rfl)
theorem dX2_reckon_59 : decode cX2_reckon 59 = .ok (.i2l, 1) := dk_133 (dk_at dksX2_reckon_2 3 rfl rfl)
theorem dX2_reckon_60 : decode cX2_reckon 60 = .ok (.ladd, 1) := dk_97 (dk_at dksX2_reckon_2 4 rfl rfl)
theorem dX2_reckon_61 : decode cX2_reckon 61 = .ok (.lstore 4, 2) := dk_55 4 (dk_at dksX2_reckon_2 5 rfl rfl)
theorem dX2_reckon_63 : decode cX2_reckon 63 = .ok (.lload 4, 2) := dk_22 4 (dk_at dksX2_reckon_2 7 rfl rfl)
theorem dX2_reckon_65 : decode cX2_reckon 65 = .ok (.ldc2_w 198, 3) := dk_20 0 198 (dk_at dksX2_reckon_2 9 rfl rfl)
theorem dX2_reckon_68 : decode cX2_reckon 68 = .ok (.lcmp, 1) := dk_148 (dk_at dksX2_reckon_2 12 rfl rfl)
theorem dX2_reckon_69 : decode cX2_reckon 69 = .ok (.ifCond .le 7, 3) := dk_158 0 7 (dk_at dksX2_reckon_2 13 rfl rfl)
theorem dX2_reckon_72 : decode cX2_reckon 72 = .ok (.iconst 1, 1) := dk_4 (dk_at dksX2_reckon_2 16 rfl rfl)
theorem dX2_reckon_73 : decode cX2_reckon 73 = .ok (.goto 4, 3) := dk_167 0 4 (dk_at dksX2_reckon_2 17 rfl rfl)
theorem dX2_reckon_76 : decode cX2_reckon 76 = .ok (.iconst 0, 1) := dk_3 (dk_at dksX2_reckon_2 20 rfl rfl)
theorem dX2_reckon_77 : decode cX2_reckon 77 = .ok (.istore 6, 2) := dk_54 6 (dk_at dksX2_reckon_2 21 rfl rfl)
theorem dX2_reckon_79 : decode cX2_reckon 79 = .ok (.goto 94, 3) := dk_167 0 94 (dk_at dksX2_reckon_3 0 rfl rfl)
theorem dX2_reckon_82 : decode cX2_reckon 82 = .ok (.lload 4, 2) := dk_22 4 (dk_at dksX2_reckon_3 3 rfl rfl)
theorem dX2_reckon_84 : decode cX2_reckon 84 = .ok (.iload_n 3, 1) := dk_29 (dk_at dksX2_reckon_3 5 rfl rfl)
theorem dX2_reckon_85 : decode cX2_reckon 85 = .ok (.i2l, 1) := dk_133 (dk_at dksX2_reckon_3 6 rfl rfl)
theorem dX2_reckon_86 : decode cX2_reckon 86 = .ok (.lmul, 1) := dk_105 (dk_at dksX2_reckon_3 7 rfl rfl)
theorem dX2_reckon_87 : decode cX2_reckon 87 = .ok (.lstore 4, 2) := dk_55 4 (dk_at dksX2_reckon_3 8 rfl rfl)
theorem dX2_reckon_89 : decode cX2_reckon 89 = .ok (.lload 4, 2) := dk_22 4 (dk_at dksX2_reckon_3 10 rfl rfl)
theorem dX2_reckon_91 : decode cX2_reckon 91 = .ok (.ldc2_w 198, 3) := dk_20 0 198 (dk_at dksX2_reckon_3 12 rfl rfl)
theorem dX2_reckon_94 : decode cX2_reckon 94 = .ok (.lcmp, 1) := dk_148 (dk_at dksX2_reckon_3 15 rfl rfl)
theorem dX2_reckon_95 : decode cX2_reckon 95 = .ok (.ifCond .le 7, 3) := dk_158 0 7 (dk_at dksX2_reckon_3 16 rfl rfl)
theorem dX2_reckon_98 : decode cX2_reckon 98 = .ok (.iconst 1, 1) := dk_4 (dk_at dksX2_reckon_3 19 rfl rfl)
theorem dX2_reckon_99 : decode cX2_reckon 99 = .ok (.goto 4, 3) := dk_167 0 4 (dk_at dksX2_reckon_3 20 rfl rfl)
theorem dX2_reckon_102 : decode cX2_reckon 102 = .ok (.iconst 0, 1) := dk_3 (dk_at dksX2_reckon_3 23 rfl rfl)
theorem dX2_reckon_103 : decode cX2_reckon 103 = .ok (.istore 6, 2) := dk_54 6 (dk_at dksX2_reckon_4 0 rfl rfl)
theorem dX2_reckon_105 : decode cX2_reckon 105 = .ok (.goto 68, 3) := dk_167 0 68 (dk_at dksX2_reckon_4 2 rfl rfl)
theorem dX2_reckon_108 : decode cX2_reckon 108 = .ok (.lload 4, 2) := dk_22 4 (dk_at dksX2_reckon_4 5 rfl rfl)
theorem dX2_reckon_110 : decode cX2_reckon 110 = .ok (.iload_n 3, 1) := dk_29 (dk_at dksX2_reckon_4 7 rfl rfl)
theorem dX2_reckon_111 : decode cX2_reckon 111 = .ok (.i2l, 1) := dk_133 (dk_at dksX2_reckon_4 8 rfl rfl)
theorem dX2_reckon_112 : decode cX2_reckon 112 = .ok (.land, 1) := dk_127 (dk_at dksX2_reckon_4 9 rfl rfl)
theorem dX2_reckon_113 : decode cX2_reckon 113 = .ok (.lstore 4, 2) := dk_55 4 (dk_at dksX2_reckon_4 10 rfl rfl)
theorem dX2_reckon_115 : decode cX2_reckon 115 = .ok (.goto 58, 3) := dk_167 0 58 (dk_at dksX2_reckon_4 12 rfl rfl)
theorem dX2_reckon_118 : decode cX2_reckon 118 = .ok (.lload 4, 2) := dk_22 4 (dk_at dksX2_reckon_4 15 rfl rfl)
theorem dX2_reckon_120 : decode cX2_reckon 120 = .ok (.iload_n 3, 1) := dk_29 (dk_at dksX2_reckon_4 17 rfl rfl)
theorem dX2_reckon_121 : decode cX2_reckon 121 = .ok (.i2l, 1) := dk_133 (dk_at dksX2_reckon_4 18 rfl rfl)
theorem dX2_reckon_122 : decode cX2_reckon 122 = .ok (.lxor, 1) := dk_131 (dk_at dksX2_reckon_4 19 rfl rfl)
theorem dX2_reckon_123 : decode cX2_reckon 123 = .ok (.lstore 4, 2) := dk_55 4 (dk_at dksX2_reckon_4 20 rfl rfl)
theorem dX2_reckon_125 : decode cX2_reckon 125 = .ok (.goto 48, 3) := dk_167 0 48 (dk_at dksX2_reckon_5 0 rfl rfl)
theorem dX2_reckon_128 : decode cX2_reckon 128 = .ok (.lload 4, 2) := dk_22 4 (dk_at dksX2_reckon_5 3 rfl rfl)
theorem dX2_reckon_130 : decode cX2_reckon 130 = .ok (.iload_n 3, 1) := dk_29 (dk_at dksX2_reckon_5 5 rfl rfl)
theorem dX2_reckon_131 : decode cX2_reckon 131 = .ok (.bipush 16, 2) := dk_16 16 (dk_at dksX2_reckon_5 6 rfl rfl)
theorem dX2_reckon_133 : decode cX2_reckon 133 = .ok (.irem, 1) := dk_112 (dk_at dksX2_reckon_5 8 rfl rfl)
theorem dX2_reckon_134 : decode cX2_reckon 134 = .ok (.lshl, 1) := dk_121 (dk_at dksX2_reckon_5 9 rfl rfl)
theorem dX2_reckon_135 : decode cX2_reckon 135 = .ok (.lstore 4, 2) := dk_55 4 (dk_at dksX2_reckon_5 10 rfl rfl)
theorem dX2_reckon_137 : decode cX2_reckon 137 = .ok (.goto 36, 3) := dk_167 0 36 (dk_at dksX2_reckon_5 12 rfl rfl)
theorem dX2_reckon_140 : decode cX2_reckon 140 = .ok (.lload 4, 2) := dk_22 4 (dk_at dksX2_reckon_5 15 rfl rfl)
theorem dX2_reckon_142 : decode cX2_reckon 142 = .ok (.iload_n 3, 1) := dk_29 (dk_at dksX2_reckon_5 17 rfl rfl)
theorem dX2_reckon_143 : decode cX2_reckon 143 = .ok (.bipush 16, 2) := dk_16 16 (dk_at dksX2_reckon_5 18 rfl rfl)
theorem dX2_reckon_145 : decode cX2_reckon 145 = .ok (.irem, 1) := dk_112 (dk_at dksX2_reckon_5 20 rfl rfl)
theorem dX2_reckon_146 : decode cX2_reckon 146 = .ok (.lshr, 1) := dk_123 (dk_at dksX2_reckon_5 21 rfl rfl)
theorem dX2_reckon_147 : decode cX2_reckon 147 = .ok (.lstore 4, 2) := dk_55 4 (dk_at dksX2_reckon_5 22 rfl rfl)
theorem dX2_reckon_149 : decode cX2_reckon 149 = .ok (.goto 24, 3) := dk_167 0 24 (dk_at dksX2_reckon_6 0 rfl rfl)
theorem dX2_reckon_152 : decode cX2_reckon 152 = .ok (.lload 4, 2) := dk_22 4 (dk_at dksX2_reckon_6 3 rfl rfl)
theorem dX2_reckon_154 : decode cX2_reckon 154 = .ok (.iload_n 3, 1) := dk_29 (dk_at dksX2_reckon_6 5 rfl rfl)
theorem dX2_reckon_155 : decode cX2_reckon 155 = .ok (.i2l, 1) := dk_133 (dk_at dksX2_reckon_6 6 rfl rfl)
theorem dX2_reckon_156 : decode cX2_reckon 156 = .ok (.lsub, 1) := dk_101 (dk_at dksX2_reckon_6 7 rfl rfl)
theorem dX2_reckon_157 : decode cX2_reckon 157 = .ok (.lstore 4, 2) := dk_55 4 (dk_at dksX2_reckon_6 8 rfl rfl)
theorem dX2_reckon_159 : decode cX2_reckon 159 = .ok (.lload 4, 2) := dk_22 4 (dk_at dksX2_reckon_6 10 rfl rfl)
theorem dX2_reckon_161 : decode cX2_reckon 161 = .ok (.lconst 0, 1) := dk_9 (dk_at dksX2_reckon_6 12 rfl rfl)
theorem dX2_reckon_162 : decode cX2_reckon 162 = .ok (.lcmp, 1) := dk_148 (dk_at dksX2_reckon_6 13 rfl rfl)
theorem dX2_reckon_163 : decode cX2_reckon 163 = .ok (.ifCond .ge 7, 3) := dk_156 0 7 (dk_at dksX2_reckon_6 14 rfl rfl)
theorem dX2_reckon_166 : decode cX2_reckon 166 = .ok (.iconst 1, 1) := dk_4 (dk_at dksX2_reckon_6 17 rfl rfl)
theorem dX2_reckon_167 : decode cX2_reckon 167 = .ok (.goto 4, 3) := dk_167 0 4 (dk_at dksX2_reckon_6 18 rfl rfl)
theorem dX2_reckon_170 : decode cX2_reckon 170 = .ok (.iconst 0, 1) := dk_3 (dk_at dksX2_reckon_6 21 rfl rfl)
theorem dX2_reckon_171 : decode cX2_reckon 171 = .ok (.istore 6, 2) := dk_54 6 (dk_at dksX2_reckon_6 22 rfl rfl)
theorem dX2_reckon_173 : decode cX2_reckon 173 = .ok (.aload_n 0, 1) := dk_42 (dk_at dksX2_reckon_7 0 rfl rfl)
theorem dX2_reckon_174 : decode cX2_reckon 174 = .ok (.bipush 6, 2) := dk_16 6 (dk_at dksX2_reckon_7 1 rfl rfl)
theorem dX2_reckon_176 : decode cX2_reckon 176 = .ok (.iload 6, 2) := dk_21 6 (dk_at dksX2_reckon_7 3 rfl rfl)
theorem dX2_reckon_178 : decode cX2_reckon 178 = .ok (.ifCond .eq 7, 3) := dk_153 0 7 (dk_at dksX2_reckon_7 5 rfl rfl)
theorem dX2_reckon_181 : decode cX2_reckon 181 = .ok (.iconst 1, 1) := dk_4 (dk_at dksX2_reckon_7 8 rfl rfl)
theorem dX2_reckon_182 : decode cX2_reckon 182 = .ok (.goto 4, 3) := dk_167 0 4 (dk_at dksX2_reckon_7 9 rfl rfl)
theorem dX2_reckon_185 : decode cX2_reckon 185 = .ok (.iconst 0, 1) := dk_3 (dk_at dksX2_reckon_7 12 rfl rfl)
theorem dX2_reckon_186 : decode cX2_reckon 186 = .ok (.invokevirtual 133, 3) := dk_182 0 133 (dk_at dksX2_reckon_7 13 rfl rfl)
theorem dX2_reckon_189 : decode cX2_reckon 189 = .ok (.aload_n 0, 1) := dk_42 (dk_at dksX2_reckon_7 16 rfl rfl)
theorem dX2_reckon_190 : decode cX2_reckon 190 = .ok (.iconst 5, 1) := dk_8 (dk_at dksX2_reckon_7 17 rfl rfl)
theorem dX2_reckon_191 : decode cX2_reckon 191 = .ok (.lload 4, 2) := dk_22 4 (dk_at dksX2_reckon_7 18 rfl rfl)
theorem dX2_reckon_193 : decode cX2_reckon 193 = .ok (.invokestatic 70, 3) := dk_184 0 70 (dk_at dksX2_reckon_7 20 rfl rfl)
theorem dX2_reckon_196 : decode cX2_reckon 196 = .ok (.ifCond .ne 7, 3) := dk_154 0 7 (dk_at dksX2_reckon_8 0 rfl rfl)
theorem dX2_reckon_199 : decode cX2_reckon 199 = .ok (.iconst 1, 1) := dk_4 (dk_at dksX2_reckon_8 3 rfl rfl)
theorem dX2_reckon_200 : decode cX2_reckon 200 = .ok (.goto 4, 3) := dk_167 0 4 (dk_at dksX2_reckon_8 4 rfl rfl)
theorem dX2_reckon_203 : decode cX2_reckon 203 = .ok (.iconst 0, 1) := dk_3 (dk_at dksX2_reckon_8 7 rfl rfl)
theorem dX2_reckon_204 : decode cX2_reckon 204 = .ok (.invokevirtual 133, 3) := dk_182 0 133 (dk_at dksX2_reckon_8 8 rfl rfl)
theorem dX2_reckon_207 : decode cX2_reckon 207 = .ok (.iload_n 1, 1) := dk_27 (dk_at dksX2_reckon_8 11 rfl rfl)
theorem dX2_reckon_208 : decode cX2_reckon 208 = .ok (.bipush 11, 2) := dk_16 11 (dk_at dksX2_reckon_8 12 rfl rfl)
theorem dX2_reckon_210 : decode cX2_reckon 210 = .ok (.if_icmp .eq 13, 3) := dk_159 0 13 (dk_at dksX2_reckon_8 14 rfl rfl)
theorem dX2_reckon_213 : decode cX2_reckon 213 = .ok (.aload_n 0, 1) := dk_42 (dk_at dksX2_reckon_8 17 rfl rfl)
theorem dX2_reckon_214 : decode cX2_reckon 214 = .ok (.iload_n 2, 1) := dk_28 (dk_at dksX2_reckon_8 18 rfl rfl)
theorem dX2_reckon_215 : decode cX2_reckon 215 = .ok (.lload 4, 2) := dk_22 4 (dk_at dksX2_reckon_8 19 rfl rfl)
theorem dX2_reckon_217 : decode cX2_reckon 217 = .ok (.invokestatic 70, 3) := dk_184 0 70 (dk_at dksX2_reckon_8 21 rfl rfl)
theorem dX2_reckon_220 : decode cX2_reckon 220 = .ok (.invokevirtual 133, 3) := dk_182 0 133 (dk_at dksX2_reckon_9 0 rfl rfl)
theorem dX2_reckon_223 : decode cX2_reckon 223 = .ok (.return_, 1) := dk_177 (dk_at dksX2_reckon_9 3 rfl rfl)
abbrev cX2_move : ByteArray := prog_16_method_27_code
def yX2_move : MethodName := ⟨RX2, "move", "(IIII)I"⟩
def dkwX2_move_8 : List UInt8 := [182, 0, 133, 21, 4, 172]
abbrev dktX2_move_8 : List UInt8 := dkwX2_move_8 ++ []
def dkwX2_move_7 : List UInt8 := [182, 0, 176, 42, 29, 182, 0, 179, 21, 4, 172, 42, 4, 182, 0, 200, 42, 28, 42, 182, 0, 203]
abbrev dktX2_move_7 : List UInt8 := dkwX2_move_7 ++ dktX2_move_8
def dkwX2_move_6 : List UInt8 := [182, 0, 176, 42, 21, 4, 182, 0, 179, 29, 172, 42, 4, 182, 0, 200, 42, 182, 0, 203, 172, 42, 4]
abbrev dktX2_move_6 : List UInt8 := dkwX2_move_6 ++ dktX2_move_7
def dkwX2_move_5 : List UInt8 := [21, 4, 172, 42, 180, 0, 9, 16, 6, 46, 4, 160, 0, 7, 29, 167, 0, 5, 21, 4, 172, 42, 4]
abbrev dktX2_move_5 : List UInt8 := dkwX2_move_5 ++ dktX2_move_6
def dkwX2_move_4 : List UInt8 := [46, 182, 0, 133, 21, 4, 172, 29, 172, 42, 180, 0, 9, 8, 46, 4, 160, 0, 7, 29, 167, 0, 5]
abbrev dktX2_move_4 : List UInt8 := dkwX2_move_4 ++ dktX2_move_5
def dkwX2_move_3 : List UInt8 := [180, 0, 9, 29, 184, 0, 183, 46, 182, 0, 133, 21, 4, 172, 42, 29, 184, 0, 183, 42, 180, 0, 9, 28]
abbrev dktX2_move_3 : List UInt8 := dkwX2_move_3 ++ dktX2_move_4
def dkwX2_move_2 : List UInt8 := [42, 3, 5, 182, 0, 133, 21, 4, 5, 100, 172, 42, 28, 29, 182, 0, 133, 21, 4, 172, 42, 28, 42]
abbrev dktX2_move_2 : List UInt8 := dkwX2_move_2 ++ dktX2_move_3
def dkwX2_move_1 : List UInt8 := [170, 0, 0, 0, 0, 0, 214, 0, 0, 0, 0, 0, 0, 0, 17, 0, 0, 0, 87, 0, 0, 0, 98, 0, 0, 0, 107, 0, 0, 0, 124, 0, 0, 0, 214, 0, 0, 0, 214, 0, 0, 0, 214, 0, 0, 0, 214, 0, 0, 0, 214, 0, 0, 0, 214, 0, 0, 0, 214, 0, 0, 0, 214, 0, 0, 0, 141, 0, 0, 0, 143, 0, 0, 0, 160, 0, 0, 0, 178, 0, 0, 0, 191, 0, 0, 0, 201]
abbrev dktX2_move_1 : List UInt8 := dkwX2_move_1 ++ dktX2_move_2
def dkwX2_move_0 : List UInt8 := [27]
abbrev dktX2_move_0 : List UInt8 := dkwX2_move_0 ++ dktX2_move_1
theorem dksX2_move_0 : cX2_move.data.toList.drop 0 = dktX2_move_0 := by decide +kernel
theorem dksX2_move_1 : cX2_move.data.toList.drop 1 = dktX2_move_1 := dk_seg dksX2_move_0 1 rfl rfl
theorem dksX2_move_2 : cX2_move.data.toList.drop 88 = dktX2_move_2 := dk_seg dksX2_move_1 87 rfl rfl
theorem dksX2_move_3 : cX2_move.data.toList.drop 111 = dktX2_move_3 := dk_seg dksX2_move_2 23 rfl rfl
theorem dksX2_move_4 : cX2_move.data.toList.drop 135 = dktX2_move_4 := dk_seg dksX2_move_3 24 rfl rfl
theorem dksX2_move_5 : cX2_move.data.toList.drop 158 = dktX2_move_5 := dk_seg dksX2_move_4 23 rfl rfl
theorem dksX2_move_6 : cX2_move.data.toList.drop 181 = dktX2_move_6 := dk_seg dksX2_move_5 23 rfl rfl
theorem dksX2_move_7 : cX2_move.data.toList.drop 204 = dktX2_move_7 := dk_seg dksX2_move_6 23 rfl rfl
theorem dksX2_move_8 : cX2_move.data.toList.drop 226 = dktX2_move_8 := dk_seg dksX2_move_7 22 rfl rfl
theorem dX2_move_0 : decode cX2_move 0 = .ok (.iload_n 1, 1) := dk_27 (dk_at dksX2_move_0 0 rfl rfl)
theorem dX2_move_1 : decode cX2_move 1 = .ok (.tableswitch 214 0 17 #[87, 98, 107, 124, 214, 214, 214, 214, 214, 214, 214, 214, 141, 143, 160, 178, 191, 201], 87) := by decide +kernel
theorem dX2_move_88 : decode cX2_move 88 = .ok (.aload_n 0, 1) := dk_42 (dk_at dksX2_move_2 0 rfl rfl)
theorem dX2_move_89 : decode cX2_move 89 = .ok (.iconst 0, 1) := dk_3 (dk_at dksX2_move_2 1 rfl rfl)
theorem dX2_move_90 : decode cX2_move 90 = .ok (.iconst 2, 1) := dk_5 (dk_at dksX2_move_2 2 rfl rfl)
theorem dX2_move_91 : decode cX2_move 91 = .ok (.invokevirtual 133, 3) := dk_182 0 133 (dk_at dksX2_move_2 3 rfl rfl)
theorem dX2_move_94 : decode cX2_move 94 = .ok (.iload 4, 2) := dk_21 4 (dk_at dksX2_move_2 6 rfl rfl)
theorem dX2_move_96 : decode cX2_move 96 = .ok (.iconst 2, 1) := dk_5 (dk_at dksX2_move_2 8 rfl rfl)
theorem dX2_move_97 : decode cX2_move 97 = .ok (.isub, 1) := dk_100 (dk_at dksX2_move_2 9 rfl rfl)
theorem dX2_move_98 : decode cX2_move 98 = .ok (.ireturn, 1) := dk_172 (dk_at dksX2_move_2 10 rfl rfl)
theorem dX2_move_99 : decode cX2_move 99 = .ok (.aload_n 0, 1) := dk_42 (dk_at dksX2_move_2 11 rfl rfl)
theorem dX2_move_100 : decode cX2_move 100 = .ok (.iload_n 2, 1) := dk_28 (dk_at dksX2_move_2 12 rfl rfl)
theorem dX2_move_101 : decode cX2_move 101 = .ok (.iload_n 3, 1) := dk_29 (dk_at dksX2_move_2 13 rfl rfl)
theorem dX2_move_102 : decode cX2_move 102 = .ok (.invokevirtual 133, 3) := dk_182 0 133 (dk_at dksX2_move_2 14 rfl rfl)
theorem dX2_move_105 : decode cX2_move 105 = .ok (.iload 4, 2) := dk_21 4 (dk_at dksX2_move_2 17 rfl rfl)
theorem dX2_move_107 : decode cX2_move 107 = .ok (.ireturn, 1) := dk_172 (dk_at dksX2_move_2 19 rfl rfl)
theorem dX2_move_108 : decode cX2_move 108 = .ok (.aload_n 0, 1) := dk_42 (dk_at dksX2_move_2 20 rfl rfl)
theorem dX2_move_109 : decode cX2_move 109 = .ok (.iload_n 2, 1) := dk_28 (dk_at dksX2_move_2 21 rfl rfl)
theorem dX2_move_110 : decode cX2_move 110 = .ok (.aload_n 0, 1) := dk_42 (dk_at dksX2_move_2 22 rfl rfl)
theorem dX2_move_111 : decode cX2_move 111 = .ok (.getfield 9, 3) := dk_180 0 9 (dk_at dksX2_move_3 0 rfl rfl)
theorem dX2_move_114 : decode cX2_move 114 = .ok (.iload_n 3, 1) := dk_29 (dk_at dksX2_move_3 3 rfl rfl)
theorem dX2_move_115 : decode cX2_move 115 = .ok (.invokestatic 183, 3) := dk_184 0 183 (dk_at dksX2_move_3 4 rfl rfl)
theorem dX2_move_118 : decode cX2_move 118 = .ok (.iaload, 1) := dk_46 (dk_at dksX2_move_3 7 rfl rfl)
theorem dX2_move_119 : decode cX2_move 119 = .ok (.invokevirtual 133, 3) := dk_182 0 133 (dk_at dksX2_move_3 8 rfl rfl)
theorem dX2_move_122 : decode cX2_move 122 = .ok (.iload 4, 2) := dk_21 4 (dk_at dksX2_move_3 11 rfl rfl)
theorem dX2_move_124 : decode cX2_move 124 = .ok (.ireturn, 1) := dk_172 (dk_at dksX2_move_3 13 rfl rfl)
theorem dX2_move_125 : decode cX2_move 125 = .ok (.aload_n 0, 1) := dk_42 (dk_at dksX2_move_3 14 rfl rfl)
theorem dX2_move_126 : decode cX2_move 126 = .ok (.iload_n 3, 1) := dk_29 (dk_at dksX2_move_3 15 rfl rfl)
theorem dX2_move_127 : decode cX2_move 127 = .ok (.invokestatic 183, 3) := dk_184 0 183 (dk_at dksX2_move_3 16 rfl rfl)
theorem dX2_move_130 : decode cX2_move 130 = .ok (.aload_n 0, 1) := dk_42 (dk_at dksX2_move_3 19 rfl rfl)
theorem dX2_move_131 : decode cX2_move 131 = .ok (.getfield 9, 3) := dk_180 0 9 (dk_at dksX2_move_3 20 rfl rfl)
theorem dX2_move_134 : decode cX2_move 134 = .ok (.iload_n 2, 1) := dk_28 (dk_at dksX2_move_3 23 rfl rfl)
theorem dX2_move_135 : decode cX2_move 135 = .ok (.iaload, 1) := dk_46 (dk_at dksX2_move_4 0 rfl rfl)
theorem dX2_move_136 : decode cX2_move 136 = .ok (.invokevirtual 133, 3) := dk_182 0 133 (dk_at dksX2_move_4 1 rfl rfl)
theorem dX2_move_139 : decode cX2_move 139 = .ok (.iload 4, 2) := dk_21 4 (dk_at dksX2_move_4 4 rfl rfl)
theorem dX2_move_141 : decode cX2_move 141 = .ok (.ireturn, 1) := dk_172 (dk_at dksX2_move_4 6 rfl rfl)
theorem dX2_move_142 : decode cX2_move 142 = .ok (.iload_n 3, 1) := dk_29 (dk_at dksX2_move_4 7 rfl rfl)
theorem dX2_move_143 : decode cX2_move 143 = .ok (.ireturn, 1) := dk_172 (dk_at dksX2_move_4 8 rfl rfl)
theorem dX2_move_144 : decode cX2_move 144 = .ok (.aload_n 0, 1) := dk_42 (dk_at dksX2_move_4 9 rfl rfl)
theorem dX2_move_145 : decode cX2_move 145 = .ok (.getfield 9, 3) := dk_180 0 9 (dk_at dksX2_move_4 10 rfl rfl)
theorem dX2_move_148 : decode cX2_move 148 = .ok (.iconst 5, 1) := dk_8 (dk_at dksX2_move_4 13 rfl rfl)
theorem dX2_move_149 : decode cX2_move 149 = .ok (.iaload, 1) := dk_46 (dk_at dksX2_move_4 14 rfl rfl)
theorem dX2_move_150 : decode cX2_move 150 = .ok (.iconst 1, 1) := dk_4 (dk_at dksX2_move_4 15 rfl rfl)
theorem dX2_move_151 : decode cX2_move 151 = .ok (.if_icmp .ne 7, 3) := dk_160 0 7 (dk_at dksX2_move_4 16 rfl rfl)
theorem dX2_move_154 : decode cX2_move 154 = .ok (.iload_n 3, 1) := dk_29 (dk_at dksX2_move_4 19 rfl rfl)
theorem dX2_move_155 : decode cX2_move 155 = .ok (.goto 5, 3) := dk_167 0 5 (dk_at dksX2_move_4 20 rfl rfl)
theorem dX2_move_158 : decode cX2_move 158 = .ok (.iload 4, 2) := dk_21 4 (dk_at dksX2_move_5 0 rfl rfl)
theorem dX2_move_160 : decode cX2_move 160 = .ok (.ireturn, 1) := dk_172 (dk_at dksX2_move_5 2 rfl rfl)
theorem dX2_move_161 : decode cX2_move 161 = .ok (.aload_n 0, 1) := dk_42 (dk_at dksX2_move_5 3 rfl rfl)
theorem dX2_move_162 : decode cX2_move 162 = .ok (.getfield 9, 3) := dk_180 0 9 (dk_at dksX2_move_5 4 rfl rfl)
theorem dX2_move_165 : decode cX2_move 165 = .ok (.bipush 6, 2) := dk_16 6 (dk_at dksX2_move_5 7 rfl rfl)
theorem dX2_move_167 : decode cX2_move 167 = .ok (.iaload, 1) := dk_46 (dk_at dksX2_move_5 9 rfl rfl)
theorem dX2_move_168 : decode cX2_move 168 = .ok (.iconst 1, 1) := dk_4 (dk_at dksX2_move_5 10 rfl rfl)
theorem dX2_move_169 : decode cX2_move 169 = .ok (.if_icmp .ne 7, 3) := dk_160 0 7 (dk_at dksX2_move_5 11 rfl rfl)
theorem dX2_move_172 : decode cX2_move 172 = .ok (.iload_n 3, 1) := dk_29 (dk_at dksX2_move_5 14 rfl rfl)
theorem dX2_move_173 : decode cX2_move 173 = .ok (.goto 5, 3) := dk_167 0 5 (dk_at dksX2_move_5 15 rfl rfl)
theorem dX2_move_176 : decode cX2_move 176 = .ok (.iload 4, 2) := dk_21 4 (dk_at dksX2_move_5 18 rfl rfl)
theorem dX2_move_178 : decode cX2_move 178 = .ok (.ireturn, 1) := dk_172 (dk_at dksX2_move_5 20 rfl rfl)
theorem dX2_move_179 : decode cX2_move 179 = .ok (.aload_n 0, 1) := dk_42 (dk_at dksX2_move_5 21 rfl rfl)
theorem dX2_move_180 : decode cX2_move 180 = .ok (.iconst 1, 1) := dk_4 (dk_at dksX2_move_5 22 rfl rfl)
theorem dX2_move_181 : decode cX2_move 181 = .ok (.invokevirtual 176, 3) := dk_182 0 176 (dk_at dksX2_move_6 0 rfl rfl)
theorem dX2_move_184 : decode cX2_move 184 = .ok (.aload_n 0, 1) := dk_42 (dk_at dksX2_move_6 3 rfl rfl)
theorem dX2_move_185 : decode cX2_move 185 = .ok (.iload 4, 2) := dk_21 4 (dk_at dksX2_move_6 4 rfl rfl)
theorem dX2_move_187 : decode cX2_move 187 = .ok (.invokevirtual 179, 3) := dk_182 0 179 (dk_at dksX2_move_6 6 rfl rfl)
theorem dX2_move_190 : decode cX2_move 190 = .ok (.iload_n 3, 1) := dk_29 (dk_at dksX2_move_6 9 rfl rfl)
theorem dX2_move_191 : decode cX2_move 191 = .ok (.ireturn, 1) := dk_172 (dk_at dksX2_move_6 10 rfl rfl)
theorem dX2_move_192 : decode cX2_move 192 = .ok (.aload_n 0, 1) := dk_42 (dk_at dksX2_move_6 11 rfl rfl)
theorem dX2_move_193 : decode cX2_move 193 = .ok (.iconst 1, 1) := dk_4 (dk_at dksX2_move_6 12 rfl rfl)
theorem dX2_move_194 : decode cX2_move 194 = .ok (.invokevirtual 200, 3) := dk_182 0 200 (dk_at dksX2_move_6 13 rfl rfl)
theorem dX2_move_197 : decode cX2_move 197 = .ok (.aload_n 0, 1) := dk_42 (dk_at dksX2_move_6 16 rfl rfl)
theorem dX2_move_198 : decode cX2_move 198 = .ok (.invokevirtual 203, 3) := dk_182 0 203 (dk_at dksX2_move_6 17 rfl rfl)
theorem dX2_move_201 : decode cX2_move 201 = .ok (.ireturn, 1) := dk_172 (dk_at dksX2_move_6 20 rfl rfl)
theorem dX2_move_202 : decode cX2_move 202 = .ok (.aload_n 0, 1) := dk_42 (dk_at dksX2_move_6 21 rfl rfl)
theorem dX2_move_203 : decode cX2_move 203 = .ok (.iconst 1, 1) := dk_4 (dk_at dksX2_move_6 22 rfl rfl)
theorem dX2_move_204 : decode cX2_move 204 = .ok (.invokevirtual 176, 3) := dk_182 0 176 (dk_at dksX2_move_7 0 rfl rfl)
theorem dX2_move_207 : decode cX2_move 207 = .ok (.aload_n 0, 1) := dk_42 (dk_at dksX2_move_7 3 rfl rfl)
theorem dX2_move_208 : decode cX2_move 208 = .ok (.iload_n 3, 1) := dk_29 (dk_at dksX2_move_7 4 rfl rfl)
theorem dX2_move_209 : decode cX2_move 209 = .ok (.invokevirtual 179, 3) := dk_182 0 179 (dk_at dksX2_move_7 5 rfl rfl)
theorem dX2_move_212 : decode cX2_move 212 = .ok (.iload 4, 2) := dk_21 4 (dk_at dksX2_move_7 8 rfl rfl)
theorem dX2_move_214 : decode cX2_move 214 = .ok (.ireturn, 1) := dk_172 (dk_at dksX2_move_7 10 rfl rfl)
theorem dX2_move_215 : decode cX2_move 215 = .ok (.aload_n 0, 1) := dk_42 (dk_at dksX2_move_7 11 rfl rfl)
theorem dX2_move_216 : decode cX2_move 216 = .ok (.iconst 1, 1) := dk_4 (dk_at dksX2_move_7 12 rfl rfl)
theorem dX2_move_217 : decode cX2_move 217 = .ok (.invokevirtual 200, 3) := dk_182 0 200 (dk_at dksX2_move_7 13 rfl rfl)
theorem dX2_move_220 : decode cX2_move 220 = .ok (.aload_n 0, 1) := dk_42 (dk_at dksX2_move_7 16 rfl rfl)
theorem dX2_move_221 : decode cX2_move 221 = .ok (.iload_n 2, 1) := dk_28 (dk_at dksX2_move_7 17 rfl rfl)
theorem dX2_move_222 : decode cX2_move 222 = .ok (.aload_n 0, 1) := dk_42 (dk_at dksX2_move_7 18 rfl rfl)
theorem dX2_move_223 : decode cX2_move 223 = .ok (.invokevirtual 203, 3) := dk_182 0 203 (dk_at dksX2_move_7 19 rfl rfl)
theorem dX2_move_226 : decode cX2_move 226 = .ok (.invokevirtual 133, 3) := dk_182 0 133 (dk_at dksX2_move_8 0 rfl rfl)
theorem dX2_move_229 : decode cX2_move 229 = .ok (.iload 4, 2) := dk_21 4 (dk_at dksX2_move_8 3 rfl rfl)
theorem dX2_move_231 : decode cX2_move 231 = .ok (.ireturn, 1) := dk_172 (dk_at dksX2_move_8 5 rfl rfl)
abbrev cX2_held : ByteArray := prog_16_method_20_code
def yX2_held : MethodName := ⟨RX2, "held", "(I)V"⟩
def dkwX2_held_1 : List UInt8 := [183, 0, 174, 191, 177]
abbrev dktX2_held_1 : List UInt8 := dkwX2_held_1 ++ []
def dkwX2_held_0 : List UInt8 := [42, 180, 0, 9, 7, 46, 27, 96, 17, 1, 0, 164, 0, 17, 187, 0, 155, 89, 42, 180, 0, 9, 7, 46]
abbrev dktX2_held_0 : List UInt8 := dkwX2_held_0 ++ dktX2_held_1
theorem dksX2_held_0 : cX2_held.data.toList.drop 0 = dktX2_held_0 := by decide +kernel
theorem dksX2_held_1 : cX2_held.data.toList.drop 24 = dktX2_held_1 := dk_seg dksX2_held_0 24 rfl rfl
theorem dX2_held_0 : decode cX2_held 0 = .ok (.aload_n 0, 1) := dk_42 (dk_at dksX2_held_0 0 rfl rfl)
theorem dX2_held_1 : decode cX2_held 1 = .ok (.getfield 9, 3) := dk_180 0 9 (dk_at dksX2_held_0 1 rfl rfl)
theorem dX2_held_4 : decode cX2_held 4 = .ok (.iconst 4, 1) := dk_7 (dk_at dksX2_held_0 4 rfl rfl)
theorem dX2_held_5 : decode cX2_held 5 = .ok (.iaload, 1) := dk_46 (dk_at dksX2_held_0 5 rfl rfl)
theorem dX2_held_6 : decode cX2_held 6 = .ok (.iload_n 1, 1) := dk_27 (dk_at dksX2_held_0 6 rfl rfl)
theorem dX2_held_7 : decode cX2_held 7 = .ok (.iadd, 1) := dk_96 (dk_at dksX2_held_0 7 rfl rfl)
theorem dX2_held_8 : decode cX2_held 8 = .ok (.sipush 256, 3) := dk_17 1 0 (dk_at dksX2_held_0 8 rfl rfl)
theorem dX2_held_11 : decode cX2_held 11 = .ok (.if_icmp .le 17, 3) := dk_164 0 17 (dk_at dksX2_held_0 11 rfl rfl)
theorem dX2_held_14 : decode cX2_held 14 = .ok (.new 155, 3) := dk_187 0 155 (dk_at dksX2_held_0 14 rfl rfl)
theorem dX2_held_17 : decode cX2_held 17 = .ok (.dup, 1) := dk_89 (dk_at dksX2_held_0 17 rfl rfl)
theorem dX2_held_18 : decode cX2_held 18 = .ok (.aload_n 0, 1) := dk_42 (dk_at dksX2_held_0 18 rfl rfl)
theorem dX2_held_19 : decode cX2_held 19 = .ok (.getfield 9, 3) := dk_180 0 9 (dk_at dksX2_held_0 19 rfl rfl)
theorem dX2_held_22 : decode cX2_held 22 = .ok (.iconst 4, 1) := dk_7 (dk_at dksX2_held_0 22 rfl rfl)
theorem dX2_held_23 : decode cX2_held 23 = .ok (.iaload, 1) := dk_46 (dk_at dksX2_held_0 23 rfl rfl)
theorem dX2_held_24 : decode cX2_held 24 = .ok (.invokespecial 174, 3) := dk_183 0 174 (dk_at dksX2_held_1 0 rfl rfl)
theorem dX2_held_27 : decode cX2_held 27 = .ok (.athrow, 1) := dk_191 (dk_at dksX2_held_1 3 rfl rfl)
theorem dX2_held_28 : decode cX2_held 28 = .ok (.return_, 1) := dk_177 (dk_at dksX2_held_1 4 rfl rfl)
abbrev cX2_pull : ByteArray := prog_16_method_22_code
def yX2_pull : MethodName := ⟨RX2, "pull", "()I"⟩
def dkwX2_pull_1 : List UInt8 := [96, 182, 0, 133, 27, 172]
abbrev dktX2_pull_1 : List UInt8 := dkwX2_pull_1 ++ []
def dkwX2_pull_0 : List UInt8 := [42, 180, 0, 9, 16, 108, 42, 180, 0, 9, 7, 46, 96, 46, 60, 42, 7, 42, 180, 0, 9, 7, 46, 4]
abbrev dktX2_pull_0 : List UInt8 := dkwX2_pull_0 ++ dktX2_pull_1
theorem dksX2_pull_0 : cX2_pull.data.toList.drop 0 = dktX2_pull_0 := by decide +kernel
theorem dksX2_pull_1 : cX2_pull.data.toList.drop 24 = dktX2_pull_1 := dk_seg dksX2_pull_0 24 rfl rfl
theorem dX2_pull_0 : decode cX2_pull 0 = .ok (.aload_n 0, 1) := dk_42 (dk_at dksX2_pull_0 0 rfl rfl)
theorem dX2_pull_1 : decode cX2_pull 1 = .ok (.getfield 9, 3) := dk_180 0 9 (dk_at dksX2_pull_0 1 rfl rfl)
theorem dX2_pull_4 : decode cX2_pull 4 = .ok (.bipush 108, 2) := dk_16 108 (dk_at dksX2_pull_0 4 rfl rfl)
theorem dX2_pull_6 : decode cX2_pull 6 = .ok (.aload_n 0, 1) := dk_42 (dk_at dksX2_pull_0 6 rfl rfl)
theorem dX2_pull_7 : decode cX2_pull 7 = .ok (.getfield 9, 3) := dk_180 0 9 (dk_at dksX2_pull_0 7 rfl rfl)
theorem dX2_pull_10 : decode cX2_pull 10 = .ok (.iconst 4, 1) := dk_7 (dk_at dksX2_pull_0 10 rfl rfl)
theorem dX2_pull_11 : decode cX2_pull 11 = .ok (.iaload, 1) := dk_46 (dk_at dksX2_pull_0 11 rfl rfl)
theorem dX2_pull_12 : decode cX2_pull 12 = .ok (.iadd, 1) := dk_96 (dk_at dksX2_pull_0 12 rfl rfl)
theorem dX2_pull_13 : decode cX2_pull 13 = .ok (.iaload, 1) := dk_46 (dk_at dksX2_pull_0 13 rfl rfl)
theorem dX2_pull_14 : decode cX2_pull 14 = .ok (.istore_n 1, 1) := dk_60 (dk_at dksX2_pull_0 14 rfl rfl)
theorem dX2_pull_15 : decode cX2_pull 15 = .ok (.aload_n 0, 1) := dk_42 (dk_at dksX2_pull_0 15 rfl rfl)
theorem dX2_pull_16 : decode cX2_pull 16 = .ok (.iconst 4, 1) := dk_7 (dk_at dksX2_pull_0 16 rfl rfl)
theorem dX2_pull_17 : decode cX2_pull 17 = .ok (.aload_n 0, 1) := dk_42 (dk_at dksX2_pull_0 17 rfl rfl)
theorem dX2_pull_18 : decode cX2_pull 18 = .ok (.getfield 9, 3) := dk_180 0 9 (dk_at dksX2_pull_0 18 rfl rfl)
theorem dX2_pull_21 : decode cX2_pull 21 = .ok (.iconst 4, 1) := dk_7 (dk_at dksX2_pull_0 21 rfl rfl)
theorem dX2_pull_22 : decode cX2_pull 22 = .ok (.iaload, 1) := dk_46 (dk_at dksX2_pull_0 22 rfl rfl)
theorem dX2_pull_23 : decode cX2_pull 23 = .ok (.iconst 1, 1) := dk_4 (dk_at dksX2_pull_0 23 rfl rfl)
theorem dX2_pull_24 : decode cX2_pull 24 = .ok (.iadd, 1) := dk_96 (dk_at dksX2_pull_1 0 rfl rfl)
theorem dX2_pull_25 : decode cX2_pull 25 = .ok (.invokevirtual 133, 3) := dk_182 0 133 (dk_at dksX2_pull_1 1 rfl rfl)
theorem dX2_pull_28 : decode cX2_pull 28 = .ok (.iload_n 1, 1) := dk_27 (dk_at dksX2_pull_1 4 rfl rfl)
theorem dX2_pull_29 : decode cX2_pull 29 = .ok (.ireturn, 1) := dk_172 (dk_at dksX2_pull_1 5 rfl rfl)
abbrev cX2_serve : ByteArray := prog_16_method_28_code
def yX2_serve : MethodName := ⟨RX2, "serve", "(IIII)I"⟩
def dkwX2_serve_9 : List UInt8 := [29, 182, 0, 210, 153, 0, 8, 21, 4, 167, 0, 7, 21, 4, 5, 100, 172]
abbrev dktX2_serve_9 : List UInt8 := dkwX2_serve_9 ++ []
def dkwX2_serve_8 : List UInt8 := [96, 29, 182, 0, 133, 42, 16, 17, 42, 180, 0, 9, 16, 17, 46, 4, 96, 182, 0, 133, 21, 4, 172, 42]
abbrev dktX2_serve_8 : List UInt8 := dkwX2_serve_8 ++ dktX2_serve_9
def dkwX2_serve_7 : List UInt8 := [46, 16, 60, 160, 0, 11, 187, 0, 157, 89, 183, 0, 209, 191, 42, 16, 48, 42, 180, 0, 9, 16, 17, 46]
abbrev dktX2_serve_7 : List UInt8 := dkwX2_serve_7 ++ dktX2_serve_8
def dkwX2_serve_6 : List UInt8 := [182, 0, 133, 21, 4, 172, 42, 28, 42, 182, 0, 206, 182, 0, 133, 21, 4, 172, 42, 180, 0, 9, 16, 17]
abbrev dktX2_serve_6 : List UInt8 := dkwX2_serve_6 ++ dktX2_serve_7
def dkwX2_serve_5 : List UInt8 := [153, 0, 8, 21, 4, 167, 0, 7, 21, 4, 5, 100, 172, 42, 16, 10, 29, 182, 0, 133, 42, 16, 11, 3]
abbrev dktX2_serve_5 : List UInt8 := dkwX2_serve_5 ++ dktX2_serve_6
def dkwX2_serve_4 : List UInt8 := [122, 4, 126, 182, 0, 133, 42, 16, 7, 4, 182, 0, 133, 42, 182, 0, 203, 172, 42, 182, 0, 165]
abbrev dktX2_serve_4 : List UInt8 := dkwX2_serve_4 ++ dktX2_serve_5
def dkwX2_serve_3 : List UInt8 := [182, 0, 200, 42, 182, 0, 203, 54, 5, 42, 8, 21, 5, 4, 126, 182, 0, 133, 42, 16, 6, 21, 5, 4]
abbrev dktX2_serve_3 : List UInt8 := dkwX2_serve_3 ++ dktX2_serve_4
def dkwX2_serve_2 : List UInt8 := [42, 16, 7, 27, 16, 19, 160, 0, 7, 4, 167, 0, 4, 3, 182, 0, 133, 21, 4, 172, 42, 5]
abbrev dktX2_serve_2 : List UInt8 := dkwX2_serve_2 ++ dktX2_serve_3
def dkwX2_serve_1 : List UInt8 := [170, 0, 0, 0, 0, 0, 206, 0, 0, 0, 19, 0, 0, 0, 25, 0, 0, 0, 43, 0, 0, 0, 43, 0, 0, 0, 63, 0, 0, 0, 107, 0, 0, 0, 124, 0, 0, 0, 141, 0, 0, 0, 153]
abbrev dktX2_serve_1 : List UInt8 := dkwX2_serve_1 ++ dktX2_serve_2
def dkwX2_serve_0 : List UInt8 := [27]
abbrev dktX2_serve_0 : List UInt8 := dkwX2_serve_0 ++ dktX2_serve_1
theorem dksX2_serve_0 : cX2_serve.data.toList.drop 0 = dktX2_serve_0 := by decide +kernel
theorem dksX2_serve_1 : cX2_serve.data.toList.drop 1 = dktX2_serve_1 := dk_seg dksX2_serve_0 1 rfl rfl
theorem dksX2_serve_2 : cX2_serve.data.toList.drop 44 = dktX2_serve_2 := dk_seg dksX2_serve_1 43 rfl rfl
theorem dksX2_serve_3 : cX2_serve.data.toList.drop 66 = dktX2_serve_3 := dk_seg dksX2_serve_2 22 rfl rfl
theorem dksX2_serve_4 : cX2_serve.data.toList.drop 90 = dktX2_serve_4 := dk_seg dksX2_serve_3 24 rfl rfl
theorem dksX2_serve_5 : cX2_serve.data.toList.drop 112 = dktX2_serve_5 := dk_seg dksX2_serve_4 22 rfl rfl
theorem dksX2_serve_6 : cX2_serve.data.toList.drop 136 = dktX2_serve_6 := dk_seg dksX2_serve_5 24 rfl rfl
theorem dksX2_serve_7 : cX2_serve.data.toList.drop 160 = dktX2_serve_7 := dk_seg dksX2_serve_6 24 rfl rfl
theorem dksX2_serve_8 : cX2_serve.data.toList.drop 184 = dktX2_serve_8 := dk_seg dksX2_serve_7 24 rfl rfl
theorem dksX2_serve_9 : cX2_serve.data.toList.drop 208 = dktX2_serve_9 := dk_seg dksX2_serve_8 24 rfl rfl
theorem dX2_serve_0 : decode cX2_serve 0 = .ok (.iload_n 1, 1) := dk_27 (dk_at dksX2_serve_0 0 rfl rfl)
theorem dX2_serve_1 : decode cX2_serve 1 = .ok (.tableswitch 206 19 25 #[43, 43, 63, 107, 124, 141, 153], 43) := by decide +kernel
theorem dX2_serve_44 : decode cX2_serve 44 = .ok (.aload_n 0, 1) := dk_42 (dk_at dksX2_serve_2 0 rfl rfl)
theorem dX2_serve_45 : decode cX2_serve 45 = .ok (.bipush 7, 2) := dk_16 7 (dk_at dksX2_serve_2 1 rfl rfl)
theorem dX2_serve_47 : decode cX2_serve 47 = .ok (.iload_n 1, 1) := dk_27 (dk_at dksX2_serve_2 3 rfl rfl)
theorem dX2_serve_48 : decode cX2_serve 48 = .ok (.bipush 19, 2) := dk_16 19 (dk_at dksX2_serve_2 4 rfl rfl)
theorem dX2_serve_50 : decode cX2_serve 50 = .ok (.if_icmp .ne 7, 3) := dk_160 0 7 (dk_at dksX2_serve_2 6 rfl rfl)
theorem dX2_serve_53 : decode cX2_serve 53 = .ok (.iconst 1, 1) := dk_4 (dk_at dksX2_serve_2 9 rfl rfl)
theorem dX2_serve_54 : decode cX2_serve 54 = .ok (.goto 4, 3) := dk_167 0 4 (dk_at dksX2_serve_2 10 rfl rfl)
theorem dX2_serve_57 : decode cX2_serve 57 = .ok (.iconst 0, 1) := dk_3 (dk_at dksX2_serve_2 13 rfl rfl)
theorem dX2_serve_58 : decode cX2_serve 58 = .ok (.invokevirtual 133, 3) := dk_182 0 133 (dk_at dksX2_serve_2 14 rfl rfl)
theorem dX2_serve_61 : decode cX2_serve 61 = .ok (.iload 4, 2) := dk_21 4 (dk_at dksX2_serve_2 17 rfl rfl)
theorem dX2_serve_63 : decode cX2_serve 63 = .ok (.ireturn, 1) := dk_172 (dk_at dksX2_serve_2 19 rfl rfl)
theorem dX2_serve_64 : decode cX2_serve 64 = .ok (.aload_n 0, 1) := dk_42 (dk_at dksX2_serve_2 20 rfl rfl)
theorem dX2_serve_65 : decode cX2_serve 65 = .ok (.iconst 2, 1) := dk_5 (dk_at dksX2_serve_2 21 rfl rfl)
theorem dX2_serve_66 : decode cX2_serve 66 = .ok (.invokevirtual 200, 3) := dk_182 0 200 (dk_at dksX2_serve_3 0 rfl rfl)
theorem dX2_serve_69 : decode cX2_serve 69 = .ok (.aload_n 0, 1) := dk_42 (dk_at dksX2_serve_3 3 rfl rfl)
theorem dX2_serve_70 : decode cX2_serve 70 = .ok (.invokevirtual 203, 3) := dk_182 0 203 (dk_at dksX2_serve_3 4 rfl rfl)
theorem dX2_serve_73 : decode cX2_serve 73 = .ok (.istore 5, 2) := dk_54 5 (dk_at dksX2_serve_3 7 rfl rfl)
theorem dX2_serve_75 : decode cX2_serve 75 = .ok (.aload_n 0, 1) := dk_42 (dk_at dksX2_serve_3 9 rfl rfl)
theorem dX2_serve_76 : decode cX2_serve 76 = .ok (.iconst 5, 1) := dk_8 (dk_at dksX2_serve_3 10 rfl rfl)
theorem dX2_serve_77 : decode cX2_serve 77 = .ok (.iload 5, 2) := dk_21 5 (dk_at dksX2_serve_3 11 rfl rfl)
theorem dX2_serve_79 : decode cX2_serve 79 = .ok (.iconst 1, 1) := dk_4 (dk_at dksX2_serve_3 13 rfl rfl)
theorem dX2_serve_80 : decode cX2_serve 80 = .ok (.iand, 1) := dk_126 (dk_at dksX2_serve_3 14 rfl rfl)
theorem dX2_serve_81 : decode cX2_serve 81 = .ok (.invokevirtual 133, 3) := dk_182 0 133 (dk_at dksX2_serve_3 15 rfl rfl)
theorem dX2_serve_84 : decode cX2_serve 84 = .ok (.aload_n 0, 1) := dk_42 (dk_at dksX2_serve_3 18 rfl rfl)
theorem dX2_serve_85 : decode cX2_serve 85 = .ok (.bipush 6, 2) := dk_16 6 (dk_at dksX2_serve_3 19 rfl rfl)
theorem dX2_serve_87 : decode cX2_serve 87 = .ok (.iload 5, 2) := dk_21 5 (dk_at dksX2_serve_3 21 rfl rfl)
theorem dX2_serve_89 : decode cX2_serve 89 = .ok (.iconst 1, 1) := dk_4 (dk_at dksX2_serve_3 23 rfl rfl)
theorem dX2_serve_90 : decode cX2_serve 90 = .ok (.ishr, 1) := dk_122 (dk_at dksX2_serve_4 0 rfl rfl)
theorem dX2_serve_91 : decode cX2_serve 91 = .ok (.iconst 1, 1) := dk_4 (dk_at dksX2_serve_4 1 rfl rfl)
theorem dX2_serve_92 : decode cX2_serve 92 = .ok (.iand, 1) := dk_126 (dk_at dksX2_serve_4 2 rfl rfl)
theorem dX2_serve_93 : decode cX2_serve 93 = .ok (.invokevirtual 133, 3) := dk_182 0 133 (dk_at dksX2_serve_4 3 rfl rfl)
theorem dX2_serve_96 : decode cX2_serve 96 = .ok (.aload_n 0, 1) := dk_42 (dk_at dksX2_serve_4 6 rfl rfl)
theorem dX2_serve_97 : decode cX2_serve 97 = .ok (.bipush 7, 2) := dk_16 7 (dk_at dksX2_serve_4 7 rfl rfl)
theorem dX2_serve_99 : decode cX2_serve 99 = .ok (.iconst 1, 1) := dk_4 (dk_at dksX2_serve_4 9 rfl rfl)
theorem dX2_serve_100 : decode cX2_serve 100 = .ok (.invokevirtual 133, 3) := dk_182 0 133 (dk_at dksX2_serve_4 10 rfl rfl)
theorem dX2_serve_103 : decode cX2_serve 103 = .ok (.aload_n 0, 1) := dk_42 (dk_at dksX2_serve_4 13 rfl rfl)
theorem dX2_serve_104 : decode cX2_serve 104 = .ok (.invokevirtual 203, 3) := dk_182 0 203 (dk_at dksX2_serve_4 14 rfl rfl)
theorem dX2_serve_107 : decode cX2_serve 107 = .ok (.ireturn, 1) := dk_172 (dk_at dksX2_serve_4 17 rfl rfl)
theorem dX2_serve_108 : decode cX2_serve 108 = .ok (.aload_n 0, 1) := dk_42 (dk_at dksX2_serve_4 18 rfl rfl)
theorem dX2_serve_109 : decode cX2_serve 109 = .ok (.invokevirtual 165, 3) := dk_182 0 165 (dk_at dksX2_serve_4 19 rfl rfl)
theorem dX2_serve_112 : decode cX2_serve 112 = .ok (.ifCond .eq 8, 3) := dk_153 0 8 (dk_at dksX2_serve_5 0 rfl rfl)
theorem dX2_serve_115 : decode cX2_serve 115 = .ok (.iload 4, 2) := dk_21 4 (dk_at dksX2_serve_5 3 rfl rfl)
theorem dX2_serve_117 : decode cX2_serve 117 = .ok (.goto 7, 3) := dk_167 0 7 (dk_at dksX2_serve_5 5 rfl rfl)
theorem dX2_serve_120 : decode cX2_serve 120 = .ok (.iload 4, 2) := dk_21 4 (dk_at dksX2_serve_5 8 rfl rfl)
theorem dX2_serve_122 : decode cX2_serve 122 = .ok (.iconst 2, 1) := dk_5 (dk_at dksX2_serve_5 10 rfl rfl)
theorem dX2_serve_123 : decode cX2_serve 123 = .ok (.isub, 1) := dk_100 (dk_at dksX2_serve_5 11 rfl rfl)
theorem dX2_serve_124 : decode cX2_serve 124 = .ok (.ireturn, 1) := dk_172 (dk_at dksX2_serve_5 12 rfl rfl)
theorem dX2_serve_125 : decode cX2_serve 125 = .ok (.aload_n 0, 1) := dk_42 (dk_at dksX2_serve_5 13 rfl rfl)
theorem dX2_serve_126 : decode cX2_serve 126 = .ok (.bipush 10, 2) := dk_16 10 (dk_at dksX2_serve_5 14 rfl rfl)
theorem dX2_serve_128 : decode cX2_serve 128 = .ok (.iload_n 3, 1) := dk_29 (dk_at dksX2_serve_5 16 rfl rfl)
theorem dX2_serve_129 : decode cX2_serve 129 = .ok (.invokevirtual 133, 3) := dk_182 0 133 (dk_at dksX2_serve_5 17 rfl rfl)
theorem dX2_serve_132 : decode cX2_serve 132 = .ok (.aload_n 0, 1) := dk_42 (dk_at dksX2_serve_5 20 rfl rfl)
theorem dX2_serve_133 : decode cX2_serve 133 = .ok (.bipush 11, 2) := dk_16 11 (dk_at dksX2_serve_5 21 rfl rfl)
theorem dX2_serve_135 : decode cX2_serve 135 = .ok (.iconst 0, 1) := dk_3 (dk_at dksX2_serve_5 23 rfl rfl)
theorem dX2_serve_136 : decode cX2_serve 136 = .ok (.invokevirtual 133, 3) := dk_182 0 133 (dk_at dksX2_serve_6 0 rfl rfl)
theorem dX2_serve_139 : decode cX2_serve 139 = .ok (.iload 4, 2) := dk_21 4 (dk_at dksX2_serve_6 3 rfl rfl)
theorem dX2_serve_141 : decode cX2_serve 141 = .ok (.ireturn, 1) := dk_172 (dk_at dksX2_serve_6 5 rfl rfl)
theorem dX2_serve_142 : decode cX2_serve 142 = .ok (.aload_n 0, 1) := dk_42 (dk_at dksX2_serve_6 6 rfl rfl)
theorem dX2_serve_143 : decode cX2_serve 143 = .ok (.iload_n 2, 1) := dk_28 (dk_at dksX2_serve_6 7 rfl rfl)
theorem dX2_serve_144 : decode cX2_serve 144 = .ok (.aload_n 0, 1) := dk_42 (dk_at dksX2_serve_6 8 rfl rfl)
theorem dX2_serve_145 : decode cX2_serve 145 = .ok (.invokevirtual 206, 3) := dk_182 0 206 (dk_at dksX2_serve_6 9 rfl rfl)
theorem dX2_serve_148 : decode cX2_serve 148 = .ok (.invokevirtual 133, 3) := dk_182 0 133 (dk_at dksX2_serve_6 12 rfl rfl)
theorem dX2_serve_151 : decode cX2_serve 151 = .ok (.iload 4, 2) := dk_21 4 (dk_at dksX2_serve_6 15 rfl rfl)
theorem dX2_serve_153 : decode cX2_serve 153 = .ok (.ireturn, 1) := dk_172 (dk_at dksX2_serve_6 17 rfl rfl)
theorem dX2_serve_154 : decode cX2_serve 154 = .ok (.aload_n 0, 1) := dk_42 (dk_at dksX2_serve_6 18 rfl rfl)
theorem dX2_serve_155 : decode cX2_serve 155 = .ok (.getfield 9, 3) := dk_180 0 9 (dk_at dksX2_serve_6 19 rfl rfl)
theorem dX2_serve_158 : decode cX2_serve 158 = .ok (.bipush 17, 2) := dk_16 17 (dk_at dksX2_serve_6 22 rfl rfl)
theorem dX2_serve_160 : decode cX2_serve 160 = .ok (.iaload, 1) := dk_46 (dk_at dksX2_serve_7 0 rfl rfl)
theorem dX2_serve_161 : decode cX2_serve 161 = .ok (.bipush 60, 2) := dk_16 60 (dk_at dksX2_serve_7 1 rfl rfl)
theorem dX2_serve_163 : decode cX2_serve 163 = .ok (.if_icmp .ne 11, 3) := dk_160 0 11 (dk_at dksX2_serve_7 3 rfl rfl)
theorem dX2_serve_166 : decode cX2_serve 166 = .ok (.new 157, 3) := dk_187 0 157 (dk_at dksX2_serve_7 6 rfl rfl)
theorem dX2_serve_169 : decode cX2_serve 169 = .ok (.dup, 1) := dk_89 (dk_at dksX2_serve_7 9 rfl rfl)
theorem dX2_serve_170 : decode cX2_serve 170 = .ok (.invokespecial 209, 3) := dk_183 0 209 (dk_at dksX2_serve_7 10 rfl rfl)
theorem dX2_serve_173 : decode cX2_serve 173 = .ok (.athrow, 1) := dk_191 (dk_at dksX2_serve_7 13 rfl rfl)
theorem dX2_serve_174 : decode cX2_serve 174 = .ok (.aload_n 0, 1) := dk_42 (dk_at dksX2_serve_7 14 rfl rfl)
theorem dX2_serve_175 : decode cX2_serve 175 = .ok (.bipush 48, 2) := dk_16 48 (dk_at dksX2_serve_7 15 rfl rfl)
theorem dX2_serve_177 : decode cX2_serve 177 = .ok (.aload_n 0, 1) := dk_42 (dk_at dksX2_serve_7 17 rfl rfl)
theorem dX2_serve_178 : decode cX2_serve 178 = .ok (.getfield 9, 3) := dk_180 0 9 (dk_at dksX2_serve_7 18 rfl rfl)
theorem dX2_serve_181 : decode cX2_serve 181 = .ok (.bipush 17, 2) := dk_16 17 (dk_at dksX2_serve_7 21 rfl rfl)
theorem dX2_serve_183 : decode cX2_serve 183 = .ok (.iaload, 1) := dk_46 (dk_at dksX2_serve_7 23 rfl rfl)
theorem dX2_serve_184 : decode cX2_serve 184 = .ok (.iadd, 1) := dk_96 (dk_at dksX2_serve_8 0 rfl rfl)
theorem dX2_serve_185 : decode cX2_serve 185 = .ok (.iload_n 3, 1) := dk_29 (dk_at dksX2_serve_8 1 rfl rfl)
theorem dX2_serve_186 : decode cX2_serve 186 = .ok (.invokevirtual 133, 3) := dk_182 0 133 (dk_at dksX2_serve_8 2 rfl rfl)
theorem dX2_serve_189 : decode cX2_serve 189 = .ok (.aload_n 0, 1) := dk_42 (dk_at dksX2_serve_8 5 rfl rfl)
theorem dX2_serve_190 : decode cX2_serve 190 = .ok (.bipush 17, 2) := dk_16 17 (dk_at dksX2_serve_8 6 rfl rfl)
theorem dX2_serve_192 : decode cX2_serve 192 = .ok (.aload_n 0, 1) := dk_42 (dk_at dksX2_serve_8 8 rfl rfl)
theorem dX2_serve_193 : decode cX2_serve 193 = .ok (.getfield 9, 3) := dk_180 0 9 (dk_at dksX2_serve_8 9 rfl rfl)
theorem dX2_serve_196 : decode cX2_serve 196 = .ok (.bipush 17, 2) := dk_16 17 (dk_at dksX2_serve_8 12 rfl rfl)
theorem dX2_serve_198 : decode cX2_serve 198 = .ok (.iaload, 1) := dk_46 (dk_at dksX2_serve_8 14 rfl rfl)
theorem dX2_serve_199 : decode cX2_serve 199 = .ok (.iconst 1, 1) := dk_4 (dk_at dksX2_serve_8 15 rfl rfl)
theorem dX2_serve_200 : decode cX2_serve 200 = .ok (.iadd, 1) := dk_96 (dk_at dksX2_serve_8 16 rfl rfl)
theorem dX2_serve_201 : decode cX2_serve 201 = .ok (.invokevirtual 133, 3) := dk_182 0 133 (dk_at dksX2_serve_8 17 rfl rfl)
theorem dX2_serve_204 : decode cX2_serve 204 = .ok (.iload 4, 2) := dk_21 4 (dk_at dksX2_serve_8 20 rfl rfl)
theorem dX2_serve_206 : decode cX2_serve 206 = .ok (.ireturn, 1) := dk_172 (dk_at dksX2_serve_8 22 rfl rfl)
theorem dX2_serve_207 : decode cX2_serve 207 = .ok (.aload_n 0, 1) := dk_42 (dk_at dksX2_serve_8 23 rfl rfl)
theorem dX2_serve_208 : decode cX2_serve 208 = .ok (.iload_n 3, 1) := dk_29 (dk_at dksX2_serve_9 0 rfl rfl)
theorem dX2_serve_209 : decode cX2_serve 209 = .ok (.invokevirtual 210, 3) := dk_182 0 210 (dk_at dksX2_serve_9 1 rfl rfl)
theorem dX2_serve_212 : decode cX2_serve 212 = .ok (.ifCond .eq 8, 3) := dk_153 0 8 (dk_at dksX2_serve_9 4 rfl rfl)
theorem dX2_serve_215 : decode cX2_serve 215 = .ok (.iload 4, 2) := dk_21 4 (dk_at dksX2_serve_9 7 rfl rfl)
theorem dX2_serve_217 : decode cX2_serve 217 = .ok (.goto 7, 3) := dk_167 0 7 (dk_at dksX2_serve_9 9 rfl rfl)
theorem dX2_serve_220 : decode cX2_serve 220 = .ok (.iload 4, 2) := dk_21 4 (dk_at dksX2_serve_9 12 rfl rfl)
theorem dX2_serve_222 : decode cX2_serve 222 = .ok (.iconst 2, 1) := dk_5 (dk_at dksX2_serve_9 14 rfl rfl)
theorem dX2_serve_223 : decode cX2_serve 223 = .ok (.isub, 1) := dk_100 (dk_at dksX2_serve_9 15 rfl rfl)
theorem dX2_serve_224 : decode cX2_serve 224 = .ok (.ireturn, 1) := dk_172 (dk_at dksX2_serve_9 16 rfl rfl)
abbrev cX2_read : ByteArray := prog_16_method_13_code
def yX2_read : MethodName := ⟨RX2, "read", "()I"⟩
def dkwX2_read_2 : List UInt8 := [42, 180, 0, 9, 16, 16, 46, 4, 96, 182, 0, 133, 27, 172]
abbrev dktX2_read_2 : List UInt8 := dkwX2_read_2 ++ []
def dkwX2_read_1 : List UInt8 := [42, 180, 0, 18, 42, 180, 0, 9, 16, 16, 46, 182, 0, 121, 192, 0, 103, 180, 0, 130, 60, 42, 16, 16]
abbrev dktX2_read_1 : List UInt8 := dkwX2_read_1 ++ dktX2_read_2
def dkwX2_read_0 : List UInt8 := [42, 180, 0, 9, 16, 16, 46, 42, 3, 42, 180, 0, 9, 5, 46, 182, 0, 125, 160, 0, 6, 18, 129, 172]
abbrev dktX2_read_0 : List UInt8 := dkwX2_read_0 ++ dktX2_read_1
theorem dksX2_read_0 : cX2_read.data.toList.drop 0 = dktX2_read_0 := by decide +kernel
theorem dksX2_read_1 : cX2_read.data.toList.drop 24 = dktX2_read_1 := dk_seg dksX2_read_0 24 rfl rfl
theorem dksX2_read_2 : cX2_read.data.toList.drop 48 = dktX2_read_2 := dk_seg dksX2_read_1 24 rfl rfl
theorem dX2_read_0 : decode cX2_read 0 = .ok (.aload_n 0, 1) := dk_42 (dk_at dksX2_read_0 0 rfl rfl)
theorem dX2_read_1 : decode cX2_read 1 = .ok (.getfield 9, 3) := dk_180 0 9 (dk_at dksX2_read_0 1 rfl rfl)
theorem dX2_read_4 : decode cX2_read 4 = .ok (.bipush 16, 2) := dk_16 16 (dk_at dksX2_read_0 4 rfl rfl)
theorem dX2_read_6 : decode cX2_read 6 = .ok (.iaload, 1) := dk_46 (dk_at dksX2_read_0 6 rfl rfl)
theorem dX2_read_7 : decode cX2_read 7 = .ok (.aload_n 0, 1) := dk_42 (dk_at dksX2_read_0 7 rfl rfl)
theorem dX2_read_8 : decode cX2_read 8 = .ok (.iconst 0, 1) := dk_3 (dk_at dksX2_read_0 8 rfl rfl)
theorem dX2_read_9 : decode cX2_read 9 = .ok (.aload_n 0, 1) := dk_42 (dk_at dksX2_read_0 9 rfl rfl)
theorem dX2_read_10 : decode cX2_read 10 = .ok (.getfield 9, 3) := dk_180 0 9 (dk_at dksX2_read_0 10 rfl rfl)
theorem dX2_read_13 : decode cX2_read 13 = .ok (.iconst 2, 1) := dk_5 (dk_at dksX2_read_0 13 rfl rfl)
theorem dX2_read_14 : decode cX2_read 14 = .ok (.iaload, 1) := dk_46 (dk_at dksX2_read_0 14 rfl rfl)
theorem dX2_read_15 : decode cX2_read 15 = .ok (.invokevirtual 125, 3) := dk_182 0 125 (dk_at dksX2_read_0 15 rfl rfl)
theorem dX2_read_18 : decode cX2_read 18 = .ok (.if_icmp .ne 6, 3) := dk_160 0 6 (dk_at dksX2_read_0 18 rfl rfl)
theorem dX2_read_21 : decode cX2_read 21 = .ok (.ldc 129, 2) := dk_18 129 (dk_at dksX2_read_0 21 rfl rfl)
theorem dX2_read_23 : decode cX2_read 23 = .ok (.ireturn, 1) := dk_172 (dk_at dksX2_read_0 23 rfl rfl)
theorem dX2_read_24 : decode cX2_read 24 = .ok (.aload_n 0, 1) := dk_42 (dk_at dksX2_read_1 0 rfl rfl)
theorem dX2_read_25 : decode cX2_read 25 = .ok (.getfield 18, 3) := dk_180 0 18 (dk_at dksX2_read_1 1 rfl rfl)
theorem dX2_read_28 : decode cX2_read 28 = .ok (.aload_n 0, 1) := dk_42 (dk_at dksX2_read_1 4 rfl rfl)
theorem dX2_read_29 : decode cX2_read 29 = .ok (.getfield 9, 3) := dk_180 0 9 (dk_at dksX2_read_1 5 rfl rfl)
theorem dX2_read_32 : decode cX2_read 32 = .ok (.bipush 16, 2) := dk_16 16 (dk_at dksX2_read_1 8 rfl rfl)
theorem dX2_read_34 : decode cX2_read 34 = .ok (.iaload, 1) := dk_46 (dk_at dksX2_read_1 10 rfl rfl)
theorem dX2_read_35 : decode cX2_read 35 = .ok (.invokevirtual 121, 3) := dk_182 0 121 (dk_at dksX2_read_1 11 rfl rfl)
theorem dX2_read_38 : decode cX2_read 38 = .ok (.checkcast 103, 3) := dk_192 0 103 (dk_at dksX2_read_1 14 rfl rfl)
theorem dX2_read_41 : decode cX2_read 41 = .ok (.getfield 130, 3) := dk_180 0 130 (dk_at dksX2_read_1 17 rfl rfl)
theorem dX2_read_44 : decode cX2_read 44 = .ok (.istore_n 1, 1) := dk_60 (dk_at dksX2_read_1 20 rfl rfl)
theorem dX2_read_45 : decode cX2_read 45 = .ok (.aload_n 0, 1) := dk_42 (dk_at dksX2_read_1 21 rfl rfl)
theorem dX2_read_46 : decode cX2_read 46 = .ok (.bipush 16, 2) := dk_16 16 (dk_at dksX2_read_1 22 rfl rfl)
theorem dX2_read_48 : decode cX2_read 48 = .ok (.aload_n 0, 1) := dk_42 (dk_at dksX2_read_2 0 rfl rfl)
theorem dX2_read_49 : decode cX2_read 49 = .ok (.getfield 9, 3) := dk_180 0 9 (dk_at dksX2_read_2 1 rfl rfl)
theorem dX2_read_52 : decode cX2_read 52 = .ok (.bipush 16, 2) := dk_16 16 (dk_at dksX2_read_2 4 rfl rfl)
theorem dX2_read_54 : decode cX2_read 54 = .ok (.iaload, 1) := dk_46 (dk_at dksX2_read_2 6 rfl rfl)
theorem dX2_read_55 : decode cX2_read 55 = .ok (.iconst 1, 1) := dk_4 (dk_at dksX2_read_2 7 rfl rfl)
theorem dX2_read_56 : decode cX2_read 56 = .ok (.iadd, 1) := dk_96 (dk_at dksX2_read_2 8 rfl rfl)
theorem dX2_read_57 : decode cX2_read 57 = .ok (.invokevirtual 133, 3) := dk_182 0 133 (dk_at dksX2_read_2 9 rfl rfl)
theorem dX2_read_60 : decode cX2_read 60 = .ok (.iload_n 1, 1) := dk_27 (dk_at dksX2_read_2 12 rfl rfl)
theorem dX2_read_61 : decode cX2_read 61 = .ok (.ireturn, 1) := dk_172 (dk_at dksX2_read_2 13 rfl rfl)
abbrev cX2_told : ByteArray := prog_16_method_12_code
def yX2_told : MethodName := ⟨RX2, "told", "(II)I"⟩
def dkwX2_told_2 : List UInt8 := [4, 167, 0, 4, 3, 96, 62, 132, 4, 1, 167, 255, 204, 29, 172]
abbrev dktX2_told_2 : List UInt8 := dkwX2_told_2 ++ []
def dkwX2_told_1 : List UInt8 := [182, 0, 121, 192, 0, 103, 180, 0, 105, 54, 5, 29, 21, 5, 27, 161, 0, 13, 21, 5, 28, 163, 0, 7]
abbrev dktX2_told_1 : List UInt8 := dkwX2_told_1 ++ dktX2_told_2
def dkwX2_told_0 : List UInt8 := [3, 62, 3, 54, 4, 21, 4, 42, 180, 0, 18, 182, 0, 86, 162, 0, 46, 42, 180, 0, 18, 21, 4]
abbrev dktX2_told_0 : List UInt8 := dkwX2_told_0 ++ dktX2_told_1
theorem dksX2_told_0 : cX2_told.data.toList.drop 0 = dktX2_told_0 := by decide +kernel
theorem dksX2_told_1 : cX2_told.data.toList.drop 23 = dktX2_told_1 := dk_seg dksX2_told_0 23 rfl rfl
theorem dksX2_told_2 : cX2_told.data.toList.drop 47 = dktX2_told_2 := dk_seg dksX2_told_1 24 rfl rfl
theorem dX2_told_0 : decode cX2_told 0 = .ok (.iconst 0, 1) := dk_3 (dk_at dksX2_told_0 0 rfl rfl)
theorem dX2_told_1 : decode cX2_told 1 = .ok (.istore_n 3, 1) := dk_62 (dk_at dksX2_told_0 1 rfl rfl)
theorem dX2_told_2 : decode cX2_told 2 = .ok (.iconst 0, 1) := dk_3 (dk_at dksX2_told_0 2 rfl rfl)
theorem dX2_told_3 : decode cX2_told 3 = .ok (.istore 4, 2) := dk_54 4 (dk_at dksX2_told_0 3 rfl rfl)
theorem dX2_told_5 : decode cX2_told 5 = .ok (.iload 4, 2) := dk_21 4 (dk_at dksX2_told_0 5 rfl rfl)
theorem dX2_told_7 : decode cX2_told 7 = .ok (.aload_n 0, 1) := dk_42 (dk_at dksX2_told_0 7 rfl rfl)
theorem dX2_told_8 : decode cX2_told 8 = .ok (.getfield 18, 3) := dk_180 0 18 (dk_at dksX2_told_0 8 rfl rfl)
theorem dX2_told_11 : decode cX2_told 11 = .ok (.invokevirtual 86, 3) := dk_182 0 86 (dk_at dksX2_told_0 11 rfl rfl)
theorem dX2_told_14 : decode cX2_told 14 = .ok (.if_icmp .ge 46, 3) := dk_162 0 46 (dk_at dksX2_told_0 14 rfl rfl)
theorem dX2_told_17 : decode cX2_told 17 = .ok (.aload_n 0, 1) := dk_42 (dk_at dksX2_told_0 17 rfl rfl)
theorem dX2_told_18 : decode cX2_told 18 = .ok (.getfield 18, 3) := dk_180 0 18 (dk_at dksX2_told_0 18 rfl rfl)
theorem dX2_told_21 : decode cX2_told 21 = .ok (.iload 4, 2) := dk_21 4 (dk_at dksX2_told_0 21 rfl rfl)
theorem dX2_told_23 : decode cX2_told 23 = .ok (.invokevirtual 121, 3) := dk_182 0 121 (dk_at dksX2_told_1 0 rfl rfl)
theorem dX2_told_26 : decode cX2_told 26 = .ok (.checkcast 103, 3) := dk_192 0 103 (dk_at dksX2_told_1 3 rfl rfl)
theorem dX2_told_29 : decode cX2_told 29 = .ok (.getfield 105, 3) := dk_180 0 105 (dk_at dksX2_told_1 6 rfl rfl)
theorem dX2_told_32 : decode cX2_told 32 = .ok (.istore 5, 2) := dk_54 5 (dk_at dksX2_told_1 9 rfl rfl)
theorem dX2_told_34 : decode cX2_told 34 = .ok (.iload_n 3, 1) := dk_29 (dk_at dksX2_told_1 11 rfl rfl)
theorem dX2_told_35 : decode cX2_told 35 = .ok (.iload 5, 2) := dk_21 5 (dk_at dksX2_told_1 12 rfl rfl)
theorem dX2_told_37 : decode cX2_told 37 = .ok (.iload_n 1, 1) := dk_27 (dk_at dksX2_told_1 14 rfl rfl)
theorem dX2_told_38 : decode cX2_told 38 = .ok (.if_icmp .lt 13, 3) := dk_161 0 13 (dk_at dksX2_told_1 15 rfl rfl)
theorem dX2_told_41 : decode cX2_told 41 = .ok (.iload 5, 2) := dk_21 5 (dk_at dksX2_told_1 18 rfl rfl)
theorem dX2_told_43 : decode cX2_told 43 = .ok (.iload_n 2, 1) := dk_28 (dk_at dksX2_told_1 20 rfl rfl)
theorem dX2_told_44 : decode cX2_told 44 = .ok (.if_icmp .gt 7, 3) := dk_163 0 7 (dk_at dksX2_told_1 21 rfl rfl)
theorem dX2_told_47 : decode cX2_told 47 = .ok (.iconst 1, 1) := dk_4 (dk_at dksX2_told_2 0 rfl rfl)
theorem dX2_told_48 : decode cX2_told 48 = .ok (.goto 4, 3) := dk_167 0 4 (dk_at dksX2_told_2 1 rfl rfl)
theorem dX2_told_51 : decode cX2_told 51 = .ok (.iconst 0, 1) := dk_3 (dk_at dksX2_told_2 4 rfl rfl)
theorem dX2_told_52 : decode cX2_told 52 = .ok (.iadd, 1) := dk_96 (dk_at dksX2_told_2 5 rfl rfl)
theorem dX2_told_53 : decode cX2_told 53 = .ok (.istore_n 3, 1) := dk_62 (dk_at dksX2_told_2 6 rfl rfl)
theorem dX2_told_54 : decode cX2_told 54 = .ok (.iinc 4 1, 3) := dk_132 4 1 (dk_at dksX2_told_2 7 rfl rfl)
theorem dX2_told_57 : decode cX2_told 57 = .ok (.goto (-52), 3) := dk_167 255 204 (dk_at dksX2_told_2 10 rfl rfl)
theorem dX2_told_60 : decode cX2_told 60 = .ok (.iload_n 3, 1) := dk_29 (dk_at dksX2_told_2 13 rfl rfl)
theorem dX2_told_61 : decode cX2_told 61 = .ok (.ireturn, 1) := dk_172 (dk_at dksX2_told_2 14 rfl rfl)
abbrev cX2_call : ByteArray := prog_16_method_42_code
def yX2_call : MethodName := ⟨RX2, "call", "(I)Z"⟩
def dkwX2_call_5 : List UInt8 := [182, 0, 133, 132, 4, 1, 167, 255, 215, 132, 3, 1, 167, 255, 175, 3, 172]
abbrev dktX2_call_5 : List UInt8 := dkwX2_call_5 ++ []
def dkwX2_call_4 : List UInt8 := [162, 0, 32, 42, 16, 24, 16, 8, 29, 104, 96, 21, 4, 96, 42, 180, 0, 40, 29, 50, 21, 4, 46]
abbrev dktX2_call_4 : List UInt8 := dkwX2_call_4 ++ dktX2_call_5
def dkwX2_call_3 : List UInt8 := [167, 0, 4, 3, 182, 0, 133, 3, 54, 4, 29, 42, 180, 0, 223, 162, 0, 39, 21, 4, 16, 8]
abbrev dktX2_call_3 : List UInt8 := dkwX2_call_3 ++ dktX2_call_4
def dkwX2_call_2 : List UInt8 := [29, 6, 162, 0, 82, 42, 16, 20, 29, 96, 29, 42, 180, 0, 223, 162, 0, 12, 42, 180, 0, 35, 29, 46]
abbrev dktX2_call_2 : List UInt8 := dkwX2_call_2 ++ dktX2_call_3
def dkwX2_call_1 : List UInt8 := [182, 0, 133, 4, 172, 42, 16, 18, 42, 180, 0, 223, 182, 0, 133, 42, 16, 19, 3, 182, 0, 133, 3, 62]
abbrev dktX2_call_1 : List UInt8 := dkwX2_call_1 ++ dktX2_call_2
def dkwX2_call_0 : List UInt8 := [42, 3, 181, 0, 223, 42, 27, 182, 1, 0, 61, 42, 180, 0, 223, 154, 0, 12, 42, 16, 15, 28]
abbrev dktX2_call_0 : List UInt8 := dkwX2_call_0 ++ dktX2_call_1
theorem dksX2_call_0 : cX2_call.data.toList.drop 0 = dktX2_call_0 := by decide +kernel
theorem dksX2_call_1 : cX2_call.data.toList.drop 22 = dktX2_call_1 := dk_seg dksX2_call_0 22 rfl rfl
theorem dksX2_call_2 : cX2_call.data.toList.drop 46 = dktX2_call_2 := dk_seg dksX2_call_1 24 rfl rfl
theorem dksX2_call_3 : cX2_call.data.toList.drop 70 = dktX2_call_3 := dk_seg dksX2_call_2 24 rfl rfl
theorem dksX2_call_4 : cX2_call.data.toList.drop 92 = dktX2_call_4 := dk_seg dksX2_call_3 22 rfl rfl
theorem dksX2_call_5 : cX2_call.data.toList.drop 115 = dktX2_call_5 := dk_seg dksX2_call_4 23 rfl rfl
theorem dX2_call_0 : decode cX2_call 0 = .ok (.aload_n 0, 1) := dk_42 (dk_at dksX2_call_0 0 rfl rfl)
theorem dX2_call_1 : decode cX2_call 1 = .ok (.iconst 0, 1) := dk_3 (dk_at dksX2_call_0 1 rfl rfl)
theorem dX2_call_2 : decode cX2_call 2 = .ok (.putfield 223, 3) := dk_181 0 223 (dk_at dksX2_call_0 2 rfl rfl)
theorem dX2_call_5 : decode cX2_call 5 = .ok (.aload_n 0, 1) := dk_42 (dk_at dksX2_call_0 5 rfl rfl)
theorem dX2_call_6 : decode cX2_call 6 = .ok (.iload_n 1, 1) := dk_27 (dk_at dksX2_call_0 6 rfl rfl)
theorem dX2_call_7 : decode cX2_call 7 = .ok (.invokevirtual 256, 3) := dk_182 1 0 (dk_at dksX2_call_0 7 rfl rfl)
theorem dX2_call_10 : decode cX2_call 10 = .ok (.istore_n 2, 1) := dk_61 (dk_at dksX2_call_0 10 rfl rfl)
theorem dX2_call_11 : decode cX2_call 11 = .ok (.aload_n 0, 1) := dk_42 (dk_at dksX2_call_0 11 rfl rfl)
theorem dX2_call_12 : decode cX2_call 12 = .ok (.getfield 223, 3) := dk_180 0 223 (dk_at dksX2_call_0 12 rfl rfl)
theorem dX2_call_15 : decode cX2_call 15 = .ok (.ifCond .ne 12, 3) := dk_154 0 12 (dk_at dksX2_call_0 15 rfl rfl)
theorem dX2_call_18 : decode cX2_call 18 = .ok (.aload_n 0, 1) := dk_42 (dk_at dksX2_call_0 18 rfl rfl)
theorem dX2_call_19 : decode cX2_call 19 = .ok (.bipush 15, 2) := dk_16 15 (dk_at dksX2_call_0 19 rfl rfl)
theorem dX2_call_21 : decode cX2_call 21 = .ok (.iload_n 2, 1) := dk_28 (dk_at dksX2_call_0 21 rfl rfl)
theorem dX2_call_22 : decode cX2_call 22 = .ok (.invokevirtual 133, 3) := dk_182 0 133 (dk_at dksX2_call_1 0 rfl rfl)
theorem dX2_call_25 : decode cX2_call 25 = .ok (.iconst 1, 1) := dk_4 (dk_at dksX2_call_1 3 rfl rfl)
theorem dX2_call_26 : decode cX2_call 26 = .ok (.ireturn, 1) := dk_172 (dk_at dksX2_call_1 4 rfl rfl)
theorem dX2_call_27 : decode cX2_call 27 = .ok (.aload_n 0, 1) := dk_42 (dk_at dksX2_call_1 5 rfl rfl)
theorem dX2_call_28 : decode cX2_call 28 = .ok (.bipush 18, 2) := dk_16 18 (dk_at dksX2_call_1 6 rfl rfl)
theorem dX2_call_30 : decode cX2_call 30 = .ok (.aload_n 0, 1) := dk_42 (dk_at dksX2_call_1 8 rfl rfl)
theorem dX2_call_31 : decode cX2_call 31 = .ok (.getfield 223, 3) := dk_180 0 223 (dk_at dksX2_call_1 9 rfl rfl)
theorem dX2_call_34 : decode cX2_call 34 = .ok (.invokevirtual 133, 3) := dk_182 0 133 (dk_at dksX2_call_1 12 rfl rfl)
theorem dX2_call_37 : decode cX2_call 37 = .ok (.aload_n 0, 1) := dk_42 (dk_at dksX2_call_1 15 rfl rfl)
theorem dX2_call_38 : decode cX2_call 38 = .ok (.bipush 19, 2) := dk_16 19 (dk_at dksX2_call_1 16 rfl rfl)
theorem dX2_call_40 : decode cX2_call 40 = .ok (.iconst 0, 1) := dk_3 (dk_at dksX2_call_1 18 rfl rfl)
theorem dX2_call_41 : decode cX2_call 41 = .ok (.invokevirtual 133, 3) := dk_182 0 133 (dk_at dksX2_call_1 19 rfl rfl)
theorem dX2_call_44 : decode cX2_call 44 = .ok (.iconst 0, 1) := dk_3 (dk_at dksX2_call_1 22 rfl rfl)
theorem dX2_call_45 : decode cX2_call 45 = .ok (.istore_n 3, 1) := dk_62 (dk_at dksX2_call_1 23 rfl rfl)
theorem dX2_call_46 : decode cX2_call 46 = .ok (.iload_n 3, 1) := dk_29 (dk_at dksX2_call_2 0 rfl rfl)
theorem dX2_call_47 : decode cX2_call 47 = .ok (.iconst 3, 1) := dk_6 (dk_at dksX2_call_2 1 rfl rfl)
theorem dX2_call_48 : decode cX2_call 48 = .ok (.if_icmp .ge 82, 3) := dk_162 0 82 (dk_at dksX2_call_2 2 rfl rfl)
theorem dX2_call_51 : decode cX2_call 51 = .ok (.aload_n 0, 1) := dk_42 (dk_at dksX2_call_2 5 rfl rfl)
theorem dX2_call_52 : decode cX2_call 52 = .ok (.bipush 20, 2) := dk_16 20 (dk_at dksX2_call_2 6 rfl rfl)
theorem dX2_call_54 : decode cX2_call 54 = .ok (.iload_n 3, 1) := dk_29 (dk_at dksX2_call_2 8 rfl rfl)
theorem dX2_call_55 : decode cX2_call 55 = .ok (.iadd, 1) := dk_96 (dk_at dksX2_call_2 9 rfl rfl)
theorem dX2_call_56 : decode cX2_call 56 = .ok (.iload_n 3, 1) := dk_29 (dk_at dksX2_call_2 10 rfl rfl)
theorem dX2_call_57 : decode cX2_call 57 = .ok (.aload_n 0, 1) := dk_42 (dk_at dksX2_call_2 11 rfl rfl)
theorem dX2_call_58 : decode cX2_call 58 = .ok (.getfield 223, 3) := dk_180 0 223 (dk_at dksX2_call_2 12 rfl rfl)
theorem dX2_call_61 : decode cX2_call 61 = .ok (.if_icmp .ge 12, 3) := dk_162 0 12 (dk_at dksX2_call_2 15 rfl rfl)
theorem dX2_call_64 : decode cX2_call 64 = .ok (.aload_n 0, 1) := dk_42 (dk_at dksX2_call_2 18 rfl rfl)
theorem dX2_call_65 : decode cX2_call 65 = .ok (.getfield 35, 3) := dk_180 0 35 (dk_at dksX2_call_2 19 rfl rfl)
theorem dX2_call_68 : decode cX2_call 68 = .ok (.iload_n 3, 1) := dk_29 (dk_at dksX2_call_2 22 rfl rfl)
theorem dX2_call_69 : decode cX2_call 69 = .ok (.iaload, 1) := dk_46 (dk_at dksX2_call_2 23 rfl rfl)
theorem dX2_call_70 : decode cX2_call 70 = .ok (.goto 4, 3) := dk_167 0 4 (dk_at dksX2_call_3 0 rfl rfl)
theorem dX2_call_73 : decode cX2_call 73 = .ok (.iconst 0, 1) := dk_3 (dk_at dksX2_call_3 3 rfl rfl)
theorem dX2_call_74 : decode cX2_call 74 = .ok (.invokevirtual 133, 3) := dk_182 0 133 (dk_at dksX2_call_3 4 rfl rfl)
theorem dX2_call_77 : decode cX2_call 77 = .ok (.iconst 0, 1) := dk_3 (dk_at dksX2_call_3 7 rfl rfl)
theorem dX2_call_78 : decode cX2_call 78 = .ok (.istore 4, 2) := dk_54 4 (dk_at dksX2_call_3 8 rfl rfl)
theorem dX2_call_80 : decode cX2_call 80 = .ok (.iload_n 3, 1) := dk_29 (dk_at dksX2_call_3 10 rfl rfl)
theorem dX2_call_81 : decode cX2_call 81 = .ok (.aload_n 0, 1) := dk_42 (dk_at dksX2_call_3 11 rfl rfl)
theorem dX2_call_82 : decode cX2_call 82 = .ok (.getfield 223, 3) := dk_180 0 223 (dk_at dksX2_call_3 12 rfl rfl)
theorem dX2_call_85 : decode cX2_call 85 = .ok (.if_icmp .ge 39, 3) := dk_162 0 39 (dk_at dksX2_call_3 15 rfl rfl)
theorem dX2_call_88 : decode cX2_call 88 = .ok (.iload 4, 2) := dk_21 4 (dk_at dksX2_call_3 18 rfl rfl)
theorem dX2_call_90 : decode cX2_call 90 = .ok (.bipush 8, 2) := dk_16 8 (dk_at dksX2_call_3 20 rfl rfl)
theorem dX2_call_92 : decode cX2_call 92 = .ok (.if_icmp .ge 32, 3) := dk_162 0 32 (dk_at dksX2_call_4 0 rfl rfl)
theorem dX2_call_95 : decode cX2_call 95 = .ok (.aload_n 0, 1) := dk_42 (dk_at dksX2_call_4 3 rfl rfl)
theorem dX2_call_96 : decode cX2_call 96 = .ok (.bipush 24, 2) := dk_16 24 (dk_at dksX2_call_4 4 rfl rfl)
theorem dX2_call_98 : decode cX2_call 98 = .ok (.bipush 8, 2) := dk_16 8 (dk_at dksX2_call_4 6 rfl rfl)
theorem dX2_call_100 : decode cX2_call 100 = .ok (.iload_n 3, 1) := dk_29 (dk_at dksX2_call_4 8 rfl rfl)
theorem dX2_call_101 : decode cX2_call 101 = .ok (.imul, 1) := dk_104 (dk_at dksX2_call_4 9 rfl rfl)
theorem dX2_call_102 : decode cX2_call 102 = .ok (.iadd, 1) := dk_96 (dk_at dksX2_call_4 10 rfl rfl)
theorem dX2_call_103 : decode cX2_call 103 = .ok (.iload 4, 2) := dk_21 4 (dk_at dksX2_call_4 11 rfl rfl)
theorem dX2_call_105 : decode cX2_call 105 = .ok (.iadd, 1) := dk_96 (dk_at dksX2_call_4 13 rfl rfl)
theorem dX2_call_106 : decode cX2_call 106 = .ok (.aload_n 0, 1) := dk_42 (dk_at dksX2_call_4 14 rfl rfl)
theorem dX2_call_107 : decode cX2_call 107 = .ok (.getfield 40, 3) := dk_180 0 40 (dk_at dksX2_call_4 15 rfl rfl)
theorem dX2_call_110 : decode cX2_call 110 = .ok (.iload_n 3, 1) := dk_29 (dk_at dksX2_call_4 18 rfl rfl)
theorem dX2_call_111 : decode cX2_call 111 = .ok (.aaload, 1) := dk_50 (dk_at dksX2_call_4 19 rfl rfl)
theorem dX2_call_112 : decode cX2_call 112 = .ok (.iload 4, 2) := dk_21 4 (dk_at dksX2_call_4 20 rfl rfl)
theorem dX2_call_114 : decode cX2_call 114 = .ok (.iaload, 1) := dk_46 (dk_at dksX2_call_4 22 rfl rfl)
theorem dX2_call_115 : decode cX2_call 115 = .ok (.invokevirtual 133, 3) := dk_182 0 133 (dk_at dksX2_call_5 0 rfl rfl)
theorem dX2_call_118 : decode cX2_call 118 = .ok (.iinc 4 1, 3) := dk_132 4 1 (dk_at dksX2_call_5 3 rfl rfl)
theorem dX2_call_121 : decode cX2_call 121 = .ok (.goto (-41), 3) := dk_167 255 215 (dk_at dksX2_call_5 6 rfl rfl)
theorem dX2_call_124 : decode cX2_call 124 = .ok (.iinc 3 1, 3) := dk_132 3 1 (dk_at dksX2_call_5 9 rfl rfl)
theorem dX2_call_127 : decode cX2_call 127 = .ok (.goto (-81), 3) := dk_167 255 175 (dk_at dksX2_call_5 12 rfl rfl)
theorem dX2_call_130 : decode cX2_call 130 = .ok (.iconst 0, 1) := dk_3 (dk_at dksX2_call_5 15 rfl rfl)
theorem dX2_call_131 : decode cX2_call 131 = .ok (.ireturn, 1) := dk_172 (dk_at dksX2_call_5 16 rfl rfl)
abbrev cX2_plan : ByteArray := prog_16_method_40_code
def yX2_plan : MethodName := ⟨RX2, "plan", "(I)I"⟩
def dkwX2_plan_10 : List UInt8 := [42, 21, 4, 182, 0, 249, 3, 172, 42, 21, 4, 28, 29, 182, 0, 252, 172]
abbrev dktX2_plan_10 : List UInt8 := dkwX2_plan_10 ++ []
def dkwX2_plan_9 : List UInt8 := [162, 0, 7, 3, 167, 0, 4, 5, 172, 42, 16, 13, 42, 21, 4, 4, 182, 0, 214, 182, 0, 133, 3, 172]
abbrev dktX2_plan_9 : List UInt8 := dkwX2_plan_9 ++ dktX2_plan_10
def dkwX2_plan_8 : List UInt8 := [162, 0, 16, 42, 16, 14, 42, 21, 4, 29, 182, 0, 246, 182, 0, 133, 29, 42, 21, 4, 4, 182, 0, 214]
abbrev dktX2_plan_8 : List UInt8 := dkwX2_plan_8 ++ dktX2_plan_9
def dkwX2_plan_7 : List UInt8 := [42, 21, 4, 4, 182, 0, 214, 162, 0, 7, 3, 167, 0, 4, 5, 172, 29, 42, 21, 4, 4, 182, 0, 214]
abbrev dktX2_plan_7 : List UInt8 := dkwX2_plan_7 ++ dktX2_plan_8
def dkwX2_plan_6 : List UInt8 := [29, 16, 8, 108, 96, 182, 0, 214, 182, 0, 226, 29, 16, 8, 112, 42, 180, 0, 9, 16, 14, 46, 79, 29]
abbrev dktX2_plan_6 : List UInt8 := dkwX2_plan_6 ++ dktX2_plan_7
def dkwX2_plan_5 : List UInt8 := [42, 21, 4, 29, 182, 0, 243, 172, 29, 42, 21, 4, 4, 182, 0, 214, 162, 0, 31, 42, 42, 21, 4, 5]
abbrev dktX2_plan_5 : List UInt8 := dkwX2_plan_5 ++ dktX2_plan_6
def dkwX2_plan_4 : List UInt8 := [170, 0, 0, 0, 0, 162, 0, 0, 0, 1, 0, 0, 0, 5, 0, 0, 0, 34, 0, 0, 0, 42, 0, 0, 0, 98, 0, 0, 0, 139, 0, 0, 0, 154]
abbrev dktX2_plan_4 : List UInt8 := dkwX2_plan_4 ++ dktX2_plan_5
def dkwX2_plan_3 : List UInt8 := [2, 160, 0, 7, 5, 167, 0, 4, 3, 172, 21, 4, 2, 160, 0, 5, 4, 172, 27]
abbrev dktX2_plan_3 : List UInt8 := dkwX2_plan_3 ++ dktX2_plan_4
def dkwX2_plan_2 : List UInt8 := [21, 4, 2, 159, 0, 5, 4, 172, 21, 5, 2, 159, 0, 11, 42, 21, 5, 3, 28, 182, 0, 234, 21, 5]
abbrev dktX2_plan_2 : List UInt8 := dkwX2_plan_2 ++ dktX2_plan_3
def dkwX2_plan_1 : List UInt8 := [16, 6, 164, 0, 6, 16, 9, 172, 27, 154, 0, 48, 42, 3, 182, 0, 217, 54, 5, 28, 153, 0, 9]
abbrev dktX2_plan_1 : List UInt8 := dkwX2_plan_1 ++ dktX2_plan_2
def dkwX2_plan_0 : List UInt8 := [42, 180, 0, 9, 16, 12, 46, 61, 42, 180, 0, 9, 16, 13, 46, 62, 42, 28, 182, 0, 240, 54, 4, 27]
abbrev dktX2_plan_0 : List UInt8 := dkwX2_plan_0 ++ dktX2_plan_1
theorem dksX2_plan_0 : cX2_plan.data.toList.drop 0 = dktX2_plan_0 := by decide +kernel
theorem dksX2_plan_1 : cX2_plan.data.toList.drop 24 = dktX2_plan_1 := dk_seg dksX2_plan_0 24 rfl rfl
theorem dksX2_plan_2 : cX2_plan.data.toList.drop 47 = dktX2_plan_2 := dk_seg dksX2_plan_1 23 rfl rfl
theorem dksX2_plan_3 : cX2_plan.data.toList.drop 71 = dktX2_plan_3 := dk_seg dksX2_plan_2 24 rfl rfl
theorem dksX2_plan_4 : cX2_plan.data.toList.drop 90 = dktX2_plan_4 := dk_seg dksX2_plan_3 19 rfl rfl
theorem dksX2_plan_5 : cX2_plan.data.toList.drop 124 = dktX2_plan_5 := dk_seg dksX2_plan_4 34 rfl rfl
theorem dksX2_plan_6 : cX2_plan.data.toList.drop 148 = dktX2_plan_6 := dk_seg dksX2_plan_5 24 rfl rfl
theorem dksX2_plan_7 : cX2_plan.data.toList.drop 172 = dktX2_plan_7 := dk_seg dksX2_plan_6 24 rfl rfl
theorem dksX2_plan_8 : cX2_plan.data.toList.drop 196 = dktX2_plan_8 := dk_seg dksX2_plan_7 24 rfl rfl
theorem dksX2_plan_9 : cX2_plan.data.toList.drop 220 = dktX2_plan_9 := dk_seg dksX2_plan_8 24 rfl rfl
theorem dksX2_plan_10 : cX2_plan.data.toList.drop 244 = dktX2_plan_10 := dk_seg dksX2_plan_9 24 rfl rfl
theorem dX2_plan_0 : decode cX2_plan 0 = .ok (.aload_n 0, 1) := dk_42 (dk_at dksX2_plan_0 0 rfl rfl)
theorem dX2_plan_1 : decode cX2_plan 1 = .ok (.getfield 9, 3) := dk_180 0 9 (dk_at dksX2_plan_0 1 rfl rfl)
theorem dX2_plan_4 : decode cX2_plan 4 = .ok (.bipush 12, 2) := dk_16 12 (dk_at dksX2_plan_0 4 rfl rfl)
theorem dX2_plan_6 : decode cX2_plan 6 = .ok (.iaload, 1) := dk_46 (dk_at dksX2_plan_0 6 rfl rfl)
theorem dX2_plan_7 : decode cX2_plan 7 = .ok (.istore_n 2, 1) := dk_61 (dk_at dksX2_plan_0 7 rfl rfl)
theorem dX2_plan_8 : decode cX2_plan 8 = .ok (.aload_n 0, 1) := dk_42 (dk_at dksX2_plan_0 8 rfl rfl)
theorem dX2_plan_9 : decode cX2_plan 9 = .ok (.getfield 9, 3) := dk_180 0 9 (dk_at dksX2_plan_0 9 rfl rfl)
theorem dX2_plan_12 : decode cX2_plan 12 = .ok (.bipush 13, 2) := dk_16 13 (dk_at dksX2_plan_0 12 rfl rfl)
theorem dX2_plan_14 : decode cX2_plan 14 = .ok (.iaload, 1) := dk_46 (dk_at dksX2_plan_0 14 rfl rfl)
theorem dX2_plan_15 : decode cX2_plan 15 = .ok (.istore_n 3, 1) := dk_62 (dk_at dksX2_plan_0 15 rfl rfl)
theorem dX2_plan_16 : decode cX2_plan 16 = .ok (.aload_n 0, 1) := dk_42 (dk_at dksX2_plan_0 16 rfl rfl)
theorem dX2_plan_17 : decode cX2_plan 17 = .ok (.iload_n 2, 1) := dk_28 (dk_at dksX2_plan_0 17 rfl rfl)
theorem dX2_plan_18 : decode cX2_plan 18 = .ok (.invokevirtual 240, 3) := dk_182 0 240 (dk_at dksX2_plan_0 18 rfl rfl)
theorem dX2_plan_21 : decode cX2_plan 21 = .ok (.istore 4, 2) := dk_54 4 (dk_at dksX2_plan_0 21 rfl rfl)
theorem dX2_plan_23 : decode cX2_plan 23 = .ok (.iload_n 1, 1) := dk_27 (dk_at dksX2_plan_0 23 rfl rfl)
theorem dX2_plan_24 : decode cX2_plan 24 = .ok (.bipush 6, 2) := dk_16 6 (dk_at dksX2_plan_1 0 rfl rfl)
theorem dX2_plan_26 : decode cX2_plan 26 = .ok (.if_icmp .le 6, 3) := dk_164 0 6 (dk_at dksX2_plan_1 2 rfl rfl)
theorem dX2_plan_29 : decode cX2_plan 29 = .ok (.bipush 9, 2) := dk_16 9 (dk_at dksX2_plan_1 5 rfl rfl)
theorem dX2_plan_31 : decode cX2_plan 31 = .ok (.ireturn, 1) := dk_172 (dk_at dksX2_plan_1 7 rfl rfl)
theorem dX2_plan_32 : decode cX2_plan 32 = .ok (.iload_n 1, 1) := dk_27 (dk_at dksX2_plan_1 8 rfl rfl)
theorem dX2_plan_33 : decode cX2_plan 33 = .ok (.ifCond .ne 48, 3) := dk_154 0 48 (dk_at dksX2_plan_1 9 rfl rfl)
theorem dX2_plan_36 : decode cX2_plan 36 = .ok (.aload_n 0, 1) := dk_42 (dk_at dksX2_plan_1 12 rfl rfl)
theorem dX2_plan_37 : decode cX2_plan 37 = .ok (.iconst 0, 1) := dk_3 (dk_at dksX2_plan_1 13 rfl rfl)
theorem dX2_plan_38 : decode cX2_plan 38 = .ok (.invokevirtual 217, 3) := dk_182 0 217 (dk_at dksX2_plan_1 14 rfl rfl)
theorem dX2_plan_41 : decode cX2_plan 41 = .ok (.istore 5, 2) := dk_54 5 (dk_at dksX2_plan_1 17 rfl rfl)
theorem dX2_plan_43 : decode cX2_plan 43 = .ok (.iload_n 2, 1) := dk_28 (dk_at dksX2_plan_1 19 rfl rfl)
theorem dX2_plan_44 : decode cX2_plan 44 = .ok (.ifCond .eq 9, 3) := dk_153 0 9 (dk_at dksX2_plan_1 20 rfl rfl)
theorem dX2_plan_47 : decode cX2_plan 47 = .ok (.iload 4, 2) := dk_21 4 (dk_at dksX2_plan_2 0 rfl rfl)
theorem dX2_plan_49 : decode cX2_plan 49 = .ok (.iconst (-1), 1) := dk_2 (dk_at dksX2_plan_2 2 rfl rfl)
theorem dX2_plan_50 : decode cX2_plan 50 = .ok (.if_icmp .eq 5, 3) := dk_159 0 5 (dk_at dksX2_plan_2 3 rfl rfl)
theorem dX2_plan_53 : decode cX2_plan 53 = .ok (.iconst 1, 1) := dk_4 (dk_at dksX2_plan_2 6 rfl rfl)
theorem dX2_plan_54 : decode cX2_plan 54 = .ok (.ireturn, 1) := dk_172 (dk_at dksX2_plan_2 7 rfl rfl)
theorem dX2_plan_55 : decode cX2_plan 55 = .ok (.iload 5, 2) := dk_21 5 (dk_at dksX2_plan_2 8 rfl rfl)
theorem dX2_plan_57 : decode cX2_plan 57 = .ok (.iconst (-1), 1) := dk_2 (dk_at dksX2_plan_2 10 rfl rfl)
theorem dX2_plan_58 : decode cX2_plan 58 = .ok (.if_icmp .eq 11, 3) := dk_159 0 11 (dk_at dksX2_plan_2 11 rfl rfl)
theorem dX2_plan_61 : decode cX2_plan 61 = .ok (.aload_n 0, 1) := dk_42 (dk_at dksX2_plan_2 14 rfl rfl)
theorem dX2_plan_62 : decode cX2_plan 62 = .ok (.iload 5, 2) := dk_21 5 (dk_at dksX2_plan_2 15 rfl rfl)
theorem dX2_plan_64 : decode cX2_plan 64 = .ok (.iconst 0, 1) := dk_3 (dk_at dksX2_plan_2 17 rfl rfl)
theorem dX2_plan_65 : decode cX2_plan 65 = .ok (.iload_n 2, 1) := dk_28 (dk_at dksX2_plan_2 18 rfl rfl)
theorem dX2_plan_66 : decode cX2_plan 66 = .ok (.invokevirtual 234, 3) := dk_182 0 234 (dk_at dksX2_plan_2 19 rfl rfl)
theorem dX2_plan_69 : decode cX2_plan 69 = .ok (.iload 5, 2) := dk_21 5 (dk_at dksX2_plan_2 22 rfl rfl)
theorem dX2_plan_71 : decode cX2_plan 71 = .ok (.iconst (-1), 1) := dk_2 (dk_at dksX2_plan_3 0 rfl rfl)
theorem dX2_plan_72 : decode cX2_plan 72 = .ok (.if_icmp .ne 7, 3) := dk_160 0 7 (dk_at dksX2_plan_3 1 rfl rfl)
theorem dX2_plan_75 : decode cX2_plan 75 = .ok (.iconst 2, 1) := dk_5 (dk_at dksX2_plan_3 4 rfl rfl)
theorem dX2_plan_76 : decode cX2_plan 76 = .ok (.goto 4, 3) := dk_167 0 4 (dk_at dksX2_plan_3 5 rfl rfl)
theorem dX2_plan_79 : decode cX2_plan 79 = .ok (.iconst 0, 1) := dk_3 (dk_at dksX2_plan_3 8 rfl rfl)
theorem dX2_plan_80 : decode cX2_plan 80 = .ok (.ireturn, 1) := dk_172 (dk_at dksX2_plan_3 9 rfl rfl)
theorem dX2_plan_81 : decode cX2_plan 81 = .ok (.iload 4, 2) := dk_21 4 (dk_at dksX2_plan_3 10 rfl rfl)
theorem dX2_plan_83 : decode cX2_plan 83 = .ok (.iconst (-1), 1) := dk_2 (dk_at dksX2_plan_3 12 rfl rfl)
theorem dX2_plan_84 : decode cX2_plan 84 = .ok (.if_icmp .ne 5, 3) := dk_160 0 5 (dk_at dksX2_plan_3 13 rfl rfl)
theorem dX2_plan_87 : decode cX2_plan 87 = .ok (.iconst 1, 1) := dk_4 (dk_at dksX2_plan_3 16 rfl rfl)
theorem dX2_plan_88 : decode cX2_plan 88 = .ok (.ireturn, 1) := dk_172 (dk_at dksX2_plan_3 17 rfl rfl)
theorem dX2_plan_89 : decode cX2_plan 89 = .ok (.iload_n 1, 1) := dk_27 (dk_at dksX2_plan_3 18 rfl rfl)
theorem dX2_plan_90 : decode cX2_plan 90 = .ok (.tableswitch 162 1 5 #[34, 42, 98, 139, 154], 34) := by decide +kernel
theorem dX2_plan_124 : decode cX2_plan 124 = .ok (.aload_n 0, 1) := dk_42 (dk_at dksX2_plan_5 0 rfl rfl)
theorem dX2_plan_125 : decode cX2_plan 125 = .ok (.iload 4, 2) := dk_21 4 (dk_at dksX2_plan_5 1 rfl rfl)
theorem dX2_plan_127 : decode cX2_plan 127 = .ok (.iload_n 3, 1) := dk_29 (dk_at dksX2_plan_5 3 rfl rfl)
theorem dX2_plan_128 : decode cX2_plan 128 = .ok (.invokevirtual 243, 3) := dk_182 0 243 (dk_at dksX2_plan_5 4 rfl rfl)
theorem dX2_plan_131 : decode cX2_plan 131 = .ok (.ireturn, 1) := dk_172 (dk_at dksX2_plan_5 7 rfl rfl)
theorem dX2_plan_132 : decode cX2_plan 132 = .ok (.iload_n 3, 1) := dk_29 (dk_at dksX2_plan_5 8 rfl rfl)
theorem dX2_plan_133 : decode cX2_plan 133 = .ok (.aload_n 0, 1) := dk_42 (dk_at dksX2_plan_5 9 rfl rfl)
theorem dX2_plan_134 : decode cX2_plan 134 = .ok (.iload 4, 2) := dk_21 4 (dk_at dksX2_plan_5 10 rfl rfl)
theorem dX2_plan_136 : decode cX2_plan 136 = .ok (.iconst 1, 1) := dk_4 (dk_at dksX2_plan_5 12 rfl rfl)
theorem dX2_plan_137 : decode cX2_plan 137 = .ok (.invokevirtual 214, 3) := dk_182 0 214 (dk_at dksX2_plan_5 13 rfl rfl)
theorem dX2_plan_140 : decode cX2_plan 140 = .ok (.if_icmp .ge 31, 3) := dk_162 0 31 (dk_at dksX2_plan_5 16 rfl rfl)
theorem dX2_plan_143 : decode cX2_plan 143 = .ok (.aload_n 0, 1) := dk_42 (dk_at dksX2_plan_5 19 rfl rfl)
theorem dX2_plan_144 : decode cX2_plan 144 = .ok (.aload_n 0, 1) := dk_42 (dk_at dksX2_plan_5 20 rfl rfl)
theorem dX2_plan_145 : decode cX2_plan 145 = .ok (.iload 4, 2) := dk_21 4 (dk_at dksX2_plan_5 21 rfl rfl)
theorem dX2_plan_147 : decode cX2_plan 147 = .ok (.iconst 2, 1) := dk_5 (dk_at dksX2_plan_5 23 rfl rfl)
theorem dX2_plan_148 : decode cX2_plan 148 = .ok (.iload_n 3, 1) := dk_29 (dk_at dksX2_plan_6 0 rfl rfl)
theorem dX2_plan_149 : decode cX2_plan 149 = .ok (.bipush 8, 2) := dk_16 8 (dk_at dksX2_plan_6 1 rfl rfl)
theorem dX2_plan_151 : decode cX2_plan 151 = .ok (.idiv, 1) := dk_108 (dk_at dksX2_plan_6 3 rfl rfl)
theorem dX2_plan_152 : decode cX2_plan 152 = .ok (.iadd, 1) := dk_96 (dk_at dksX2_plan_6 4 rfl rfl)
theorem dX2_plan_153 : decode cX2_plan 153 = .ok (.invokevirtual 214, 3) := dk_182 0 214 (dk_at dksX2_plan_6 5 rfl rfl)
theorem dX2_plan_156 : decode cX2_plan 156 = .ok (.invokevirtual 226, 3) := dk_182 0 226 (dk_at dksX2_plan_6 8 rfl rfl)
theorem dX2_plan_159 : decode cX2_plan 159 = .ok (.iload_n 3, 1) := dk_29 (dk_at dksX2_plan_6 11 rfl rfl)
theorem dX2_plan_160 : decode cX2_plan 160 = .ok (.bipush 8, 2) := dk_16 8 (dk_at dksX2_plan_6 12 rfl rfl)
theorem dX2_plan_162 : decode cX2_plan 162 = .ok (.irem, 1) := dk_112 (dk_at dksX2_plan_6 14 rfl rfl)
theorem dX2_plan_163 : decode cX2_plan 163 = .ok (.aload_n 0, 1) := dk_42 (dk_at dksX2_plan_6 15 rfl rfl)
theorem dX2_plan_164 : decode cX2_plan 164 = .ok (.getfield 9, 3) := dk_180 0 9 (dk_at dksX2_plan_6 16 rfl rfl)
theorem dX2_plan_167 : decode cX2_plan 167 = .ok (.bipush 14, 2) := dk_16 14 (dk_at dksX2_plan_6 19 rfl rfl)
theorem dX2_plan_169 : decode cX2_plan 169 = .ok (.iaload, 1) := dk_46 (dk_at dksX2_plan_6 21 rfl rfl)
theorem dX2_plan_170 : decode cX2_plan 170 = .ok (.iastore, 1) := dk_79 (dk_at dksX2_plan_6 22 rfl rfl)
theorem dX2_plan_171 : decode cX2_plan 171 = .ok (.iload_n 3, 1) := dk_29 (dk_at dksX2_plan_6 23 rfl rfl)
theorem dX2_plan_172 : decode cX2_plan 172 = .ok (.aload_n 0, 1) := dk_42 (dk_at dksX2_plan_7 0 rfl rfl)
theorem dX2_plan_173 : decode cX2_plan 173 = .ok (.iload 4, 2) := dk_21 4 (dk_at dksX2_plan_7 1 rfl rfl)
theorem dX2_plan_175 : decode cX2_plan 175 = .ok (.iconst 1, 1) := dk_4 (dk_at dksX2_plan_7 3 rfl rfl)
theorem dX2_plan_176 : decode cX2_plan 176 = .ok (.invokevirtual 214, 3) := dk_182 0 214 (dk_at dksX2_plan_7 4 rfl rfl)
theorem dX2_plan_179 : decode cX2_plan 179 = .ok (.if_icmp .ge 7, 3) := dk_162 0 7 (dk_at dksX2_plan_7 7 rfl rfl)
theorem dX2_plan_182 : decode cX2_plan 182 = .ok (.iconst 0, 1) := dk_3 (dk_at dksX2_plan_7 10 rfl rfl)
theorem dX2_plan_183 : decode cX2_plan 183 = .ok (.goto 4, 3) := dk_167 0 4 (dk_at dksX2_plan_7 11 rfl rfl)
theorem dX2_plan_186 : decode cX2_plan 186 = .ok (.iconst 2, 1) := dk_5 (dk_at dksX2_plan_7 14 rfl rfl)
theorem dX2_plan_187 : decode cX2_plan 187 = .ok (.ireturn, 1) := dk_172 (dk_at dksX2_plan_7 15 rfl rfl)
theorem dX2_plan_188 : decode cX2_plan 188 = .ok (.iload_n 3, 1) := dk_29 (dk_at dksX2_plan_7 16 rfl rfl)
theorem dX2_plan_189 : decode cX2_plan 189 = .ok (.aload_n 0, 1) := dk_42 (dk_at dksX2_plan_7 17 rfl rfl)
theorem dX2_plan_190 : decode cX2_plan 190 = .ok (.iload 4, 2) := dk_21 4 (dk_at dksX2_plan_7 18 rfl rfl)
theorem dX2_plan_192 : decode cX2_plan 192 = .ok (.iconst 1, 1) := dk_4 (dk_at dksX2_plan_7 20 rfl rfl)
theorem dX2_plan_193 : decode cX2_plan 193 = .ok (.invokevirtual 214, 3) := dk_182 0 214 (dk_at dksX2_plan_7 21 rfl rfl)
theorem dX2_plan_196 : decode cX2_plan 196 = .ok (.if_icmp .ge 16, 3) := dk_162 0 16 (dk_at dksX2_plan_8 0 rfl rfl)
theorem dX2_plan_199 : decode cX2_plan 199 = .ok (.aload_n 0, 1) := dk_42 (dk_at dksX2_plan_8 3 rfl rfl)
theorem dX2_plan_200 : decode cX2_plan 200 = .ok (.bipush 14, 2) := dk_16 14 (dk_at dksX2_plan_8 4 rfl rfl)
theorem dX2_plan_202 : decode cX2_plan 202 = .ok (.aload_n 0, 1) := dk_42 (dk_at dksX2_plan_8 6 rfl rfl)
theorem dX2_plan_203 : decode cX2_plan 203 = .ok (.iload 4, 2) := dk_21 4 (dk_at dksX2_plan_8 7 rfl rfl)
theorem dX2_plan_205 : decode cX2_plan 205 = .ok (.iload_n 3, 1) := dk_29 (dk_at dksX2_plan_8 9 rfl rfl)
theorem dX2_plan_206 : decode cX2_plan 206 = .ok (.invokevirtual 246, 3) := dk_182 0 246 (dk_at dksX2_plan_8 10 rfl rfl)
theorem dX2_plan_209 : decode cX2_plan 209 = .ok (.invokevirtual 133, 3) := dk_182 0 133 (dk_at dksX2_plan_8 13 rfl rfl)
theorem dX2_plan_212 : decode cX2_plan 212 = .ok (.iload_n 3, 1) := dk_29 (dk_at dksX2_plan_8 16 rfl rfl)
theorem dX2_plan_213 : decode cX2_plan 213 = .ok (.aload_n 0, 1) := dk_42 (dk_at dksX2_plan_8 17 rfl rfl)
theorem dX2_plan_214 : decode cX2_plan 214 = .ok (.iload 4, 2) := dk_21 4 (dk_at dksX2_plan_8 18 rfl rfl)
theorem dX2_plan_216 : decode cX2_plan 216 = .ok (.iconst 1, 1) := dk_4 (dk_at dksX2_plan_8 20 rfl rfl)
theorem dX2_plan_217 : decode cX2_plan 217 = .ok (.invokevirtual 214, 3) := dk_182 0 214 (dk_at dksX2_plan_8 21 rfl rfl)
theorem dX2_plan_220 : decode cX2_plan 220 = .ok (.if_icmp .ge 7, 3) := dk_162 0 7 (dk_at dksX2_plan_9 0 rfl rfl)
theorem dX2_plan_223 : decode cX2_plan 223 = .ok (.iconst 0, 1) := dk_3 (dk_at dksX2_plan_9 3 rfl rfl)
theorem dX2_plan_224 : decode cX2_plan 224 = .ok (.goto 4, 3) := dk_167 0 4 (dk_at dksX2_plan_9 4 rfl rfl)
theorem dX2_plan_227 : decode cX2_plan 227 = .ok (.iconst 2, 1) := dk_5 (dk_at dksX2_plan_9 7 rfl rfl)
theorem dX2_plan_228 : decode cX2_plan 228 = .ok (.ireturn, 1) := dk_172 (dk_at dksX2_plan_9 8 rfl rfl)
theorem dX2_plan_229 : decode cX2_plan 229 = .ok (.aload_n 0, 1) := dk_42 (dk_at dksX2_plan_9 9 rfl rfl)
theorem dX2_plan_230 : decode cX2_plan 230 = .ok (.bipush 13, 2) := dk_16 13 (dk_at dksX2_plan_9 10 rfl rfl)
theorem dX2_plan_232 : decode cX2_plan 232 = .ok (.aload_n 0, 1) := dk_42 (dk_at dksX2_plan_9 12 rfl rfl)
theorem dX2_plan_233 : decode cX2_plan 233 = .ok (.iload 4, 2) := dk_21 4 (dk_at dksX2_plan_9 13 rfl rfl)
theorem dX2_plan_235 : decode cX2_plan 235 = .ok (.iconst 1, 1) := dk_4 (dk_at dksX2_plan_9 15 rfl rfl)
theorem dX2_plan_236 : decode cX2_plan 236 = .ok (.invokevirtual 214, 3) := dk_182 0 214 (dk_at dksX2_plan_9 16 rfl rfl)
theorem dX2_plan_239 : decode cX2_plan 239 = .ok (.invokevirtual 133, 3) := dk_182 0 133 (dk_at dksX2_plan_9 19 rfl rfl)
theorem dX2_plan_242 : decode cX2_plan 242 = .ok (.iconst 0, 1) := dk_3 (dk_at dksX2_plan_9 22 rfl rfl)
theorem dX2_plan_243 : decode cX2_plan 243 = .ok (.ireturn, 1) := dk_172 (dk_at dksX2_plan_9 23 rfl rfl)
theorem dX2_plan_244 : decode cX2_plan 244 = .ok (.aload_n 0, 1) := dk_42 (dk_at dksX2_plan_10 0 rfl rfl)
theorem dX2_plan_245 : decode cX2_plan 245 = .ok (.iload 4, 2) := dk_21 4 (dk_at dksX2_plan_10 1 rfl rfl)
theorem dX2_plan_247 : decode cX2_plan 247 = .ok (.invokevirtual 249, 3) := dk_182 0 249 (dk_at dksX2_plan_10 3 rfl rfl)
theorem dX2_plan_250 : decode cX2_plan 250 = .ok (.iconst 0, 1) := dk_3 (dk_at dksX2_plan_10 6 rfl rfl)
theorem dX2_plan_251 : decode cX2_plan 251 = .ok (.ireturn, 1) := dk_172 (dk_at dksX2_plan_10 7 rfl rfl)
theorem dX2_plan_252 : decode cX2_plan 252 = .ok (.aload_n 0, 1) := dk_42 (dk_at dksX2_plan_10 8 rfl rfl)
theorem dX2_plan_253 : decode cX2_plan 253 = .ok (.iload 4, 2) := dk_21 4 (dk_at dksX2_plan_10 9 rfl rfl)
theorem dX2_plan_255 : decode cX2_plan 255 = .ok (.iload_n 2, 1) := dk_28 (dk_at dksX2_plan_10 11 rfl rfl)
theorem dX2_plan_256 : decode cX2_plan 256 = .ok (.iload_n 3, 1) := dk_29 (dk_at dksX2_plan_10 12 rfl rfl)
theorem dX2_plan_257 : decode cX2_plan 257 = .ok (.invokevirtual 252, 3) := dk_182 0 252 (dk_at dksX2_plan_10 13 rfl rfl)
theorem dX2_plan_260 : decode cX2_plan 260 = .ok (.ireturn, 1) := dk_172 (dk_at dksX2_plan_10 16 rfl rfl)
abbrev cX2_named : ByteArray := prog_16_method_32_code
def yX2_named : MethodName := ⟨RX2, "named", "(I)I"⟩
def dkwX2_named_0 : List UInt8 := [27, 154, 0, 7, 2, 167, 0, 8, 42, 27, 182, 0, 217, 172]
abbrev dktX2_named_0 : List UInt8 := dkwX2_named_0 ++ []
theorem dksX2_named_0 : cX2_named.data.toList.drop 0 = dktX2_named_0 := by decide +kernel
theorem dX2_named_0 : decode cX2_named 0 = .ok (.iload_n 1, 1) := dk_27 (dk_at dksX2_named_0 0 rfl rfl)
theorem dX2_named_1 : decode cX2_named 1 = .ok (.ifCond .ne 7, 3) := dk_154 0 7 (dk_at dksX2_named_0 1 rfl rfl)
theorem dX2_named_4 : decode cX2_named 4 = .ok (.iconst (-1), 1) := dk_2 (dk_at dksX2_named_0 4 rfl rfl)
theorem dX2_named_5 : decode cX2_named 5 = .ok (.goto 8, 3) := dk_167 0 8 (dk_at dksX2_named_0 5 rfl rfl)
theorem dX2_named_8 : decode cX2_named 8 = .ok (.aload_n 0, 1) := dk_42 (dk_at dksX2_named_0 8 rfl rfl)
theorem dX2_named_9 : decode cX2_named 9 = .ok (.iload_n 1, 1) := dk_27 (dk_at dksX2_named_0 9 rfl rfl)
theorem dX2_named_10 : decode cX2_named 10 = .ok (.invokevirtual 217, 3) := dk_182 0 217 (dk_at dksX2_named_0 10 rfl rfl)
theorem dX2_named_13 : decode cX2_named 13 = .ok (.ireturn, 1) := dk_172 (dk_at dksX2_named_0 13 rfl rfl)
abbrev cX2_setEntry : ByteArray := prog_16_method_36_code
def yX2_setEntry : MethodName := ⟨RX2, "setEntry", "(III)V"⟩
def dkwX2_setEntry_0 : List UInt8 := [42, 8, 27, 5, 108, 96, 182, 0, 226, 7, 27, 5, 112, 104, 28, 96, 29, 79, 177]
abbrev dktX2_setEntry_0 : List UInt8 := dkwX2_setEntry_0 ++ []
theorem dksX2_setEntry_0 : cX2_setEntry.data.toList.drop 0 = dktX2_setEntry_0 := by decide +kernel
theorem dX2_setEntry_0 : decode cX2_setEntry 0 = .ok (.aload_n 0, 1) := dk_42 (dk_at dksX2_setEntry_0 0 rfl rfl)
theorem dX2_setEntry_1 : decode cX2_setEntry 1 = .ok (.iconst 5, 1) := dk_8 (dk_at dksX2_setEntry_0 1 rfl rfl)
theorem dX2_setEntry_2 : decode cX2_setEntry 2 = .ok (.iload_n 1, 1) := dk_27 (dk_at dksX2_setEntry_0 2 rfl rfl)
theorem dX2_setEntry_3 : decode cX2_setEntry 3 = .ok (.iconst 2, 1) := dk_5 (dk_at dksX2_setEntry_0 3 rfl rfl)
theorem dX2_setEntry_4 : decode cX2_setEntry 4 = .ok (.idiv, 1) := dk_108 (dk_at dksX2_setEntry_0 4 rfl rfl)
theorem dX2_setEntry_5 : decode cX2_setEntry 5 = .ok (.iadd, 1) := dk_96 (dk_at dksX2_setEntry_0 5 rfl rfl)
theorem dX2_setEntry_6 : decode cX2_setEntry 6 = .ok (.invokevirtual 226, 3) := dk_182 0 226 (dk_at dksX2_setEntry_0 6 rfl rfl)
theorem dX2_setEntry_9 : decode cX2_setEntry 9 = .ok (.iconst 4, 1) := dk_7 (dk_at dksX2_setEntry_0 9 rfl rfl)
theorem dX2_setEntry_10 : decode cX2_setEntry 10 = .ok (.iload_n 1, 1) := dk_27 (dk_at dksX2_setEntry_0 10 rfl rfl)
theorem dX2_setEntry_11 : decode cX2_setEntry 11 = .ok (.iconst 2, 1) := dk_5 (dk_at dksX2_setEntry_0 11 rfl rfl)
theorem dX2_setEntry_12 : decode cX2_setEntry 12 = .ok (.irem, 1) := dk_112 (dk_at dksX2_setEntry_0 12 rfl rfl)
theorem dX2_setEntry_13 : decode cX2_setEntry 13 = .ok (.imul, 1) := dk_104 (dk_at dksX2_setEntry_0 13 rfl rfl)
theorem dX2_setEntry_14 : decode cX2_setEntry 14 = .ok (.iload_n 2, 1) := dk_28 (dk_at dksX2_setEntry_0 14 rfl rfl)
theorem dX2_setEntry_15 : decode cX2_setEntry 15 = .ok (.iadd, 1) := dk_96 (dk_at dksX2_setEntry_0 15 rfl rfl)
theorem dX2_setEntry_16 : decode cX2_setEntry 16 = .ok (.iload_n 3, 1) := dk_29 (dk_at dksX2_setEntry_0 16 rfl rfl)
theorem dX2_setEntry_17 : decode cX2_setEntry 17 = .ok (.iastore, 1) := dk_79 (dk_at dksX2_setEntry_0 17 rfl rfl)
theorem dX2_setEntry_18 : decode cX2_setEntry 18 = .ok (.return_, 1) := dk_177 (dk_at dksX2_setEntry_0 18 rfl rfl)
abbrev cX2_draft : ByteArray := prog_16_method_35_code
def yX2_draft : MethodName := ⟨RX2, "draft", "(I)[I"⟩
def dkwX2_draft_6 : List UInt8 := [184, 0, 64, 42, 89, 180, 0, 223, 4, 96, 181, 0, 223, 42, 180, 0, 40, 28, 50, 176]
abbrev dktX2_draft_6 : List UInt8 := dkwX2_draft_6 ++ []
def dkwX2_draft_5 : List UInt8 := [180, 0, 40, 28, 45, 83, 42, 180, 0, 9, 17, 1, 109, 16, 8, 27, 104, 96, 45, 3, 16, 8]
abbrev dktX2_draft_5 : List UInt8 := dkwX2_draft_5 ++ dktX2_draft_6
def dkwX2_draft_4 : List UInt8 := [180, 0, 40, 21, 4, 4, 100, 50, 83, 132, 4, 255, 167, 255, 215, 42, 180, 0, 35, 28, 27, 79, 42]
abbrev dktX2_draft_4 : List UInt8 := dkwX2_draft_4 ++ dktX2_draft_5
def dkwX2_draft_3 : List UInt8 := [180, 0, 35, 21, 4, 42, 180, 0, 35, 21, 4, 4, 100, 46, 79, 42, 180, 0, 40, 21, 4, 42]
abbrev dktX2_draft_3 : List UInt8 := dkwX2_draft_3 ++ dktX2_draft_4
def dkwX2_draft_2 : List UInt8 := [180, 0, 40, 42, 180, 0, 223, 50, 78, 42, 180, 0, 223, 54, 4, 21, 4, 28, 164, 0, 41, 42]
abbrev dktX2_draft_2 : List UInt8 := dkwX2_draft_2 ++ dktX2_draft_3
def dkwX2_draft_1 : List UInt8 := [167, 255, 235, 28, 42, 180, 0, 223, 159, 0, 13, 42, 180, 0, 35, 28, 46, 27, 159, 0, 106, 42]
abbrev dktX2_draft_1 : List UInt8 := dkwX2_draft_1 ++ dktX2_draft_2
def dkwX2_draft_0 : List UInt8 := [3, 61, 28, 42, 180, 0, 223, 162, 0, 19, 42, 180, 0, 35, 28, 46, 27, 162, 0, 9, 132, 2, 1]
abbrev dktX2_draft_0 : List UInt8 := dkwX2_draft_0 ++ dktX2_draft_1
theorem dksX2_draft_0 : cX2_draft.data.toList.drop 0 = dktX2_draft_0 := by decide +kernel
theorem dksX2_draft_1 : cX2_draft.data.toList.drop 23 = dktX2_draft_1 := dk_seg dksX2_draft_0 23 rfl rfl
theorem dksX2_draft_2 : cX2_draft.data.toList.drop 45 = dktX2_draft_2 := dk_seg dksX2_draft_1 22 rfl rfl
theorem dksX2_draft_3 : cX2_draft.data.toList.drop 67 = dktX2_draft_3 := dk_seg dksX2_draft_2 22 rfl rfl
theorem dksX2_draft_4 : cX2_draft.data.toList.drop 89 = dktX2_draft_4 := dk_seg dksX2_draft_3 22 rfl rfl
theorem dksX2_draft_5 : cX2_draft.data.toList.drop 112 = dktX2_draft_5 := dk_seg dksX2_draft_4 23 rfl rfl
theorem dksX2_draft_6 : cX2_draft.data.toList.drop 134 = dktX2_draft_6 := dk_seg dksX2_draft_5 22 rfl rfl
theorem dX2_draft_0 : decode cX2_draft 0 = .ok (.iconst 0, 1) := dk_3 (dk_at dksX2_draft_0 0 rfl rfl)
theorem dX2_draft_1 : decode cX2_draft 1 = .ok (.istore_n 2, 1) := dk_61 (dk_at dksX2_draft_0 1 rfl rfl)
theorem dX2_draft_2 : decode cX2_draft 2 = .ok (.iload_n 2, 1) := dk_28 (dk_at dksX2_draft_0 2 rfl rfl)
theorem dX2_draft_3 : decode cX2_draft 3 = .ok (.aload_n 0, 1) := dk_42 (dk_at dksX2_draft_0 3 rfl rfl)
theorem dX2_draft_4 : decode cX2_draft 4 = .ok (.getfield 223, 3) := dk_180 0 223 (dk_at dksX2_draft_0 4 rfl rfl)
theorem dX2_draft_7 : decode cX2_draft 7 = .ok (.if_icmp .ge 19, 3) := dk_162 0 19 (dk_at dksX2_draft_0 7 rfl rfl)
theorem dX2_draft_10 : decode cX2_draft 10 = .ok (.aload_n 0, 1) := dk_42 (dk_at dksX2_draft_0 10 rfl rfl)
theorem dX2_draft_11 : decode cX2_draft 11 = .ok (.getfield 35, 3) := dk_180 0 35 (dk_at dksX2_draft_0 11 rfl rfl)
theorem dX2_draft_14 : decode cX2_draft 14 = .ok (.iload_n 2, 1) := dk_28 (dk_at dksX2_draft_0 14 rfl rfl)
theorem dX2_draft_15 : decode cX2_draft 15 = .ok (.iaload, 1) := dk_46 (dk_at dksX2_draft_0 15 rfl rfl)
theorem dX2_draft_16 : decode cX2_draft 16 = .ok (.iload_n 1, 1) := dk_27 (dk_at dksX2_draft_0 16 rfl rfl)
theorem dX2_draft_17 : decode cX2_draft 17 = .ok (.if_icmp .ge 9, 3) := dk_162 0 9 (dk_at dksX2_draft_0 17 rfl rfl)
theorem dX2_draft_20 : decode cX2_draft 20 = .ok (.iinc 2 1, 3) := dk_132 2 1 (dk_at dksX2_draft_0 20 rfl rfl)
theorem dX2_draft_23 : decode cX2_draft 23 = .ok (.goto (-21), 3) := dk_167 255 235 (dk_at dksX2_draft_1 0 rfl rfl)
theorem dX2_draft_26 : decode cX2_draft 26 = .ok (.iload_n 2, 1) := dk_28 (dk_at dksX2_draft_1 3 rfl rfl)
theorem dX2_draft_27 : decode cX2_draft 27 = .ok (.aload_n 0, 1) := dk_42 (dk_at dksX2_draft_1 4 rfl rfl)
theorem dX2_draft_28 : decode cX2_draft 28 = .ok (.getfield 223, 3) := dk_180 0 223 (dk_at dksX2_draft_1 5 rfl rfl)
theorem dX2_draft_31 : decode cX2_draft 31 = .ok (.if_icmp .eq 13, 3) := dk_159 0 13 (dk_at dksX2_draft_1 8 rfl rfl)
theorem dX2_draft_34 : decode cX2_draft 34 = .ok (.aload_n 0, 1) := dk_42 (dk_at dksX2_draft_1 11 rfl rfl)
theorem dX2_draft_35 : decode cX2_draft 35 = .ok (.getfield 35, 3) := dk_180 0 35 (dk_at dksX2_draft_1 12 rfl rfl)
theorem dX2_draft_38 : decode cX2_draft 38 = .ok (.iload_n 2, 1) := dk_28 (dk_at dksX2_draft_1 15 rfl rfl)
theorem dX2_draft_39 : decode cX2_draft 39 = .ok (.iaload, 1) := dk_46 (dk_at dksX2_draft_1 16 rfl rfl)
theorem dX2_draft_40 : decode cX2_draft 40 = .ok (.iload_n 1, 1) := dk_27 (dk_at dksX2_draft_1 17 rfl rfl)
theorem dX2_draft_41 : decode cX2_draft 41 = .ok (.if_icmp .eq 106, 3) := dk_159 0 106 (dk_at dksX2_draft_1 18 rfl rfl)
theorem dX2_draft_44 : decode cX2_draft 44 = .ok (.aload_n 0, 1) := dk_42 (dk_at dksX2_draft_1 21 rfl rfl)
theorem dX2_draft_45 : decode cX2_draft 45 = .ok (.getfield 40, 3) := dk_180 0 40 (dk_at dksX2_draft_2 0 rfl rfl)
theorem dX2_draft_48 : decode cX2_draft 48 = .ok (.aload_n 0, 1) := dk_42 (dk_at dksX2_draft_2 3 rfl rfl)
theorem dX2_draft_49 : decode cX2_draft 49 = .ok (.getfield 223, 3) := dk_180 0 223 (dk_at dksX2_draft_2 4 rfl rfl)
theorem dX2_draft_52 : decode cX2_draft 52 = .ok (.aaload, 1) := dk_50 (dk_at dksX2_draft_2 7 rfl rfl)
theorem dX2_draft_53 : decode cX2_draft 53 = .ok (.astore_n 3, 1) := dk_78 (dk_at dksX2_draft_2 8 rfl rfl)
theorem dX2_draft_54 : decode cX2_draft 54 = .ok (.aload_n 0, 1) := dk_42 (dk_at dksX2_draft_2 9 rfl rfl)
theorem dX2_draft_55 : decode cX2_draft 55 = .ok (.getfield 223, 3) := dk_180 0 223 (dk_at dksX2_draft_2 10 rfl rfl)
theorem dX2_draft_58 : decode cX2_draft 58 = .ok (.istore 4, 2) := dk_54 4 (dk_at dksX2_draft_2 13 rfl rfl)
theorem dX2_draft_60 : decode cX2_draft 60 = .ok (.iload 4, 2) := dk_21 4 (dk_at dksX2_draft_2 15 rfl rfl)
theorem dX2_draft_62 : decode cX2_draft 62 = .ok (.iload_n 2, 1) := dk_28 (dk_at dksX2_draft_2 17 rfl rfl)
theorem dX2_draft_63 : decode cX2_draft 63 = .ok (.if_icmp .le 41, 3) := dk_164 0 41 (dk_at dksX2_draft_2 18 rfl rfl)
theorem dX2_draft_66 : decode cX2_draft 66 = .ok (.aload_n 0, 1) := dk_42 (dk_at dksX2_draft_2 21 rfl rfl)
theorem dX2_draft_67 : decode cX2_draft 67 = .ok (.getfield 35, 3) := dk_180 0 35 (dk_at dksX2_draft_3 0 rfl rfl)
theorem dX2_draft_70 : decode cX2_draft 70 = .ok (.iload 4, 2) := dk_21 4 (dk_at dksX2_draft_3 3 rfl rfl)
theorem dX2_draft_72 : decode cX2_draft 72 = .ok (.aload_n 0, 1) := dk_42 (dk_at dksX2_draft_3 5 rfl rfl)
theorem dX2_draft_73 : decode cX2_draft 73 = .ok (.getfield 35, 3) := dk_180 0 35 (dk_at dksX2_draft_3 6 rfl rfl)
theorem dX2_draft_76 : decode cX2_draft 76 = .ok (.iload 4, 2) := dk_21 4 (dk_at dksX2_draft_3 9 rfl rfl)
theorem dX2_draft_78 : decode cX2_draft 78 = .ok (.iconst 1, 1) := dk_4 (dk_at dksX2_draft_3 11 rfl rfl)
theorem dX2_draft_79 : decode cX2_draft 79 = .ok (.isub, 1) := dk_100 (dk_at dksX2_draft_3 12 rfl rfl)
theorem dX2_draft_80 : decode cX2_draft 80 = .ok (.iaload, 1) := dk_46 (dk_at dksX2_draft_3 13 rfl rfl)
theorem dX2_draft_81 : decode cX2_draft 81 = .ok (.iastore, 1) := dk_79 (dk_at dksX2_draft_3 14 rfl rfl)
theorem dX2_draft_82 : decode cX2_draft 82 = .ok (.aload_n 0, 1) := dk_42 (dk_at dksX2_draft_3 15 rfl rfl)
theorem dX2_draft_83 : decode cX2_draft 83 = .ok (.getfield 40, 3) := dk_180 0 40 (dk_at dksX2_draft_3 16 rfl rfl)
theorem dX2_draft_86 : decode cX2_draft 86 = .ok (.iload 4, 2) := dk_21 4 (dk_at dksX2_draft_3 19 rfl rfl)
theorem dX2_draft_88 : decode cX2_draft 88 = .ok (.aload_n 0, 1) := dk_42 (dk_at dksX2_draft_3 21 rfl rfl)
theorem dX2_draft_89 : decode cX2_draft 89 = .ok (.getfield 40, 3) := dk_180 0 40 (dk_at dksX2_draft_4 0 rfl rfl)
theorem dX2_draft_92 : decode cX2_draft 92 = .ok (.iload 4, 2) := dk_21 4 (dk_at dksX2_draft_4 3 rfl rfl)
theorem dX2_draft_94 : decode cX2_draft 94 = .ok (.iconst 1, 1) := dk_4 (dk_at dksX2_draft_4 5 rfl rfl)
theorem dX2_draft_95 : decode cX2_draft 95 = .ok (.isub, 1) := dk_100 (dk_at dksX2_draft_4 6 rfl rfl)
theorem dX2_draft_96 : decode cX2_draft 96 = .ok (.aaload, 1) := dk_50 (dk_at dksX2_draft_4 7 rfl rfl)
theorem dX2_draft_97 : decode cX2_draft 97 = .ok (.aastore, 1) := dk_83 (dk_at dksX2_draft_4 8 rfl rfl)
theorem dX2_draft_98 : decode cX2_draft 98 = .ok (.iinc 4 (-1), 3) := dk_132 4 255 (dk_at dksX2_draft_4 9 rfl rfl)
theorem dX2_draft_101 : decode cX2_draft 101 = .ok (.goto (-41), 3) := dk_167 255 215 (dk_at dksX2_draft_4 12 rfl rfl)
theorem dX2_draft_104 : decode cX2_draft 104 = .ok (.aload_n 0, 1) := dk_42 (dk_at dksX2_draft_4 15 rfl rfl)
theorem dX2_draft_105 : decode cX2_draft 105 = .ok (.getfield 35, 3) := dk_180 0 35 (dk_at dksX2_draft_4 16 rfl rfl)
theorem dX2_draft_108 : decode cX2_draft 108 = .ok (.iload_n 2, 1) := dk_28 (dk_at dksX2_draft_4 19 rfl rfl)
theorem dX2_draft_109 : decode cX2_draft 109 = .ok (.iload_n 1, 1) := dk_27 (dk_at dksX2_draft_4 20 rfl rfl)
theorem dX2_draft_110 : decode cX2_draft 110 = .ok (.iastore, 1) := dk_79 (dk_at dksX2_draft_4 21 rfl rfl)
theorem dX2_draft_111 : decode cX2_draft 111 = .ok (.aload_n 0, 1) := dk_42 (dk_at dksX2_draft_4 22 rfl rfl)
theorem dX2_draft_112 : decode cX2_draft 112 = .ok (.getfield 40, 3) := dk_180 0 40 (dk_at dksX2_draft_5 0 rfl rfl)
theorem dX2_draft_115 : decode cX2_draft 115 = .ok (.iload_n 2, 1) := dk_28 (dk_at dksX2_draft_5 3 rfl rfl)
theorem dX2_draft_116 : decode cX2_draft 116 = .ok (.aload_n 3, 1) := dk_45 (dk_at dksX2_draft_5 4 rfl rfl)
theorem dX2_draft_117 : decode cX2_draft 117 = .ok (.aastore, 1) := dk_83 (dk_at dksX2_draft_5 5 rfl rfl)
theorem dX2_draft_118 : decode cX2_draft 118 = .ok (.aload_n 0, 1) := dk_42 (dk_at dksX2_draft_5 6 rfl rfl)
theorem dX2_draft_119 : decode cX2_draft 119 = .ok (.getfield 9, 3) := dk_180 0 9 (dk_at dksX2_draft_5 7 rfl rfl)
theorem dX2_draft_122 : decode cX2_draft 122 = .ok (.sipush 365, 3) := dk_17 1 109 (dk_at dksX2_draft_5 10 rfl rfl)
theorem dX2_draft_125 : decode cX2_draft 125 = .ok (.bipush 8, 2) := dk_16 8 (dk_at dksX2_draft_5 13 rfl rfl)
theorem dX2_draft_127 : decode cX2_draft 127 = .ok (.iload_n 1, 1) := dk_27 (dk_at dksX2_draft_5 15 rfl rfl)
theorem dX2_draft_128 : decode cX2_draft 128 = .ok (.imul, 1) := dk_104 (dk_at dksX2_draft_5 16 rfl rfl)
theorem dX2_draft_129 : decode cX2_draft 129 = .ok (.iadd, 1) := dk_96 (dk_at dksX2_draft_5 17 rfl rfl)
theorem dX2_draft_130 : decode cX2_draft 130 = .ok (.aload_n 3, 1) := dk_45 (dk_at dksX2_draft_5 18 rfl rfl)
theorem dX2_draft_131 : decode cX2_draft 131 = .ok (.iconst 0, 1) := dk_3 (dk_at dksX2_draft_5 19 rfl rfl)
theorem dX2_draft_132 : decode cX2_draft 132 = .ok (.bipush 8, 2) := dk_16 8 (dk_at dksX2_draft_5 20 rfl rfl)
theorem dX2_draft_134 : decode cX2_draft 134 = .ok (.invokestatic 64, 3) := dk_184 0 64 (dk_at dksX2_draft_6 0 rfl rfl)
theorem dX2_draft_137 : decode cX2_draft 137 = .ok (.aload_n 0, 1) := dk_42 (dk_at dksX2_draft_6 3 rfl rfl)
theorem dX2_draft_138 : decode cX2_draft 138 = .ok (.dup, 1) := dk_89 (dk_at dksX2_draft_6 4 rfl rfl)
theorem dX2_draft_139 : decode cX2_draft 139 = .ok (.getfield 223, 3) := dk_180 0 223 (dk_at dksX2_draft_6 5 rfl rfl)
theorem dX2_draft_142 : decode cX2_draft 142 = .ok (.iconst 1, 1) := dk_4 (dk_at dksX2_draft_6 8 rfl rfl)
theorem dX2_draft_143 : decode cX2_draft 143 = .ok (.iadd, 1) := dk_96 (dk_at dksX2_draft_6 9 rfl rfl)
theorem dX2_draft_144 : decode cX2_draft 144 = .ok (.putfield 223, 3) := dk_181 0 223 (dk_at dksX2_draft_6 10 rfl rfl)
theorem dX2_draft_147 : decode cX2_draft 147 = .ok (.aload_n 0, 1) := dk_42 (dk_at dksX2_draft_6 13 rfl rfl)
theorem dX2_draft_148 : decode cX2_draft 148 = .ok (.getfield 40, 3) := dk_180 0 40 (dk_at dksX2_draft_6 14 rfl rfl)
theorem dX2_draft_151 : decode cX2_draft 151 = .ok (.iload_n 2, 1) := dk_28 (dk_at dksX2_draft_6 17 rfl rfl)
theorem dX2_draft_152 : decode cX2_draft 152 = .ok (.aaload, 1) := dk_50 (dk_at dksX2_draft_6 18 rfl rfl)
theorem dX2_draft_153 : decode cX2_draft 153 = .ok (.areturn, 1) := dk_176 (dk_at dksX2_draft_6 19 rfl rfl)
abbrev cX2_append : ByteArray := prog_16_method_39_code
def yX2_append : MethodName := ⟨RX2, "append", "(II)I"⟩
def dkwX2_append_5 : List UInt8 := [4, 182, 0, 230, 42, 27, 21, 4, 21, 6, 182, 0, 234, 42, 27, 4, 29, 4, 96, 182, 0, 234, 3, 172]
abbrev dktX2_append_5 : List UInt8 := dkwX2_append_5 ++ []
def dkwX2_append_4 : List UInt8 := [3, 79, 132, 8, 1, 167, 255, 235, 25, 7, 29, 16, 8, 112, 28, 79, 21, 5, 153, 0, 19, 42, 21, 6]
abbrev dktX2_append_4 : List UInt8 := dkwX2_append_4 ++ dktX2_append_5
def dkwX2_append_3 : List UInt8 := [182, 0, 226, 58, 7, 3, 54, 8, 21, 5, 153, 0, 22, 21, 8, 16, 8, 162, 0, 15, 25, 7, 21, 8]
abbrev dktX2_append_3 : List UInt8 := dkwX2_append_3 ++ dktX2_append_4
def dkwX2_append_2 : List UInt8 := [167, 0, 10, 42, 27, 21, 4, 182, 0, 214, 54, 6, 21, 6, 2, 160, 0, 5, 6, 172, 42, 21, 6]
abbrev dktX2_append_2 : List UInt8 := dkwX2_append_2 ++ dktX2_append_3
def dkwX2_append_1 : List UInt8 := [167, 0, 4, 3, 54, 5, 29, 16, 16, 160, 0, 5, 5, 172, 21, 5, 153, 0, 10, 42, 182, 0, 237]
abbrev dktX2_append_1 : List UInt8 := dkwX2_append_1 ++ dktX2_append_2
def dkwX2_append_0 : List UInt8 := [42, 27, 4, 182, 0, 214, 62, 5, 29, 16, 8, 108, 96, 54, 4, 29, 16, 8, 112, 154, 0, 7, 4]
abbrev dktX2_append_0 : List UInt8 := dkwX2_append_0 ++ dktX2_append_1
theorem dksX2_append_0 : cX2_append.data.toList.drop 0 = dktX2_append_0 := by decide +kernel
theorem dksX2_append_1 : cX2_append.data.toList.drop 23 = dktX2_append_1 := dk_seg dksX2_append_0 23 rfl rfl
theorem dksX2_append_2 : cX2_append.data.toList.drop 46 = dktX2_append_2 := dk_seg dksX2_append_1 23 rfl rfl
theorem dksX2_append_3 : cX2_append.data.toList.drop 69 = dktX2_append_3 := dk_seg dksX2_append_2 23 rfl rfl
theorem dksX2_append_4 : cX2_append.data.toList.drop 93 = dktX2_append_4 := dk_seg dksX2_append_3 24 rfl rfl
theorem dksX2_append_5 : cX2_append.data.toList.drop 117 = dktX2_append_5 := dk_seg dksX2_append_4 24 rfl rfl
theorem dX2_append_0 : decode cX2_append 0 = .ok (.aload_n 0, 1) := dk_42 (dk_at dksX2_append_0 0 rfl rfl)
theorem dX2_append_1 : decode cX2_append 1 = .ok (.iload_n 1, 1) := dk_27 (dk_at dksX2_append_0 1 rfl rfl)
theorem dX2_append_2 : decode cX2_append 2 = .ok (.iconst 1, 1) := dk_4 (dk_at dksX2_append_0 2 rfl rfl)
theorem dX2_append_3 : decode cX2_append 3 = .ok (.invokevirtual 214, 3) := dk_182 0 214 (dk_at dksX2_append_0 3 rfl rfl)
theorem dX2_append_6 : decode cX2_append 6 = .ok (.istore_n 3, 1) := dk_62 (dk_at dksX2_append_0 6 rfl rfl)
theorem dX2_append_7 : decode cX2_append 7 = .ok (.iconst 2, 1) := dk_5 (dk_at dksX2_append_0 7 rfl rfl)
theorem dX2_append_8 : decode cX2_append 8 = .ok (.iload_n 3, 1) := dk_29 (dk_at dksX2_append_0 8 rfl rfl)
theorem dX2_append_9 : decode cX2_append 9 = .ok (.bipush 8, 2) := dk_16 8 (dk_at dksX2_append_0 9 rfl rfl)
theorem dX2_append_11 : decode cX2_append 11 = .ok (.idiv, 1) := dk_108 (dk_at dksX2_append_0 11 rfl rfl)
theorem dX2_append_12 : decode cX2_append 12 = .ok (.iadd, 1) := dk_96 (dk_at dksX2_append_0 12 rfl rfl)
theorem dX2_append_13 : decode cX2_append 13 = .ok (.istore 4, 2) := dk_54 4 (dk_at dksX2_append_0 13 rfl rfl)
theorem dX2_append_15 : decode cX2_append 15 = .ok (.iload_n 3, 1) := dk_29 (dk_at dksX2_append_0 15 rfl rfl)
theorem dX2_append_16 : decode cX2_append 16 = .ok (.bipush 8, 2) := dk_16 8 (dk_at dksX2_append_0 16 rfl rfl)
theorem dX2_append_18 : decode cX2_append 18 = .ok (.irem, 1) := dk_112 (dk_at dksX2_append_0 18 rfl rfl)
theorem dX2_append_19 : decode cX2_append 19 = .ok (.ifCond .ne 7, 3) := dk_154 0 7 (dk_at dksX2_append_0 19 rfl rfl)
theorem dX2_append_22 : decode cX2_append 22 = .ok (.iconst 1, 1) := dk_4 (dk_at dksX2_append_0 22 rfl rfl)
theorem dX2_append_23 : decode cX2_append 23 = .ok (.goto 4, 3) := dk_167 0 4 (dk_at dksX2_append_1 0 rfl rfl)
theorem dX2_append_26 : decode cX2_append 26 = .ok (.iconst 0, 1) := dk_3 (dk_at dksX2_append_1 3 rfl rfl)
theorem dX2_append_27 : decode cX2_append 27 = .ok (.istore 5, 2) := dk_54 5 (dk_at dksX2_append_1 4 rfl rfl)
theorem dX2_append_29 : decode cX2_append 29 = .ok (.iload_n 3, 1) := dk_29 (dk_at dksX2_append_1 6 rfl rfl)
theorem dX2_append_30 : decode cX2_append 30 = .ok (.bipush 16, 2) := dk_16 16 (dk_at dksX2_append_1 7 rfl rfl)
theorem dX2_append_32 : decode cX2_append 32 = .ok (.if_icmp .ne 5, 3) := dk_160 0 5 (dk_at dksX2_append_1 9 rfl rfl)
theorem dX2_append_35 : decode cX2_append 35 = .ok (.iconst 2, 1) := dk_5 (dk_at dksX2_append_1 12 rfl rfl)
theorem dX2_append_36 : decode cX2_append 36 = .ok (.ireturn, 1) := dk_172 (dk_at dksX2_append_1 13 rfl rfl)
theorem dX2_append_37 : decode cX2_append 37 = .ok (.iload 5, 2) := dk_21 5 (dk_at dksX2_append_1 14 rfl rfl)
theorem dX2_append_39 : decode cX2_append 39 = .ok (.ifCond .eq 10, 3) := dk_153 0 10 (dk_at dksX2_append_1 16 rfl rfl)
theorem dX2_append_42 : decode cX2_append 42 = .ok (.aload_n 0, 1) := dk_42 (dk_at dksX2_append_1 19 rfl rfl)
theorem dX2_append_43 : decode cX2_append 43 = .ok (.invokevirtual 237, 3) := dk_182 0 237 (dk_at dksX2_append_1 20 rfl rfl)
theorem dX2_append_46 : decode cX2_append 46 = .ok (.goto 10, 3) := dk_167 0 10 (dk_at dksX2_append_2 0 rfl rfl)
theorem dX2_append_49 : decode cX2_append 49 = .ok (.aload_n 0, 1) := dk_42 (dk_at dksX2_append_2 3 rfl rfl)
theorem dX2_append_50 : decode cX2_append 50 = .ok (.iload_n 1, 1) := dk_27 (dk_at dksX2_append_2 4 rfl rfl)
theorem dX2_append_51 : decode cX2_append 51 = .ok (.iload 4, 2) := dk_21 4 (dk_at dksX2_append_2 5 rfl rfl)
theorem dX2_append_53 : decode cX2_append 53 = .ok (.invokevirtual 214, 3) := dk_182 0 214 (dk_at dksX2_append_2 7 rfl rfl)
theorem dX2_append_56 : decode cX2_append 56 = .ok (.istore 6, 2) := dk_54 6 (dk_at dksX2_append_2 10 rfl rfl)
theorem dX2_append_58 : decode cX2_append 58 = .ok (.iload 6, 2) := dk_21 6 (dk_at dksX2_append_2 12 rfl rfl)
theorem dX2_append_60 : decode cX2_append 60 = .ok (.iconst (-1), 1) := dk_2 (dk_at dksX2_append_2 14 rfl rfl)
theorem dX2_append_61 : decode cX2_append 61 = .ok (.if_icmp .ne 5, 3) := dk_160 0 5 (dk_at dksX2_append_2 15 rfl rfl)
theorem dX2_append_64 : decode cX2_append 64 = .ok (.iconst 3, 1) := dk_6 (dk_at dksX2_append_2 18 rfl rfl)
theorem dX2_append_65 : decode cX2_append 65 = .ok (.ireturn, 1) := dk_172 (dk_at dksX2_append_2 19 rfl rfl)
theorem dX2_append_66 : decode cX2_append 66 = .ok (.aload_n 0, 1) := dk_42 (dk_at dksX2_append_2 20 rfl rfl)
theorem dX2_append_67 : decode cX2_append 67 = .ok (.iload 6, 2) := dk_21 6 (dk_at dksX2_append_2 21 rfl rfl)
theorem dX2_append_69 : decode cX2_append 69 = .ok (.invokevirtual 226, 3) := dk_182 0 226 (dk_at dksX2_append_3 0 rfl rfl)
theorem dX2_append_72 : decode cX2_append 72 = .ok (.astore 7, 2) := dk_58 7 (dk_at dksX2_append_3 3 rfl rfl)
theorem dX2_append_74 : decode cX2_append 74 = .ok (.iconst 0, 1) := dk_3 (dk_at dksX2_append_3 5 rfl rfl)
theorem dX2_append_75 : decode cX2_append 75 = .ok (.istore 8, 2) := dk_54 8 (dk_at dksX2_append_3 6 rfl rfl)
theorem dX2_append_77 : decode cX2_append 77 = .ok (.iload 5, 2) := dk_21 5 (dk_at dksX2_append_3 8 rfl rfl)
theorem dX2_append_79 : decode cX2_append 79 = .ok (.ifCond .eq 22, 3) := dk_153 0 22 (dk_at dksX2_append_3 10 rfl rfl)
theorem dX2_append_82 : decode cX2_append 82 = .ok (.iload 8, 2) := dk_21 8 (dk_at dksX2_append_3 13 rfl rfl)
theorem dX2_append_84 : decode cX2_append 84 = .ok (.bipush 8, 2) := dk_16 8 (dk_at dksX2_append_3 15 rfl rfl)
theorem dX2_append_86 : decode cX2_append 86 = .ok (.if_icmp .ge 15, 3) := dk_162 0 15 (dk_at dksX2_append_3 17 rfl rfl)
theorem dX2_append_89 : decode cX2_append 89 = .ok (.aload 7, 2) := dk_25 7 (dk_at dksX2_append_3 20 rfl rfl)
theorem dX2_append_91 : decode cX2_append 91 = .ok (.iload 8, 2) := dk_21 8 (dk_at dksX2_append_3 22 rfl rfl)
theorem dX2_append_93 : decode cX2_append 93 = .ok (.iconst 0, 1) := dk_3 (dk_at dksX2_append_4 0 rfl rfl)
theorem dX2_append_94 : decode cX2_append 94 = .ok (.iastore, 1) := dk_79 (dk_at dksX2_append_4 1 rfl rfl)
theorem dX2_append_95 : decode cX2_append 95 = .ok (.iinc 8 1, 3) := dk_132 8 1 (dk_at dksX2_append_4 2 rfl rfl)
theorem dX2_append_98 : decode cX2_append 98 = .ok (.goto (-21), 3) := dk_167 255 235 (dk_at dksX2_append_4 5 rfl rfl)
theorem dX2_append_101 : decode cX2_append 101 = .ok (.aload 7, 2) := dk_25 7 (dk_at dksX2_append_4 8 rfl rfl)
theorem dX2_append_103 : decode cX2_append 103 = .ok (.iload_n 3, 1) := dk_29 (dk_at dksX2_append_4 10 rfl rfl)
theorem dX2_append_104 : decode cX2_append 104 = .ok (.bipush 8, 2) := dk_16 8 (dk_at dksX2_append_4 11 rfl rfl)
theorem dX2_append_106 : decode cX2_append 106 = .ok (.irem, 1) := dk_112 (dk_at dksX2_append_4 13 rfl rfl)
theorem dX2_append_107 : decode cX2_append 107 = .ok (.iload_n 2, 1) := dk_28 (dk_at dksX2_append_4 14 rfl rfl)
theorem dX2_append_108 : decode cX2_append 108 = .ok (.iastore, 1) := dk_79 (dk_at dksX2_append_4 15 rfl rfl)
theorem dX2_append_109 : decode cX2_append 109 = .ok (.iload 5, 2) := dk_21 5 (dk_at dksX2_append_4 16 rfl rfl)
theorem dX2_append_111 : decode cX2_append 111 = .ok (.ifCond .eq 19, 3) := dk_153 0 19 (dk_at dksX2_append_4 18 rfl rfl)
theorem dX2_append_114 : decode cX2_append 114 = .ok (.aload_n 0, 1) := dk_42 (dk_at dksX2_append_4 21 rfl rfl)
theorem dX2_append_115 : decode cX2_append 115 = .ok (.iload 6, 2) := dk_21 6 (dk_at dksX2_append_4 22 rfl rfl)
theorem dX2_append_117 : decode cX2_append 117 = .ok (.iconst 1, 1) := dk_4 (dk_at dksX2_append_5 0 rfl rfl)
theorem dX2_append_118 : decode cX2_append 118 = .ok (.invokevirtual 230, 3) := dk_182 0 230 (dk_at dksX2_append_5 1 rfl rfl)
theorem dX2_append_121 : decode cX2_append 121 = .ok (.aload_n 0, 1) := dk_42 (dk_at dksX2_append_5 4 rfl rfl)
theorem dX2_append_122 : decode cX2_append 122 = .ok (.iload_n 1, 1) := dk_27 (dk_at dksX2_append_5 5 rfl rfl)
theorem dX2_append_123 : decode cX2_append 123 = .ok (.iload 4, 2) := dk_21 4 (dk_at dksX2_append_5 6 rfl rfl)
theorem dX2_append_125 : decode cX2_append 125 = .ok (.iload 6, 2) := dk_21 6 (dk_at dksX2_append_5 8 rfl rfl)
theorem dX2_append_127 : decode cX2_append 127 = .ok (.invokevirtual 234, 3) := dk_182 0 234 (dk_at dksX2_append_5 10 rfl rfl)
theorem dX2_append_130 : decode cX2_append 130 = .ok (.aload_n 0, 1) := dk_42 (dk_at dksX2_append_5 13 rfl rfl)
theorem dX2_append_131 : decode cX2_append 131 = .ok (.iload_n 1, 1) := dk_27 (dk_at dksX2_append_5 14 rfl rfl)
theorem dX2_append_132 : decode cX2_append 132 = .ok (.iconst 1, 1) := dk_4 (dk_at dksX2_append_5 15 rfl rfl)
theorem dX2_append_133 : decode cX2_append 133 = .ok (.iload_n 3, 1) := dk_29 (dk_at dksX2_append_5 16 rfl rfl)
theorem dX2_append_134 : decode cX2_append 134 = .ok (.iconst 1, 1) := dk_4 (dk_at dksX2_append_5 17 rfl rfl)
theorem dX2_append_135 : decode cX2_append 135 = .ok (.iadd, 1) := dk_96 (dk_at dksX2_append_5 18 rfl rfl)
theorem dX2_append_136 : decode cX2_append 136 = .ok (.invokevirtual 234, 3) := dk_182 0 234 (dk_at dksX2_append_5 19 rfl rfl)
theorem dX2_append_139 : decode cX2_append 139 = .ok (.iconst 0, 1) := dk_3 (dk_at dksX2_append_5 22 rfl rfl)
theorem dX2_append_140 : decode cX2_append 140 = .ok (.ireturn, 1) := dk_172 (dk_at dksX2_append_5 23 rfl rfl)
abbrev cX2_firstFree : ByteArray := prog_16_method_34_code
def yX2_firstFree : MethodName := ⟨RX2, "firstFree", "()I"⟩
def dkwX2_firstFree_1 : List UInt8 := [60, 132, 2, 255, 167, 255, 233, 27, 172]
abbrev dktX2_firstFree_1 : List UInt8 := dkwX2_firstFree_1 ++ []
def dkwX2_firstFree_0 : List UInt8 := [2, 60, 16, 31, 61, 28, 16, 8, 161, 0, 23, 42, 28, 182, 0, 220, 153, 0, 7, 27, 167, 0, 4, 28]
abbrev dktX2_firstFree_0 : List UInt8 := dkwX2_firstFree_0 ++ dktX2_firstFree_1
theorem dksX2_firstFree_0 : cX2_firstFree.data.toList.drop 0 = dktX2_firstFree_0 := by decide +kernel
theorem dksX2_firstFree_1 : cX2_firstFree.data.toList.drop 24 = dktX2_firstFree_1 := dk_seg dksX2_firstFree_0 24 rfl rfl
theorem dX2_firstFree_0 : decode cX2_firstFree 0 = .ok (.iconst (-1), 1) := dk_2 (dk_at dksX2_firstFree_0 0 rfl rfl)
theorem dX2_firstFree_1 : decode cX2_firstFree 1 = .ok (.istore_n 1, 1) := dk_60 (dk_at dksX2_firstFree_0 1 rfl rfl)
theorem dX2_firstFree_2 : decode cX2_firstFree 2 = .ok (.bipush 31, 2) := dk_16 31 (dk_at dksX2_firstFree_0 2 rfl rfl)
theorem dX2_firstFree_4 : decode cX2_firstFree 4 = .ok (.istore_n 2, 1) := dk_61 (dk_at dksX2_firstFree_0 4 rfl rfl)
theorem dX2_firstFree_5 : decode cX2_firstFree 5 = .ok (.iload_n 2, 1) := dk_28 (dk_at dksX2_firstFree_0 5 rfl rfl)
theorem dX2_firstFree_6 : decode cX2_firstFree 6 = .ok (.bipush 8, 2) := dk_16 8 (dk_at dksX2_firstFree_0 6 rfl rfl)
theorem dX2_firstFree_8 : decode cX2_firstFree 8 = .ok (.if_icmp .lt 23, 3) := dk_161 0 23 (dk_at dksX2_firstFree_0 8 rfl rfl)
theorem dX2_firstFree_11 : decode cX2_firstFree 11 = .ok (.aload_n 0, 1) := dk_42 (dk_at dksX2_firstFree_0 11 rfl rfl)
theorem dX2_firstFree_12 : decode cX2_firstFree 12 = .ok (.iload_n 2, 1) := dk_28 (dk_at dksX2_firstFree_0 12 rfl rfl)
theorem dX2_firstFree_13 : decode cX2_firstFree 13 = .ok (.invokevirtual 220, 3) := dk_182 0 220 (dk_at dksX2_firstFree_0 13 rfl rfl)
theorem dX2_firstFree_16 : decode cX2_firstFree 16 = .ok (.ifCond .eq 7, 3) := dk_153 0 7 (dk_at dksX2_firstFree_0 16 rfl rfl)
theorem dX2_firstFree_19 : decode cX2_firstFree 19 = .ok (.iload_n 1, 1) := dk_27 (dk_at dksX2_firstFree_0 19 rfl rfl)
theorem dX2_firstFree_20 : decode cX2_firstFree 20 = .ok (.goto 4, 3) := dk_167 0 4 (dk_at dksX2_firstFree_0 20 rfl rfl)
theorem dX2_firstFree_23 : decode cX2_firstFree 23 = .ok (.iload_n 2, 1) := dk_28 (dk_at dksX2_firstFree_0 23 rfl rfl)
theorem dX2_firstFree_24 : decode cX2_firstFree 24 = .ok (.istore_n 1, 1) := dk_60 (dk_at dksX2_firstFree_1 0 rfl rfl)
theorem dX2_firstFree_25 : decode cX2_firstFree 25 = .ok (.iinc 2 (-1), 3) := dk_132 2 255 (dk_at dksX2_firstFree_1 1 rfl rfl)
theorem dX2_firstFree_28 : decode cX2_firstFree 28 = .ok (.goto (-23), 3) := dk_167 255 233 (dk_at dksX2_firstFree_1 4 rfl rfl)
theorem dX2_firstFree_31 : decode cX2_firstFree 31 = .ok (.iload_n 1, 1) := dk_27 (dk_at dksX2_firstFree_1 7 rfl rfl)
theorem dX2_firstFree_32 : decode cX2_firstFree 32 = .ok (.ireturn, 1) := dk_172 (dk_at dksX2_firstFree_1 8 rfl rfl)
abbrev cX2_mark : ByteArray := prog_16_method_37_code
def yX2_mark : MethodName := ⟨RX2, "mark", "(IZ)V"⟩
def dkwX2_mark_1 : List UInt8 := [27, 16, 16, 108, 46, 21, 4, 128, 167, 0, 14, 45, 27, 16, 16, 108, 46, 21, 4, 2, 130, 126, 79, 177]
abbrev dktX2_mark_1 : List UInt8 := dkwX2_mark_1 ++ []
def dkwX2_mark_0 : List UInt8 := [42, 7, 182, 0, 226, 78, 4, 27, 16, 16, 112, 120, 54, 4, 45, 27, 16, 16, 108, 28, 153, 0, 15, 45]
abbrev dktX2_mark_0 : List UInt8 := dkwX2_mark_0 ++ dktX2_mark_1
theorem dksX2_mark_0 : cX2_mark.data.toList.drop 0 = dktX2_mark_0 := by decide +kernel
theorem dksX2_mark_1 : cX2_mark.data.toList.drop 24 = dktX2_mark_1 := dk_seg dksX2_mark_0 24 rfl rfl
theorem dX2_mark_0 : decode cX2_mark 0 = .ok (.aload_n 0, 1) := dk_42 (dk_at dksX2_mark_0 0 rfl rfl)
theorem dX2_mark_1 : decode cX2_mark 1 = .ok (.iconst 4, 1) := dk_7 (dk_at dksX2_mark_0 1 rfl rfl)
theorem dX2_mark_2 : decode cX2_mark 2 = .ok (.invokevirtual 226, 3) := dk_182 0 226 (dk_at dksX2_mark_0 2 rfl rfl)
theorem dX2_mark_5 : decode cX2_mark 5 = .ok (.astore_n 3, 1) := dk_78 (dk_at dksX2_mark_0 5 rfl rfl)
theorem dX2_mark_6 : decode cX2_mark 6 = .ok (.iconst 1, 1) := dk_4 (dk_at dksX2_mark_0 6 rfl rfl)
theorem dX2_mark_7 : decode cX2_mark 7 = .ok (.iload_n 1, 1) := dk_27 (dk_at dksX2_mark_0 7 rfl rfl)
theorem dX2_mark_8 : decode cX2_mark 8 = .ok (.bipush 16, 2) := dk_16 16 (dk_at dksX2_mark_0 8 rfl rfl)
theorem dX2_mark_10 : decode cX2_mark 10 = .ok (.irem, 1) := dk_112 (dk_at dksX2_mark_0 10 rfl rfl)
theorem dX2_mark_11 : decode cX2_mark 11 = .ok (.ishl, 1) := dk_120 (dk_at dksX2_mark_0 11 rfl rfl)
theorem dX2_mark_12 : decode cX2_mark 12 = .ok (.istore 4, 2) := dk_54 4 (dk_at dksX2_mark_0 12 rfl rfl)
theorem dX2_mark_14 : decode cX2_mark 14 = .ok (.aload_n 3, 1) := dk_45 (dk_at dksX2_mark_0 14 rfl rfl)
theorem dX2_mark_15 : decode cX2_mark 15 = .ok (.iload_n 1, 1) := dk_27 (dk_at dksX2_mark_0 15 rfl rfl)
theorem dX2_mark_16 : decode cX2_mark 16 = .ok (.bipush 16, 2) := dk_16 16 (dk_at dksX2_mark_0 16 rfl rfl)
theorem dX2_mark_18 : decode cX2_mark 18 = .ok (.idiv, 1) := dk_108 (dk_at dksX2_mark_0 18 rfl rfl)
theorem dX2_mark_19 : decode cX2_mark 19 = .ok (.iload_n 2, 1) := dk_28 (dk_at dksX2_mark_0 19 rfl rfl)
theorem dX2_mark_20 : decode cX2_mark 20 = .ok (.ifCond .eq 15, 3) := dk_153 0 15 (dk_at dksX2_mark_0 20 rfl rfl)
theorem dX2_mark_23 : decode cX2_mark 23 = .ok (.aload_n 3, 1) := dk_45 (dk_at dksX2_mark_0 23 rfl rfl)
theorem dX2_mark_24 : decode cX2_mark 24 = .ok (.iload_n 1, 1) := dk_27 (dk_at dksX2_mark_1 0 rfl rfl)
theorem dX2_mark_25 : decode cX2_mark 25 = .ok (.bipush 16, 2) := dk_16 16 (dk_at dksX2_mark_1 1 rfl rfl)
theorem dX2_mark_27 : decode cX2_mark 27 = .ok (.idiv, 1) := dk_108 (dk_at dksX2_mark_1 3 rfl rfl)
theorem dX2_mark_28 : decode cX2_mark 28 = .ok (.iaload, 1) := dk_46 (dk_at dksX2_mark_1 4 rfl rfl)
theorem dX2_mark_29 : decode cX2_mark 29 = .ok (.iload 4, 2) := dk_21 4 (dk_at dksX2_mark_1 5 rfl rfl)
theorem dX2_mark_31 : decode cX2_mark 31 = .ok (.ior, 1) := dk_128 (dk_at dksX2_mark_1 7 rfl rfl)
theorem dX2_mark_32 : decode cX2_mark 32 = .ok (.goto 14, 3) := dk_167 0 14 (dk_at dksX2_mark_1 8 rfl rfl)
theorem dX2_mark_35 : decode cX2_mark 35 = .ok (.aload_n 3, 1) := dk_45 (dk_at dksX2_mark_1 11 rfl rfl)
theorem dX2_mark_36 : decode cX2_mark 36 = .ok (.iload_n 1, 1) := dk_27 (dk_at dksX2_mark_1 12 rfl rfl)
theorem dX2_mark_37 : decode cX2_mark 37 = .ok (.bipush 16, 2) := dk_16 16 (dk_at dksX2_mark_1 13 rfl rfl)
theorem dX2_mark_39 : decode cX2_mark 39 = .ok (.idiv, 1) := dk_108 (dk_at dksX2_mark_1 15 rfl rfl)
theorem dX2_mark_40 : decode cX2_mark 40 = .ok (.iaload, 1) := dk_46 (dk_at dksX2_mark_1 16 rfl rfl)
theorem dX2_mark_41 : decode cX2_mark 41 = .ok (.iload 4, 2) := dk_21 4 (dk_at dksX2_mark_1 17 rfl rfl)
theorem dX2_mark_43 : decode cX2_mark 43 = .ok (.iconst (-1), 1) := dk_2 (dk_at dksX2_mark_1 19 rfl rfl)
theorem dX2_mark_44 : decode cX2_mark 44 = .ok (.ixor, 1) := dk_130 (dk_at dksX2_mark_1 20 rfl rfl)
theorem dX2_mark_45 : decode cX2_mark 45 = .ok (.iand, 1) := dk_126 (dk_at dksX2_mark_1 21 rfl rfl)
theorem dX2_mark_46 : decode cX2_mark 46 = .ok (.iastore, 1) := dk_79 (dk_at dksX2_mark_1 22 rfl rfl)
theorem dX2_mark_47 : decode cX2_mark 47 = .ok (.return_, 1) := dk_177 (dk_at dksX2_mark_1 23 rfl rfl)
abbrev cX2_wordOf : ByteArray := prog_16_method_33_code
def yX2_wordOf : MethodName := ⟨RX2, "wordOf", "(II)I"⟩
def dkwX2_wordOf_1 : List UInt8 := [16, 8, 112, 96, 46, 172]
abbrev dktX2_wordOf_1 : List UInt8 := dkwX2_wordOf_1 ++ []
def dkwX2_wordOf_0 : List UInt8 := [42, 180, 0, 9, 17, 1, 109, 16, 8, 42, 27, 5, 28, 16, 8, 108, 96, 182, 0, 214, 104, 96, 28]
abbrev dktX2_wordOf_0 : List UInt8 := dkwX2_wordOf_0 ++ dktX2_wordOf_1
theorem dksX2_wordOf_0 : cX2_wordOf.data.toList.drop 0 = dktX2_wordOf_0 := by decide +kernel
theorem dksX2_wordOf_1 : cX2_wordOf.data.toList.drop 23 = dktX2_wordOf_1 := dk_seg dksX2_wordOf_0 23 rfl rfl
theorem dX2_wordOf_0 : decode cX2_wordOf 0 = .ok (.aload_n 0, 1) := dk_42 (dk_at dksX2_wordOf_0 0 rfl rfl)
theorem dX2_wordOf_1 : decode cX2_wordOf 1 = .ok (.getfield 9, 3) := dk_180 0 9 (dk_at dksX2_wordOf_0 1 rfl rfl)
theorem dX2_wordOf_4 : decode cX2_wordOf 4 = .ok (.sipush 365, 3) := dk_17 1 109 (dk_at dksX2_wordOf_0 4 rfl rfl)
theorem dX2_wordOf_7 : decode cX2_wordOf 7 = .ok (.bipush 8, 2) := dk_16 8 (dk_at dksX2_wordOf_0 7 rfl rfl)
theorem dX2_wordOf_9 : decode cX2_wordOf 9 = .ok (.aload_n 0, 1) := dk_42 (dk_at dksX2_wordOf_0 9 rfl rfl)
theorem dX2_wordOf_10 : decode cX2_wordOf 10 = .ok (.iload_n 1, 1) := dk_27 (dk_at dksX2_wordOf_0 10 rfl rfl)
theorem dX2_wordOf_11 : decode cX2_wordOf 11 = .ok (.iconst 2, 1) := dk_5 (dk_at dksX2_wordOf_0 11 rfl rfl)
theorem dX2_wordOf_12 : decode cX2_wordOf 12 = .ok (.iload_n 2, 1) := dk_28 (dk_at dksX2_wordOf_0 12 rfl rfl)
theorem dX2_wordOf_13 : decode cX2_wordOf 13 = .ok (.bipush 8, 2) := dk_16 8 (dk_at dksX2_wordOf_0 13 rfl rfl)
theorem dX2_wordOf_15 : decode cX2_wordOf 15 = .ok (.idiv, 1) := dk_108 (dk_at dksX2_wordOf_0 15 rfl rfl)
theorem dX2_wordOf_16 : decode cX2_wordOf 16 = .ok (.iadd, 1) := dk_96 (dk_at dksX2_wordOf_0 16 rfl rfl)
theorem dX2_wordOf_17 : decode cX2_wordOf 17 = .ok (.invokevirtual 214, 3) := dk_182 0 214 (dk_at dksX2_wordOf_0 17 rfl rfl)
theorem dX2_wordOf_20 : decode cX2_wordOf 20 = .ok (.imul, 1) := dk_104 (dk_at dksX2_wordOf_0 20 rfl rfl)
theorem dX2_wordOf_21 : decode cX2_wordOf 21 = .ok (.iadd, 1) := dk_96 (dk_at dksX2_wordOf_0 21 rfl rfl)
theorem dX2_wordOf_22 : decode cX2_wordOf 22 = .ok (.iload_n 2, 1) := dk_28 (dk_at dksX2_wordOf_0 22 rfl rfl)
theorem dX2_wordOf_23 : decode cX2_wordOf 23 = .ok (.bipush 8, 2) := dk_16 8 (dk_at dksX2_wordOf_1 0 rfl rfl)
theorem dX2_wordOf_25 : decode cX2_wordOf 25 = .ok (.irem, 1) := dk_112 (dk_at dksX2_wordOf_1 2 rfl rfl)
theorem dX2_wordOf_26 : decode cX2_wordOf 26 = .ok (.iadd, 1) := dk_96 (dk_at dksX2_wordOf_1 3 rfl rfl)
theorem dX2_wordOf_27 : decode cX2_wordOf 27 = .ok (.iaload, 1) := dk_46 (dk_at dksX2_wordOf_1 4 rfl rfl)
theorem dX2_wordOf_28 : decode cX2_wordOf 28 = .ok (.ireturn, 1) := dk_172 (dk_at dksX2_wordOf_1 5 rfl rfl)
abbrev cX2_remove : ByteArray := prog_16_method_38_code
def yX2_remove : MethodName := ⟨RX2, "remove", "(I)V"⟩
def dkwX2_remove_1 : List UInt8 := [28, 182, 0, 214, 3, 182, 0, 230, 42, 27, 28, 3, 182, 0, 234, 132, 2, 1, 167, 255, 216, 177]
abbrev dktX2_remove_1 : List UInt8 := dkwX2_remove_1 ++ []
def dkwX2_remove_0 : List UInt8 := [3, 61, 28, 7, 162, 0, 41, 28, 5, 161, 0, 23, 42, 27, 28, 182, 0, 214, 153, 0, 14, 42, 42, 27]
abbrev dktX2_remove_0 : List UInt8 := dkwX2_remove_0 ++ dktX2_remove_1
theorem dksX2_remove_0 : cX2_remove.data.toList.drop 0 = dktX2_remove_0 := by decide +kernel
theorem dksX2_remove_1 : cX2_remove.data.toList.drop 24 = dktX2_remove_1 := dk_seg dksX2_remove_0 24 rfl rfl
theorem dX2_remove_0 : decode cX2_remove 0 = .ok (.iconst 0, 1) := dk_3 (dk_at dksX2_remove_0 0 rfl rfl)
theorem dX2_remove_1 : decode cX2_remove 1 = .ok (.istore_n 2, 1) := dk_61 (dk_at dksX2_remove_0 1 rfl rfl)
theorem dX2_remove_2 : decode cX2_remove 2 = .ok (.iload_n 2, 1) := dk_28 (dk_at dksX2_remove_0 2 rfl rfl)
theorem dX2_remove_3 : decode cX2_remove 3 = .ok (.iconst 4, 1) := dk_7 (dk_at dksX2_remove_0 3 rfl rfl)
theorem dX2_remove_4 : decode cX2_remove 4 = .ok (.if_icmp .ge 41, 3) := dk_162 0 41 (dk_at dksX2_remove_0 4 rfl rfl)
theorem dX2_remove_7 : decode cX2_remove 7 = .ok (.iload_n 2, 1) := dk_28 (dk_at dksX2_remove_0 7 rfl rfl)
theorem dX2_remove_8 : decode cX2_remove 8 = .ok (.iconst 2, 1) := dk_5 (dk_at dksX2_remove_0 8 rfl rfl)
theorem dX2_remove_9 : decode cX2_remove 9 = .ok (.if_icmp .lt 23, 3) := dk_161 0 23 (dk_at dksX2_remove_0 9 rfl rfl)
theorem dX2_remove_12 : decode cX2_remove 12 = .ok (.aload_n 0, 1) := dk_42 (dk_at dksX2_remove_0 12 rfl rfl)
theorem dX2_remove_13 : decode cX2_remove 13 = .ok (.iload_n 1, 1) := dk_27 (dk_at dksX2_remove_0 13 rfl rfl)
theorem dX2_remove_14 : decode cX2_remove 14 = .ok (.iload_n 2, 1) := dk_28 (dk_at dksX2_remove_0 14 rfl rfl)
theorem dX2_remove_15 : decode cX2_remove 15 = .ok (.invokevirtual 214, 3) := dk_182 0 214 (dk_at dksX2_remove_0 15 rfl rfl)
theorem dX2_remove_18 : decode cX2_remove 18 = .ok (.ifCond .eq 14, 3) := dk_153 0 14 (dk_at dksX2_remove_0 18 rfl rfl)
theorem dX2_remove_21 : decode cX2_remove 21 = .ok (.aload_n 0, 1) := dk_42 (dk_at dksX2_remove_0 21 rfl rfl)
theorem dX2_remove_22 : decode cX2_remove 22 = .ok (.aload_n 0, 1) := dk_42 (dk_at dksX2_remove_0 22 rfl rfl)
theorem dX2_remove_23 : decode cX2_remove 23 = .ok (.iload_n 1, 1) := dk_27 (dk_at dksX2_remove_0 23 rfl rfl)
theorem dX2_remove_24 : decode cX2_remove 24 = .ok (.iload_n 2, 1) := dk_28 (dk_at dksX2_remove_1 0 rfl rfl)
theorem dX2_remove_25 : decode cX2_remove 25 = .ok (.invokevirtual 214, 3) := dk_182 0 214 (dk_at dksX2_remove_1 1 rfl rfl)
theorem dX2_remove_28 : decode cX2_remove 28 = .ok (.iconst 0, 1) := dk_3 (dk_at dksX2_remove_1 4 rfl rfl)
theorem dX2_remove_29 : decode cX2_remove 29 = .ok (.invokevirtual 230, 3) := dk_182 0 230 (dk_at dksX2_remove_1 5 rfl rfl)
theorem dX2_remove_32 : decode cX2_remove 32 = .ok (.aload_n 0, 1) := dk_42 (dk_at dksX2_remove_1 8 rfl rfl)
theorem dX2_remove_33 : decode cX2_remove 33 = .ok (.iload_n 1, 1) := dk_27 (dk_at dksX2_remove_1 9 rfl rfl)
theorem dX2_remove_34 : decode cX2_remove 34 = .ok (.iload_n 2, 1) := dk_28 (dk_at dksX2_remove_1 10 rfl rfl)
theorem dX2_remove_35 : decode cX2_remove 35 = .ok (.iconst 0, 1) := dk_3 (dk_at dksX2_remove_1 11 rfl rfl)
theorem dX2_remove_36 : decode cX2_remove 36 = .ok (.invokevirtual 234, 3) := dk_182 0 234 (dk_at dksX2_remove_1 12 rfl rfl)
theorem dX2_remove_39 : decode cX2_remove 39 = .ok (.iinc 2 1, 3) := dk_132 2 1 (dk_at dksX2_remove_1 15 rfl rfl)
theorem dX2_remove_42 : decode cX2_remove 42 = .ok (.goto (-40), 3) := dk_167 255 216 (dk_at dksX2_remove_1 18 rfl rfl)
theorem dX2_remove_45 : decode cX2_remove 45 = .ok (.return_, 1) := dk_177 (dk_at dksX2_remove_1 21 rfl rfl)
abbrev cX2_rename : ByteArray := prog_16_method_41_code
def yX2_rename : MethodName := ⟨RX2, "rename", "(III)I"⟩
def dkwX2_rename_1 : List UInt8 := [42, 21, 4, 182, 0, 249, 42, 27, 3, 29, 182, 0, 234, 3, 172]
abbrev dktX2_rename_1 : List UInt8 := dkwX2_rename_1 ++ []
def dkwX2_rename_0 : List UInt8 := [29, 154, 0, 5, 4, 172, 42, 29, 182, 0, 240, 54, 4, 29, 28, 159, 0, 22, 21, 4, 2, 159, 0, 9]
abbrev dktX2_rename_0 : List UInt8 := dkwX2_rename_0 ++ dktX2_rename_1
theorem dksX2_rename_0 : cX2_rename.data.toList.drop 0 = dktX2_rename_0 := by decide +kernel
theorem dksX2_rename_1 : cX2_rename.data.toList.drop 24 = dktX2_rename_1 := dk_seg dksX2_rename_0 24 rfl rfl
theorem dX2_rename_0 : decode cX2_rename 0 = .ok (.iload_n 3, 1) := dk_29 (dk_at dksX2_rename_0 0 rfl rfl)
theorem dX2_rename_1 : decode cX2_rename 1 = .ok (.ifCond .ne 5, 3) := dk_154 0 5 (dk_at dksX2_rename_0 1 rfl rfl)
theorem dX2_rename_4 : decode cX2_rename 4 = .ok (.iconst 1, 1) := dk_4 (dk_at dksX2_rename_0 4 rfl rfl)
theorem dX2_rename_5 : decode cX2_rename 5 = .ok (.ireturn, 1) := dk_172 (dk_at dksX2_rename_0 5 rfl rfl)
theorem dX2_rename_6 : decode cX2_rename 6 = .ok (.aload_n 0, 1) := dk_42 (dk_at dksX2_rename_0 6 rfl rfl)
theorem dX2_rename_7 : decode cX2_rename 7 = .ok (.iload_n 3, 1) := dk_29 (dk_at dksX2_rename_0 7 rfl rfl)
theorem dX2_rename_8 : decode cX2_rename 8 = .ok (.invokevirtual 240, 3) := dk_182 0 240 (dk_at dksX2_rename_0 8 rfl rfl)
theorem dX2_rename_11 : decode cX2_rename 11 = .ok (.istore 4, 2) := dk_54 4 (dk_at dksX2_rename_0 11 rfl rfl)
theorem dX2_rename_13 : decode cX2_rename 13 = .ok (.iload_n 3, 1) := dk_29 (dk_at dksX2_rename_0 13 rfl rfl)
theorem dX2_rename_14 : decode cX2_rename 14 = .ok (.iload_n 2, 1) := dk_28 (dk_at dksX2_rename_0 14 rfl rfl)
theorem dX2_rename_15 : decode cX2_rename 15 = .ok (.if_icmp .eq 22, 3) := dk_159 0 22 (dk_at dksX2_rename_0 15 rfl rfl)
theorem dX2_rename_18 : decode cX2_rename 18 = .ok (.iload 4, 2) := dk_21 4 (dk_at dksX2_rename_0 18 rfl rfl)
theorem dX2_rename_20 : decode cX2_rename 20 = .ok (.iconst (-1), 1) := dk_2 (dk_at dksX2_rename_0 20 rfl rfl)
theorem dX2_rename_21 : decode cX2_rename 21 = .ok (.if_icmp .eq 9, 3) := dk_159 0 9 (dk_at dksX2_rename_0 21 rfl rfl)
theorem dX2_rename_24 : decode cX2_rename 24 = .ok (.aload_n 0, 1) := dk_42 (dk_at dksX2_rename_1 0 rfl rfl)
theorem dX2_rename_25 : decode cX2_rename 25 = .ok (.iload 4, 2) := dk_21 4 (dk_at dksX2_rename_1 1 rfl rfl)
theorem dX2_rename_27 : decode cX2_rename 27 = .ok (.invokevirtual 249, 3) := dk_182 0 249 (dk_at dksX2_rename_1 3 rfl rfl)
theorem dX2_rename_30 : decode cX2_rename 30 = .ok (.aload_n 0, 1) := dk_42 (dk_at dksX2_rename_1 6 rfl rfl)
theorem dX2_rename_31 : decode cX2_rename 31 = .ok (.iload_n 1, 1) := dk_27 (dk_at dksX2_rename_1 7 rfl rfl)
theorem dX2_rename_32 : decode cX2_rename 32 = .ok (.iconst 0, 1) := dk_3 (dk_at dksX2_rename_1 8 rfl rfl)
theorem dX2_rename_33 : decode cX2_rename 33 = .ok (.iload_n 3, 1) := dk_29 (dk_at dksX2_rename_1 9 rfl rfl)
theorem dX2_rename_34 : decode cX2_rename 34 = .ok (.invokevirtual 234, 3) := dk_182 0 234 (dk_at dksX2_rename_1 10 rfl rfl)
theorem dX2_rename_37 : decode cX2_rename 37 = .ok (.iconst 0, 1) := dk_3 (dk_at dksX2_rename_1 13 rfl rfl)
theorem dX2_rename_38 : decode cX2_rename 38 = .ok (.ireturn, 1) := dk_172 (dk_at dksX2_rename_1 14 rfl rfl)
abbrev cX2_stop : ByteArray := prog_16_method_15_code
def yX2_stop : MethodName := ⟨RX2, "stop", "(I)V"⟩
def dkwX2_stop_0 : List UInt8 := [42, 3, 6, 182, 0, 133, 42, 4, 27, 182, 0, 133, 177]
abbrev dktX2_stop_0 : List UInt8 := dkwX2_stop_0 ++ []
theorem dksX2_stop_0 : cX2_stop.data.toList.drop 0 = dktX2_stop_0 := by decide +kernel
theorem dX2_stop_0 : decode cX2_stop 0 = .ok (.aload_n 0, 1) := dk_42 (dk_at dksX2_stop_0 0 rfl rfl)
theorem dX2_stop_1 : decode cX2_stop 1 = .ok (.iconst 0, 1) := dk_3 (dk_at dksX2_stop_0 1 rfl rfl)
theorem dX2_stop_2 : decode cX2_stop 2 = .ok (.iconst 3, 1) := dk_6 (dk_at dksX2_stop_0 2 rfl rfl)
theorem dX2_stop_3 : decode cX2_stop 3 = .ok (.invokevirtual 133, 3) := dk_182 0 133 (dk_at dksX2_stop_0 3 rfl rfl)
theorem dX2_stop_6 : decode cX2_stop 6 = .ok (.aload_n 0, 1) := dk_42 (dk_at dksX2_stop_0 6 rfl rfl)
theorem dX2_stop_7 : decode cX2_stop 7 = .ok (.iconst 1, 1) := dk_4 (dk_at dksX2_stop_0 7 rfl rfl)
theorem dX2_stop_8 : decode cX2_stop 8 = .ok (.iload_n 1, 1) := dk_27 (dk_at dksX2_stop_0 8 rfl rfl)
theorem dX2_stop_9 : decode cX2_stop 9 = .ok (.invokevirtual 133, 3) := dk_182 0 133 (dk_at dksX2_stop_0 9 rfl rfl)
theorem dX2_stop_12 : decode cX2_stop 12 = .ok (.return_, 1) := dk_177 (dk_at dksX2_stop_0 12 rfl rfl)
abbrev cX2_pass : ByteArray := prog_16_method_16_code
def yX2_pass : MethodName := ⟨RX2, "pass", "()V"⟩
def dkwX2_pass_5 : List UInt8 := [177]
abbrev dktX2_pass_5 : List UInt8 := dkwX2_pass_5 ++ []
def dkwX2_pass_4 : List UInt8 := [180, 0, 9, 5, 46, 42, 180, 0, 9, 5, 46, 182, 0, 125, 158, 0, 10, 42, 16, 9, 4, 182, 0, 133]
abbrev dktX2_pass_4 : List UInt8 := dkwX2_pass_4 ++ dktX2_pass_5
def dkwX2_pass_3 : List UInt8 := [16, 8, 27, 153, 0, 7, 4, 167, 0, 10, 42, 180, 0, 9, 16, 8, 46, 182, 0, 133, 42, 42]
abbrev dktX2_pass_3 : List UInt8 := dkwX2_pass_3 ++ dktX2_pass_4
def dkwX2_pass_2 : List UInt8 := [42, 16, 11, 27, 153, 0, 7, 3, 167, 0, 12, 42, 180, 0, 9, 16, 11, 46, 4, 96, 182, 0, 133, 42]
abbrev dktX2_pass_2 : List UInt8 := dkwX2_pass_2 ++ dktX2_pass_3
def dkwX2_pass_1 : List UInt8 := [180, 0, 9, 16, 11, 46, 4, 96, 42, 180, 0, 9, 16, 10, 46, 160, 0, 7, 4, 167, 0, 4, 3, 60]
abbrev dktX2_pass_1 : List UInt8 := dkwX2_pass_1 ++ dktX2_pass_2
def dkwX2_pass_0 : List UInt8 := [42, 5, 42, 180, 0, 9, 5, 46, 4, 96, 182, 0, 133, 42, 180, 0, 9, 16, 10, 46, 158, 0, 72, 42]
abbrev dktX2_pass_0 : List UInt8 := dkwX2_pass_0 ++ dktX2_pass_1
theorem dksX2_pass_0 : cX2_pass.data.toList.drop 0 = dktX2_pass_0 := by decide +kernel
theorem dksX2_pass_1 : cX2_pass.data.toList.drop 24 = dktX2_pass_1 := dk_seg dksX2_pass_0 24 rfl rfl
theorem dksX2_pass_2 : cX2_pass.data.toList.drop 48 = dktX2_pass_2 := dk_seg dksX2_pass_1 24 rfl rfl
theorem dksX2_pass_3 : cX2_pass.data.toList.drop 72 = dktX2_pass_3 := dk_seg dksX2_pass_2 24 rfl rfl
theorem dksX2_pass_4 : cX2_pass.data.toList.drop 94 = dktX2_pass_4 := dk_seg dksX2_pass_3 22 rfl rfl
theorem dksX2_pass_5 : cX2_pass.data.toList.drop 118 = dktX2_pass_5 := dk_seg dksX2_pass_4 24 rfl rfl
theorem dX2_pass_0 : decode cX2_pass 0 = .ok (.aload_n 0, 1) := dk_42 (dk_at dksX2_pass_0 0 rfl rfl)
theorem dX2_pass_1 : decode cX2_pass 1 = .ok (.iconst 2, 1) := dk_5 (dk_at dksX2_pass_0 1 rfl rfl)
theorem dX2_pass_2 : decode cX2_pass 2 = .ok (.aload_n 0, 1) := dk_42 (dk_at dksX2_pass_0 2 rfl rfl)
theorem dX2_pass_3 : decode cX2_pass 3 = .ok (.getfield 9, 3) := dk_180 0 9 (dk_at dksX2_pass_0 3 rfl rfl)
theorem dX2_pass_6 : decode cX2_pass 6 = .ok (.iconst 2, 1) := dk_5 (dk_at dksX2_pass_0 6 rfl rfl)
theorem dX2_pass_7 : decode cX2_pass 7 = .ok (.iaload, 1) := dk_46 (dk_at dksX2_pass_0 7 rfl rfl)
theorem dX2_pass_8 : decode cX2_pass 8 = .ok (.iconst 1, 1) := dk_4 (dk_at dksX2_pass_0 8 rfl rfl)
theorem dX2_pass_9 : decode cX2_pass 9 = .ok (.iadd, 1) := dk_96 (dk_at dksX2_pass_0 9 rfl rfl)
theorem dX2_pass_10 : decode cX2_pass 10 = .ok (.invokevirtual 133, 3) := dk_182 0 133 (dk_at dksX2_pass_0 10 rfl rfl)
theorem dX2_pass_13 : decode cX2_pass 13 = .ok (.aload_n 0, 1) := dk_42 (dk_at dksX2_pass_0 13 rfl rfl)
theorem dX2_pass_14 : decode cX2_pass 14 = .ok (.getfield 9, 3) := dk_180 0 9 (dk_at dksX2_pass_0 14 rfl rfl)
theorem dX2_pass_17 : decode cX2_pass 17 = .ok (.bipush 10, 2) := dk_16 10 (dk_at dksX2_pass_0 17 rfl rfl)
theorem dX2_pass_19 : decode cX2_pass 19 = .ok (.iaload, 1) := dk_46 (dk_at dksX2_pass_0 19 rfl rfl)
theorem dX2_pass_20 : decode cX2_pass 20 = .ok (.ifCond .le 72, 3) := dk_158 0 72 (dk_at dksX2_pass_0 20 rfl rfl)
theorem dX2_pass_23 : decode cX2_pass 23 = .ok (.aload_n 0, 1) := dk_42 (dk_at dksX2_pass_0 23 rfl rfl)
theorem dX2_pass_24 : decode cX2_pass 24 = .ok (.getfield 9, 3) := dk_180 0 9 (dk_at dksX2_pass_1 0 rfl rfl)
theorem dX2_pass_27 : decode cX2_pass 27 = .ok (.bipush 11, 2) := dk_16 11 (dk_at dksX2_pass_1 3 rfl rfl)
theorem dX2_pass_29 : decode cX2_pass 29 = .ok (.iaload, 1) := dk_46 (dk_at dksX2_pass_1 5 rfl rfl)
theorem dX2_pass_30 : decode cX2_pass 30 = .ok (.iconst 1, 1) := dk_4 (dk_at dksX2_pass_1 6 rfl rfl)
theorem dX2_pass_31 : decode cX2_pass 31 = .ok (.iadd, 1) := dk_96 (dk_at dksX2_pass_1 7 rfl rfl)
theorem dX2_pass_32 : decode cX2_pass 32 = .ok (.aload_n 0, 1) := dk_42 (dk_at dksX2_pass_1 8 rfl rfl)
theorem dX2_pass_33 : decode cX2_pass 33 = .ok (.getfield 9, 3) := dk_180 0 9 (dk_at dksX2_pass_1 9 rfl rfl)
theorem dX2_pass_36 : decode cX2_pass 36 = .ok (.bipush 10, 2) := dk_16 10 (dk_at dksX2_pass_1 12 rfl rfl)
theorem dX2_pass_38 : decode cX2_pass 38 = .ok (.iaload, 1) := dk_46 (dk_at dksX2_pass_1 14 rfl rfl)
theorem dX2_pass_39 : decode cX2_pass 39 = .ok (.if_icmp .ne 7, 3) := dk_160 0 7 (dk_at dksX2_pass_1 15 rfl rfl)
theorem dX2_pass_42 : decode cX2_pass 42 = .ok (.iconst 1, 1) := dk_4 (dk_at dksX2_pass_1 18 rfl rfl)
theorem dX2_pass_43 : decode cX2_pass 43 = .ok (.goto 4, 3) := dk_167 0 4 (dk_at dksX2_pass_1 19 rfl rfl)
theorem dX2_pass_46 : decode cX2_pass 46 = .ok (.iconst 0, 1) := dk_3 (dk_at dksX2_pass_1 22 rfl rfl)
theorem dX2_pass_47 : decode cX2_pass 47 = .ok (.istore_n 1, 1) := dk_60 (dk_at dksX2_pass_1 23 rfl rfl)
theorem dX2_pass_48 : decode cX2_pass 48 = .ok (.aload_n 0, 1) := dk_42 (dk_at dksX2_pass_2 0 rfl rfl)
theorem dX2_pass_49 : decode cX2_pass 49 = .ok (.bipush 11, 2) := dk_16 11 (dk_at dksX2_pass_2 1 rfl rfl)
theorem dX2_pass_51 : decode cX2_pass 51 = .ok (.iload_n 1, 1) := dk_27 (dk_at dksX2_pass_2 3 rfl rfl)
theorem dX2_pass_52 : decode cX2_pass 52 = .ok (.ifCond .eq 7, 3) := dk_153 0 7 (dk_at dksX2_pass_2 4 rfl rfl)
theorem dX2_pass_55 : decode cX2_pass 55 = .ok (.iconst 0, 1) := dk_3 (dk_at dksX2_pass_2 7 rfl rfl)
theorem dX2_pass_56 : decode cX2_pass 56 = .ok (.goto 12, 3) := dk_167 0 12 (dk_at dksX2_pass_2 8 rfl rfl)
theorem dX2_pass_59 : decode cX2_pass 59 = .ok (.aload_n 0, 1) := dk_42 (dk_at dksX2_pass_2 11 rfl rfl)
theorem dX2_pass_60 : decode cX2_pass 60 = .ok (.getfield 9, 3) := dk_180 0 9 (dk_at dksX2_pass_2 12 rfl rfl)
theorem dX2_pass_63 : decode cX2_pass 63 = .ok (.bipush 11, 2) := dk_16 11 (dk_at dksX2_pass_2 15 rfl rfl)
theorem dX2_pass_65 : decode cX2_pass 65 = .ok (.iaload, 1) := dk_46 (dk_at dksX2_pass_2 17 rfl rfl)
theorem dX2_pass_66 : decode cX2_pass 66 = .ok (.iconst 1, 1) := dk_4 (dk_at dksX2_pass_2 18 rfl rfl)
theorem dX2_pass_67 : decode cX2_pass 67 = .ok (.iadd, 1) := dk_96 (dk_at dksX2_pass_2 19 rfl rfl)
theorem dX2_pass_68 : decode cX2_pass 68 = .ok (.invokevirtual 133, 3) := dk_182 0 133 (dk_at dksX2_pass_2 20 rfl rfl)
theorem dX2_pass_71 : decode cX2_pass 71 = .ok (.aload_n 0, 1) := dk_42 (dk_at dksX2_pass_2 23 rfl rfl)
theorem dX2_pass_72 : decode cX2_pass 72 = .ok (.bipush 8, 2) := dk_16 8 (dk_at dksX2_pass_3 0 rfl rfl)
theorem dX2_pass_74 : decode cX2_pass 74 = .ok (.iload_n 1, 1) := dk_27 (dk_at dksX2_pass_3 2 rfl rfl)
theorem dX2_pass_75 : decode cX2_pass 75 = .ok (.ifCond .eq 7, 3) := dk_153 0 7 (dk_at dksX2_pass_3 3 rfl rfl)
theorem dX2_pass_78 : decode cX2_pass 78 = .ok (.iconst 1, 1) := dk_4 (dk_at dksX2_pass_3 6 rfl rfl)
theorem dX2_pass_79 : decode cX2_pass 79 = .ok (.goto 10, 3) := dk_167 0 10 (dk_at dksX2_pass_3 7 rfl rfl)
theorem dX2_pass_82 : decode cX2_pass 82 = .ok (.aload_n 0, 1) := dk_42 (dk_at dksX2_pass_3 10 rfl rfl)
theorem dX2_pass_83 : decode cX2_pass 83 = .ok (.getfield 9, 3) := dk_180 0 9 (dk_at dksX2_pass_3 11 rfl rfl)
theorem dX2_pass_86 : decode cX2_pass 86 = .ok (.bipush 8, 2) := dk_16 8 (dk_at dksX2_pass_3 14 rfl rfl)
theorem dX2_pass_88 : decode cX2_pass 88 = .ok (.iaload, 1) := dk_46 (dk_at dksX2_pass_3 16 rfl rfl)
theorem dX2_pass_89 : decode cX2_pass 89 = .ok (.invokevirtual 133, 3) := dk_182 0 133 (dk_at dksX2_pass_3 17 rfl rfl)
theorem dX2_pass_92 : decode cX2_pass 92 = .ok (.aload_n 0, 1) := dk_42 (dk_at dksX2_pass_3 20 rfl rfl)
theorem dX2_pass_93 : decode cX2_pass 93 = .ok (.aload_n 0, 1) := dk_42 (dk_at dksX2_pass_3 21 rfl rfl)
theorem dX2_pass_94 : decode cX2_pass 94 = .ok (.getfield 9, 3) := dk_180 0 9 (dk_at dksX2_pass_4 0 rfl rfl)
theorem dX2_pass_97 : decode cX2_pass 97 = .ok (.iconst 2, 1) := dk_5 (dk_at dksX2_pass_4 3 rfl rfl)
theorem dX2_pass_98 : decode cX2_pass 98 = .ok (.iaload, 1) := dk_46 (dk_at dksX2_pass_4 4 rfl rfl)
theorem dX2_pass_99 : decode cX2_pass 99 = .ok (.aload_n 0, 1) := dk_42 (dk_at dksX2_pass_4 5 rfl rfl)
theorem dX2_pass_100 : decode cX2_pass 100 = .ok (.getfield 9, 3) := dk_180 0 9 (dk_at dksX2_pass_4 6 rfl rfl)
theorem dX2_pass_103 : decode cX2_pass 103 = .ok (.iconst 2, 1) := dk_5 (dk_at dksX2_pass_4 9 rfl rfl)
theorem dX2_pass_104 : decode cX2_pass 104 = .ok (.iaload, 1) := dk_46 (dk_at dksX2_pass_4 10 rfl rfl)
theorem dX2_pass_105 : decode cX2_pass 105 = .ok (.invokevirtual 125, 3) := dk_182 0 125 (dk_at dksX2_pass_4 11 rfl rfl)
theorem dX2_pass_108 : decode cX2_pass 108 = .ok (.ifCond .le 10, 3) := dk_158 0 10 (dk_at dksX2_pass_4 14 rfl rfl)
theorem dX2_pass_111 : decode cX2_pass 111 = .ok (.aload_n 0, 1) := dk_42 (dk_at dksX2_pass_4 17 rfl rfl)
theorem dX2_pass_112 : decode cX2_pass 112 = .ok (.bipush 9, 2) := dk_16 9 (dk_at dksX2_pass_4 18 rfl rfl)
theorem dX2_pass_114 : decode cX2_pass 114 = .ok (.iconst 1, 1) := dk_4 (dk_at dksX2_pass_4 20 rfl rfl)
theorem dX2_pass_115 : decode cX2_pass 115 = .ok (.invokevirtual 133, 3) := dk_182 0 133 (dk_at dksX2_pass_4 21 rfl rfl)
theorem dX2_pass_118 : decode cX2_pass 118 = .ok (.return_, 1) := dk_177 (dk_at dksX2_pass_5 0 rfl rfl)
abbrev cX2_back : ByteArray := prog_16_method_48_code
def yX2_back : MethodName := ⟨RX2, "back", "(I)I"⟩
def dkwX2_back_3 : List UInt8 := [132, 2, 1, 167, 255, 187, 28, 172]
abbrev dktX2_back_3 : List UInt8 := dkwX2_back_3 ++ []
def dkwX2_back_2 : List UInt8 := [180, 1, 25, 21, 4, 46, 45, 180, 1, 25, 21, 4, 4, 96, 46, 79, 132, 4, 254, 167, 255, 227]
abbrev dktX2_back_2 : List UInt8 := dkwX2_back_2 ++ dktX2_back_3
def dkwX2_back_1 : List UInt8 := [192, 0, 55, 78, 45, 180, 1, 23, 5, 100, 54, 4, 21, 4, 155, 0, 30, 42, 180, 0, 9, 45]
abbrev dktX2_back_1 : List UInt8 := dkwX2_back_1 ++ dktX2_back_2
def dkwX2_back_0 : List UInt8 := [3, 61, 28, 27, 162, 0, 70, 42, 180, 0, 25, 182, 1, 17, 154, 0, 60, 42, 180, 0, 25, 182, 1, 20]
abbrev dktX2_back_0 : List UInt8 := dkwX2_back_0 ++ dktX2_back_1
theorem dksX2_back_0 : cX2_back.data.toList.drop 0 = dktX2_back_0 := by decide +kernel
theorem dksX2_back_1 : cX2_back.data.toList.drop 24 = dktX2_back_1 := dk_seg dksX2_back_0 24 rfl rfl
theorem dksX2_back_2 : cX2_back.data.toList.drop 46 = dktX2_back_2 := dk_seg dksX2_back_1 22 rfl rfl
theorem dksX2_back_3 : cX2_back.data.toList.drop 68 = dktX2_back_3 := dk_seg dksX2_back_2 22 rfl rfl
theorem dX2_back_0 : decode cX2_back 0 = .ok (.iconst 0, 1) := dk_3 (dk_at dksX2_back_0 0 rfl rfl)
theorem dX2_back_1 : decode cX2_back 1 = .ok (.istore_n 2, 1) := dk_61 (dk_at dksX2_back_0 1 rfl rfl)
theorem dX2_back_2 : decode cX2_back 2 = .ok (.iload_n 2, 1) := dk_28 (dk_at dksX2_back_0 2 rfl rfl)
theorem dX2_back_3 : decode cX2_back 3 = .ok (.iload_n 1, 1) := dk_27 (dk_at dksX2_back_0 3 rfl rfl)
theorem dX2_back_4 : decode cX2_back 4 = .ok (.if_icmp .ge 70, 3) := dk_162 0 70 (dk_at dksX2_back_0 4 rfl rfl)
theorem dX2_back_7 : decode cX2_back 7 = .ok (.aload_n 0, 1) := dk_42 (dk_at dksX2_back_0 7 rfl rfl)
theorem dX2_back_8 : decode cX2_back 8 = .ok (.getfield 25, 3) := dk_180 0 25 (dk_at dksX2_back_0 8 rfl rfl)
theorem dX2_back_11 : decode cX2_back 11 = .ok (.invokevirtual 273, 3) := dk_182 1 17 (dk_at dksX2_back_0 11 rfl rfl)
theorem dX2_back_14 : decode cX2_back 14 = .ok (.ifCond .ne 60, 3) := dk_154 0 60 (dk_at dksX2_back_0 14 rfl rfl)
theorem dX2_back_17 : decode cX2_back 17 = .ok (.aload_n 0, 1) := dk_42 (dk_at dksX2_back_0 17 rfl rfl)
theorem dX2_back_18 : decode cX2_back 18 = .ok (.getfield 25, 3) := dk_180 0 25 (dk_at dksX2_back_0 18 rfl rfl)
theorem dX2_back_21 : decode cX2_back 21 = .ok (.invokevirtual 276, 3) := dk_182 1 20 (dk_at dksX2_back_0 21 rfl rfl)
theorem dX2_back_24 : decode cX2_back 24 = .ok (.checkcast 55, 3) := dk_192 0 55 (dk_at dksX2_back_1 0 rfl rfl)
theorem dX2_back_27 : decode cX2_back 27 = .ok (.astore_n 3, 1) := dk_78 (dk_at dksX2_back_1 3 rfl rfl)
theorem dX2_back_28 : decode cX2_back 28 = .ok (.aload_n 3, 1) := dk_45 (dk_at dksX2_back_1 4 rfl rfl)
theorem dX2_back_29 : decode cX2_back 29 = .ok (.getfield 279, 3) := dk_180 1 23 (dk_at dksX2_back_1 5 rfl rfl)
theorem dX2_back_32 : decode cX2_back 32 = .ok (.iconst 2, 1) := dk_5 (dk_at dksX2_back_1 8 rfl rfl)
theorem dX2_back_33 : decode cX2_back 33 = .ok (.isub, 1) := dk_100 (dk_at dksX2_back_1 9 rfl rfl)
theorem dX2_back_34 : decode cX2_back 34 = .ok (.istore 4, 2) := dk_54 4 (dk_at dksX2_back_1 10 rfl rfl)
theorem dX2_back_36 : decode cX2_back 36 = .ok (.iload 4, 2) := dk_21 4 (dk_at dksX2_back_1 12 rfl rfl)
theorem dX2_back_38 : decode cX2_back 38 = .ok (.ifCond .lt 30, 3) := dk_155 0 30 (dk_at dksX2_back_1 14 rfl rfl)
theorem dX2_back_41 : decode cX2_back 41 = .ok (.aload_n 0, 1) := dk_42 (dk_at dksX2_back_1 17 rfl rfl)
theorem dX2_back_42 : decode cX2_back 42 = .ok (.getfield 9, 3) := dk_180 0 9 (dk_at dksX2_back_1 18 rfl rfl)
theorem dX2_back_45 : decode cX2_back 45 = .ok (.aload_n 3, 1) := dk_45 (dk_at dksX2_back_1 21 rfl rfl)
theorem dX2_back_46 : decode cX2_back 46 = .ok (.getfield 281, 3) := dk_180 1 25 (dk_at dksX2_back_2 0 rfl rfl)
theorem dX2_back_49 : decode cX2_back 49 = .ok (.iload 4, 2) := dk_21 4 (dk_at dksX2_back_2 3 rfl rfl)
theorem dX2_back_51 : decode cX2_back 51 = .ok (.iaload, 1) := dk_46 (dk_at dksX2_back_2 5 rfl rfl)
theorem dX2_back_52 : decode cX2_back 52 = .ok (.aload_n 3, 1) := dk_45 (dk_at dksX2_back_2 6 rfl rfl)
theorem dX2_back_53 : decode cX2_back 53 = .ok (.getfield 281, 3) := dk_180 1 25 (dk_at dksX2_back_2 7 rfl rfl)
theorem dX2_back_56 : decode cX2_back 56 = .ok (.iload 4, 2) := dk_21 4 (dk_at dksX2_back_2 10 rfl rfl)
theorem dX2_back_58 : decode cX2_back 58 = .ok (.iconst 1, 1) := dk_4 (dk_at dksX2_back_2 12 rfl rfl)
theorem dX2_back_59 : decode cX2_back 59 = .ok (.iadd, 1) := dk_96 (dk_at dksX2_back_2 13 rfl rfl)
theorem dX2_back_60 : decode cX2_back 60 = .ok (.iaload, 1) := dk_46 (dk_at dksX2_back_2 14 rfl rfl)
theorem dX2_back_61 : decode cX2_back 61 = .ok (.iastore, 1) := dk_79 (dk_at dksX2_back_2 15 rfl rfl)
theorem dX2_back_62 : decode cX2_back 62 = .ok (.iinc 4 (-2), 3) := dk_132 4 254 (dk_at dksX2_back_2 16 rfl rfl)
theorem dX2_back_65 : decode cX2_back 65 = .ok (.goto (-29), 3) := dk_167 255 227 (dk_at dksX2_back_2 19 rfl rfl)
theorem dX2_back_68 : decode cX2_back 68 = .ok (.iinc 2 1, 3) := dk_132 2 1 (dk_at dksX2_back_3 0 rfl rfl)
theorem dX2_back_71 : decode cX2_back 71 = .ok (.goto (-69), 3) := dk_167 255 187 (dk_at dksX2_back_3 3 rfl rfl)
theorem dX2_back_74 : decode cX2_back 74 = .ok (.iload_n 2, 1) := dk_28 (dk_at dksX2_back_3 6 rfl rfl)
theorem dX2_back_75 : decode cX2_back 75 = .ok (.ireturn, 1) := dk_172 (dk_at dksX2_back_3 7 rfl rfl)
abbrev cX2_press : ByteArray := prog_16_method_11_code
def yX2_press : MethodName := ⟨RX2, "press", "(I)V"⟩
def dkwX2_press_5 : List UInt8 := [16, 9, 46, 182, 0, 54, 42, 180, 0, 9, 16, 9, 4, 79, 177]
abbrev dktX2_press_5 : List UInt8 := dkwX2_press_5 ++ []
def dkwX2_press_4 : List UInt8 := [180, 0, 25, 182, 0, 118, 192, 0, 55, 58, 4, 25, 4, 198, 0, 17, 25, 4, 16, 9, 42, 180, 0, 9]
abbrev dktX2_press_4 : List UInt8 := dkwX2_press_4 ++ dktX2_press_5
def dkwX2_press_3 : List UInt8 := [87, 44, 187, 0, 103, 89, 42, 180, 0, 9, 5, 46, 27, 183, 0, 112, 185, 0, 114, 2, 0, 42]
abbrev dktX2_press_3 : List UInt8 := dkwX2_press_3 ++ dktX2_press_4
def dkwX2_press_2 : List UInt8 := [5, 46, 163, 0, 7, 4, 167, 0, 4, 3, 62, 167, 255, 216, 29, 153, 0, 10, 44, 185, 0, 109, 1, 0]
abbrev dktX2_press_2 : List UInt8 := dkwX2_press_2 ++ dktX2_press_3
def dkwX2_press_1 : List UInt8 := [185, 0, 93, 1, 0, 153, 0, 33, 44, 185, 0, 99, 1, 0, 192, 0, 103, 180, 0, 105, 42, 180, 0, 9]
abbrev dktX2_press_1 : List UInt8 := dkwX2_press_1 ++ dktX2_press_2
def dkwX2_press_0 : List UInt8 := [42, 180, 0, 18, 42, 180, 0, 18, 182, 0, 86, 182, 0, 89, 77, 3, 62, 29, 154, 0, 42, 44]
abbrev dktX2_press_0 : List UInt8 := dkwX2_press_0 ++ dktX2_press_1
theorem dksX2_press_0 : cX2_press.data.toList.drop 0 = dktX2_press_0 := by decide +kernel
theorem dksX2_press_1 : cX2_press.data.toList.drop 22 = dktX2_press_1 := dk_seg dksX2_press_0 22 rfl rfl
theorem dksX2_press_2 : cX2_press.data.toList.drop 46 = dktX2_press_2 := dk_seg dksX2_press_1 24 rfl rfl
theorem dksX2_press_3 : cX2_press.data.toList.drop 70 = dktX2_press_3 := dk_seg dksX2_press_2 24 rfl rfl
theorem dksX2_press_4 : cX2_press.data.toList.drop 92 = dktX2_press_4 := dk_seg dksX2_press_3 22 rfl rfl
theorem dksX2_press_5 : cX2_press.data.toList.drop 116 = dktX2_press_5 := dk_seg dksX2_press_4 24 rfl rfl
theorem dX2_press_0 : decode cX2_press 0 = .ok (.aload_n 0, 1) := dk_42 (dk_at dksX2_press_0 0 rfl rfl)
theorem dX2_press_1 : decode cX2_press 1 = .ok (.getfield 18, 3) := dk_180 0 18 (dk_at dksX2_press_0 1 rfl rfl)
theorem dX2_press_4 : decode cX2_press 4 = .ok (.aload_n 0, 1) := dk_42 (dk_at dksX2_press_0 4 rfl rfl)
theorem dX2_press_5 : decode cX2_press 5 = .ok (.getfield 18, 3) := dk_180 0 18 (dk_at dksX2_press_0 5 rfl rfl)
theorem dX2_press_8 : decode cX2_press 8 = .ok (.invokevirtual 86, 3) := dk_182 0 86 (dk_at dksX2_press_0 8 rfl rfl)
theorem dX2_press_11 : decode cX2_press 11 = .ok (.invokevirtual 89, 3) := dk_182 0 89 (dk_at dksX2_press_0 11 rfl rfl)
theorem dX2_press_14 : decode cX2_press 14 = .ok (.astore_n 2, 1) := dk_77 (dk_at dksX2_press_0 14 rfl rfl)
theorem dX2_press_15 : decode cX2_press 15 = .ok (.iconst 0, 1) := dk_3 (dk_at dksX2_press_0 15 rfl rfl)
theorem dX2_press_16 : decode cX2_press 16 = .ok (.istore_n 3, 1) := dk_62 (dk_at dksX2_press_0 16 rfl rfl)
theorem dX2_press_17 : decode cX2_press 17 = .ok (.iload_n 3, 1) := dk_29 (dk_at dksX2_press_0 17 rfl rfl)
theorem dX2_press_18 : decode cX2_press 18 = .ok (.ifCond .ne 42, 3) := dk_154 0 42 (dk_at dksX2_press_0 18 rfl rfl)
theorem dX2_press_21 : decode cX2_press 21 = .ok (.aload_n 2, 1) := dk_44 (dk_at dksX2_press_0 21 rfl rfl)
theorem dX2_press_22 : decode cX2_press 22 = .ok (.invokeinterface 93 1, 5) := by decide +kernel
theorem dX2_press_27 : decode cX2_press 27 = .ok (.ifCond .eq 33, 3) := dk_153 0 33 (dk_at dksX2_press_1 5 rfl rfl)
theorem dX2_press_30 : decode cX2_press 30 = .ok (.aload_n 2, 1) := dk_44 (dk_at dksX2_press_1 8 rfl rfl)
theorem dX2_press_31 : decode cX2_press 31 = .ok (.invokeinterface 99 1, 5) := by decide +kernel
theorem dX2_press_36 : decode cX2_press 36 = .ok (.checkcast 103, 3) := dk_192 0 103 (dk_at dksX2_press_1 14 rfl rfl)
theorem dX2_press_39 : decode cX2_press 39 = .ok (.getfield 105, 3) := dk_180 0 105 (dk_at dksX2_press_1 17 rfl rfl)
theorem dX2_press_42 : decode cX2_press 42 = .ok (.aload_n 0, 1) := dk_42 (dk_at dksX2_press_1 20 rfl rfl)
theorem dX2_press_43 : decode cX2_press 43 = .ok (.getfield 9, 3) := dk_180 0 9 (dk_at dksX2_press_1 21 rfl rfl)
theorem dX2_press_46 : decode cX2_press 46 = .ok (.iconst 2, 1) := dk_5 (dk_at dksX2_press_2 0 rfl rfl)
theorem dX2_press_47 : decode cX2_press 47 = .ok (.iaload, 1) := dk_46 (dk_at dksX2_press_2 1 rfl rfl)
theorem dX2_press_48 : decode cX2_press 48 = .ok (.if_icmp .gt 7, 3) := dk_163 0 7 (dk_at dksX2_press_2 2 rfl rfl)
theorem dX2_press_51 : decode cX2_press 51 = .ok (.iconst 1, 1) := dk_4 (dk_at dksX2_press_2 5 rfl rfl)
theorem dX2_press_52 : decode cX2_press 52 = .ok (.goto 4, 3) := dk_167 0 4 (dk_at dksX2_press_2 6 rfl rfl)
theorem dX2_press_55 : decode cX2_press 55 = .ok (.iconst 0, 1) := dk_3 (dk_at dksX2_press_2 9 rfl rfl)
theorem dX2_press_56 : decode cX2_press 56 = .ok (.istore_n 3, 1) := dk_62 (dk_at dksX2_press_2 10 rfl rfl)
theorem dX2_press_57 : decode cX2_press 57 = .ok (.goto (-40), 3) := dk_167 255 216 (dk_at dksX2_press_2 11 rfl rfl)
theorem dX2_press_60 : decode cX2_press 60 = .ok (.iload_n 3, 1) := dk_29 (dk_at dksX2_press_2 14 rfl rfl)
theorem dX2_press_61 : decode cX2_press 61 = .ok (.ifCond .eq 10, 3) := dk_153 0 10 (dk_at dksX2_press_2 15 rfl rfl)
theorem dX2_press_64 : decode cX2_press 64 = .ok (.aload_n 2, 1) := dk_44 (dk_at dksX2_press_2 18 rfl rfl)
theorem dX2_press_65 : decode cX2_press 65 = .ok (.invokeinterface 109 1, 5) := by decide +kernel
theorem dX2_press_70 : decode cX2_press 70 = .ok (.pop, 1) := dk_87 (dk_at dksX2_press_3 0 rfl rfl)
theorem dX2_press_71 : decode cX2_press 71 = .ok (.aload_n 2, 1) := dk_44 (dk_at dksX2_press_3 1 rfl rfl)
theorem dX2_press_72 : decode cX2_press 72 = .ok (.new 103, 3) := dk_187 0 103 (dk_at dksX2_press_3 2 rfl rfl)
theorem dX2_press_75 : decode cX2_press 75 = .ok (.dup, 1) := dk_89 (dk_at dksX2_press_3 5 rfl rfl)
theorem dX2_press_76 : decode cX2_press 76 = .ok (.aload_n 0, 1) := dk_42 (dk_at dksX2_press_3 6 rfl rfl)
theorem dX2_press_77 : decode cX2_press 77 = .ok (.getfield 9, 3) := dk_180 0 9 (dk_at dksX2_press_3 7 rfl rfl)
theorem dX2_press_80 : decode cX2_press 80 = .ok (.iconst 2, 1) := dk_5 (dk_at dksX2_press_3 10 rfl rfl)
theorem dX2_press_81 : decode cX2_press 81 = .ok (.iaload, 1) := dk_46 (dk_at dksX2_press_3 11 rfl rfl)
theorem dX2_press_82 : decode cX2_press 82 = .ok (.iload_n 1, 1) := dk_27 (dk_at dksX2_press_3 12 rfl rfl)
theorem dX2_press_83 : decode cX2_press 83 = .ok (.invokespecial 112, 3) := dk_183 0 112 (dk_at dksX2_press_3 13 rfl rfl)
theorem dX2_press_86 : decode cX2_press 86 = .ok (.invokeinterface 114 2, 5) := by decide +kernel
theorem dX2_press_91 : decode cX2_press 91 = .ok (.aload_n 0, 1) := dk_42 (dk_at dksX2_press_3 21 rfl rfl)
theorem dX2_press_92 : decode cX2_press 92 = .ok (.getfield 25, 3) := dk_180 0 25 (dk_at dksX2_press_4 0 rfl rfl)
theorem dX2_press_95 : decode cX2_press 95 = .ok (.invokevirtual 118, 3) := dk_182 0 118 (dk_at dksX2_press_4 3 rfl rfl)
theorem dX2_press_98 : decode cX2_press 98 = .ok (.checkcast 55, 3) := dk_192 0 55 (dk_at dksX2_press_4 6 rfl rfl)
theorem dX2_press_101 : decode cX2_press 101 = .ok (.astore 4, 2) := dk_58 4 (dk_at dksX2_press_4 9 rfl rfl)
theorem dX2_press_103 : decode cX2_press 103 = .ok (.aload 4, 2) := dk_25 4 (dk_at dksX2_press_4 11 rfl rfl)
theorem dX2_press_105 : decode cX2_press 105 = .ok (.ifnull 17, 3) := dk_198 0 17 (dk_at dksX2_press_4 13 rfl rfl)
theorem dX2_press_108 : decode cX2_press 108 = .ok (.aload 4, 2) := dk_25 4 (dk_at dksX2_press_4 16 rfl rfl)
theorem dX2_press_110 : decode cX2_press 110 = .ok (.bipush 9, 2) := dk_16 9 (dk_at dksX2_press_4 18 rfl rfl)
theorem dX2_press_112 : decode cX2_press 112 = .ok (.aload_n 0, 1) := dk_42 (dk_at dksX2_press_4 20 rfl rfl)
theorem dX2_press_113 : decode cX2_press 113 = .ok (.getfield 9, 3) := dk_180 0 9 (dk_at dksX2_press_4 21 rfl rfl)
theorem dX2_press_116 : decode cX2_press 116 = .ok (.bipush 9, 2) := dk_16 9 (dk_at dksX2_press_5 0 rfl rfl)
theorem dX2_press_118 : decode cX2_press 118 = .ok (.iaload, 1) := dk_46 (dk_at dksX2_press_5 2 rfl rfl)
theorem dX2_press_119 : decode cX2_press 119 = .ok (.invokevirtual 54, 3) := dk_182 0 54 (dk_at dksX2_press_5 3 rfl rfl)
theorem dX2_press_122 : decode cX2_press 122 = .ok (.aload_n 0, 1) := dk_42 (dk_at dksX2_press_5 6 rfl rfl)
theorem dX2_press_123 : decode cX2_press 123 = .ok (.getfield 9, 3) := dk_180 0 9 (dk_at dksX2_press_5 7 rfl rfl)
theorem dX2_press_126 : decode cX2_press 126 = .ok (.bipush 9, 2) := dk_16 9 (dk_at dksX2_press_5 10 rfl rfl)
theorem dX2_press_128 : decode cX2_press 128 = .ok (.iconst 1, 1) := dk_4 (dk_at dksX2_press_5 12 rfl rfl)
theorem dX2_press_129 : decode cX2_press 129 = .ok (.iastore, 1) := dk_79 (dk_at dksX2_press_5 13 rfl rfl)
theorem dX2_press_130 : decode cX2_press 130 = .ok (.return_, 1) := dk_177 (dk_at dksX2_press_5 14 rfl rfl)
abbrev cX2_changedAt : ByteArray := prog_16_method_49_code
def yX2_changedAt : MethodName := ⟨RX2, "changedAt", "(I)I"⟩
def dkwX2_changedAt_2 : List UInt8 := [2, 172]
abbrev dktX2_changedAt_2 : List UInt8 := dkwX2_changedAt_2 ++ []
def dkwX2_changedAt_1 : List UInt8 := [132, 2, 255, 45, 185, 1, 37, 1, 0, 192, 0, 55, 16, 108, 27, 96, 182, 1, 38, 153, 255, 228, 28, 172]
abbrev dktX2_changedAt_1 : List UInt8 := dkwX2_changedAt_1 ++ dktX2_changedAt_2
def dkwX2_changedAt_0 : List UInt8 := [42, 180, 0, 9, 5, 46, 61, 42, 180, 0, 25, 182, 1, 28, 78, 45, 185, 1, 32, 1, 0, 153, 0, 27]
abbrev dktX2_changedAt_0 : List UInt8 := dkwX2_changedAt_0 ++ dktX2_changedAt_1
theorem dksX2_changedAt_0 : cX2_changedAt.data.toList.drop 0 = dktX2_changedAt_0 := by decide +kernel
theorem dksX2_changedAt_1 : cX2_changedAt.data.toList.drop 24 = dktX2_changedAt_1 := dk_seg dksX2_changedAt_0 24 rfl rfl
theorem dksX2_changedAt_2 : cX2_changedAt.data.toList.drop 48 = dktX2_changedAt_2 := dk_seg dksX2_changedAt_1 24 rfl rfl
theorem dX2_changedAt_0 : decode cX2_changedAt 0 = .ok (.aload_n 0, 1) := dk_42 (dk_at dksX2_changedAt_0 0 rfl rfl)
theorem dX2_changedAt_1 : decode cX2_changedAt 1 = .ok (.getfield 9, 3) := dk_180 0 9 (dk_at dksX2_changedAt_0 1 rfl rfl)
theorem dX2_changedAt_4 : decode cX2_changedAt 4 = .ok (.iconst 2, 1) := dk_5 (dk_at dksX2_changedAt_0 4 rfl rfl)
theorem dX2_changedAt_5 : decode cX2_changedAt 5 = .ok (.iaload, 1) := dk_46 (dk_at dksX2_changedAt_0 5 rfl rfl)
theorem dX2_changedAt_6 : decode cX2_changedAt 6 = .ok (.istore_n 2, 1) := dk_61 (dk_at dksX2_changedAt_0 6 rfl rfl)
theorem dX2_changedAt_7 : decode cX2_changedAt 7 = .ok (.aload_n 0, 1) := dk_42 (dk_at dksX2_changedAt_0 7 rfl rfl)
theorem dX2_changedAt_8 : decode cX2_changedAt 8 = .ok (.getfield 25, 3) := dk_180 0 25 (dk_at dksX2_changedAt_0 8 rfl rfl)
theorem dX2_changedAt_11 : decode cX2_changedAt 11 = .ok (.invokevirtual 284, 3) := dk_182 1 28 (dk_at dksX2_changedAt_0 11 rfl rfl)
theorem dX2_changedAt_14 : decode cX2_changedAt 14 = .ok (.astore_n 3, 1) := dk_78 (dk_at dksX2_changedAt_0 14 rfl rfl)
theorem dX2_changedAt_15 : decode cX2_changedAt 15 = .ok (.aload_n 3, 1) := dk_45 (dk_at dksX2_changedAt_0 15 rfl rfl)
theorem dX2_changedAt_16 : decode cX2_changedAt 16 = .ok (.invokeinterface 288 1, 5) := by decide +kernel
theorem dX2_changedAt_21 : decode cX2_changedAt 21 = .ok (.ifCond .eq 27, 3) := dk_153 0 27 (dk_at dksX2_changedAt_0 21 rfl rfl)
theorem dX2_changedAt_24 : decode cX2_changedAt 24 = .ok (.iinc 2 (-1), 3) := dk_132 2 255 (dk_at dksX2_changedAt_1 0 rfl rfl)
theorem dX2_changedAt_27 : decode cX2_changedAt 27 = .ok (.aload_n 3, 1) := dk_45 (dk_at dksX2_changedAt_1 3 rfl rfl)
theorem dX2_changedAt_28 : decode cX2_changedAt 28 = .ok (.invokeinterface 293 1, 5) := by decide +kernel
theorem dX2_changedAt_33 : decode cX2_changedAt 33 = .ok (.checkcast 55, 3) := dk_192 0 55 (dk_at dksX2_changedAt_1 9 rfl rfl)
theorem dX2_changedAt_36 : decode cX2_changedAt 36 = .ok (.bipush 108, 2) := dk_16 108 (dk_at dksX2_changedAt_1 12 rfl rfl)
theorem dX2_changedAt_38 : decode cX2_changedAt 38 = .ok (.iload_n 1, 1) := dk_27 (dk_at dksX2_changedAt_1 14 rfl rfl)
theorem dX2_changedAt_39 : decode cX2_changedAt 39 = .ok (.iadd, 1) := dk_96 (dk_at dksX2_changedAt_1 15 rfl rfl)
theorem dX2_changedAt_40 : decode cX2_changedAt 40 = .ok (.invokevirtual 294, 3) := dk_182 1 38 (dk_at dksX2_changedAt_1 16 rfl rfl)
theorem dX2_changedAt_43 : decode cX2_changedAt 43 = .ok (.ifCond .eq (-28), 3) := dk_153 255 228 (dk_at dksX2_changedAt_1 19 rfl rfl)
theorem dX2_changedAt_46 : decode cX2_changedAt 46 = .ok (.iload_n 2, 1) := dk_28 (dk_at dksX2_changedAt_1 22 rfl rfl)
theorem dX2_changedAt_47 : decode cX2_changedAt 47 = .ok (.ireturn, 1) := dk_172 (dk_at dksX2_changedAt_1 23 rfl rfl)
theorem dX2_changedAt_48 : decode cX2_changedAt 48 = .ok (.iconst (-1), 1) := dk_2 (dk_at dksX2_changedAt_2 0 rfl rfl)
theorem dX2_changedAt_49 : decode cX2_changedAt 49 = .ok (.ireturn, 1) := dk_172 (dk_at dksX2_changedAt_2 1 rfl rfl)
abbrev cX2_sumAnew : ByteArray := prog_16_method_54_code
def yX2_sumAnew : MethodName := ⟨RX2, "sumAnew", "(I)I"⟩
def dkwX2_sumAnew_5 : List UInt8 := [182, 1, 61, 172]
abbrev dktX2_sumAnew_5 : List UInt8 := dkwX2_sumAnew_5 ++ []
def dkwX2_sumAnew_4 : List UInt8 := [167, 0, 4, 3, 79, 44, 180, 0, 9, 5, 46, 27, 162, 0, 10, 44, 182, 1, 58, 167, 255, 242, 44]
abbrev dktX2_sumAnew_4 : List UInt8 := dkwX2_sumAnew_4 ++ dktX2_sumAnew_5
def dkwX2_sumAnew_3 : List UInt8 := [132, 3, 1, 167, 255, 224, 44, 180, 0, 9, 16, 9, 42, 3, 3, 182, 0, 125, 158, 0, 7, 4]
abbrev dktX2_sumAnew_3 : List UInt8 := dkwX2_sumAnew_3 ++ dktX2_sumAnew_4
def dkwX2_sumAnew_2 : List UInt8 := [182, 0, 86, 162, 0, 27, 44, 180, 0, 18, 42, 180, 0, 18, 29, 182, 0, 121, 192, 0, 103, 182, 1, 57]
abbrev dktX2_sumAnew_2 : List UInt8 := dkwX2_sumAnew_2 ++ dktX2_sumAnew_3
def dkwX2_sumAnew_1 : List UInt8 := [180, 0, 32, 190, 184, 0, 64, 44, 42, 180, 0, 29, 182, 0, 78, 3, 62, 29, 42, 180, 0, 18]
abbrev dktX2_sumAnew_1 : List UInt8 := dkwX2_sumAnew_1 ++ dktX2_sumAnew_2
def dkwX2_sumAnew_0 : List UInt8 := [187, 0, 10, 89, 3, 183, 1, 54, 77, 42, 180, 0, 32, 3, 44, 180, 0, 9, 17, 1, 109, 42]
abbrev dktX2_sumAnew_0 : List UInt8 := dkwX2_sumAnew_0 ++ dktX2_sumAnew_1
theorem dksX2_sumAnew_0 : cX2_sumAnew.data.toList.drop 0 = dktX2_sumAnew_0 := by decide +kernel
theorem dksX2_sumAnew_1 : cX2_sumAnew.data.toList.drop 22 = dktX2_sumAnew_1 := dk_seg dksX2_sumAnew_0 22 rfl rfl
theorem dksX2_sumAnew_2 : cX2_sumAnew.data.toList.drop 44 = dktX2_sumAnew_2 := dk_seg dksX2_sumAnew_1 22 rfl rfl
theorem dksX2_sumAnew_3 : cX2_sumAnew.data.toList.drop 68 = dktX2_sumAnew_3 := dk_seg dksX2_sumAnew_2 24 rfl rfl
theorem dksX2_sumAnew_4 : cX2_sumAnew.data.toList.drop 90 = dktX2_sumAnew_4 := dk_seg dksX2_sumAnew_3 22 rfl rfl
theorem dksX2_sumAnew_5 : cX2_sumAnew.data.toList.drop 113 = dktX2_sumAnew_5 := dk_seg dksX2_sumAnew_4 23 rfl rfl
theorem dX2_sumAnew_0 : decode cX2_sumAnew 0 = .ok (.new 10, 3) := dk_187 0 10 (dk_at dksX2_sumAnew_0 0 rfl rfl)
theorem dX2_sumAnew_3 : decode cX2_sumAnew 3 = .ok (.dup, 1) := dk_89 (dk_at dksX2_sumAnew_0 3 rfl rfl)
theorem dX2_sumAnew_4 : decode cX2_sumAnew 4 = .ok (.iconst 0, 1) := dk_3 (dk_at dksX2_sumAnew_0 4 rfl rfl)
theorem dX2_sumAnew_5 : decode cX2_sumAnew 5 = .ok (.invokespecial 310, 3) := dk_183 1 54 (dk_at dksX2_sumAnew_0 5 rfl rfl)
theorem dX2_sumAnew_8 : decode cX2_sumAnew 8 = .ok (.astore_n 2, 1) := dk_77 (dk_at dksX2_sumAnew_0 8 rfl rfl)
theorem dX2_sumAnew_9 : decode cX2_sumAnew 9 = .ok (.aload_n 0, 1) := dk_42 (dk_at dksX2_sumAnew_0 9 rfl rfl)
theorem dX2_sumAnew_10 : decode cX2_sumAnew 10 = .ok (.getfield 32, 3) := dk_180 0 32 (dk_at dksX2_sumAnew_0 10 rfl rfl)
theorem dX2_sumAnew_13 : decode cX2_sumAnew 13 = .ok (.iconst 0, 1) := dk_3 (dk_at dksX2_sumAnew_0 13 rfl rfl)
theorem dX2_sumAnew_14 : decode cX2_sumAnew 14 = .ok (.aload_n 2, 1) := dk_44 (dk_at dksX2_sumAnew_0 14 rfl rfl)
theorem dX2_sumAnew_15 : decode cX2_sumAnew 15 = .ok (.getfield 9, 3) := dk_180 0 9 (dk_at dksX2_sumAnew_0 15 rfl rfl)
theorem dX2_sumAnew_18 : decode cX2_sumAnew 18 = .ok (.sipush 365, 3) := dk_17 1 109 (dk_at dksX2_sumAnew_0 18 rfl rfl)
theorem dX2_sumAnew_21 : decode cX2_sumAnew 21 = .ok (.aload_n 0, 1) := dk_42 (dk_at dksX2_sumAnew_0 21 rfl rfl)
theorem dX2_sumAnew_22 : decode cX2_sumAnew 22 = .ok (.getfield 32, 3) := dk_180 0 32 (dk_at dksX2_sumAnew_1 0 rfl rfl)
theorem dX2_sumAnew_25 : decode cX2_sumAnew 25 = .ok (.arraylength, 1) := dk_190 (dk_at dksX2_sumAnew_1 3 rfl rfl)
theorem dX2_sumAnew_26 : decode cX2_sumAnew 26 = .ok (.invokestatic 64, 3) := dk_184 0 64 (dk_at dksX2_sumAnew_1 4 rfl rfl)
theorem dX2_sumAnew_29 : decode cX2_sumAnew 29 = .ok (.aload_n 2, 1) := dk_44 (dk_at dksX2_sumAnew_1 7 rfl rfl)
theorem dX2_sumAnew_30 : decode cX2_sumAnew 30 = .ok (.aload_n 0, 1) := dk_42 (dk_at dksX2_sumAnew_1 8 rfl rfl)
theorem dX2_sumAnew_31 : decode cX2_sumAnew 31 = .ok (.getfield 29, 3) := dk_180 0 29 (dk_at dksX2_sumAnew_1 9 rfl rfl)
theorem dX2_sumAnew_34 : decode cX2_sumAnew 34 = .ok (.invokevirtual 78, 3) := dk_182 0 78 (dk_at dksX2_sumAnew_1 12 rfl rfl)
theorem dX2_sumAnew_37 : decode cX2_sumAnew 37 = .ok (.iconst 0, 1) := dk_3 (dk_at dksX2_sumAnew_1 15 rfl rfl)
theorem dX2_sumAnew_38 : decode cX2_sumAnew 38 = .ok (.istore_n 3, 1) := dk_62 (dk_at dksX2_sumAnew_1 16 rfl rfl)
theorem dX2_sumAnew_39 : decode cX2_sumAnew 39 = .ok (.iload_n 3, 1) := dk_29 (dk_at dksX2_sumAnew_1 17 rfl rfl)
theorem dX2_sumAnew_40 : decode cX2_sumAnew 40 = .ok (.aload_n 0, 1) := dk_42 (dk_at dksX2_sumAnew_1 18 rfl rfl)
theorem dX2_sumAnew_41 : decode cX2_sumAnew 41 = .ok (.getfield 18, 3) := dk_180 0 18 (dk_at dksX2_sumAnew_1 19 rfl rfl)
theorem dX2_sumAnew_44 : decode cX2_sumAnew 44 = .ok (.invokevirtual 86, 3) := dk_182 0 86 (dk_at dksX2_sumAnew_2 0 rfl rfl)
theorem dX2_sumAnew_47 : decode cX2_sumAnew 47 = .ok (.if_icmp .ge 27, 3) := dk_162 0 27 (dk_at dksX2_sumAnew_2 3 rfl rfl)
theorem dX2_sumAnew_50 : decode cX2_sumAnew 50 = .ok (.aload_n 2, 1) := dk_44 (dk_at dksX2_sumAnew_2 6 rfl rfl)
theorem dX2_sumAnew_51 : decode cX2_sumAnew 51 = .ok (.getfield 18, 3) := dk_180 0 18 (dk_at dksX2_sumAnew_2 7 rfl rfl)
theorem dX2_sumAnew_54 : decode cX2_sumAnew 54 = .ok (.aload_n 0, 1) := dk_42 (dk_at dksX2_sumAnew_2 10 rfl rfl)
theorem dX2_sumAnew_55 : decode cX2_sumAnew 55 = .ok (.getfield 18, 3) := dk_180 0 18 (dk_at dksX2_sumAnew_2 11 rfl rfl)
theorem dX2_sumAnew_58 : decode cX2_sumAnew 58 = .ok (.iload_n 3, 1) := dk_29 (dk_at dksX2_sumAnew_2 14 rfl rfl)
theorem dX2_sumAnew_59 : decode cX2_sumAnew 59 = .ok (.invokevirtual 121, 3) := dk_182 0 121 (dk_at dksX2_sumAnew_2 15 rfl rfl)
theorem dX2_sumAnew_62 : decode cX2_sumAnew 62 = .ok (.checkcast 103, 3) := dk_192 0 103 (dk_at dksX2_sumAnew_2 18 rfl rfl)
theorem dX2_sumAnew_65 : decode cX2_sumAnew 65 = .ok (.invokevirtual 313, 3) := dk_182 1 57 (dk_at dksX2_sumAnew_2 21 rfl rfl)
theorem dX2_sumAnew_68 : decode cX2_sumAnew 68 = .ok (.iinc 3 1, 3) := dk_132 3 1 (dk_at dksX2_sumAnew_3 0 rfl rfl)
theorem dX2_sumAnew_71 : decode cX2_sumAnew 71 = .ok (.goto (-32), 3) := dk_167 255 224 (dk_at dksX2_sumAnew_3 3 rfl rfl)
theorem dX2_sumAnew_74 : decode cX2_sumAnew 74 = .ok (.aload_n 2, 1) := dk_44 (dk_at dksX2_sumAnew_3 6 rfl rfl)
theorem dX2_sumAnew_75 : decode cX2_sumAnew 75 = .ok (.getfield 9, 3) := dk_180 0 9 (dk_at dksX2_sumAnew_3 7 rfl rfl)
theorem dX2_sumAnew_78 : decode cX2_sumAnew 78 = .ok (.bipush 9, 2) := dk_16 9 (dk_at dksX2_sumAnew_3 10 rfl rfl)
theorem dX2_sumAnew_80 : decode cX2_sumAnew 80 = .ok (.aload_n 0, 1) := dk_42 (dk_at dksX2_sumAnew_3 12 rfl rfl)
theorem dX2_sumAnew_81 : decode cX2_sumAnew 81 = .ok (.iconst 0, 1) := dk_3 (dk_at dksX2_sumAnew_3 13 rfl rfl)
theorem dX2_sumAnew_82 : decode cX2_sumAnew 82 = .ok (.iconst 0, 1) := dk_3 (dk_at dksX2_sumAnew_3 14 rfl rfl)
theorem dX2_sumAnew_83 : decode cX2_sumAnew 83 = .ok (.invokevirtual 125, 3) := dk_182 0 125 (dk_at dksX2_sumAnew_3 15 rfl rfl)
theorem dX2_sumAnew_86 : decode cX2_sumAnew 86 = .ok (.ifCond .le 7, 3) := dk_158 0 7 (dk_at dksX2_sumAnew_3 18 rfl rfl)
theorem dX2_sumAnew_89 : decode cX2_sumAnew 89 = .ok (.iconst 1, 1) := dk_4 (dk_at dksX2_sumAnew_3 21 rfl rfl)
theorem dX2_sumAnew_90 : decode cX2_sumAnew 90 = .ok (.goto 4, 3) := dk_167 0 4 (dk_at dksX2_sumAnew_4 0 rfl rfl)
theorem dX2_sumAnew_93 : decode cX2_sumAnew 93 = .ok (.iconst 0, 1) := dk_3 (dk_at dksX2_sumAnew_4 3 rfl rfl)
theorem dX2_sumAnew_94 : decode cX2_sumAnew 94 = .ok (.iastore, 1) := dk_79 (dk_at dksX2_sumAnew_4 4 rfl rfl)
theorem dX2_sumAnew_95 : decode cX2_sumAnew 95 = .ok (.aload_n 2, 1) := dk_44 (dk_at dksX2_sumAnew_4 5 rfl rfl)
theorem dX2_sumAnew_96 : decode cX2_sumAnew 96 = .ok (.getfield 9, 3) := dk_180 0 9 (dk_at dksX2_sumAnew_4 6 rfl rfl)
theorem dX2_sumAnew_99 : decode cX2_sumAnew 99 = .ok (.iconst 2, 1) := dk_5 (dk_at dksX2_sumAnew_4 9 rfl rfl)
theorem dX2_sumAnew_100 : decode cX2_sumAnew 100 = .ok (.iaload, 1) := dk_46 (dk_at dksX2_sumAnew_4 10 rfl rfl)
theorem dX2_sumAnew_101 : decode cX2_sumAnew 101 = .ok (.iload_n 1, 1) := dk_27 (dk_at dksX2_sumAnew_4 11 rfl rfl)
theorem dX2_sumAnew_102 : decode cX2_sumAnew 102 = .ok (.if_icmp .ge 10, 3) := dk_162 0 10 (dk_at dksX2_sumAnew_4 12 rfl rfl)
theorem dX2_sumAnew_105 : decode cX2_sumAnew 105 = .ok (.aload_n 2, 1) := dk_44 (dk_at dksX2_sumAnew_4 15 rfl rfl)
theorem dX2_sumAnew_106 : decode cX2_sumAnew 106 = .ok (.invokevirtual 314, 3) := dk_182 1 58 (dk_at dksX2_sumAnew_4 16 rfl rfl)
theorem dX2_sumAnew_109 : decode cX2_sumAnew 109 = .ok (.goto (-14), 3) := dk_167 255 242 (dk_at dksX2_sumAnew_4 19 rfl rfl)
theorem dX2_sumAnew_112 : decode cX2_sumAnew 112 = .ok (.aload_n 2, 1) := dk_44 (dk_at dksX2_sumAnew_4 22 rfl rfl)
theorem dX2_sumAnew_113 : decode cX2_sumAnew 113 = .ok (.invokevirtual 317, 3) := dk_182 1 61 (dk_at dksX2_sumAnew_5 0 rfl rfl)
theorem dX2_sumAnew_116 : decode cX2_sumAnew 116 = .ok (.ireturn, 1) := dk_172 (dk_at dksX2_sumAnew_5 3 rfl rfl)
theorem q122 : (Jvm.Cond.initialized "KernelGym$Machine") ∈ lw_all := lw_g (lw_at lw_m1 5 rfl) rfl
theorem q228 : (Jvm.Cond.instantiable "KernelGym$Machine" (10 : Nat)) ∈ lw_all := lw_g (lw_at lw_m1 111 rfl) rfl
theorem q230 : (Jvm.Cond.instanceMethod ({ cls := "KernelGym$Machine", name := "<init>", desc := "(Z)V" } : Jvm.MethodName)) ∈ lw_all := lw_g (lw_at lw_m1 113 rfl) rfl
theorem q231 : (Jvm.Cond.code ({ cls := "KernelGym$Machine", name := "<init>", desc := "(Z)V" } : Jvm.MethodName) prog_16_method_1_code (2 : Nat) (Option.none : Option Jvm.ClassFile.FieldType)) ∈ lw_all := lw_g (lw_at lw_m1 114 rfl) rfl
theorem q232 : (Jvm.Cond.methodLink "KernelGym$Machine" (3 : Nat) ({ cls := "java/lang/Object", name := "<init>", desc := "()V" } : Jvm.MethodName)) ∈ lw_all := lw_g (lw_at lw_m1 115 rfl) rfl
theorem q233 : (Jvm.Cond.classLink "KernelGym$Machine" (15 : Nat) "java/util/LinkedList") ∈ lw_all := lw_g (lw_at lw_m1 116 rfl) rfl
theorem q235 : (Jvm.Cond.methodLink "KernelGym$Machine" (17 : Nat) ({ cls := "java/util/LinkedList", name := "<init>", desc := "()V" } : Jvm.MethodName)) ∈ lw_all := lw_g (lw_at lw_m1 118 rfl) rfl
theorem q256 : (Jvm.Cond.classLink "KernelGym$Machine" (22 : Nat) "java/util/ArrayDeque") ∈ lw_all := lw_g (lw_at lw_m1 139 rfl) rfl
theorem q258 : (Jvm.Cond.methodLink "KernelGym$Machine" (24 : Nat) ({ cls := "java/util/ArrayDeque", name := "<init>", desc := "()V" } : Jvm.MethodName)) ∈ lw_all := lw_g (lw_at lw_m1 141 rfl) rfl
theorem q277 : (Jvm.Cond.classLink "KernelGym$Machine" (38 : Nat) "[[I") ∈ lw_all := lw_g (lw_at lw_m1 160 rfl) rfl
theorem q279 : (Jvm.Cond.methodLink "KernelGym$Machine" (47 : Nat) ({ cls := "KernelGym$Machine", name := "format", desc := "()V" } : Jvm.MethodName)) ∈ lw_all := lw_g (lw_at lw_m1 162 rfl) rfl
theorem q280 : (Jvm.Cond.instanceMethod ({ cls := "KernelGym$Machine", name := "format", desc := "()V" } : Jvm.MethodName)) ∈ lw_all := lw_g (lw_at lw_m1 163 rfl) rfl
theorem q281 : (Jvm.Cond.selects "KernelGym$Machine" ({ cls := "KernelGym$Machine", name := "format", desc := "()V" } : Jvm.MethodName) ({ cls := "KernelGym$Machine", name := "format", desc := "()V" } : Jvm.MethodName)) ∈ lw_all := lw_g (lw_at lw_m1 164 rfl) rfl
theorem q282 : (Jvm.Cond.code ({ cls := "KernelGym$Machine", name := "format", desc := "()V" } : Jvm.MethodName) prog_16_method_5_code (2 : Nat) (Option.none : Option Jvm.ClassFile.FieldType)) ∈ lw_all := lw_g (lw_at lw_m1 165 rfl) rfl
theorem q283 : (Jvm.Cond.fieldLink "KernelGym$Machine" (9 : Nat) "KernelGym$Machine" "cells" "[I") ∈ lw_all := lw_g (lw_at lw_m1 166 rfl) rfl
theorem q286 : (Jvm.Cond.fieldLink "KernelGym$Machine" (18 : Nat) "KernelGym$Machine" "keys" "Ljava/util/LinkedList;") ∈ lw_all := lw_g (lw_at lw_m1 169 rfl) rfl
theorem q288 : (Jvm.Cond.fieldLink "KernelGym$Machine" (25 : Nat) "KernelGym$Machine" "kept" "Ljava/util/ArrayDeque;") ∈ lw_all := lw_g (lw_at lw_m1 171 rfl) rfl
theorem q290 : (Jvm.Cond.fieldLink "KernelGym$Machine" (43 : Nat) "KernelGym$Machine" "keeps" "Z") ∈ lw_all := lw_g (lw_at lw_m1 173 rfl) rfl
theorem q291 : (Jvm.Cond.fieldLink "KernelGym$Machine" (50 : Nat) "KernelGym$Machine" "present" "LKernelGym$Step;") ∈ lw_all := lw_g (lw_at lw_m1 174 rfl) rfl
theorem q292 : (Jvm.Cond.fieldLink "KernelGym$Machine" (29 : Nat) "KernelGym$Machine" "image" "[I") ∈ lw_all := lw_g (lw_at lw_m1 175 rfl) rfl
theorem q293 : (Jvm.Cond.fieldLink "KernelGym$Machine" (32 : Nat) "KernelGym$Machine" "diskAtStart" "[I") ∈ lw_all := lw_g (lw_at lw_m1 176 rfl) rfl
theorem q294 : (Jvm.Cond.fieldLink "KernelGym$Machine" (35 : Nat) "KernelGym$Machine" "numbers" "[I") ∈ lw_all := lw_g (lw_at lw_m1 177 rfl) rfl
theorem q295 : (Jvm.Cond.fieldLink "KernelGym$Machine" (40 : Nat) "KernelGym$Machine" "drafts" "[[I") ∈ lw_all := lw_g (lw_at lw_m1 178 rfl) rfl
theorem q296 : (Jvm.Cond.fieldLink "KernelGym$Machine" (223 : Nat) "KernelGym$Machine" "drafted" "I") ∈ lw_all := lw_g (lw_at lw_m1 179 rfl) rfl
theorem q297 : (Jvm.Cond.laysFinal "KernelGym$Machine" "KernelGym$Machine" "cells" "[I") ∈ lw_all := lw_g (lw_at lw_m1 180 rfl) rfl
theorem q298 : (Jvm.Cond.soleField "KernelGym$Machine" "cells") ∈ lw_all := lw_g (lw_at lw_m1 181 rfl) rfl
theorem q299 : (Jvm.Cond.laysFinal "KernelGym$Machine" "KernelGym$Machine" "keys" "Ljava/util/LinkedList;") ∈ lw_all := lw_g (lw_at lw_m1 182 rfl) rfl
theorem q300 : (Jvm.Cond.soleField "KernelGym$Machine" "keys") ∈ lw_all := lw_g (lw_at lw_m1 183 rfl) rfl
theorem q301 : (Jvm.Cond.laysFinal "KernelGym$Machine" "KernelGym$Machine" "kept" "Ljava/util/ArrayDeque;") ∈ lw_all := lw_g (lw_at lw_m1 184 rfl) rfl
theorem q302 : (Jvm.Cond.soleField "KernelGym$Machine" "kept") ∈ lw_all := lw_g (lw_at lw_m1 185 rfl) rfl
theorem q303 : (Jvm.Cond.laysFinal "KernelGym$Machine" "KernelGym$Machine" "keeps" "Z") ∈ lw_all := lw_g (lw_at lw_m1 186 rfl) rfl
theorem q304 : (Jvm.Cond.soleField "KernelGym$Machine" "keeps") ∈ lw_all := lw_g (lw_at lw_m1 187 rfl) rfl
theorem q305 : (Jvm.Cond.lays "KernelGym$Machine" "KernelGym$Machine" "present" "LKernelGym$Step;") ∈ lw_all := lw_g (lw_at lw_m1 188 rfl) rfl
theorem q306 : (Jvm.Cond.soleField "KernelGym$Machine" "present") ∈ lw_all := lw_g (lw_at lw_m1 189 rfl) rfl
theorem q307 : (Jvm.Cond.lays "KernelGym$Machine" "KernelGym$Machine" "image" "[I") ∈ lw_all := lw_g (lw_at lw_m1 190 rfl) rfl
theorem q308 : (Jvm.Cond.soleField "KernelGym$Machine" "image") ∈ lw_all := lw_g (lw_at lw_m1 191 rfl) rfl
theorem q309 : (Jvm.Cond.laysFinal "KernelGym$Machine" "KernelGym$Machine" "diskAtStart" "[I") ∈ lw_all := lw_g (lw_at lw_m1 192 rfl) rfl
theorem q310 : (Jvm.Cond.soleField "KernelGym$Machine" "diskAtStart") ∈ lw_all := lw_g (lw_at lw_m1 193 rfl) rfl
theorem q311 : (Jvm.Cond.laysFinal "KernelGym$Machine" "KernelGym$Machine" "numbers" "[I") ∈ lw_all := lw_g (lw_at lw_m1 194 rfl) rfl
theorem q312 : (Jvm.Cond.soleField "KernelGym$Machine" "numbers") ∈ lw_all := lw_g (lw_at lw_m1 195 rfl) rfl
theorem q313 : (Jvm.Cond.lays "KernelGym$Machine" "KernelGym$Machine" "drafts" "[[I") ∈ lw_all := lw_g (lw_at lw_m1 196 rfl) rfl
theorem q314 : (Jvm.Cond.soleField "KernelGym$Machine" "drafts") ∈ lw_all := lw_g (lw_at lw_m1 197 rfl) rfl
theorem q315 : (Jvm.Cond.lays "KernelGym$Machine" "KernelGym$Machine" "drafted" "I") ∈ lw_all := lw_g (lw_at lw_m1 198 rfl) rfl
theorem q316 : (Jvm.Cond.soleField "KernelGym$Machine" "drafted") ∈ lw_all := lw_g (lw_at lw_m1 199 rfl) rfl
theorem q317 : (Jvm.Cond.superclass "KernelGym$Machine" "java/lang/Object") ∈ lw_all := lw_g (lw_at lw_m1 200 rfl) rfl
theorem q1060 : (Jvm.Cond.selects "KernelGym$Machine" ({ cls := "java/lang/Object", name := "getClass", desc := "()Ljava/lang/Class;" } : Jvm.MethodName) ({ cls := "java/lang/Object", name := "getClass", desc := "()Ljava/lang/Class;" } : Jvm.MethodName)) ∈ lw_all := lw_g (lw_at lw_m4 223 rfl) rfl
theorem q1228 : (Jvm.Cond.instanceMethod ({ cls := "KernelGym$Machine", name := "flags", desc := "()I" } : Jvm.MethodName)) ∈ lw_all := lw_g (lw_at lw_m5 151 rfl) rfl
theorem q1229 : (Jvm.Cond.selects "KernelGym$Machine" ({ cls := "KernelGym$Machine", name := "flags", desc := "()I" } : Jvm.MethodName) ({ cls := "KernelGym$Machine", name := "flags", desc := "()I" } : Jvm.MethodName)) ∈ lw_all := lw_g (lw_at lw_m5 152 rfl) rfl
theorem q1230 : (Jvm.Cond.code ({ cls := "KernelGym$Machine", name := "flags", desc := "()I" } : Jvm.MethodName) prog_16_method_50_code (1 : Nat) (Option.some Jvm.ClassFile.FieldType.int)) ∈ lw_all := lw_g (lw_at lw_m5 153 rfl) rfl
theorem q1236 : (Jvm.Cond.instanceMethod ({ cls := "KernelGym$Machine", name := "writesLeft", desc := "()I" } : Jvm.MethodName)) ∈ lw_all := lw_g (lw_at lw_m5 159 rfl) rfl
theorem q1237 : (Jvm.Cond.selects "KernelGym$Machine" ({ cls := "KernelGym$Machine", name := "writesLeft", desc := "()I" } : Jvm.MethodName) ({ cls := "KernelGym$Machine", name := "writesLeft", desc := "()I" } : Jvm.MethodName)) ∈ lw_all := lw_g (lw_at lw_m5 160 rfl) rfl
theorem q1238 : (Jvm.Cond.code ({ cls := "KernelGym$Machine", name := "writesLeft", desc := "()I" } : Jvm.MethodName) prog_16_method_43_code (1 : Nat) (Option.some Jvm.ClassFile.FieldType.int)) ∈ lw_all := lw_g (lw_at lw_m5 161 rfl) rfl
theorem q1248 : (Jvm.Cond.instanceMethod ({ cls := "KernelGym$Machine", name := "sum", desc := "()I" } : Jvm.MethodName)) ∈ lw_all := lw_g (lw_at lw_m5 171 rfl) rfl
theorem q1249 : (Jvm.Cond.selects "KernelGym$Machine" ({ cls := "KernelGym$Machine", name := "sum", desc := "()I" } : Jvm.MethodName) ({ cls := "KernelGym$Machine", name := "sum", desc := "()I" } : Jvm.MethodName)) ∈ lw_all := lw_g (lw_at lw_m5 172 rfl) rfl
theorem q1250 : (Jvm.Cond.code ({ cls := "KernelGym$Machine", name := "sum", desc := "()I" } : Jvm.MethodName) prog_16_method_53_code (2 : Nat) (Option.some Jvm.ClassFile.FieldType.int)) ∈ lw_all := lw_g (lw_at lw_m5 173 rfl) rfl
theorem q1251 : (Jvm.Cond.methodLink "KernelGym$Machine" (298 : Nat) ({ cls := "KernelGym$Machine", name := "added", desc := "(III)I" } : Jvm.MethodName)) ∈ lw_all := lw_g (lw_at lw_m5 174 rfl) rfl
theorem q1252 : (Jvm.Cond.privateMethod ({ cls := "KernelGym$Machine", name := "added", desc := "(III)I" } : Jvm.MethodName)) ∈ lw_tbl := lw_at lw_m5 175 rfl
theorem q1253 : (Jvm.Cond.instanceMethod ({ cls := "KernelGym$Machine", name := "added", desc := "(III)I" } : Jvm.MethodName)) ∈ lw_all := lw_g (lw_at lw_m5 176 rfl) rfl
theorem q1254 : (Jvm.Cond.code ({ cls := "KernelGym$Machine", name := "added", desc := "(III)I" } : Jvm.MethodName) prog_16_method_51_code (6 : Nat) (Option.some Jvm.ClassFile.FieldType.int)) ∈ lw_all := lw_g (lw_at lw_m5 177 rfl) rfl
theorem q1255 : (Jvm.Cond.constant "KernelGym$Machine" (297 : Nat) (1000003 : Int32)) ∈ lw_all := lw_g (lw_at lw_m5 178 rfl) rfl
theorem q1256 : (Jvm.Cond.methodLink "KernelGym$Machine" (301 : Nat) ({ cls := "KernelGym$Machine", name := "flags", desc := "()I" } : Jvm.MethodName)) ∈ lw_all := lw_g (lw_at lw_m5 179 rfl) rfl
theorem q1257 : (Jvm.Cond.methodLink "KernelGym$Machine" (304 : Nat) ({ cls := "KernelGym$Machine", name := "joined", desc := "(II)I" } : Jvm.MethodName)) ∈ lw_all := lw_g (lw_at lw_m5 180 rfl) rfl
theorem q1258 : (Jvm.Cond.static ({ cls := "KernelGym$Machine", name := "joined", desc := "(II)I" } : Jvm.MethodName)) ∈ lw_all := lw_g (lw_at lw_m5 181 rfl) rfl
theorem q1259 : (Jvm.Cond.code ({ cls := "KernelGym$Machine", name := "joined", desc := "(II)I" } : Jvm.MethodName) prog_16_method_52_code (2 : Nat) (Option.some Jvm.ClassFile.FieldType.int)) ∈ lw_all := lw_g (lw_at lw_m5 182 rfl) rfl
theorem q1260 : (Jvm.Cond.methodLink "KernelGym$Machine" (307 : Nat) ({ cls := "KernelGym$Machine", name := "writesLeft", desc := "()I" } : Jvm.MethodName)) ∈ lw_all := lw_g (lw_at lw_m5 183 rfl) rfl
theorem q1270 : (Jvm.Cond.privateMethod ({ cls := "KernelGym$Machine", name := "entry", desc := "(II)I" } : Jvm.MethodName)) ∈ lw_tbl := lw_at lw_m5 193 rfl
theorem q1271 : (Jvm.Cond.instanceMethod ({ cls := "KernelGym$Machine", name := "entry", desc := "(II)I" } : Jvm.MethodName)) ∈ lw_all := lw_g (lw_at lw_m5 194 rfl) rfl
theorem q1272 : (Jvm.Cond.code ({ cls := "KernelGym$Machine", name := "entry", desc := "(II)I" } : Jvm.MethodName) prog_16_method_29_code (3 : Nat) (Option.some Jvm.ClassFile.FieldType.int)) ∈ lw_all := lw_g (lw_at lw_m5 195 rfl) rfl
theorem q1278 : (Jvm.Cond.privateMethod ({ cls := "KernelGym$Machine", name := "isUsed", desc := "(I)Z" } : Jvm.MethodName)) ∈ lw_tbl := lw_at lw_m5 201 rfl
theorem q1279 : (Jvm.Cond.instanceMethod ({ cls := "KernelGym$Machine", name := "isUsed", desc := "(I)Z" } : Jvm.MethodName)) ∈ lw_all := lw_g (lw_at lw_m5 202 rfl) rfl
theorem q1280 : (Jvm.Cond.code ({ cls := "KernelGym$Machine", name := "isUsed", desc := "(I)Z" } : Jvm.MethodName) prog_16_method_30_code (2 : Nat) (Option.some Jvm.ClassFile.FieldType.boolean)) ∈ lw_all := lw_g (lw_at lw_m5 203 rfl) rfl
theorem q1286 : (Jvm.Cond.instanceMethod ({ cls := "KernelGym$Machine", name := "isWhole", desc := "()Z" } : Jvm.MethodName)) ∈ lw_all := lw_g (lw_at lw_m5 209 rfl) rfl
theorem q1287 : (Jvm.Cond.selects "KernelGym$Machine" ({ cls := "KernelGym$Machine", name := "isWhole", desc := "()Z" } : Jvm.MethodName) ({ cls := "KernelGym$Machine", name := "isWhole", desc := "()Z" } : Jvm.MethodName)) ∈ lw_all := lw_g (lw_at lw_m5 210 rfl) rfl
theorem q1288 : (Jvm.Cond.code ({ cls := "KernelGym$Machine", name := "isWhole", desc := "()Z" } : Jvm.MethodName) prog_16_method_47_code (8 : Nat) (Option.some Jvm.ClassFile.FieldType.boolean)) ∈ lw_all := lw_g (lw_at lw_m5 211 rfl) rfl
theorem q1289 : (Jvm.Cond.classLink "KernelGym$Machine" (265 : Nat) "java/util/BitSet") ∈ lw_all := lw_g (lw_at lw_m5 212 rfl) rfl
theorem q1291 : (Jvm.Cond.methodLink "KernelGym$Machine" (267 : Nat) ({ cls := "java/util/BitSet", name := "<init>", desc := "(I)V" } : Jvm.MethodName)) ∈ lw_all := lw_g (lw_at lw_m5 214 rfl) rfl
theorem q1313 : (Jvm.Cond.methodLink "KernelGym$Machine" (268 : Nat) ({ cls := "java/util/BitSet", name := "set", desc := "(II)V" } : Jvm.MethodName)) ∈ lw_all := lw_g (lw_at lw_m5 236 rfl) rfl
theorem q1355 : (Jvm.Cond.methodLink "KernelGym$Machine" (214 : Nat) ({ cls := "KernelGym$Machine", name := "entry", desc := "(II)I" } : Jvm.MethodName)) ∈ lw_all := lw_g (lw_at lw_m6 38 rfl) rfl
theorem q1356 : (Jvm.Cond.methodLink "KernelGym$Machine" (217 : Nat) ({ cls := "KernelGym$Machine", name := "find", desc := "(I)I" } : Jvm.MethodName)) ∈ lw_all := lw_g (lw_at lw_m6 39 rfl) rfl
theorem q1357 : (Jvm.Cond.instanceMethod ({ cls := "KernelGym$Machine", name := "find", desc := "(I)I" } : Jvm.MethodName)) ∈ lw_all := lw_g (lw_at lw_m6 40 rfl) rfl
theorem q1358 : (Jvm.Cond.selects "KernelGym$Machine" ({ cls := "KernelGym$Machine", name := "find", desc := "(I)I" } : Jvm.MethodName) ({ cls := "KernelGym$Machine", name := "find", desc := "(I)I" } : Jvm.MethodName)) ∈ lw_all := lw_g (lw_at lw_m6 41 rfl) rfl
theorem q1359 : (Jvm.Cond.code ({ cls := "KernelGym$Machine", name := "find", desc := "(I)I" } : Jvm.MethodName) prog_16_method_31_code (4 : Nat) (Option.some Jvm.ClassFile.FieldType.int)) ∈ lw_all := lw_g (lw_at lw_m6 42 rfl) rfl
theorem q1360 : (Jvm.Cond.methodLink "KernelGym$Machine" (269 : Nat) ({ cls := "java/util/BitSet", name := "get", desc := "(I)Z" } : Jvm.MethodName)) ∈ lw_all := lw_g (lw_at lw_m6 43 rfl) rfl
theorem q1365 : (Jvm.Cond.methodLink "KernelGym$Machine" (271 : Nat) ({ cls := "java/util/BitSet", name := "set", desc := "(I)V" } : Jvm.MethodName)) ∈ lw_all := lw_g (lw_at lw_m6 48 rfl) rfl
theorem q1369 : (Jvm.Cond.methodLink "KernelGym$Machine" (220 : Nat) ({ cls := "KernelGym$Machine", name := "isUsed", desc := "(I)Z" } : Jvm.MethodName)) ∈ lw_all := lw_g (lw_at lw_m6 52 rfl) rfl
theorem q1964 : (Jvm.Cond.instanceMethod ({ cls := "KernelGym$Machine", name := "isOn", desc := "()Z" } : Jvm.MethodName)) ∈ lw_all := lw_g (lw_at lw_m8 167 rfl) rfl
theorem q1965 : (Jvm.Cond.selects "KernelGym$Machine" ({ cls := "KernelGym$Machine", name := "isOn", desc := "()Z" } : Jvm.MethodName) ({ cls := "KernelGym$Machine", name := "isOn", desc := "()Z" } : Jvm.MethodName)) ∈ lw_all := lw_g (lw_at lw_m8 168 rfl) rfl
theorem q1966 : (Jvm.Cond.code ({ cls := "KernelGym$Machine", name := "isOn", desc := "()Z" } : Jvm.MethodName) prog_16_method_3_code (1 : Nat) (Option.some Jvm.ClassFile.FieldType.boolean)) ∈ lw_all := lw_g (lw_at lw_m8 169 rfl) rfl
theorem q1968 : (Jvm.Cond.instanceMethod ({ cls := "KernelGym$Machine", name := "start", desc := "([I)I" } : Jvm.MethodName)) ∈ lw_all := lw_g (lw_at lw_m8 171 rfl) rfl
theorem q1969 : (Jvm.Cond.selects "KernelGym$Machine" ({ cls := "KernelGym$Machine", name := "start", desc := "([I)I" } : Jvm.MethodName) ({ cls := "KernelGym$Machine", name := "start", desc := "([I)I" } : Jvm.MethodName)) ∈ lw_all := lw_g (lw_at lw_m8 172 rfl) rfl
theorem q1970 : (Jvm.Cond.code ({ cls := "KernelGym$Machine", name := "start", desc := "([I)I" } : Jvm.MethodName) prog_16_method_8_code (3 : Nat) (Option.some Jvm.ClassFile.FieldType.int)) ∈ lw_all := lw_g (lw_at lw_m8 173 rfl) rfl
theorem q1971 : (Jvm.Cond.methodLink "KernelGym$Machine" (74 : Nat) ({ cls := "KernelGym$Machine", name := "mend", desc := "()I" } : Jvm.MethodName)) ∈ lw_all := lw_g (lw_at lw_m8 174 rfl) rfl
theorem q1972 : (Jvm.Cond.privateMethod ({ cls := "KernelGym$Machine", name := "mend", desc := "()I" } : Jvm.MethodName)) ∈ lw_tbl := lw_at lw_m8 175 rfl
theorem q1973 : (Jvm.Cond.instanceMethod ({ cls := "KernelGym$Machine", name := "mend", desc := "()I" } : Jvm.MethodName)) ∈ lw_all := lw_g (lw_at lw_m8 176 rfl) rfl
theorem q1974 : (Jvm.Cond.code ({ cls := "KernelGym$Machine", name := "mend", desc := "()I" } : Jvm.MethodName) prog_16_method_6_code (4 : Nat) (Option.some Jvm.ClassFile.FieldType.int)) ∈ lw_all := lw_g (lw_at lw_m8 177 rfl) rfl
theorem q1975 : (Jvm.Cond.methodLink "KernelGym$Machine" (60 : Nat) ({ cls := "KernelGym$Machine", name := "logged", desc := "(I)I" } : Jvm.MethodName)) ∈ lw_all := lw_g (lw_at lw_m8 178 rfl) rfl
theorem q1976 : (Jvm.Cond.privateMethod ({ cls := "KernelGym$Machine", name := "logged", desc := "(I)I" } : Jvm.MethodName)) ∈ lw_tbl := lw_at lw_m8 179 rfl
theorem q1977 : (Jvm.Cond.instanceMethod ({ cls := "KernelGym$Machine", name := "logged", desc := "(I)I" } : Jvm.MethodName)) ∈ lw_all := lw_g (lw_at lw_m8 180 rfl) rfl
theorem q1978 : (Jvm.Cond.code ({ cls := "KernelGym$Machine", name := "logged", desc := "(I)I" } : Jvm.MethodName) prog_16_method_7_code (4 : Nat) (Option.some Jvm.ClassFile.FieldType.int)) ∈ lw_all := lw_g (lw_at lw_m8 181 rfl) rfl
theorem q1979 : (Jvm.Cond.methodLinkNest "KernelGym$Machine" (70 : Nat) ({ cls := "KernelGym", name := "cut", desc := "(J)I" } : Jvm.MethodName) "KernelGym") ∈ lw_tbl := lw_at lw_m8 182 rfl
theorem q1980 : (Jvm.Cond.methodLink "KernelGym$Machine" (64 : Nat) ({ cls := "java/lang/System", name := "arraycopy", desc := "(Ljava/lang/Object;ILjava/lang/Object;II)V" } : Jvm.MethodName)) ∈ lw_all := lw_g (lw_at lw_m8 183 rfl) rfl
theorem q1981 : (Jvm.Cond.methodLink "KernelGym$Machine" (78 : Nat) ({ cls := "KernelGym$Machine", name := "begin", desc := "([I)V" } : Jvm.MethodName)) ∈ lw_all := lw_g (lw_at lw_m8 184 rfl) rfl
theorem q1982 : (Jvm.Cond.privateMethod ({ cls := "KernelGym$Machine", name := "begin", desc := "([I)V" } : Jvm.MethodName)) ∈ lw_tbl := lw_at lw_m8 185 rfl
theorem q1983 : (Jvm.Cond.instanceMethod ({ cls := "KernelGym$Machine", name := "begin", desc := "([I)V" } : Jvm.MethodName)) ∈ lw_all := lw_g (lw_at lw_m8 186 rfl) rfl
theorem q1984 : (Jvm.Cond.code ({ cls := "KernelGym$Machine", name := "begin", desc := "([I)V" } : Jvm.MethodName) prog_16_method_9_code (2 : Nat) (Option.none : Option Jvm.ClassFile.FieldType)) ∈ lw_all := lw_g (lw_at lw_m8 187 rfl) rfl
theorem q1993 : (Jvm.Cond.instanceMethod ({ cls := "KernelGym$Machine", name := "crash", desc := "()I" } : Jvm.MethodName)) ∈ lw_all := lw_g (lw_at lw_m8 196 rfl) rfl
theorem q1994 : (Jvm.Cond.selects "KernelGym$Machine" ({ cls := "KernelGym$Machine", name := "crash", desc := "()I" } : Jvm.MethodName) ({ cls := "KernelGym$Machine", name := "crash", desc := "()I" } : Jvm.MethodName)) ∈ lw_all := lw_g (lw_at lw_m8 197 rfl) rfl
theorem q1995 : (Jvm.Cond.code ({ cls := "KernelGym$Machine", name := "crash", desc := "()I" } : Jvm.MethodName) prog_16_method_10_code (3 : Nat) (Option.some Jvm.ClassFile.FieldType.int)) ∈ lw_all := lw_g (lw_at lw_m8 198 rfl) rfl
theorem q1996 : (Jvm.Cond.methodLink "KernelGym$Machine" (82 : Nat) ({ cls := "java/util/LinkedList", name := "clear", desc := "()V" } : Jvm.MethodName)) ∈ lw_all := lw_g (lw_at lw_m8 199 rfl) rfl
theorem q1997 : (Jvm.Cond.methodLink "KernelGym$Machine" (85 : Nat) ({ cls := "java/util/ArrayDeque", name := "clear", desc := "()V" } : Jvm.MethodName)) ∈ lw_all := lw_g (lw_at lw_m8 200 rfl) rfl
theorem q2021 : (Jvm.Cond.instanceMethod ({ cls := "KernelGym$Machine", name := "goesOn", desc := "()Z" } : Jvm.MethodName)) ∈ lw_all := lw_g (lw_at lw_m8 224 rfl) rfl
theorem q2022 : (Jvm.Cond.selects "KernelGym$Machine" ({ cls := "KernelGym$Machine", name := "goesOn", desc := "()Z" } : Jvm.MethodName) ({ cls := "KernelGym$Machine", name := "goesOn", desc := "()Z" } : Jvm.MethodName)) ∈ lw_all := lw_g (lw_at lw_m8 225 rfl) rfl
theorem q2023 : (Jvm.Cond.code ({ cls := "KernelGym$Machine", name := "goesOn", desc := "()Z" } : Jvm.MethodName) prog_16_method_4_code (1 : Nat) (Option.some Jvm.ClassFile.FieldType.boolean)) ∈ lw_all := lw_g (lw_at lw_m8 226 rfl) rfl
theorem q2025 : (Jvm.Cond.instanceMethod ({ cls := "KernelGym$Machine", name := "make", desc := "()V" } : Jvm.MethodName)) ∈ lw_all := lw_g (lw_at lw_m8 228 rfl) rfl
theorem q2026 : (Jvm.Cond.selects "KernelGym$Machine" ({ cls := "KernelGym$Machine", name := "make", desc := "()V" } : Jvm.MethodName) ({ cls := "KernelGym$Machine", name := "make", desc := "()V" } : Jvm.MethodName)) ∈ lw_all := lw_g (lw_at lw_m8 229 rfl) rfl
theorem q2027 : (Jvm.Cond.codeWith ({ cls := "KernelGym$Machine", name := "make", desc := "()V" } : Jvm.MethodName) prog_16_method_14_code (2 : Nat) (Option.none : Option Jvm.ClassFile.FieldType) [((50 : Nat), (54 : Nat), (57 : Nat), (147 : Nat)), ((50 : Nat), (54 : Nat), (57 : Nat), (149 : Nat)), ((50 : Nat), (54 : Nat), (77 : Nat), (155 : Nat)), ((50 : Nat), (54 : Nat), (77 : Nat), (157 : Nat))]) ∈ lw_all := lw_g (lw_at lw_m8 230 rfl) rfl
theorem q2028 : (Jvm.Cond.classLink "KernelGym$Machine" (147 : Nat) "KernelGym$NoAddress") ∈ lw_all := lw_g (lw_at lw_m8 231 rfl) rfl
theorem q2029 : (Jvm.Cond.classLink "KernelGym$Machine" (149 : Nat) "KernelGym$NoOperation") ∈ lw_all := lw_g (lw_at lw_m8 232 rfl) rfl
theorem q2030 : (Jvm.Cond.classLink "KernelGym$Machine" (155 : Nat) "KernelGym$NoStack") ∈ lw_all := lw_g (lw_at lw_m8 233 rfl) rfl
theorem q2031 : (Jvm.Cond.classLink "KernelGym$Machine" (157 : Nat) "KernelGym$NoTape") ∈ lw_all := lw_g (lw_at lw_m8 234 rfl) rfl
theorem q2032 : (Jvm.Cond.classLink "KernelGym$Machine" (55 : Nat) "KernelGym$Step") ∈ lw_all := lw_g (lw_at lw_m8 235 rfl) rfl
theorem q2034 : (Jvm.Cond.methodLinkNest "KernelGym$Machine" (136 : Nat) ({ cls := "KernelGym$Step", name := "<init>", desc := "()V" } : Jvm.MethodName) "KernelGym") ∈ lw_tbl := lw_at lw_m8 237 rfl
theorem q2039 : (Jvm.Cond.fieldLinkNest "KernelGym$Machine" (281 : Nat) "KernelGym$Step" "row" "[I" "KernelGym") ∈ lw_tbl := lw_at lw_m9 2 rfl
theorem q2041 : (Jvm.Cond.fieldLinkNest "KernelGym$Machine" (279 : Nat) "KernelGym$Step" "size" "I" "KernelGym") ∈ lw_tbl := lw_at lw_m9 4 rfl
theorem q2047 : (Jvm.Cond.methodLink "KernelGym$Machine" (137 : Nat) ({ cls := "java/util/ArrayDeque", name := "addLast", desc := "(Ljava/lang/Object;)V" } : Jvm.MethodName)) ∈ lw_all := lw_g (lw_at lw_m9 10 rfl) rfl
theorem q2069 : (Jvm.Cond.methodLink "KernelGym$Machine" (140 : Nat) ({ cls := "java/util/ArrayDeque", name := "size", desc := "()I" } : Jvm.MethodName)) ∈ lw_all := lw_g (lw_at lw_m9 32 rfl) rfl
theorem q2070 : (Jvm.Cond.methodLink "KernelGym$Machine" (141 : Nat) ({ cls := "java/util/ArrayDeque", name := "removeFirst", desc := "()Ljava/lang/Object;" } : Jvm.MethodName)) ∈ lw_all := lw_g (lw_at lw_m9 33 rfl) rfl
theorem q2083 : (Jvm.Cond.methodLink "KernelGym$Machine" (144 : Nat) ({ cls := "KernelGym$Machine", name := "act", desc := "()V" } : Jvm.MethodName)) ∈ lw_all := lw_g (lw_at lw_m9 46 rfl) rfl
theorem q2084 : (Jvm.Cond.privateMethod ({ cls := "KernelGym$Machine", name := "act", desc := "()V" } : Jvm.MethodName)) ∈ lw_tbl := lw_at lw_m9 47 rfl
theorem q2085 : (Jvm.Cond.instanceMethod ({ cls := "KernelGym$Machine", name := "act", desc := "()V" } : Jvm.MethodName)) ∈ lw_all := lw_g (lw_at lw_m9 48 rfl) rfl
theorem q2086 : (Jvm.Cond.code ({ cls := "KernelGym$Machine", name := "act", desc := "()V" } : Jvm.MethodName) prog_16_method_18_code (1 : Nat) (Option.none : Option Jvm.ClassFile.FieldType)) ∈ lw_all := lw_g (lw_at lw_m9 49 rfl) rfl
theorem q2087 : (Jvm.Cond.methodLink "KernelGym$Machine" (162 : Nat) ({ cls := "KernelGym$Machine", name := "write", desc := "()V" } : Jvm.MethodName)) ∈ lw_all := lw_g (lw_at lw_m9 50 rfl) rfl
theorem q2088 : (Jvm.Cond.privateMethod ({ cls := "KernelGym$Machine", name := "write", desc := "()V" } : Jvm.MethodName)) ∈ lw_tbl := lw_at lw_m9 51 rfl
theorem q2089 : (Jvm.Cond.instanceMethod ({ cls := "KernelGym$Machine", name := "write", desc := "()V" } : Jvm.MethodName)) ∈ lw_all := lw_g (lw_at lw_m9 52 rfl) rfl
theorem q2090 : (Jvm.Cond.code ({ cls := "KernelGym$Machine", name := "write", desc := "()V" } : Jvm.MethodName) prog_16_method_46_code (3 : Nat) (Option.none : Option Jvm.ClassFile.FieldType)) ∈ lw_all := lw_g (lw_at lw_m9 53 rfl) rfl
theorem q2091 : (Jvm.Cond.methodLink "KernelGym$Machine" (259 : Nat) ({ cls := "KernelGym$Machine", name := "writeBlock", desc := "(II)V" } : Jvm.MethodName)) ∈ lw_all := lw_g (lw_at lw_m9 54 rfl) rfl
theorem q2092 : (Jvm.Cond.privateMethod ({ cls := "KernelGym$Machine", name := "writeBlock", desc := "(II)V" } : Jvm.MethodName)) ∈ lw_tbl := lw_at lw_m9 55 rfl
theorem q2093 : (Jvm.Cond.instanceMethod ({ cls := "KernelGym$Machine", name := "writeBlock", desc := "(II)V" } : Jvm.MethodName)) ∈ lw_all := lw_g (lw_at lw_m9 56 rfl) rfl
theorem q2094 : (Jvm.Cond.code ({ cls := "KernelGym$Machine", name := "writeBlock", desc := "(II)V" } : Jvm.MethodName) prog_16_method_44_code (4 : Nat) (Option.none : Option Jvm.ClassFile.FieldType)) ∈ lw_all := lw_g (lw_at lw_m9 57 rfl) rfl
theorem q2095 : (Jvm.Cond.methodLink "KernelGym$Machine" (133 : Nat) ({ cls := "KernelGym$Machine", name := "set", desc := "(II)V" } : Jvm.MethodName)) ∈ lw_all := lw_g (lw_at lw_m9 58 rfl) rfl
theorem q2096 : (Jvm.Cond.privateMethod ({ cls := "KernelGym$Machine", name := "set", desc := "(II)V" } : Jvm.MethodName)) ∈ lw_tbl := lw_at lw_m9 59 rfl
theorem q2097 : (Jvm.Cond.instanceMethod ({ cls := "KernelGym$Machine", name := "set", desc := "(II)V" } : Jvm.MethodName)) ∈ lw_all := lw_g (lw_at lw_m9 60 rfl) rfl
theorem q2098 : (Jvm.Cond.code ({ cls := "KernelGym$Machine", name := "set", desc := "(II)V" } : Jvm.MethodName) prog_16_method_2_code (3 : Nat) (Option.none : Option Jvm.ClassFile.FieldType)) ∈ lw_all := lw_g (lw_at lw_m9 61 rfl) rfl
theorem q2099 : (Jvm.Cond.methodLink "KernelGym$Machine" (54 : Nat) ({ cls := "KernelGym$Step", name := "note", desc := "(II)V" } : Jvm.MethodName)) ∈ lw_all := lw_g (lw_at lw_m9 62 rfl) rfl
theorem q2104 : (Jvm.Cond.methodLink "KernelGym$Machine" (262 : Nat) ({ cls := "KernelGym$Machine", name := "writeHead", desc := "(I)V" } : Jvm.MethodName)) ∈ lw_all := lw_g (lw_at lw_m9 67 rfl) rfl
theorem q2105 : (Jvm.Cond.privateMethod ({ cls := "KernelGym$Machine", name := "writeHead", desc := "(I)V" } : Jvm.MethodName)) ∈ lw_tbl := lw_at lw_m9 68 rfl
theorem q2106 : (Jvm.Cond.instanceMethod ({ cls := "KernelGym$Machine", name := "writeHead", desc := "(I)V" } : Jvm.MethodName)) ∈ lw_all := lw_g (lw_at lw_m9 69 rfl) rfl
theorem q2107 : (Jvm.Cond.code ({ cls := "KernelGym$Machine", name := "writeHead", desc := "(I)V" } : Jvm.MethodName) prog_16_method_45_code (5 : Nat) (Option.none : Option Jvm.ClassFile.FieldType)) ∈ lw_all := lw_g (lw_at lw_m9 70 rfl) rfl
theorem q2108 : (Jvm.Cond.methodLink "KernelGym$Machine" (165 : Nat) ({ cls := "KernelGym$Machine", name := "isWaiting", desc := "()Z" } : Jvm.MethodName)) ∈ lw_all := lw_g (lw_at lw_m9 71 rfl) rfl
theorem q2109 : (Jvm.Cond.privateMethod ({ cls := "KernelGym$Machine", name := "isWaiting", desc := "()Z" } : Jvm.MethodName)) ∈ lw_tbl := lw_at lw_m9 72 rfl
theorem q2110 : (Jvm.Cond.instanceMethod ({ cls := "KernelGym$Machine", name := "isWaiting", desc := "()Z" } : Jvm.MethodName)) ∈ lw_all := lw_g (lw_at lw_m9 73 rfl) rfl
theorem q2111 : (Jvm.Cond.code ({ cls := "KernelGym$Machine", name := "isWaiting", desc := "()Z" } : Jvm.MethodName) prog_16_method_17_code (1 : Nat) (Option.some Jvm.ClassFile.FieldType.boolean)) ∈ lw_all := lw_g (lw_at lw_m9 74 rfl) rfl
theorem q2112 : (Jvm.Cond.methodLink "KernelGym$Machine" (168 : Nat) ({ cls := "KernelGym$Machine", name := "interrupt", desc := "()V" } : Jvm.MethodName)) ∈ lw_all := lw_g (lw_at lw_m9 75 rfl) rfl
theorem q2113 : (Jvm.Cond.privateMethod ({ cls := "KernelGym$Machine", name := "interrupt", desc := "()V" } : Jvm.MethodName)) ∈ lw_tbl := lw_at lw_m9 76 rfl
theorem q2114 : (Jvm.Cond.instanceMethod ({ cls := "KernelGym$Machine", name := "interrupt", desc := "()V" } : Jvm.MethodName)) ∈ lw_all := lw_g (lw_at lw_m9 77 rfl) rfl
theorem q2115 : (Jvm.Cond.code ({ cls := "KernelGym$Machine", name := "interrupt", desc := "()V" } : Jvm.MethodName) prog_16_method_23_code (2 : Nat) (Option.none : Option Jvm.ClassFile.FieldType)) ∈ lw_all := lw_g (lw_at lw_m9 78 rfl) rfl
theorem q2116 : (Jvm.Cond.methodLink "KernelGym$Machine" (176 : Nat) ({ cls := "KernelGym$Machine", name := "room", desc := "(I)V" } : Jvm.MethodName)) ∈ lw_all := lw_g (lw_at lw_m9 79 rfl) rfl
theorem q2117 : (Jvm.Cond.privateMethod ({ cls := "KernelGym$Machine", name := "room", desc := "(I)V" } : Jvm.MethodName)) ∈ lw_tbl := lw_at lw_m9 80 rfl
theorem q2118 : (Jvm.Cond.instanceMethod ({ cls := "KernelGym$Machine", name := "room", desc := "(I)V" } : Jvm.MethodName)) ∈ lw_all := lw_g (lw_at lw_m9 81 rfl) rfl
theorem q2119 : (Jvm.Cond.code ({ cls := "KernelGym$Machine", name := "room", desc := "(I)V" } : Jvm.MethodName) prog_16_method_19_code (2 : Nat) (Option.none : Option Jvm.ClassFile.FieldType)) ∈ lw_all := lw_g (lw_at lw_m9 82 rfl) rfl
theorem q2128 : (Jvm.Cond.methodLink "KernelGym$Machine" (174 : Nat) ({ cls := "KernelGym$NoStack", name := "<init>", desc := "(I)V" } : Jvm.MethodName)) ∈ lw_all := lw_g (lw_at lw_m9 91 rfl) rfl
theorem q2140 : (Jvm.Cond.methodLink "KernelGym$Machine" (179 : Nat) ({ cls := "KernelGym$Machine", name := "push", desc := "(I)V" } : Jvm.MethodName)) ∈ lw_all := lw_g (lw_at lw_m9 103 rfl) rfl
theorem q2141 : (Jvm.Cond.privateMethod ({ cls := "KernelGym$Machine", name := "push", desc := "(I)V" } : Jvm.MethodName)) ∈ lw_tbl := lw_at lw_m9 104 rfl
theorem q2142 : (Jvm.Cond.instanceMethod ({ cls := "KernelGym$Machine", name := "push", desc := "(I)V" } : Jvm.MethodName)) ∈ lw_all := lw_g (lw_at lw_m9 105 rfl) rfl
theorem q2143 : (Jvm.Cond.code ({ cls := "KernelGym$Machine", name := "push", desc := "(I)V" } : Jvm.MethodName) prog_16_method_21_code (2 : Nat) (Option.none : Option Jvm.ClassFile.FieldType)) ∈ lw_all := lw_g (lw_at lw_m9 106 rfl) rfl
theorem q2144 : (Jvm.Cond.methodLink "KernelGym$Machine" (171 : Nat) ({ cls := "KernelGym$Machine", name := "instruct", desc := "()V" } : Jvm.MethodName)) ∈ lw_all := lw_g (lw_at lw_m9 107 rfl) rfl
theorem q2145 : (Jvm.Cond.privateMethod ({ cls := "KernelGym$Machine", name := "instruct", desc := "()V" } : Jvm.MethodName)) ∈ lw_tbl := lw_at lw_m9 108 rfl
theorem q2146 : (Jvm.Cond.instanceMethod ({ cls := "KernelGym$Machine", name := "instruct", desc := "()V" } : Jvm.MethodName)) ∈ lw_all := lw_g (lw_at lw_m9 109 rfl) rfl
theorem q2147 : (Jvm.Cond.code ({ cls := "KernelGym$Machine", name := "instruct", desc := "()V" } : Jvm.MethodName) prog_16_method_25_code (8 : Nat) (Option.none : Option Jvm.ClassFile.FieldType)) ∈ lw_all := lw_g (lw_at lw_m9 110 rfl) rfl
theorem q2148 : (Jvm.Cond.methodLink "KernelGym$Machine" (183 : Nat) ({ cls := "KernelGym$Machine", name := "address", desc := "(I)I" } : Jvm.MethodName)) ∈ lw_all := lw_g (lw_at lw_m9 111 rfl) rfl
theorem q2149 : (Jvm.Cond.static ({ cls := "KernelGym$Machine", name := "address", desc := "(I)I" } : Jvm.MethodName)) ∈ lw_all := lw_g (lw_at lw_m9 112 rfl) rfl
theorem q2150 : (Jvm.Cond.code ({ cls := "KernelGym$Machine", name := "address", desc := "(I)I" } : Jvm.MethodName) prog_16_method_24_code (1 : Nat) (Option.some Jvm.ClassFile.FieldType.int)) ∈ lw_all := lw_g (lw_at lw_m9 113 rfl) rfl
theorem q2159 : (Jvm.Cond.methodLink "KernelGym$Machine" (182 : Nat) ({ cls := "KernelGym$NoAddress", name := "<init>", desc := "(I)V" } : Jvm.MethodName)) ∈ lw_all := lw_g (lw_at lw_m9 122 rfl) rfl
theorem q2179 : (Jvm.Cond.methodLink "KernelGym$Machine" (186 : Nat) ({ cls := "KernelGym$NoOperation", name := "<init>", desc := "(I)V" } : Jvm.MethodName)) ∈ lw_all := lw_g (lw_at lw_m9 142 rfl) rfl
theorem q2191 : (Jvm.Cond.methodLink "KernelGym$Machine" (187 : Nat) ({ cls := "KernelGym$Machine", name := "reckon", desc := "(III)V" } : Jvm.MethodName)) ∈ lw_all := lw_g (lw_at lw_m9 154 rfl) rfl
theorem q2192 : (Jvm.Cond.privateMethod ({ cls := "KernelGym$Machine", name := "reckon", desc := "(III)V" } : Jvm.MethodName)) ∈ lw_tbl := lw_at lw_m9 155 rfl
theorem q2193 : (Jvm.Cond.instanceMethod ({ cls := "KernelGym$Machine", name := "reckon", desc := "(III)V" } : Jvm.MethodName)) ∈ lw_all := lw_g (lw_at lw_m9 156 rfl) rfl
theorem q2194 : (Jvm.Cond.code ({ cls := "KernelGym$Machine", name := "reckon", desc := "(III)V" } : Jvm.MethodName) prog_16_method_26_code (7 : Nat) (Option.none : Option Jvm.ClassFile.FieldType)) ∈ lw_all := lw_g (lw_at lw_m9 157 rfl) rfl
theorem q2195 : (Jvm.Cond.constantLong "KernelGym$Machine" (198 : Nat) (65535 : Int64)) ∈ lw_all := lw_g (lw_at lw_m9 158 rfl) rfl
theorem q2196 : (Jvm.Cond.methodLink "KernelGym$Machine" (191 : Nat) ({ cls := "KernelGym$Machine", name := "move", desc := "(IIII)I" } : Jvm.MethodName)) ∈ lw_all := lw_g (lw_at lw_m9 159 rfl) rfl
theorem q2197 : (Jvm.Cond.privateMethod ({ cls := "KernelGym$Machine", name := "move", desc := "(IIII)I" } : Jvm.MethodName)) ∈ lw_tbl := lw_at lw_m9 160 rfl
theorem q2198 : (Jvm.Cond.instanceMethod ({ cls := "KernelGym$Machine", name := "move", desc := "(IIII)I" } : Jvm.MethodName)) ∈ lw_all := lw_g (lw_at lw_m9 161 rfl) rfl
theorem q2199 : (Jvm.Cond.code ({ cls := "KernelGym$Machine", name := "move", desc := "(IIII)I" } : Jvm.MethodName) prog_16_method_27_code (5 : Nat) (Option.some Jvm.ClassFile.FieldType.int)) ∈ lw_all := lw_g (lw_at lw_m9 162 rfl) rfl
theorem q2200 : (Jvm.Cond.methodLink "KernelGym$Machine" (200 : Nat) ({ cls := "KernelGym$Machine", name := "held", desc := "(I)V" } : Jvm.MethodName)) ∈ lw_all := lw_g (lw_at lw_m9 163 rfl) rfl
theorem q2201 : (Jvm.Cond.privateMethod ({ cls := "KernelGym$Machine", name := "held", desc := "(I)V" } : Jvm.MethodName)) ∈ lw_tbl := lw_at lw_m9 164 rfl
theorem q2202 : (Jvm.Cond.instanceMethod ({ cls := "KernelGym$Machine", name := "held", desc := "(I)V" } : Jvm.MethodName)) ∈ lw_all := lw_g (lw_at lw_m9 165 rfl) rfl
theorem q2203 : (Jvm.Cond.code ({ cls := "KernelGym$Machine", name := "held", desc := "(I)V" } : Jvm.MethodName) prog_16_method_20_code (2 : Nat) (Option.none : Option Jvm.ClassFile.FieldType)) ∈ lw_all := lw_g (lw_at lw_m9 166 rfl) rfl
theorem q2204 : (Jvm.Cond.methodLink "KernelGym$Machine" (203 : Nat) ({ cls := "KernelGym$Machine", name := "pull", desc := "()I" } : Jvm.MethodName)) ∈ lw_all := lw_g (lw_at lw_m9 167 rfl) rfl
theorem q2205 : (Jvm.Cond.privateMethod ({ cls := "KernelGym$Machine", name := "pull", desc := "()I" } : Jvm.MethodName)) ∈ lw_tbl := lw_at lw_m9 168 rfl
theorem q2206 : (Jvm.Cond.instanceMethod ({ cls := "KernelGym$Machine", name := "pull", desc := "()I" } : Jvm.MethodName)) ∈ lw_all := lw_g (lw_at lw_m9 169 rfl) rfl
theorem q2207 : (Jvm.Cond.code ({ cls := "KernelGym$Machine", name := "pull", desc := "()I" } : Jvm.MethodName) prog_16_method_22_code (2 : Nat) (Option.some Jvm.ClassFile.FieldType.int)) ∈ lw_all := lw_g (lw_at lw_m9 170 rfl) rfl
theorem q2208 : (Jvm.Cond.methodLink "KernelGym$Machine" (195 : Nat) ({ cls := "KernelGym$Machine", name := "serve", desc := "(IIII)I" } : Jvm.MethodName)) ∈ lw_all := lw_g (lw_at lw_m9 171 rfl) rfl
theorem q2209 : (Jvm.Cond.privateMethod ({ cls := "KernelGym$Machine", name := "serve", desc := "(IIII)I" } : Jvm.MethodName)) ∈ lw_tbl := lw_at lw_m9 172 rfl
theorem q2210 : (Jvm.Cond.instanceMethod ({ cls := "KernelGym$Machine", name := "serve", desc := "(IIII)I" } : Jvm.MethodName)) ∈ lw_all := lw_g (lw_at lw_m9 173 rfl) rfl
theorem q2211 : (Jvm.Cond.code ({ cls := "KernelGym$Machine", name := "serve", desc := "(IIII)I" } : Jvm.MethodName) prog_16_method_28_code (6 : Nat) (Option.some Jvm.ClassFile.FieldType.int)) ∈ lw_all := lw_g (lw_at lw_m9 174 rfl) rfl
theorem q2212 : (Jvm.Cond.methodLink "KernelGym$Machine" (206 : Nat) ({ cls := "KernelGym$Machine", name := "read", desc := "()I" } : Jvm.MethodName)) ∈ lw_all := lw_g (lw_at lw_m9 175 rfl) rfl
theorem q2213 : (Jvm.Cond.privateMethod ({ cls := "KernelGym$Machine", name := "read", desc := "()I" } : Jvm.MethodName)) ∈ lw_tbl := lw_at lw_m9 176 rfl
theorem q2214 : (Jvm.Cond.instanceMethod ({ cls := "KernelGym$Machine", name := "read", desc := "()I" } : Jvm.MethodName)) ∈ lw_all := lw_g (lw_at lw_m9 177 rfl) rfl
theorem q2215 : (Jvm.Cond.code ({ cls := "KernelGym$Machine", name := "read", desc := "()I" } : Jvm.MethodName) prog_16_method_13_code (2 : Nat) (Option.some Jvm.ClassFile.FieldType.int)) ∈ lw_all := lw_g (lw_at lw_m9 178 rfl) rfl
theorem q2216 : (Jvm.Cond.methodLink "KernelGym$Machine" (125 : Nat) ({ cls := "KernelGym$Machine", name := "told", desc := "(II)I" } : Jvm.MethodName)) ∈ lw_all := lw_g (lw_at lw_m9 179 rfl) rfl
theorem q2217 : (Jvm.Cond.privateMethod ({ cls := "KernelGym$Machine", name := "told", desc := "(II)I" } : Jvm.MethodName)) ∈ lw_tbl := lw_at lw_m9 180 rfl
theorem q2218 : (Jvm.Cond.instanceMethod ({ cls := "KernelGym$Machine", name := "told", desc := "(II)I" } : Jvm.MethodName)) ∈ lw_all := lw_g (lw_at lw_m9 181 rfl) rfl
theorem q2219 : (Jvm.Cond.code ({ cls := "KernelGym$Machine", name := "told", desc := "(II)I" } : Jvm.MethodName) prog_16_method_12_code (6 : Nat) (Option.some Jvm.ClassFile.FieldType.int)) ∈ lw_all := lw_g (lw_at lw_m9 182 rfl) rfl
theorem q2220 : (Jvm.Cond.methodLink "KernelGym$Machine" (86 : Nat) ({ cls := "java/util/LinkedList", name := "size", desc := "()I" } : Jvm.MethodName)) ∈ lw_all := lw_g (lw_at lw_m9 183 rfl) rfl
theorem q2221 : (Jvm.Cond.methodLink "KernelGym$Machine" (121 : Nat) ({ cls := "java/util/LinkedList", name := "get", desc := "(I)Ljava/lang/Object;" } : Jvm.MethodName)) ∈ lw_all := lw_g (lw_at lw_m9 184 rfl) rfl
theorem q2222 : (Jvm.Cond.classLink "KernelGym$Machine" (103 : Nat) "KernelGym$Key") ∈ lw_all := lw_g (lw_at lw_m9 185 rfl) rfl
theorem q2223 : (Jvm.Cond.constant "KernelGym$Machine" (129 : Nat) (65535 : Int32)) ∈ lw_all := lw_g (lw_at lw_m9 186 rfl) rfl
theorem q2232 : (Jvm.Cond.methodLink "KernelGym$Machine" (209 : Nat) ({ cls := "KernelGym$NoTape", name := "<init>", desc := "()V" } : Jvm.MethodName)) ∈ lw_all := lw_g (lw_at lw_m9 195 rfl) rfl
theorem q2239 : (Jvm.Cond.methodLink "KernelGym$Machine" (210 : Nat) ({ cls := "KernelGym$Machine", name := "call", desc := "(I)Z" } : Jvm.MethodName)) ∈ lw_all := lw_g (lw_at lw_m9 202 rfl) rfl
theorem q2240 : (Jvm.Cond.privateMethod ({ cls := "KernelGym$Machine", name := "call", desc := "(I)Z" } : Jvm.MethodName)) ∈ lw_tbl := lw_at lw_m9 203 rfl
theorem q2241 : (Jvm.Cond.instanceMethod ({ cls := "KernelGym$Machine", name := "call", desc := "(I)Z" } : Jvm.MethodName)) ∈ lw_all := lw_g (lw_at lw_m9 204 rfl) rfl
theorem q2242 : (Jvm.Cond.code ({ cls := "KernelGym$Machine", name := "call", desc := "(I)Z" } : Jvm.MethodName) prog_16_method_42_code (5 : Nat) (Option.some Jvm.ClassFile.FieldType.boolean)) ∈ lw_all := lw_g (lw_at lw_m9 205 rfl) rfl
theorem q2243 : (Jvm.Cond.methodLink "KernelGym$Machine" (256 : Nat) ({ cls := "KernelGym$Machine", name := "plan", desc := "(I)I" } : Jvm.MethodName)) ∈ lw_all := lw_g (lw_at lw_m9 206 rfl) rfl
theorem q2244 : (Jvm.Cond.privateMethod ({ cls := "KernelGym$Machine", name := "plan", desc := "(I)I" } : Jvm.MethodName)) ∈ lw_tbl := lw_at lw_m9 207 rfl
theorem q2245 : (Jvm.Cond.instanceMethod ({ cls := "KernelGym$Machine", name := "plan", desc := "(I)I" } : Jvm.MethodName)) ∈ lw_all := lw_g (lw_at lw_m9 208 rfl) rfl
theorem q2246 : (Jvm.Cond.code ({ cls := "KernelGym$Machine", name := "plan", desc := "(I)I" } : Jvm.MethodName) prog_16_method_40_code (6 : Nat) (Option.some Jvm.ClassFile.FieldType.int)) ∈ lw_all := lw_g (lw_at lw_m9 209 rfl) rfl
theorem q2247 : (Jvm.Cond.methodLink "KernelGym$Machine" (240 : Nat) ({ cls := "KernelGym$Machine", name := "named", desc := "(I)I" } : Jvm.MethodName)) ∈ lw_all := lw_g (lw_at lw_m9 210 rfl) rfl
theorem q2248 : (Jvm.Cond.privateMethod ({ cls := "KernelGym$Machine", name := "named", desc := "(I)I" } : Jvm.MethodName)) ∈ lw_tbl := lw_at lw_m9 211 rfl
theorem q2249 : (Jvm.Cond.instanceMethod ({ cls := "KernelGym$Machine", name := "named", desc := "(I)I" } : Jvm.MethodName)) ∈ lw_all := lw_g (lw_at lw_m9 212 rfl) rfl
theorem q2250 : (Jvm.Cond.code ({ cls := "KernelGym$Machine", name := "named", desc := "(I)I" } : Jvm.MethodName) prog_16_method_32_code (2 : Nat) (Option.some Jvm.ClassFile.FieldType.int)) ∈ lw_all := lw_g (lw_at lw_m9 213 rfl) rfl
theorem q2251 : (Jvm.Cond.methodLink "KernelGym$Machine" (234 : Nat) ({ cls := "KernelGym$Machine", name := "setEntry", desc := "(III)V" } : Jvm.MethodName)) ∈ lw_all := lw_g (lw_at lw_m9 214 rfl) rfl
theorem q2252 : (Jvm.Cond.privateMethod ({ cls := "KernelGym$Machine", name := "setEntry", desc := "(III)V" } : Jvm.MethodName)) ∈ lw_tbl := lw_at lw_m9 215 rfl
theorem q2253 : (Jvm.Cond.instanceMethod ({ cls := "KernelGym$Machine", name := "setEntry", desc := "(III)V" } : Jvm.MethodName)) ∈ lw_all := lw_g (lw_at lw_m9 216 rfl) rfl
theorem q2254 : (Jvm.Cond.code ({ cls := "KernelGym$Machine", name := "setEntry", desc := "(III)V" } : Jvm.MethodName) prog_16_method_36_code (4 : Nat) (Option.none : Option Jvm.ClassFile.FieldType)) ∈ lw_all := lw_g (lw_at lw_m9 217 rfl) rfl
theorem q2255 : (Jvm.Cond.methodLink "KernelGym$Machine" (226 : Nat) ({ cls := "KernelGym$Machine", name := "draft", desc := "(I)[I" } : Jvm.MethodName)) ∈ lw_all := lw_g (lw_at lw_m9 218 rfl) rfl
theorem q2256 : (Jvm.Cond.privateMethod ({ cls := "KernelGym$Machine", name := "draft", desc := "(I)[I" } : Jvm.MethodName)) ∈ lw_tbl := lw_at lw_m9 219 rfl
theorem q2257 : (Jvm.Cond.instanceMethod ({ cls := "KernelGym$Machine", name := "draft", desc := "(I)[I" } : Jvm.MethodName)) ∈ lw_all := lw_g (lw_at lw_m9 220 rfl) rfl
theorem q2258 : (Jvm.Cond.code ({ cls := "KernelGym$Machine", name := "draft", desc := "(I)[I" } : Jvm.MethodName) prog_16_method_35_code (5 : Nat) (Option.some (Jvm.ClassFile.FieldType.array Jvm.ClassFile.FieldType.int))) ∈ lw_all := lw_g (lw_at lw_m9 221 rfl) rfl
theorem q2259 : (Jvm.Cond.methodLink "KernelGym$Machine" (243 : Nat) ({ cls := "KernelGym$Machine", name := "append", desc := "(II)I" } : Jvm.MethodName)) ∈ lw_all := lw_g (lw_at lw_m9 222 rfl) rfl
theorem q2260 : (Jvm.Cond.privateMethod ({ cls := "KernelGym$Machine", name := "append", desc := "(II)I" } : Jvm.MethodName)) ∈ lw_tbl := lw_at lw_m9 223 rfl
theorem q2261 : (Jvm.Cond.instanceMethod ({ cls := "KernelGym$Machine", name := "append", desc := "(II)I" } : Jvm.MethodName)) ∈ lw_all := lw_g (lw_at lw_m9 224 rfl) rfl
theorem q2262 : (Jvm.Cond.code ({ cls := "KernelGym$Machine", name := "append", desc := "(II)I" } : Jvm.MethodName) prog_16_method_39_code (9 : Nat) (Option.some Jvm.ClassFile.FieldType.int)) ∈ lw_all := lw_g (lw_at lw_m9 225 rfl) rfl
theorem q2263 : (Jvm.Cond.methodLink "KernelGym$Machine" (237 : Nat) ({ cls := "KernelGym$Machine", name := "firstFree", desc := "()I" } : Jvm.MethodName)) ∈ lw_all := lw_g (lw_at lw_m9 226 rfl) rfl
theorem q2264 : (Jvm.Cond.privateMethod ({ cls := "KernelGym$Machine", name := "firstFree", desc := "()I" } : Jvm.MethodName)) ∈ lw_tbl := lw_at lw_m9 227 rfl
theorem q2265 : (Jvm.Cond.instanceMethod ({ cls := "KernelGym$Machine", name := "firstFree", desc := "()I" } : Jvm.MethodName)) ∈ lw_all := lw_g (lw_at lw_m9 228 rfl) rfl
theorem q2266 : (Jvm.Cond.code ({ cls := "KernelGym$Machine", name := "firstFree", desc := "()I" } : Jvm.MethodName) prog_16_method_34_code (3 : Nat) (Option.some Jvm.ClassFile.FieldType.int)) ∈ lw_all := lw_g (lw_at lw_m9 229 rfl) rfl
theorem q2267 : (Jvm.Cond.methodLink "KernelGym$Machine" (230 : Nat) ({ cls := "KernelGym$Machine", name := "mark", desc := "(IZ)V" } : Jvm.MethodName)) ∈ lw_all := lw_g (lw_at lw_m9 230 rfl) rfl
theorem q2268 : (Jvm.Cond.privateMethod ({ cls := "KernelGym$Machine", name := "mark", desc := "(IZ)V" } : Jvm.MethodName)) ∈ lw_tbl := lw_at lw_m9 231 rfl
theorem q2269 : (Jvm.Cond.instanceMethod ({ cls := "KernelGym$Machine", name := "mark", desc := "(IZ)V" } : Jvm.MethodName)) ∈ lw_all := lw_g (lw_at lw_m9 232 rfl) rfl
theorem q2270 : (Jvm.Cond.code ({ cls := "KernelGym$Machine", name := "mark", desc := "(IZ)V" } : Jvm.MethodName) prog_16_method_37_code (5 : Nat) (Option.none : Option Jvm.ClassFile.FieldType)) ∈ lw_all := lw_g (lw_at lw_m9 233 rfl) rfl
theorem q2271 : (Jvm.Cond.methodLink "KernelGym$Machine" (246 : Nat) ({ cls := "KernelGym$Machine", name := "wordOf", desc := "(II)I" } : Jvm.MethodName)) ∈ lw_all := lw_g (lw_at lw_m9 234 rfl) rfl
theorem q2272 : (Jvm.Cond.instanceMethod ({ cls := "KernelGym$Machine", name := "wordOf", desc := "(II)I" } : Jvm.MethodName)) ∈ lw_all := lw_g (lw_at lw_m9 235 rfl) rfl
theorem q2273 : (Jvm.Cond.selects "KernelGym$Machine" ({ cls := "KernelGym$Machine", name := "wordOf", desc := "(II)I" } : Jvm.MethodName) ({ cls := "KernelGym$Machine", name := "wordOf", desc := "(II)I" } : Jvm.MethodName)) ∈ lw_all := lw_g (lw_at lw_m9 236 rfl) rfl
theorem q2274 : (Jvm.Cond.code ({ cls := "KernelGym$Machine", name := "wordOf", desc := "(II)I" } : Jvm.MethodName) prog_16_method_33_code (3 : Nat) (Option.some Jvm.ClassFile.FieldType.int)) ∈ lw_all := lw_g (lw_at lw_m9 237 rfl) rfl
theorem q2275 : (Jvm.Cond.methodLink "KernelGym$Machine" (249 : Nat) ({ cls := "KernelGym$Machine", name := "remove", desc := "(I)V" } : Jvm.MethodName)) ∈ lw_all := lw_g (lw_at lw_m9 238 rfl) rfl
theorem q2276 : (Jvm.Cond.privateMethod ({ cls := "KernelGym$Machine", name := "remove", desc := "(I)V" } : Jvm.MethodName)) ∈ lw_tbl := lw_at lw_m9 239 rfl
theorem q2277 : (Jvm.Cond.instanceMethod ({ cls := "KernelGym$Machine", name := "remove", desc := "(I)V" } : Jvm.MethodName)) ∈ lw_all := lw_g (lw_at lw_m10 0 rfl) rfl
theorem q2278 : (Jvm.Cond.code ({ cls := "KernelGym$Machine", name := "remove", desc := "(I)V" } : Jvm.MethodName) prog_16_method_38_code (3 : Nat) (Option.none : Option Jvm.ClassFile.FieldType)) ∈ lw_all := lw_g (lw_at lw_m10 1 rfl) rfl
theorem q2279 : (Jvm.Cond.methodLink "KernelGym$Machine" (252 : Nat) ({ cls := "KernelGym$Machine", name := "rename", desc := "(III)I" } : Jvm.MethodName)) ∈ lw_all := lw_g (lw_at lw_m10 2 rfl) rfl
theorem q2280 : (Jvm.Cond.privateMethod ({ cls := "KernelGym$Machine", name := "rename", desc := "(III)I" } : Jvm.MethodName)) ∈ lw_tbl := lw_at lw_m10 3 rfl
theorem q2281 : (Jvm.Cond.instanceMethod ({ cls := "KernelGym$Machine", name := "rename", desc := "(III)I" } : Jvm.MethodName)) ∈ lw_all := lw_g (lw_at lw_m10 4 rfl) rfl
theorem q2282 : (Jvm.Cond.code ({ cls := "KernelGym$Machine", name := "rename", desc := "(III)I" } : Jvm.MethodName) prog_16_method_41_code (5 : Nat) (Option.some Jvm.ClassFile.FieldType.int)) ∈ lw_all := lw_g (lw_at lw_m10 5 rfl) rfl
theorem q2283 : (Jvm.Cond.methodLink "KernelGym$Machine" (151 : Nat) ({ cls := "KernelGym$Machine", name := "stop", desc := "(I)V" } : Jvm.MethodName)) ∈ lw_all := lw_g (lw_at lw_m10 6 rfl) rfl
theorem q2284 : (Jvm.Cond.privateMethod ({ cls := "KernelGym$Machine", name := "stop", desc := "(I)V" } : Jvm.MethodName)) ∈ lw_tbl := lw_at lw_m10 7 rfl
theorem q2285 : (Jvm.Cond.instanceMethod ({ cls := "KernelGym$Machine", name := "stop", desc := "(I)V" } : Jvm.MethodName)) ∈ lw_all := lw_g (lw_at lw_m10 8 rfl) rfl
theorem q2286 : (Jvm.Cond.code ({ cls := "KernelGym$Machine", name := "stop", desc := "(I)V" } : Jvm.MethodName) prog_16_method_15_code (2 : Nat) (Option.none : Option Jvm.ClassFile.FieldType)) ∈ lw_all := lw_g (lw_at lw_m10 9 rfl) rfl
theorem q2287 : (Jvm.Cond.methodLink "KernelGym$Machine" (159 : Nat) ({ cls := "KernelGym$Machine", name := "pass", desc := "()V" } : Jvm.MethodName)) ∈ lw_all := lw_g (lw_at lw_m10 10 rfl) rfl
theorem q2288 : (Jvm.Cond.privateMethod ({ cls := "KernelGym$Machine", name := "pass", desc := "()V" } : Jvm.MethodName)) ∈ lw_tbl := lw_at lw_m10 11 rfl
theorem q2289 : (Jvm.Cond.instanceMethod ({ cls := "KernelGym$Machine", name := "pass", desc := "()V" } : Jvm.MethodName)) ∈ lw_all := lw_g (lw_at lw_m10 12 rfl) rfl
theorem q2290 : (Jvm.Cond.code ({ cls := "KernelGym$Machine", name := "pass", desc := "()V" } : Jvm.MethodName) prog_16_method_16_code (2 : Nat) (Option.none : Option Jvm.ClassFile.FieldType)) ∈ lw_all := lw_g (lw_at lw_m10 13 rfl) rfl
theorem q2306 : (Jvm.Cond.instanceMethod ({ cls := "KernelGym$Machine", name := "back", desc := "(I)I" } : Jvm.MethodName)) ∈ lw_all := lw_g (lw_at lw_m10 29 rfl) rfl
theorem q2307 : (Jvm.Cond.selects "KernelGym$Machine" ({ cls := "KernelGym$Machine", name := "back", desc := "(I)I" } : Jvm.MethodName) ({ cls := "KernelGym$Machine", name := "back", desc := "(I)I" } : Jvm.MethodName)) ∈ lw_all := lw_g (lw_at lw_m10 30 rfl) rfl
theorem q2308 : (Jvm.Cond.code ({ cls := "KernelGym$Machine", name := "back", desc := "(I)I" } : Jvm.MethodName) prog_16_method_48_code (5 : Nat) (Option.some Jvm.ClassFile.FieldType.int)) ∈ lw_all := lw_g (lw_at lw_m10 31 rfl) rfl
theorem q2309 : (Jvm.Cond.methodLink "KernelGym$Machine" (273 : Nat) ({ cls := "java/util/ArrayDeque", name := "isEmpty", desc := "()Z" } : Jvm.MethodName)) ∈ lw_all := lw_g (lw_at lw_m10 32 rfl) rfl
theorem q2313 : (Jvm.Cond.methodLink "KernelGym$Machine" (276 : Nat) ({ cls := "java/util/ArrayDeque", name := "removeLast", desc := "()Ljava/lang/Object;" } : Jvm.MethodName)) ∈ lw_all := lw_g (lw_at lw_m10 36 rfl) rfl
theorem q2331 : (Jvm.Cond.instanceMethod ({ cls := "KernelGym$Machine", name := "press", desc := "(I)V" } : Jvm.MethodName)) ∈ lw_all := lw_g (lw_at lw_m10 54 rfl) rfl
theorem q2332 : (Jvm.Cond.selects "KernelGym$Machine" ({ cls := "KernelGym$Machine", name := "press", desc := "(I)V" } : Jvm.MethodName) ({ cls := "KernelGym$Machine", name := "press", desc := "(I)V" } : Jvm.MethodName)) ∈ lw_all := lw_g (lw_at lw_m10 55 rfl) rfl
theorem q2333 : (Jvm.Cond.code ({ cls := "KernelGym$Machine", name := "press", desc := "(I)V" } : Jvm.MethodName) prog_16_method_11_code (5 : Nat) (Option.none : Option Jvm.ClassFile.FieldType)) ∈ lw_all := lw_g (lw_at lw_m10 56 rfl) rfl
theorem q2334 : (Jvm.Cond.methodLink "KernelGym$Machine" (89 : Nat) ({ cls := "java/util/LinkedList", name := "listIterator", desc := "(I)Ljava/util/ListIterator;" } : Jvm.MethodName)) ∈ lw_all := lw_g (lw_at lw_m10 57 rfl) rfl
theorem q2335 : (Jvm.Cond.interfaceEntry "KernelGym$Machine" (93 : Nat)) ∈ lw_tbl := lw_at lw_m10 58 rfl
theorem q2336 : (Jvm.Cond.methodLink "KernelGym$Machine" (93 : Nat) ({ cls := "java/util/ListIterator", name := "hasPrevious", desc := "()Z" } : Jvm.MethodName)) ∈ lw_all := lw_g (lw_at lw_m10 59 rfl) rfl
theorem q2357 : (Jvm.Cond.interfaceEntry "KernelGym$Machine" (99 : Nat)) ∈ lw_tbl := lw_at lw_m10 80 rfl
theorem q2358 : (Jvm.Cond.methodLink "KernelGym$Machine" (99 : Nat) ({ cls := "java/util/ListIterator", name := "previous", desc := "()Ljava/lang/Object;" } : Jvm.MethodName)) ∈ lw_all := lw_g (lw_at lw_m10 81 rfl) rfl
theorem q2390 : (Jvm.Cond.interfaceEntry "KernelGym$Machine" (109 : Nat)) ∈ lw_tbl := lw_at lw_m10 113 rfl
theorem q2391 : (Jvm.Cond.methodLink "KernelGym$Machine" (109 : Nat) ({ cls := "java/util/ListIterator", name := "next", desc := "()Ljava/lang/Object;" } : Jvm.MethodName)) ∈ lw_all := lw_g (lw_at lw_m10 114 rfl) rfl
theorem q2398 : (Jvm.Cond.methodLink "KernelGym$Machine" (112 : Nat) ({ cls := "KernelGym$Key", name := "<init>", desc := "(II)V" } : Jvm.MethodName)) ∈ lw_all := lw_g (lw_at lw_m10 121 rfl) rfl
theorem q2403 : (Jvm.Cond.fieldLinkNest "KernelGym$Machine" (105 : Nat) "KernelGym$Key" "step" "I" "KernelGym") ∈ lw_tbl := lw_at lw_m10 126 rfl
theorem q2405 : (Jvm.Cond.fieldLinkNest "KernelGym$Machine" (130 : Nat) "KernelGym$Key" "value" "I" "KernelGym") ∈ lw_tbl := lw_at lw_m10 128 rfl
theorem q2411 : (Jvm.Cond.interfaceEntry "KernelGym$Machine" (114 : Nat)) ∈ lw_tbl := lw_at lw_m10 134 rfl
theorem q2412 : (Jvm.Cond.methodLink "KernelGym$Machine" (114 : Nat) ({ cls := "java/util/ListIterator", name := "add", desc := "(Ljava/lang/Object;)V" } : Jvm.MethodName)) ∈ lw_all := lw_g (lw_at lw_m10 135 rfl) rfl
theorem q2463 : (Jvm.Cond.methodLink "KernelGym$Machine" (118 : Nat) ({ cls := "java/util/ArrayDeque", name := "peekLast", desc := "()Ljava/lang/Object;" } : Jvm.MethodName)) ∈ lw_all := lw_g (lw_at lw_m10 186 rfl) rfl
theorem q2489 : (Jvm.Cond.instanceMethod ({ cls := "KernelGym$Machine", name := "changedAt", desc := "(I)I" } : Jvm.MethodName)) ∈ lw_all := lw_g (lw_at lw_m10 212 rfl) rfl
theorem q2490 : (Jvm.Cond.selects "KernelGym$Machine" ({ cls := "KernelGym$Machine", name := "changedAt", desc := "(I)I" } : Jvm.MethodName) ({ cls := "KernelGym$Machine", name := "changedAt", desc := "(I)I" } : Jvm.MethodName)) ∈ lw_all := lw_g (lw_at lw_m10 213 rfl) rfl
theorem q2491 : (Jvm.Cond.code ({ cls := "KernelGym$Machine", name := "changedAt", desc := "(I)I" } : Jvm.MethodName) prog_16_method_49_code (4 : Nat) (Option.some Jvm.ClassFile.FieldType.int)) ∈ lw_all := lw_g (lw_at lw_m10 214 rfl) rfl
theorem q2492 : (Jvm.Cond.methodLink "KernelGym$Machine" (284 : Nat) ({ cls := "java/util/ArrayDeque", name := "descendingIterator", desc := "()Ljava/util/Iterator;" } : Jvm.MethodName)) ∈ lw_all := lw_g (lw_at lw_m10 215 rfl) rfl
theorem q2528 : (Jvm.Cond.interfaceEntry "KernelGym$Machine" (288 : Nat)) ∈ lw_tbl := lw_at lw_m11 11 rfl
theorem q2529 : (Jvm.Cond.methodLink "KernelGym$Machine" (288 : Nat) ({ cls := "java/util/Iterator", name := "hasNext", desc := "()Z" } : Jvm.MethodName)) ∈ lw_all := lw_g (lw_at lw_m11 12 rfl) rfl
theorem q2530 : (Jvm.Cond.interfaceEntry "KernelGym$Machine" (293 : Nat)) ∈ lw_tbl := lw_at lw_m11 13 rfl
theorem q2531 : (Jvm.Cond.methodLink "KernelGym$Machine" (293 : Nat) ({ cls := "java/util/Iterator", name := "next", desc := "()Ljava/lang/Object;" } : Jvm.MethodName)) ∈ lw_all := lw_g (lw_at lw_m11 14 rfl) rfl
theorem q2532 : (Jvm.Cond.methodLink "KernelGym$Machine" (294 : Nat) ({ cls := "KernelGym$Step", name := "has", desc := "(I)Z" } : Jvm.MethodName)) ∈ lw_all := lw_g (lw_at lw_m11 15 rfl) rfl
theorem q2570 : (Jvm.Cond.instanceMethod ({ cls := "KernelGym$Machine", name := "sumAnew", desc := "(I)I" } : Jvm.MethodName)) ∈ lw_all := lw_g (lw_at lw_m11 53 rfl) rfl
theorem q2571 : (Jvm.Cond.selects "KernelGym$Machine" ({ cls := "KernelGym$Machine", name := "sumAnew", desc := "(I)I" } : Jvm.MethodName) ({ cls := "KernelGym$Machine", name := "sumAnew", desc := "(I)I" } : Jvm.MethodName)) ∈ lw_all := lw_g (lw_at lw_m11 54 rfl) rfl
theorem q2572 : (Jvm.Cond.code ({ cls := "KernelGym$Machine", name := "sumAnew", desc := "(I)I" } : Jvm.MethodName) prog_16_method_54_code (4 : Nat) (Option.some Jvm.ClassFile.FieldType.int)) ∈ lw_all := lw_g (lw_at lw_m11 55 rfl) rfl
theorem q2573 : (Jvm.Cond.classLink "KernelGym$Machine" (10 : Nat) "KernelGym$Machine") ∈ lw_all := lw_g (lw_at lw_m11 56 rfl) rfl
theorem q2574 : (Jvm.Cond.methodLink "KernelGym$Machine" (310 : Nat) ({ cls := "KernelGym$Machine", name := "<init>", desc := "(Z)V" } : Jvm.MethodName)) ∈ lw_all := lw_g (lw_at lw_m11 57 rfl) rfl
theorem q2575 : (Jvm.Cond.methodLink "KernelGym$Machine" (313 : Nat) ({ cls := "java/util/LinkedList", name := "addLast", desc := "(Ljava/lang/Object;)V" } : Jvm.MethodName)) ∈ lw_all := lw_g (lw_at lw_m11 58 rfl) rfl
theorem q2579 : (Jvm.Cond.methodLink "KernelGym$Machine" (314 : Nat) ({ cls := "KernelGym$Machine", name := "make", desc := "()V" } : Jvm.MethodName)) ∈ lw_all := lw_g (lw_at lw_m11 62 rfl) rfl
theorem q2580 : (Jvm.Cond.methodLink "KernelGym$Machine" (317 : Nat) ({ cls := "KernelGym$Machine", name := "sum", desc := "()I" } : Jvm.MethodName)) ∈ lw_all := lw_g (lw_at lw_m11 63 rfl) rfl
theorem q3478 : (Jvm.Cond.castable "KernelGym$Machine" "java/lang/Object") ∈ lw_tbl := lw_at lw_m15 1 rfl
theorem in_X2 : ∀ w ∈ wsX20, w ∈ lw_all := lw_in wsX20 [297, 299, 301, 303, 305, 307, 309, 311, 313, 315] (by decide +kernel) (by decide +kernel)

/-! KernelGym$Assembly$2 -/
def RX20 : String := "KernelGym$Assembly$2"
def TX20 : u_T := fun k => match k with
  | 0 => ("KernelGym$Pass", "sizes", "[I", true)
  | 1 => ("KernelGym$Pass", "section", "I", false)
  | 2 => ("KernelGym$Pass", "begins", "[I", true)
  | 3 => ("KernelGym$Pass", "ends", "[I", true)
  | 4 => ("KernelGym$Pass", "used", "[Z", true)
  | 5 => ("KernelGym$Pass", "gone", "I", false)
  | 6 => ("KernelGym$Pass", "many", "I", false)
  | 7 => ("KernelGym$Pass", "this$0", "LKernelGym;", true)
  | _ => ("KernelGym$Assembly$2", "this$1", "LKernelGym$Assembly;", true)
def tyX20 : Nat → FieldType := fun k => match k with
  | 0 => .array .int
  | 1 => .int
  | 2 => .array .int
  | 3 => .array .int
  | 4 => .array .boolean
  | 5 => .int
  | 6 => .int
  | 7 => .object "KernelGym"
  | _ => .object "KernelGym$Assembly"
abbrev wsX200 : List Cond := u_ws RX20 TX20 9
theorem nmX20 : ∀ a, a < 9 → ∀ b, b < 9 → a ≠ b → (TX20 a).2.1 ≠ (TX20 b).2.1 := by decide +kernel
theorem tyX20_ok : ∀ k, k < 9 → parseFieldDescriptor (TX20 k).2.2.1 = some (tyX20 k) := by decide +kernel
abbrev cX20_set : ByteArray := prog_13_method_3_code
def yX20_set : MethodName := ⟨RX20, "set", "(ILKernelGym$Use;I)V"⟩
theorem dX20_set_0 : decode cX20_set 0 = .ok (.return_, 1) := by decide +kernel
abbrev cX20_take : ByteArray := prog_13_method_2_code
def yX20_take : MethodName := ⟨RX20, "take", "(II)V"⟩
def dkwX20_take_2 : List UInt8 := [46, 4, 96, 79, 177]
abbrev dktX20_take_2 : List UInt8 := dkwX20_take_2 ++ []
def dkwX20_take_1 : List UInt8 := [180, 0, 29, 42, 180, 0, 32, 42, 180, 0, 25, 46, 96, 27, 79, 42, 180, 0, 32, 42, 180, 0, 25, 92]
abbrev dktX20_take_1 : List UInt8 := dkwX20_take_1 ++ dktX20_take_2
def dkwX20_take_0 : List UInt8 := [42, 180, 0, 3, 180, 0, 21, 42, 180, 0, 25, 154, 0, 8, 16, 8, 167, 0, 10, 42, 180, 0, 3]
abbrev dktX20_take_0 : List UInt8 := dkwX20_take_0 ++ dktX20_take_1
theorem dksX20_take_0 : cX20_take.data.toList.drop 0 = dktX20_take_0 := by decide +kernel
theorem dksX20_take_1 : cX20_take.data.toList.drop 23 = dktX20_take_1 := dk_seg dksX20_take_0 23 rfl rfl
theorem dksX20_take_2 : cX20_take.data.toList.drop 47 = dktX20_take_2 := dk_seg dksX20_take_1 24 rfl rfl
theorem dX20_take_0 : decode cX20_take 0 = .ok (.aload_n 0, 1) := dk_42 (dk_at dksX20_take_0 0 rfl rfl)
theorem dX20_take_1 : decode cX20_take 1 = .ok (.getfield 3, 3) := dk_180 0 3 (dk_at dksX20_take_0 1 rfl rfl)
theorem dX20_take_4 : decode cX20_take 4 = .ok (.getfield 21, 3) := dk_180 0 21 (dk_at dksX20_take_0 4 rfl rfl)
theorem dX20_take_7 : decode cX20_take 7 = .ok (.aload_n 0, 1) := dk_42 (dk_at dksX20_take_0 7 rfl rfl)
theorem dX20_take_8 : decode cX20_take 8 = .ok (.getfield 25, 3) := dk_180 0 25 (dk_at dksX20_take_0 8 rfl rfl)
theorem dX20_take_11 : decode cX20_take 11 = .ok (.ifCond .ne 8, 3) := dk_154 0 8 (dk_at dksX20_take_0 11 rfl rfl)
theorem dX20_take_14 : decode cX20_take 14 = .ok (.bipush 8, 2) := dk_16 8 (dk_at dksX20_take_0 14 rfl rfl)
theorem dX20_take_16 : decode cX20_take 16 = .ok (.goto 10, 3) := dk_167 0 10 (dk_at dksX20_take_0 16 rfl rfl)
theorem dX20_take_19 : decode cX20_take 19 = .ok (.aload_n 0, 1) := dk_42 (dk_at dksX20_take_0 19 rfl rfl)
theorem dX20_take_20 : decode cX20_take 20 = .ok (.getfield 3, 3) := dk_180 0 3 (dk_at dksX20_take_0 20 rfl rfl)
theorem dX20_take_23 : decode cX20_take 23 = .ok (.getfield 29, 3) := dk_180 0 29 (dk_at dksX20_take_1 0 rfl rfl)
theorem dX20_take_26 : decode cX20_take 26 = .ok (.aload_n 0, 1) := dk_42 (dk_at dksX20_take_1 3 rfl rfl)
theorem dX20_take_27 : decode cX20_take 27 = .ok (.getfield 32, 3) := dk_180 0 32 (dk_at dksX20_take_1 4 rfl rfl)
theorem dX20_take_30 : decode cX20_take 30 = .ok (.aload_n 0, 1) := dk_42 (dk_at dksX20_take_1 7 rfl rfl)
theorem dX20_take_31 : decode cX20_take 31 = .ok (.getfield 25, 3) := dk_180 0 25 (dk_at dksX20_take_1 8 rfl rfl)
theorem dX20_take_34 : decode cX20_take 34 = .ok (.iaload, 1) := dk_46 (dk_at dksX20_take_1 11 rfl rfl)
theorem dX20_take_35 : decode cX20_take 35 = .ok (.iadd, 1) := dk_96 (dk_at dksX20_take_1 12 rfl rfl)
theorem dX20_take_36 : decode cX20_take 36 = .ok (.iload_n 1, 1) := dk_27 (dk_at dksX20_take_1 13 rfl rfl)
theorem dX20_take_37 : decode cX20_take 37 = .ok (.iastore, 1) := dk_79 (dk_at dksX20_take_1 14 rfl rfl)
theorem dX20_take_38 : decode cX20_take 38 = .ok (.aload_n 0, 1) := dk_42 (dk_at dksX20_take_1 15 rfl rfl)
theorem dX20_take_39 : decode cX20_take 39 = .ok (.getfield 32, 3) := dk_180 0 32 (dk_at dksX20_take_1 16 rfl rfl)
theorem dX20_take_42 : decode cX20_take 42 = .ok (.aload_n 0, 1) := dk_42 (dk_at dksX20_take_1 19 rfl rfl)
theorem dX20_take_43 : decode cX20_take 43 = .ok (.getfield 25, 3) := dk_180 0 25 (dk_at dksX20_take_1 20 rfl rfl)
theorem dX20_take_46 : decode cX20_take 46 = .ok (.dup2, 1) := dk_92 (dk_at dksX20_take_1 23 rfl rfl)
theorem dX20_take_47 : decode cX20_take 47 = .ok (.iaload, 1) := dk_46 (dk_at dksX20_take_2 0 rfl rfl)
theorem dX20_take_48 : decode cX20_take 48 = .ok (.iconst 1, 1) := dk_4 (dk_at dksX20_take_2 1 rfl rfl)
theorem dX20_take_49 : decode cX20_take 49 = .ok (.iadd, 1) := dk_96 (dk_at dksX20_take_2 2 rfl rfl)
theorem dX20_take_50 : decode cX20_take 50 = .ok (.iastore, 1) := dk_79 (dk_at dksX20_take_2 3 rfl rfl)
theorem dX20_take_51 : decode cX20_take 51 = .ok (.return_, 1) := dk_177 (dk_at dksX20_take_2 4 rfl rfl)
abbrev cX20_value : ByteArray := prog_13_method_4_code
def yX20_value : MethodName := ⟨RX20, "value", "(LKernelGym$Operand;LKernelGym$Use;I)I"⟩
def dkwX20_value_3 : List UInt8 := [180, 0, 59, 43, 180, 0, 40, 96, 133, 184, 0, 62, 172]
abbrev dktX20_value_3 : List UInt8 := dkwX20_value_3 ++ []
def dkwX20_value_2 : List UInt8 := [16, 7, 29, 184, 0, 52, 43, 180, 0, 35, 5, 160, 0, 10, 44, 180, 0, 56, 167, 0, 7, 44]
abbrev dktX20_value_2 : List UInt8 := dkwX20_value_2 ++ dktX20_value_3
def dkwX20_value_1 : List UInt8 := [43, 180, 0, 40, 44, 29, 182, 0, 43, 172, 44, 180, 0, 47, 2, 159, 0, 7, 4, 167, 0, 4, 3]
abbrev dktX20_value_1 : List UInt8 := dkwX20_value_1 ++ dktX20_value_2
def dkwX20_value_0 : List UInt8 := [43, 180, 0, 35, 154, 0, 8, 43, 180, 0, 40, 172, 43, 180, 0, 35, 4, 160, 0, 17, 42, 180, 0, 3]
abbrev dktX20_value_0 : List UInt8 := dkwX20_value_0 ++ dktX20_value_1
theorem dksX20_value_0 : cX20_value.data.toList.drop 0 = dktX20_value_0 := by decide +kernel
theorem dksX20_value_1 : cX20_value.data.toList.drop 24 = dktX20_value_1 := dk_seg dksX20_value_0 24 rfl rfl
theorem dksX20_value_2 : cX20_value.data.toList.drop 47 = dktX20_value_2 := dk_seg dksX20_value_1 23 rfl rfl
theorem dksX20_value_3 : cX20_value.data.toList.drop 69 = dktX20_value_3 := dk_seg dksX20_value_2 22 rfl rfl
theorem dX20_value_0 : decode cX20_value 0 = .ok (.aload_n 1, 1) := dk_43 (dk_at dksX20_value_0 0 rfl rfl)
theorem dX20_value_1 : decode cX20_value 1 = .ok (.getfield 35, 3) := dk_180 0 35 (dk_at dksX20_value_0 1 rfl rfl)
theorem dX20_value_4 : decode cX20_value 4 = .ok (.ifCond .ne 8, 3) := dk_154 0 8 (dk_at dksX20_value_0 4 rfl rfl)
theorem dX20_value_7 : decode cX20_value 7 = .ok (.aload_n 1, 1) := dk_43 (dk_at dksX20_value_0 7 rfl rfl)
theorem dX20_value_8 : decode cX20_value 8 = .ok (.getfield 40, 3) := dk_180 0 40 (dk_at dksX20_value_0 8 rfl rfl)
theorem dX20_value_11 : decode cX20_value 11 = .ok (.ireturn, 1) := dk_172 (dk_at dksX20_value_0 11 rfl rfl)
theorem dX20_value_12 : decode cX20_value 12 = .ok (.aload_n 1, 1) := dk_43 (dk_at dksX20_value_0 12 rfl rfl)
theorem dX20_value_13 : decode cX20_value 13 = .ok (.getfield 35, 3) := dk_180 0 35 (dk_at dksX20_value_0 13 rfl rfl)
theorem dX20_value_16 : decode cX20_value 16 = .ok (.iconst 1, 1) := dk_4 (dk_at dksX20_value_0 16 rfl rfl)
theorem dX20_value_17 : decode cX20_value 17 = .ok (.if_icmp .ne 17, 3) := dk_160 0 17 (dk_at dksX20_value_0 17 rfl rfl)
theorem dX20_value_20 : decode cX20_value 20 = .ok (.aload_n 0, 1) := dk_42 (dk_at dksX20_value_0 20 rfl rfl)
theorem dX20_value_21 : decode cX20_value 21 = .ok (.getfield 3, 3) := dk_180 0 3 (dk_at dksX20_value_0 21 rfl rfl)
theorem dX20_value_24 : decode cX20_value 24 = .ok (.aload_n 1, 1) := dk_43 (dk_at dksX20_value_1 0 rfl rfl)
theorem dX20_value_25 : decode cX20_value 25 = .ok (.getfield 40, 3) := dk_180 0 40 (dk_at dksX20_value_1 1 rfl rfl)
theorem dX20_value_28 : decode cX20_value 28 = .ok (.aload_n 2, 1) := dk_44 (dk_at dksX20_value_1 4 rfl rfl)
theorem dX20_value_29 : decode cX20_value 29 = .ok (.iload_n 3, 1) := dk_29 (dk_at dksX20_value_1 5 rfl rfl)
theorem dX20_value_30 : decode cX20_value 30 = .ok (.invokevirtual 43, 3) := dk_182 0 43 (dk_at dksX20_value_1 6 rfl rfl)
theorem dX20_value_33 : decode cX20_value 33 = .ok (.ireturn, 1) := dk_172 (dk_at dksX20_value_1 9 rfl rfl)
theorem dX20_value_34 : decode cX20_value 34 = .ok (.aload_n 2, 1) := dk_44 (dk_at dksX20_value_1 10 rfl rfl)
theorem dX20_value_35 : decode cX20_value 35 = .ok (.getfield 47, 3) := dk_180 0 47 (dk_at dksX20_value_1 11 rfl rfl)
theorem dX20_value_38 : decode cX20_value 38 = .ok (.iconst (-1), 1) := dk_2 (dk_at dksX20_value_1 14 rfl rfl)
theorem dX20_value_39 : decode cX20_value 39 = .ok (.if_icmp .eq 7, 3) := dk_159 0 7 (dk_at dksX20_value_1 15 rfl rfl)
theorem dX20_value_42 : decode cX20_value 42 = .ok (.iconst 1, 1) := dk_4 (dk_at dksX20_value_1 18 rfl rfl)
theorem dX20_value_43 : decode cX20_value 43 = .ok (.goto 4, 3) := dk_167 0 4 (dk_at dksX20_value_1 19 rfl rfl)
theorem dX20_value_46 : decode cX20_value 46 = .ok (.iconst 0, 1) := dk_3 (dk_at dksX20_value_1 22 rfl rfl)
theorem dX20_value_47 : decode cX20_value 47 = .ok (.bipush 7, 2) := dk_16 7 (dk_at dksX20_value_2 0 rfl rfl)
theorem dX20_value_49 : decode cX20_value 49 = .ok (.iload_n 3, 1) := dk_29 (dk_at dksX20_value_2 2 rfl rfl)
theorem dX20_value_50 : decode cX20_value 50 = .ok (.invokestatic 52, 3) := dk_184 0 52 (dk_at dksX20_value_2 3 rfl rfl)
theorem dX20_value_53 : decode cX20_value 53 = .ok (.aload_n 1, 1) := dk_43 (dk_at dksX20_value_2 6 rfl rfl)
theorem dX20_value_54 : decode cX20_value 54 = .ok (.getfield 35, 3) := dk_180 0 35 (dk_at dksX20_value_2 7 rfl rfl)
theorem dX20_value_57 : decode cX20_value 57 = .ok (.iconst 2, 1) := dk_5 (dk_at dksX20_value_2 10 rfl rfl)
theorem dX20_value_58 : decode cX20_value 58 = .ok (.if_icmp .ne 10, 3) := dk_160 0 10 (dk_at dksX20_value_2 11 rfl rfl)
theorem dX20_value_61 : decode cX20_value 61 = .ok (.aload_n 2, 1) := dk_44 (dk_at dksX20_value_2 14 rfl rfl)
theorem dX20_value_62 : decode cX20_value 62 = .ok (.getfield 56, 3) := dk_180 0 56 (dk_at dksX20_value_2 15 rfl rfl)
theorem dX20_value_65 : decode cX20_value 65 = .ok (.goto 7, 3) := dk_167 0 7 (dk_at dksX20_value_2 18 rfl rfl)
theorem dX20_value_68 : decode cX20_value 68 = .ok (.aload_n 2, 1) := dk_44 (dk_at dksX20_value_2 21 rfl rfl)
theorem dX20_value_69 : decode cX20_value 69 = .ok (.getfield 59, 3) := dk_180 0 59 (dk_at dksX20_value_3 0 rfl rfl)
theorem dX20_value_72 : decode cX20_value 72 = .ok (.aload_n 1, 1) := dk_43 (dk_at dksX20_value_3 3 rfl rfl)
theorem dX20_value_73 : decode cX20_value 73 = .ok (.getfield 40, 3) := dk_180 0 40 (dk_at dksX20_value_3 4 rfl rfl)
theorem dX20_value_76 : decode cX20_value 76 = .ok (.iadd, 1) := dk_96 (dk_at dksX20_value_3 7 rfl rfl)
theorem dX20_value_77 : decode cX20_value 77 = .ok (.i2l, 1) := dk_133 (dk_at dksX20_value_3 8 rfl rfl)
theorem dX20_value_78 : decode cX20_value 78 = .ok (.invokestatic 62, 3) := dk_184 0 62 (dk_at dksX20_value_3 9 rfl rfl)
theorem dX20_value_81 : decode cX20_value 81 = .ok (.ireturn, 1) := dk_172 (dk_at dksX20_value_3 12 rfl rfl)
abbrev cX20_point : ByteArray := prog_13_method_6_code
def yX20_point : MethodName := ⟨RX20, "point", "(II)V"⟩
def dkwX20_point_0 : List UInt8 := [42, 180, 0, 3, 180, 0, 21, 27, 28, 79, 177]
abbrev dktX20_point_0 : List UInt8 := dkwX20_point_0 ++ []
theorem dksX20_point_0 : cX20_point.data.toList.drop 0 = dktX20_point_0 := by decide +kernel
theorem dX20_point_0 : decode cX20_point 0 = .ok (.aload_n 0, 1) := dk_42 (dk_at dksX20_point_0 0 rfl rfl)
theorem dX20_point_1 : decode cX20_point 1 = .ok (.getfield 3, 3) := dk_180 0 3 (dk_at dksX20_point_0 1 rfl rfl)
theorem dX20_point_4 : decode cX20_point 4 = .ok (.getfield 21, 3) := dk_180 0 21 (dk_at dksX20_point_0 4 rfl rfl)
theorem dX20_point_7 : decode cX20_point 7 = .ok (.iload_n 1, 1) := dk_27 (dk_at dksX20_point_0 7 rfl rfl)
theorem dX20_point_8 : decode cX20_point 8 = .ok (.iload_n 2, 1) := dk_28 (dk_at dksX20_point_0 8 rfl rfl)
theorem dX20_point_9 : decode cX20_point 9 = .ok (.iastore, 1) := dk_79 (dk_at dksX20_point_0 9 rfl rfl)
theorem dX20_point_10 : decode cX20_point 10 = .ok (.return_, 1) := dk_177 (dk_at dksX20_point_0 10 rfl rfl)
abbrev cX20_begin : ByteArray := prog_13_method_5_code
def yX20_begin : MethodName := ⟨RX20, "begin", "(II)LKernelGym$Use;"⟩
def dkwX20_begin_0 : List UInt8 := [42, 180, 0, 3, 180, 0, 66, 27, 185, 0, 70, 2, 0, 192, 0, 48, 176]
abbrev dktX20_begin_0 : List UInt8 := dkwX20_begin_0 ++ []
theorem dksX20_begin_0 : cX20_begin.data.toList.drop 0 = dktX20_begin_0 := by decide +kernel
theorem dX20_begin_0 : decode cX20_begin 0 = .ok (.aload_n 0, 1) := dk_42 (dk_at dksX20_begin_0 0 rfl rfl)
theorem dX20_begin_1 : decode cX20_begin 1 = .ok (.getfield 3, 3) := dk_180 0 3 (dk_at dksX20_begin_0 1 rfl rfl)
theorem dX20_begin_4 : decode cX20_begin 4 = .ok (.getfield 66, 3) := dk_180 0 66 (dk_at dksX20_begin_0 4 rfl rfl)
theorem dX20_begin_7 : decode cX20_begin 7 = .ok (.iload_n 1, 1) := dk_27 (dk_at dksX20_begin_0 7 rfl rfl)
theorem dX20_begin_8 : decode cX20_begin 8 = .ok (.invokeinterface 70 2, 5) := by decide +kernel
theorem dX20_begin_13 : decode cX20_begin 13 = .ok (.checkcast 48, 3) := dk_192 0 48 (dk_at dksX20_begin_0 13 rfl rfl)
theorem dX20_begin_16 : decode cX20_begin 16 = .ok (.areturn, 1) := dk_176 (dk_at dksX20_begin_0 16 rfl rfl)
abbrev cX20_init : ByteArray := prog_13_method_1_code
def yX20_init : MethodName := ⟨RX20, "<init>", "(LKernelGym$Assembly;)V"⟩
def dkwX20_init_0 : List UInt8 := [42, 43, 181, 0, 3, 42, 43, 180, 0, 9, 183, 0, 15, 177]
abbrev dktX20_init_0 : List UInt8 := dkwX20_init_0 ++ []
theorem dksX20_init_0 : cX20_init.data.toList.drop 0 = dktX20_init_0 := by decide +kernel
theorem dX20_init_0 : decode cX20_init 0 = .ok (.aload_n 0, 1) := dk_42 (dk_at dksX20_init_0 0 rfl rfl)
theorem dX20_init_1 : decode cX20_init 1 = .ok (.aload_n 1, 1) := dk_43 (dk_at dksX20_init_0 1 rfl rfl)
theorem dX20_init_2 : decode cX20_init 2 = .ok (.putfield 3, 3) := dk_181 0 3 (dk_at dksX20_init_0 2 rfl rfl)
theorem dX20_init_5 : decode cX20_init 5 = .ok (.aload_n 0, 1) := dk_42 (dk_at dksX20_init_0 5 rfl rfl)
theorem dX20_init_6 : decode cX20_init 6 = .ok (.aload_n 1, 1) := dk_43 (dk_at dksX20_init_0 6 rfl rfl)
theorem dX20_init_7 : decode cX20_init 7 = .ok (.getfield 9, 3) := dk_180 0 9 (dk_at dksX20_init_0 7 rfl rfl)
theorem dX20_init_10 : decode cX20_init 10 = .ok (.invokespecial 15, 3) := dk_183 0 15 (dk_at dksX20_init_0 10 rfl rfl)
theorem dX20_init_13 : decode cX20_init 13 = .ok (.return_, 1) := dk_177 (dk_at dksX20_init_0 13 rfl rfl)
theorem q163 : (Jvm.Cond.initialized "KernelGym$Assembly$2") ∈ lw_all := lw_g (lw_at lw_m1 46 rfl) rfl
theorem q397 : (Jvm.Cond.fieldLinkNest "KernelGym$Assembly$2" (47 : Nat) "KernelGym$Use" "macro" "I" "KernelGym") ∈ lw_tbl := lw_at lw_m2 40 rfl
theorem q400 : (Jvm.Cond.fieldLinkNest "KernelGym$Assembly$2" (56 : Nat) "KernelGym$Use" "first" "I" "KernelGym") ∈ lw_tbl := lw_at lw_m2 43 rfl
theorem q402 : (Jvm.Cond.fieldLinkNest "KernelGym$Assembly$2" (59 : Nat) "KernelGym$Use" "second" "I" "KernelGym") ∈ lw_tbl := lw_at lw_m2 45 rfl
theorem q430 : (Jvm.Cond.fieldLink "KernelGym$Assembly$2" (32 : Nat) "KernelGym$Assembly$2" "sizes" "[I") ∈ lw_all := lw_g (lw_at lw_m2 73 rfl) rfl
theorem q431 : (Jvm.Cond.sameField "KernelGym$Assembly$2" "KernelGym$Pass" "sizes" "[I") ∈ lw_all := lw_g (lw_at lw_m2 74 rfl) rfl
theorem q435 : (Jvm.Cond.fieldLink "KernelGym$Assembly$2" (25 : Nat) "KernelGym$Assembly$2" "section" "I") ∈ lw_all := lw_g (lw_at lw_m2 78 rfl) rfl
theorem q436 : (Jvm.Cond.sameField "KernelGym$Assembly$2" "KernelGym$Pass" "section" "I") ∈ lw_all := lw_g (lw_at lw_m2 79 rfl) rfl
theorem q471 : (Jvm.Cond.selects "KernelGym$Assembly$2" ({ cls := "KernelGym$Pass", name := "go", desc := "(IILKernelGym$Use;)V" } : Jvm.MethodName) ({ cls := "KernelGym$Pass", name := "go", desc := "(IILKernelGym$Use;)V" } : Jvm.MethodName)) ∈ lw_all := lw_g (lw_at lw_m2 114 rfl) rfl
theorem q898 : (Jvm.Cond.selects "KernelGym$Assembly$2" ({ cls := "KernelGym$Pass", name := "set", desc := "(ILKernelGym$Use;I)V" } : Jvm.MethodName) ({ cls := "KernelGym$Assembly$2", name := "set", desc := "(ILKernelGym$Use;I)V" } : Jvm.MethodName)) ∈ lw_all := lw_g (lw_at lw_m4 61 rfl) rfl
theorem q899 : (Jvm.Cond.instanceMethod ({ cls := "KernelGym$Assembly$2", name := "set", desc := "(ILKernelGym$Use;I)V" } : Jvm.MethodName)) ∈ lw_all := lw_g (lw_at lw_m4 62 rfl) rfl
theorem q900 : (Jvm.Cond.code ({ cls := "KernelGym$Assembly$2", name := "set", desc := "(ILKernelGym$Use;I)V" } : Jvm.MethodName) prog_13_method_3_code (4 : Nat) (Option.none : Option Jvm.ClassFile.FieldType)) ∈ lw_all := lw_g (lw_at lw_m4 63 rfl) rfl
theorem q910 : (Jvm.Cond.selects "KernelGym$Assembly$2" ({ cls := "KernelGym$Pass", name := "take", desc := "(II)V" } : Jvm.MethodName) ({ cls := "KernelGym$Assembly$2", name := "take", desc := "(II)V" } : Jvm.MethodName)) ∈ lw_all := lw_g (lw_at lw_m4 73 rfl) rfl
theorem q911 : (Jvm.Cond.instanceMethod ({ cls := "KernelGym$Assembly$2", name := "take", desc := "(II)V" } : Jvm.MethodName)) ∈ lw_all := lw_g (lw_at lw_m4 74 rfl) rfl
theorem q912 : (Jvm.Cond.code ({ cls := "KernelGym$Assembly$2", name := "take", desc := "(II)V" } : Jvm.MethodName) prog_13_method_2_code (3 : Nat) (Option.none : Option Jvm.ClassFile.FieldType)) ∈ lw_all := lw_g (lw_at lw_m4 75 rfl) rfl
theorem q919 : (Jvm.Cond.selects "KernelGym$Assembly$2" ({ cls := "KernelGym$Pass", name := "value", desc := "(LKernelGym$Operand;LKernelGym$Use;I)I" } : Jvm.MethodName) ({ cls := "KernelGym$Assembly$2", name := "value", desc := "(LKernelGym$Operand;LKernelGym$Use;I)I" } : Jvm.MethodName)) ∈ lw_all := lw_g (lw_at lw_m4 82 rfl) rfl
theorem q920 : (Jvm.Cond.instanceMethod ({ cls := "KernelGym$Assembly$2", name := "value", desc := "(LKernelGym$Operand;LKernelGym$Use;I)I" } : Jvm.MethodName)) ∈ lw_all := lw_g (lw_at lw_m4 83 rfl) rfl
theorem q921 : (Jvm.Cond.code ({ cls := "KernelGym$Assembly$2", name := "value", desc := "(LKernelGym$Operand;LKernelGym$Use;I)I" } : Jvm.MethodName) prog_13_method_4_code (4 : Nat) (Option.some Jvm.ClassFile.FieldType.int)) ∈ lw_all := lw_g (lw_at lw_m4 84 rfl) rfl
theorem q922 : (Jvm.Cond.methodLinkNest "KernelGym$Assembly$2" (43 : Nat) ({ cls := "KernelGym$Assembly", name := "address", desc := "(ILKernelGym$Use;I)I" } : Jvm.MethodName) "KernelGym") ∈ lw_tbl := lw_at lw_m4 85 rfl
theorem q928 : (Jvm.Cond.methodLinkNest "KernelGym$Assembly$2" (52 : Nat) ({ cls := "KernelGym", name := "check", desc := "(ZII)V" } : Jvm.MethodName) "KernelGym") ∈ lw_tbl := lw_at lw_m4 91 rfl
theorem q929 : (Jvm.Cond.methodLinkNest "KernelGym$Assembly$2" (62 : Nat) ({ cls := "KernelGym", name := "cut", desc := "(J)I" } : Jvm.MethodName) "KernelGym") ∈ lw_tbl := lw_at lw_m4 92 rfl
theorem q951 : (Jvm.Cond.selects "KernelGym$Assembly$2" ({ cls := "KernelGym$Pass", name := "point", desc := "(II)V" } : Jvm.MethodName) ({ cls := "KernelGym$Assembly$2", name := "point", desc := "(II)V" } : Jvm.MethodName)) ∈ lw_all := lw_g (lw_at lw_m4 114 rfl) rfl
theorem q952 : (Jvm.Cond.instanceMethod ({ cls := "KernelGym$Assembly$2", name := "point", desc := "(II)V" } : Jvm.MethodName)) ∈ lw_all := lw_g (lw_at lw_m4 115 rfl) rfl
theorem q953 : (Jvm.Cond.code ({ cls := "KernelGym$Assembly$2", name := "point", desc := "(II)V" } : Jvm.MethodName) prog_13_method_6_code (3 : Nat) (Option.none : Option Jvm.ClassFile.FieldType)) ∈ lw_all := lw_g (lw_at lw_m4 116 rfl) rfl
theorem q961 : (Jvm.Cond.selects "KernelGym$Assembly$2" ({ cls := "KernelGym$Pass", name := "define", desc := "(II)I" } : Jvm.MethodName) ({ cls := "KernelGym$Pass", name := "define", desc := "(II)I" } : Jvm.MethodName)) ∈ lw_all := lw_g (lw_at lw_m4 124 rfl) rfl
theorem q1007 : (Jvm.Cond.selects "KernelGym$Assembly$2" ({ cls := "KernelGym$Pass", name := "expand", desc := "(ILKernelGym$Operand;LKernelGym$Operand;LKernelGym$Use;I)V" } : Jvm.MethodName) ({ cls := "KernelGym$Pass", name := "expand", desc := "(ILKernelGym$Operand;LKernelGym$Operand;LKernelGym$Use;I)V" } : Jvm.MethodName)) ∈ lw_all := lw_g (lw_at lw_m4 170 rfl) rfl
theorem q1058 : (Jvm.Cond.selects "KernelGym$Assembly$2" ({ cls := "java/lang/Object", name := "getClass", desc := "()Ljava/lang/Class;" } : Jvm.MethodName) ({ cls := "java/lang/Object", name := "getClass", desc := "()Ljava/lang/Class;" } : Jvm.MethodName)) ∈ lw_all := lw_g (lw_at lw_m4 221 rfl) rfl
theorem q1129 : (Jvm.Cond.selects "KernelGym$Assembly$2" ({ cls := "KernelGym$Pass", name := "begin", desc := "(II)LKernelGym$Use;" } : Jvm.MethodName) ({ cls := "KernelGym$Assembly$2", name := "begin", desc := "(II)LKernelGym$Use;" } : Jvm.MethodName)) ∈ lw_all := lw_g (lw_at lw_m5 52 rfl) rfl
theorem q1130 : (Jvm.Cond.instanceMethod ({ cls := "KernelGym$Assembly$2", name := "begin", desc := "(II)LKernelGym$Use;" } : Jvm.MethodName)) ∈ lw_all := lw_g (lw_at lw_m5 53 rfl) rfl
theorem q1131 : (Jvm.Cond.code ({ cls := "KernelGym$Assembly$2", name := "begin", desc := "(II)LKernelGym$Use;" } : Jvm.MethodName) prog_13_method_5_code (3 : Nat) (Option.some (Jvm.ClassFile.FieldType.object "KernelGym$Use"))) ∈ lw_all := lw_g (lw_at lw_m5 54 rfl) rfl
theorem q1132 : (Jvm.Cond.interfaceEntry "KernelGym$Assembly$2" (70 : Nat)) ∈ lw_tbl := lw_at lw_m5 55 rfl
theorem q1133 : (Jvm.Cond.methodLink "KernelGym$Assembly$2" (70 : Nat) ({ cls := "java/util/List", name := "get", desc := "(I)Ljava/lang/Object;" } : Jvm.MethodName)) ∈ lw_all := lw_g (lw_at lw_m5 56 rfl) rfl
theorem q1134 : (Jvm.Cond.classLink "KernelGym$Assembly$2" (48 : Nat) "KernelGym$Use") ∈ lw_all := lw_g (lw_at lw_m5 57 rfl) rfl
theorem q1141 : (Jvm.Cond.instantiable "KernelGym$Assembly$2" (9 : Nat)) ∈ lw_all := lw_g (lw_at lw_m5 64 rfl) rfl
theorem q1143 : (Jvm.Cond.instanceMethod ({ cls := "KernelGym$Assembly$2", name := "<init>", desc := "(LKernelGym$Assembly;)V" } : Jvm.MethodName)) ∈ lw_all := lw_g (lw_at lw_m5 66 rfl) rfl
theorem q1144 : (Jvm.Cond.code ({ cls := "KernelGym$Assembly$2", name := "<init>", desc := "(LKernelGym$Assembly;)V" } : Jvm.MethodName) prog_13_method_1_code (2 : Nat) (Option.none : Option Jvm.ClassFile.FieldType)) ∈ lw_all := lw_g (lw_at lw_m5 67 rfl) rfl
theorem q1145 : (Jvm.Cond.methodLink "KernelGym$Assembly$2" (15 : Nat) ({ cls := "KernelGym$Pass", name := "<init>", desc := "(LKernelGym;)V" } : Jvm.MethodName)) ∈ lw_all := lw_g (lw_at lw_m5 68 rfl) rfl
theorem q1146 : (Jvm.Cond.fieldLink "KernelGym$Assembly$2" (3 : Nat) "KernelGym$Assembly$2" "this$1" "LKernelGym$Assembly;") ∈ lw_all := lw_g (lw_at lw_m5 69 rfl) rfl
theorem q1147 : (Jvm.Cond.laysFinal "KernelGym$Assembly$2" "KernelGym$Assembly$2" "this$1" "LKernelGym$Assembly;") ∈ lw_all := lw_g (lw_at lw_m5 70 rfl) rfl
theorem q1148 : (Jvm.Cond.soleField "KernelGym$Assembly$2" "this$1") ∈ lw_all := lw_g (lw_at lw_m5 71 rfl) rfl
theorem q1149 : (Jvm.Cond.laysFinal "KernelGym$Assembly$2" "KernelGym$Pass" "sizes" "[I") ∈ lw_all := lw_g (lw_at lw_m5 72 rfl) rfl
theorem q1150 : (Jvm.Cond.lays "KernelGym$Assembly$2" "KernelGym$Pass" "section" "I") ∈ lw_all := lw_g (lw_at lw_m5 73 rfl) rfl
theorem q1151 : (Jvm.Cond.laysFinal "KernelGym$Assembly$2" "KernelGym$Pass" "begins" "[I") ∈ lw_all := lw_g (lw_at lw_m5 74 rfl) rfl
theorem q1152 : (Jvm.Cond.laysFinal "KernelGym$Assembly$2" "KernelGym$Pass" "ends" "[I") ∈ lw_all := lw_g (lw_at lw_m5 75 rfl) rfl
theorem q1153 : (Jvm.Cond.laysFinal "KernelGym$Assembly$2" "KernelGym$Pass" "used" "[Z") ∈ lw_all := lw_g (lw_at lw_m5 76 rfl) rfl
theorem q1154 : (Jvm.Cond.lays "KernelGym$Assembly$2" "KernelGym$Pass" "gone" "I") ∈ lw_all := lw_g (lw_at lw_m5 77 rfl) rfl
theorem q1155 : (Jvm.Cond.lays "KernelGym$Assembly$2" "KernelGym$Pass" "many" "I") ∈ lw_all := lw_g (lw_at lw_m5 78 rfl) rfl
theorem q1156 : (Jvm.Cond.laysFinal "KernelGym$Assembly$2" "KernelGym$Pass" "this$0" "LKernelGym;") ∈ lw_all := lw_g (lw_at lw_m5 79 rfl) rfl
theorem q1157 : (Jvm.Cond.superclass "KernelGym$Assembly$2" "KernelGym$Pass") ∈ lw_all := lw_g (lw_at lw_m5 80 rfl) rfl
theorem q1161 : (Jvm.Cond.fieldLinkNest "KernelGym$Assembly$2" (66 : Nat) "KernelGym$Assembly" "uses" "Ljava/util/List;" "KernelGym") ∈ lw_tbl := lw_at lw_m5 84 rfl
theorem q1164 : (Jvm.Cond.fieldLinkNest "KernelGym$Assembly$2" (21 : Nat) "KernelGym$Assembly" "made" "[I" "KernelGym") ∈ lw_tbl := lw_at lw_m5 87 rfl
theorem q1167 : (Jvm.Cond.fieldLinkNest "KernelGym$Assembly$2" (29 : Nat) "KernelGym$Assembly" "behind" "I" "KernelGym") ∈ lw_tbl := lw_at lw_m5 90 rfl
theorem q1171 : (Jvm.Cond.fieldLink "KernelGym$Assembly$2" (9 : Nat) "KernelGym$Assembly" "this$0" "LKernelGym;") ∈ lw_all := lw_g (lw_at lw_m5 94 rfl) rfl
theorem q1773 : (Jvm.Cond.fieldLinkNest "KernelGym$Assembly$2" (35 : Nat) "KernelGym$Operand" "kind" "I" "KernelGym") ∈ lw_tbl := lw_at lw_m7 216 rfl
theorem q1775 : (Jvm.Cond.fieldLinkNest "KernelGym$Assembly$2" (40 : Nat) "KernelGym$Operand" "n" "I" "KernelGym") ∈ lw_tbl := lw_at lw_m7 218 rfl
theorem q3502 : (Jvm.Cond.castable "KernelGym$Assembly$2" "java/lang/Object") ∈ lw_tbl := lw_at lw_m15 25 rfl
theorem in_X20 : ∀ w ∈ wsX200, w ∈ lw_all := lw_in wsX200 [1149, 1150, 1151, 1152, 1153, 1154, 1155, 1156, 1147] (by decide +kernel) (by decide +kernel)

/-! KernelGym$Step -/
def RX21 : String := "KernelGym$Step"
def TX21 : u_T := fun k => match k with
  | 0 => ("KernelGym$Step", "row", "[I", false)
  | _ => ("KernelGym$Step", "size", "I", false)
def tyX21 : Nat → FieldType := fun k => match k with
  | 0 => .array .int
  | _ => .int
abbrev wsX210 : List Cond := u_ws RX21 TX21 2
theorem nmX21 : ∀ a, a < 2 → ∀ b, b < 2 → a ≠ b → (TX21 a).2.1 ≠ (TX21 b).2.1 := by decide +kernel
theorem tyX21_ok : ∀ k, k < 2 → parseFieldDescriptor (TX21 k).2.2.1 = some (tyX21 k) := by decide +kernel
abbrev cX21_init : ByteArray := prog_23_method_1_code
def yX21_init : MethodName := ⟨RX21, "<init>", "()V"⟩
def dkwX21_init_0 : List UInt8 := [42, 183, 0, 1, 42, 16, 16, 188, 10, 181, 0, 7, 177]
abbrev dktX21_init_0 : List UInt8 := dkwX21_init_0 ++ []
theorem dksX21_init_0 : cX21_init.data.toList.drop 0 = dktX21_init_0 := by decide +kernel
theorem dX21_init_0 : decode cX21_init 0 = .ok (.aload_n 0, 1) := dk_42 (dk_at dksX21_init_0 0 rfl rfl)
theorem dX21_init_1 : decode cX21_init 1 = .ok (.invokespecial 1, 3) := dk_183 0 1 (dk_at dksX21_init_0 1 rfl rfl)
theorem dX21_init_4 : decode cX21_init 4 = .ok (.aload_n 0, 1) := dk_42 (dk_at dksX21_init_0 4 rfl rfl)
theorem dX21_init_5 : decode cX21_init 5 = .ok (.bipush 16, 2) := dk_16 16 (dk_at dksX21_init_0 5 rfl rfl)
theorem dX21_init_7 : decode cX21_init 7 = .ok (.newarray .int, 2) := dk_188_10 (dk_at dksX21_init_0 7 rfl rfl)
theorem dX21_init_9 : decode cX21_init 9 = .ok (.putfield 7, 3) := dk_181 0 7 (dk_at dksX21_init_0 9 rfl rfl)
theorem dX21_init_12 : decode cX21_init 12 = .ok (.return_, 1) := dk_177 (dk_at dksX21_init_0 12 rfl rfl)
abbrev cX21_note : ByteArray := prog_23_method_2_code
def yX21_note : MethodName := ⟨RX21, "note", "(II)V"⟩
def dkwX21_note_3 : List UInt8 := [181, 0, 13, 177]
abbrev dktX21_note_3 : List UInt8 := dkwX21_note_3 ++ []
def dkwX21_note_2 : List UInt8 := [180, 0, 13, 27, 79, 42, 180, 0, 7, 42, 180, 0, 13, 4, 96, 28, 79, 42, 89, 180, 0, 13, 5, 96]
abbrev dktX21_note_2 : List UInt8 := dkwX21_note_2 ++ dktX21_note_3
def dkwX21_note_1 : List UInt8 := [180, 0, 7, 3, 45, 3, 42, 180, 0, 13, 184, 0, 17, 42, 45, 181, 0, 7, 42, 180, 0, 7, 42]
abbrev dktX21_note_1 : List UInt8 := dkwX21_note_1 ++ dktX21_note_2
def dkwX21_note_0 : List UInt8 := [42, 180, 0, 13, 42, 180, 0, 7, 190, 160, 0, 31, 5, 42, 180, 0, 13, 104, 188, 10, 78, 42]
abbrev dktX21_note_0 : List UInt8 := dkwX21_note_0 ++ dktX21_note_1
theorem dksX21_note_0 : cX21_note.data.toList.drop 0 = dktX21_note_0 := by decide +kernel
theorem dksX21_note_1 : cX21_note.data.toList.drop 22 = dktX21_note_1 := dk_seg dksX21_note_0 22 rfl rfl
theorem dksX21_note_2 : cX21_note.data.toList.drop 45 = dktX21_note_2 := dk_seg dksX21_note_1 23 rfl rfl
theorem dksX21_note_3 : cX21_note.data.toList.drop 69 = dktX21_note_3 := dk_seg dksX21_note_2 24 rfl rfl
theorem dX21_note_0 : decode cX21_note 0 = .ok (.aload_n 0, 1) := dk_42 (dk_at dksX21_note_0 0 rfl rfl)
theorem dX21_note_1 : decode cX21_note 1 = .ok (.getfield 13, 3) := dk_180 0 13 (dk_at dksX21_note_0 1 rfl rfl)
theorem dX21_note_4 : decode cX21_note 4 = .ok (.aload_n 0, 1) := dk_42 (dk_at dksX21_note_0 4 rfl rfl)
theorem dX21_note_5 : decode cX21_note 5 = .ok (.getfield 7, 3) := dk_180 0 7 (dk_at dksX21_note_0 5 rfl rfl)
theorem dX21_note_8 : decode cX21_note 8 = .ok (.arraylength, 1) := dk_190 (dk_at dksX21_note_0 8 rfl rfl)
theorem dX21_note_9 : decode cX21_note 9 = .ok (.if_icmp .ne 31, 3) := dk_160 0 31 (dk_at dksX21_note_0 9 rfl rfl)
theorem dX21_note_12 : decode cX21_note 12 = .ok (.iconst 2, 1) := dk_5 (dk_at dksX21_note_0 12 rfl rfl)
theorem dX21_note_13 : decode cX21_note 13 = .ok (.aload_n 0, 1) := dk_42 (dk_at dksX21_note_0 13 rfl rfl)
theorem dX21_note_14 : decode cX21_note 14 = .ok (.getfield 13, 3) := dk_180 0 13 (dk_at dksX21_note_0 14 rfl rfl)
theorem dX21_note_17 : decode cX21_note 17 = .ok (.imul, 1) := dk_104 (dk_at dksX21_note_0 17 rfl rfl)
theorem dX21_note_18 : decode cX21_note 18 = .ok (.newarray .int, 2) := dk_188_10 (dk_at dksX21_note_0 18 rfl rfl)
theorem dX21_note_20 : decode cX21_note 20 = .ok (.astore_n 3, 1) := dk_78 (dk_at dksX21_note_0 20 rfl rfl)
theorem dX21_note_21 : decode cX21_note 21 = .ok (.aload_n 0, 1) := dk_42 (dk_at dksX21_note_0 21 rfl rfl)
theorem dX21_note_22 : decode cX21_note 22 = .ok (.getfield 7, 3) := dk_180 0 7 (dk_at dksX21_note_1 0 rfl rfl)
theorem dX21_note_25 : decode cX21_note 25 = .ok (.iconst 0, 1) := dk_3 (dk_at dksX21_note_1 3 rfl rfl)
theorem dX21_note_26 : decode cX21_note 26 = .ok (.aload_n 3, 1) := dk_45 (dk_at dksX21_note_1 4 rfl rfl)
theorem dX21_note_27 : decode cX21_note 27 = .ok (.iconst 0, 1) := dk_3 (dk_at dksX21_note_1 5 rfl rfl)
theorem dX21_note_28 : decode cX21_note 28 = .ok (.aload_n 0, 1) := dk_42 (dk_at dksX21_note_1 6 rfl rfl)
theorem dX21_note_29 : decode cX21_note 29 = .ok (.getfield 13, 3) := dk_180 0 13 (dk_at dksX21_note_1 7 rfl rfl)
theorem dX21_note_32 : decode cX21_note 32 = .ok (.invokestatic 17, 3) := dk_184 0 17 (dk_at dksX21_note_1 10 rfl rfl)
theorem dX21_note_35 : decode cX21_note 35 = .ok (.aload_n 0, 1) := dk_42 (dk_at dksX21_note_1 13 rfl rfl)
theorem dX21_note_36 : decode cX21_note 36 = .ok (.aload_n 3, 1) := dk_45 (dk_at dksX21_note_1 14 rfl rfl)
theorem dX21_note_37 : decode cX21_note 37 = .ok (.putfield 7, 3) := dk_181 0 7 (dk_at dksX21_note_1 15 rfl rfl)
theorem dX21_note_40 : decode cX21_note 40 = .ok (.aload_n 0, 1) := dk_42 (dk_at dksX21_note_1 18 rfl rfl)
theorem dX21_note_41 : decode cX21_note 41 = .ok (.getfield 7, 3) := dk_180 0 7 (dk_at dksX21_note_1 19 rfl rfl)
theorem dX21_note_44 : decode cX21_note 44 = .ok (.aload_n 0, 1) := dk_42 (dk_at dksX21_note_1 22 rfl rfl)
theorem dX21_note_45 : decode cX21_note 45 = .ok (.getfield 13, 3) := dk_180 0 13 (dk_at dksX21_note_2 0 rfl rfl)
theorem dX21_note_48 : decode cX21_note 48 = .ok (.iload_n 1, 1) := dk_27 (dk_at dksX21_note_2 3 rfl rfl)
theorem dX21_note_49 : decode cX21_note 49 = .ok (.iastore, 1) := dk_79 (dk_at dksX21_note_2 4 rfl rfl)
theorem dX21_note_50 : decode cX21_note 50 = .ok (.aload_n 0, 1) := dk_42 (dk_at dksX21_note_2 5 rfl rfl)
theorem dX21_note_51 : decode cX21_note 51 = .ok (.getfield 7, 3) := dk_180 0 7 (dk_at dksX21_note_2 6 rfl rfl)
theorem dX21_note_54 : decode cX21_note 54 = .ok (.aload_n 0, 1) := dk_42 (dk_at dksX21_note_2 9 rfl rfl)
theorem dX21_note_55 : decode cX21_note 55 = .ok (.getfield 13, 3) := dk_180 0 13 (dk_at dksX21_note_2 10 rfl rfl)
theorem dX21_note_58 : decode cX21_note 58 = .ok (.iconst 1, 1) := dk_4 (dk_at dksX21_note_2 13 rfl rfl)
theorem dX21_note_59 : decode cX21_note 59 = .ok (.iadd, 1) := dk_96 (dk_at dksX21_note_2 14 rfl rfl)
theorem dX21_note_60 : decode cX21_note 60 = .ok (.iload_n 2, 1) := dk_28 (dk_at dksX21_note_2 15 rfl rfl)
theorem dX21_note_61 : decode cX21_note 61 = .ok (.iastore, 1) := dk_79 (dk_at dksX21_note_2 16 rfl rfl)
theorem dX21_note_62 : decode cX21_note 62 = .ok (.aload_n 0, 1) := dk_42 (dk_at dksX21_note_2 17 rfl rfl)
theorem dX21_note_63 : decode cX21_note 63 = .ok (.dup, 1) := dk_89 (dk_at dksX21_note_2 18 rfl rfl)
theorem dX21_note_64 : decode cX21_note 64 = .ok (.getfield 13, 3) := dk_180 0 13 (dk_at dksX21_note_2 19 rfl rfl)
theorem dX21_note_67 : decode cX21_note 67 = .ok (.iconst 2, 1) := dk_5 (dk_at dksX21_note_2 22 rfl rfl)
theorem dX21_note_68 : decode cX21_note 68 = .ok (.iadd, 1) := dk_96 (dk_at dksX21_note_2 23 rfl rfl)
theorem dX21_note_69 : decode cX21_note 69 = .ok (.putfield 13, 3) := dk_181 0 13 (dk_at dksX21_note_3 0 rfl rfl)
theorem dX21_note_72 : decode cX21_note 72 = .ok (.return_, 1) := dk_177 (dk_at dksX21_note_3 3 rfl rfl)
abbrev cX21_has : ByteArray := prog_23_method_3_code
def yX21_has : MethodName := ⟨RX21, "has", "(I)Z"⟩
def dkwX21_has_1 : List UInt8 := [167, 0, 4, 3, 128, 61, 132, 3, 2, 167, 255, 227, 28, 172]
abbrev dktX21_has_1 : List UInt8 := dkwX21_has_1 ++ []
def dkwX21_has_0 : List UInt8 := [3, 61, 3, 62, 29, 42, 180, 0, 13, 162, 0, 27, 28, 42, 180, 0, 7, 29, 46, 27, 160, 0, 7, 4]
abbrev dktX21_has_0 : List UInt8 := dkwX21_has_0 ++ dktX21_has_1
theorem dksX21_has_0 : cX21_has.data.toList.drop 0 = dktX21_has_0 := by decide +kernel
theorem dksX21_has_1 : cX21_has.data.toList.drop 24 = dktX21_has_1 := dk_seg dksX21_has_0 24 rfl rfl
theorem dX21_has_0 : decode cX21_has 0 = .ok (.iconst 0, 1) := dk_3 (dk_at dksX21_has_0 0 rfl rfl)
theorem dX21_has_1 : decode cX21_has 1 = .ok (.istore_n 2, 1) := dk_61 (dk_at dksX21_has_0 1 rfl rfl)
theorem dX21_has_2 : decode cX21_has 2 = .ok (.iconst 0, 1) := dk_3 (dk_at dksX21_has_0 2 rfl rfl)
theorem dX21_has_3 : decode cX21_has 3 = .ok (.istore_n 3, 1) := dk_62 (dk_at dksX21_has_0 3 rfl rfl)
theorem dX21_has_4 : decode cX21_has 4 = .ok (.iload_n 3, 1) := dk_29 (dk_at dksX21_has_0 4 rfl rfl)
theorem dX21_has_5 : decode cX21_has 5 = .ok (.aload_n 0, 1) := dk_42 (dk_at dksX21_has_0 5 rfl rfl)
theorem dX21_has_6 : decode cX21_has 6 = .ok (.getfield 13, 3) := dk_180 0 13 (dk_at dksX21_has_0 6 rfl rfl)
theorem dX21_has_9 : decode cX21_has 9 = .ok (.if_icmp .ge 27, 3) := dk_162 0 27 (dk_at dksX21_has_0 9 rfl rfl)
theorem dX21_has_12 : decode cX21_has 12 = .ok (.iload_n 2, 1) := dk_28 (dk_at dksX21_has_0 12 rfl rfl)
theorem dX21_has_13 : decode cX21_has 13 = .ok (.aload_n 0, 1) := dk_42 (dk_at dksX21_has_0 13 rfl rfl)
theorem dX21_has_14 : decode cX21_has 14 = .ok (.getfield 7, 3) := dk_180 0 7 (dk_at dksX21_has_0 14 rfl rfl)
theorem dX21_has_17 : decode cX21_has 17 = .ok (.iload_n 3, 1) := dk_29 (dk_at dksX21_has_0 17 rfl rfl)
theorem dX21_has_18 : decode cX21_has 18 = .ok (.iaload, 1) := dk_46 (dk_at dksX21_has_0 18 rfl rfl)
theorem dX21_has_19 : decode cX21_has 19 = .ok (.iload_n 1, 1) := dk_27 (dk_at dksX21_has_0 19 rfl rfl)
theorem dX21_has_20 : decode cX21_has 20 = .ok (.if_icmp .ne 7, 3) := dk_160 0 7 (dk_at dksX21_has_0 20 rfl rfl)
theorem dX21_has_23 : decode cX21_has 23 = .ok (.iconst 1, 1) := dk_4 (dk_at dksX21_has_0 23 rfl rfl)
theorem dX21_has_24 : decode cX21_has 24 = .ok (.goto 4, 3) := dk_167 0 4 (dk_at dksX21_has_1 0 rfl rfl)
theorem dX21_has_27 : decode cX21_has 27 = .ok (.iconst 0, 1) := dk_3 (dk_at dksX21_has_1 3 rfl rfl)
theorem dX21_has_28 : decode cX21_has 28 = .ok (.ior, 1) := dk_128 (dk_at dksX21_has_1 4 rfl rfl)
theorem dX21_has_29 : decode cX21_has 29 = .ok (.istore_n 2, 1) := dk_61 (dk_at dksX21_has_1 5 rfl rfl)
theorem dX21_has_30 : decode cX21_has 30 = .ok (.iinc 3 2, 3) := dk_132 3 2 (dk_at dksX21_has_1 6 rfl rfl)
theorem dX21_has_33 : decode cX21_has 33 = .ok (.goto (-29), 3) := dk_167 255 227 (dk_at dksX21_has_1 9 rfl rfl)
theorem dX21_has_36 : decode cX21_has 36 = .ok (.iload_n 2, 1) := dk_28 (dk_at dksX21_has_1 12 rfl rfl)
theorem dX21_has_37 : decode cX21_has 37 = .ok (.ireturn, 1) := dk_172 (dk_at dksX21_has_1 13 rfl rfl)
theorem q164 : (Jvm.Cond.initialized "KernelGym$Step") ∈ lw_all := lw_g (lw_at lw_m1 47 rfl) rfl
theorem q1066 : (Jvm.Cond.selects "KernelGym$Step" ({ cls := "java/lang/Object", name := "getClass", desc := "()Ljava/lang/Class;" } : Jvm.MethodName) ({ cls := "java/lang/Object", name := "getClass", desc := "()Ljava/lang/Class;" } : Jvm.MethodName)) ∈ lw_all := lw_g (lw_at lw_m4 229 rfl) rfl
theorem q2033 : (Jvm.Cond.instantiable "KernelGym$Step" (2 : Nat)) ∈ lw_all := lw_g (lw_at lw_m8 236 rfl) rfl
theorem q2035 : (Jvm.Cond.instanceMethod ({ cls := "KernelGym$Step", name := "<init>", desc := "()V" } : Jvm.MethodName)) ∈ lw_all := lw_g (lw_at lw_m8 238 rfl) rfl
theorem q2036 : (Jvm.Cond.code ({ cls := "KernelGym$Step", name := "<init>", desc := "()V" } : Jvm.MethodName) prog_23_method_1_code (1 : Nat) (Option.none : Option Jvm.ClassFile.FieldType)) ∈ lw_all := lw_g (lw_at lw_m8 239 rfl) rfl
theorem q2037 : (Jvm.Cond.methodLink "KernelGym$Step" (1 : Nat) ({ cls := "java/lang/Object", name := "<init>", desc := "()V" } : Jvm.MethodName)) ∈ lw_all := lw_g (lw_at lw_m9 0 rfl) rfl
theorem q2038 : (Jvm.Cond.fieldLink "KernelGym$Step" (7 : Nat) "KernelGym$Step" "row" "[I") ∈ lw_all := lw_g (lw_at lw_m9 1 rfl) rfl
theorem q2040 : (Jvm.Cond.fieldLink "KernelGym$Step" (13 : Nat) "KernelGym$Step" "size" "I") ∈ lw_all := lw_g (lw_at lw_m9 3 rfl) rfl
theorem q2042 : (Jvm.Cond.lays "KernelGym$Step" "KernelGym$Step" "row" "[I") ∈ lw_all := lw_g (lw_at lw_m9 5 rfl) rfl
theorem q2043 : (Jvm.Cond.soleField "KernelGym$Step" "row") ∈ lw_all := lw_g (lw_at lw_m9 6 rfl) rfl
theorem q2044 : (Jvm.Cond.lays "KernelGym$Step" "KernelGym$Step" "size" "I") ∈ lw_all := lw_g (lw_at lw_m9 7 rfl) rfl
theorem q2045 : (Jvm.Cond.soleField "KernelGym$Step" "size") ∈ lw_all := lw_g (lw_at lw_m9 8 rfl) rfl
theorem q2046 : (Jvm.Cond.superclass "KernelGym$Step" "java/lang/Object") ∈ lw_all := lw_g (lw_at lw_m9 9 rfl) rfl
theorem q2100 : (Jvm.Cond.instanceMethod ({ cls := "KernelGym$Step", name := "note", desc := "(II)V" } : Jvm.MethodName)) ∈ lw_all := lw_g (lw_at lw_m9 63 rfl) rfl
theorem q2101 : (Jvm.Cond.selects "KernelGym$Step" ({ cls := "KernelGym$Step", name := "note", desc := "(II)V" } : Jvm.MethodName) ({ cls := "KernelGym$Step", name := "note", desc := "(II)V" } : Jvm.MethodName)) ∈ lw_all := lw_g (lw_at lw_m9 64 rfl) rfl
theorem q2102 : (Jvm.Cond.code ({ cls := "KernelGym$Step", name := "note", desc := "(II)V" } : Jvm.MethodName) prog_23_method_2_code (4 : Nat) (Option.none : Option Jvm.ClassFile.FieldType)) ∈ lw_all := lw_g (lw_at lw_m9 65 rfl) rfl
theorem q2103 : (Jvm.Cond.methodLink "KernelGym$Step" (17 : Nat) ({ cls := "java/lang/System", name := "arraycopy", desc := "(Ljava/lang/Object;ILjava/lang/Object;II)V" } : Jvm.MethodName)) ∈ lw_all := lw_g (lw_at lw_m9 66 rfl) rfl
theorem q2533 : (Jvm.Cond.instanceMethod ({ cls := "KernelGym$Step", name := "has", desc := "(I)Z" } : Jvm.MethodName)) ∈ lw_all := lw_g (lw_at lw_m11 16 rfl) rfl
theorem q2534 : (Jvm.Cond.selects "KernelGym$Step" ({ cls := "KernelGym$Step", name := "has", desc := "(I)Z" } : Jvm.MethodName) ({ cls := "KernelGym$Step", name := "has", desc := "(I)Z" } : Jvm.MethodName)) ∈ lw_all := lw_g (lw_at lw_m11 17 rfl) rfl
theorem q2535 : (Jvm.Cond.code ({ cls := "KernelGym$Step", name := "has", desc := "(I)Z" } : Jvm.MethodName) prog_23_method_3_code (4 : Nat) (Option.some Jvm.ClassFile.FieldType.boolean)) ∈ lw_all := lw_g (lw_at lw_m11 18 rfl) rfl
theorem q3503 : (Jvm.Cond.castable "KernelGym$Step" "java/lang/Object") ∈ lw_tbl := lw_at lw_m15 26 rfl
theorem in_X21 : ∀ w ∈ wsX210, w ∈ lw_all := lw_in wsX210 [2042, 2044] (by decide +kernel) (by decide +kernel)

/-! KernelGym$NoStack -/
def RX22 : String := "KernelGym$NoStack"
def TX22 : u_T := fun k => match k with
  | 0 => ("java/lang/Throwable", "cause", "Ljava/lang/Throwable;", false)
  | 1 => ("java/lang/Throwable", "stackTrace", "[Ljava/lang/StackTraceElement;", false)
  | 2 => ("java/lang/Throwable", "suppressedExceptions", "Ljava/util/List;", false)
  | 3 => ("java/lang/Throwable", "detailMessage", "Ljava/lang/String;", false)
  | 4 => ("java/lang/Throwable", "backtrace", "Ljava/lang/Object;", false)
  | _ => ("java/lang/Throwable", "depth", "I", false)
def tyX22 : Nat → FieldType := fun k => match k with
  | 0 => .object "java/lang/Throwable"
  | 1 => .array (.object "java/lang/StackTraceElement")
  | 2 => .object "java/util/List"
  | 3 => .object "java/lang/String"
  | 4 => .object "java/lang/Object"
  | _ => .int
abbrev wsX220 : List Cond := u_ws RX22 TX22 6
theorem nmX22 : ∀ a, a < 6 → ∀ b, b < 6 → a ≠ b → (TX22 a).2.1 ≠ (TX22 b).2.1 := by decide +kernel
theorem tyX22_ok : ∀ k, k < 6 → parseFieldDescriptor (TX22 k).2.2.1 = some (tyX22 k) := by decide +kernel
abbrev cX22_init : ByteArray := prog_19_method_1_code
def yX22_init : MethodName := ⟨RX22, "<init>", "(I)V"⟩
def dkwX22_init_0 : List UInt8 := [42, 187, 0, 1, 89, 183, 0, 3, 18, 7, 182, 0, 9, 27, 182, 0, 13, 182, 0, 16, 183, 0, 20, 177]
abbrev dktX22_init_0 : List UInt8 := dkwX22_init_0 ++ []
theorem dksX22_init_0 : cX22_init.data.toList.drop 0 = dktX22_init_0 := by decide +kernel
theorem dX22_init_0 : decode cX22_init 0 = .ok (.aload_n 0, 1) := dk_42 (dk_at dksX22_init_0 0 rfl rfl)
theorem dX22_init_1 : decode cX22_init 1 = .ok (.new 1, 3) := dk_187 0 1 (dk_at dksX22_init_0 1 rfl rfl)
theorem dX22_init_4 : decode cX22_init 4 = .ok (.dup, 1) := dk_89 (dk_at dksX22_init_0 4 rfl rfl)
theorem dX22_init_5 : decode cX22_init 5 = .ok (.invokespecial 3, 3) := dk_183 0 3 (dk_at dksX22_init_0 5 rfl rfl)
theorem dX22_init_8 : decode cX22_init 8 = .ok (.ldc 7, 2) := dk_18 7 (dk_at dksX22_init_0 8 rfl rfl)
theorem dX22_init_10 : decode cX22_init 10 = .ok (.invokevirtual 9, 3) := dk_182 0 9 (dk_at dksX22_init_0 10 rfl rfl)
theorem dX22_init_13 : decode cX22_init 13 = .ok (.iload_n 1, 1) := dk_27 (dk_at dksX22_init_0 13 rfl rfl)
theorem dX22_init_14 : decode cX22_init 14 = .ok (.invokevirtual 13, 3) := dk_182 0 13 (dk_at dksX22_init_0 14 rfl rfl)
theorem dX22_init_17 : decode cX22_init 17 = .ok (.invokevirtual 16, 3) := dk_182 0 16 (dk_at dksX22_init_0 17 rfl rfl)
theorem dX22_init_20 : decode cX22_init 20 = .ok (.invokespecial 20, 3) := dk_183 0 20 (dk_at dksX22_init_0 20 rfl rfl)
theorem dX22_init_23 : decode cX22_init 23 = .ok (.return_, 1) := dk_177 (dk_at dksX22_init_0 23 rfl rfl)
theorem q166 : (Jvm.Cond.initialized "KernelGym$NoStack") ∈ lw_all := lw_g (lw_at lw_m1 49 rfl) rfl
theorem q508 : (Jvm.Cond.selects "KernelGym$NoStack" ({ cls := "java/lang/Throwable", name := "fillInStackTrace", desc := "()Ljava/lang/Throwable;" } : Jvm.MethodName) ({ cls := "java/lang/Throwable", name := "fillInStackTrace", desc := "()Ljava/lang/Throwable;" } : Jvm.MethodName)) ∈ lw_all := lw_g (lw_at lw_m2 151 rfl) rfl
theorem q1063 : (Jvm.Cond.selects "KernelGym$NoStack" ({ cls := "java/lang/Object", name := "getClass", desc := "()Ljava/lang/Class;" } : Jvm.MethodName) ({ cls := "java/lang/Object", name := "getClass", desc := "()Ljava/lang/Class;" } : Jvm.MethodName)) ∈ lw_all := lw_g (lw_at lw_m4 226 rfl) rfl
theorem q1576 : (Jvm.Cond.selects "KernelGym$NoStack" ({ cls := "java/lang/Throwable", name := "toString", desc := "()Ljava/lang/String;" } : Jvm.MethodName) ({ cls := "java/lang/Throwable", name := "toString", desc := "()Ljava/lang/String;" } : Jvm.MethodName)) ∈ lw_all := lw_g (lw_at lw_m7 19 rfl) rfl
theorem q1592 : (Jvm.Cond.selects "KernelGym$NoStack" ({ cls := "java/lang/Throwable", name := "getLocalizedMessage", desc := "()Ljava/lang/String;" } : Jvm.MethodName) ({ cls := "java/lang/Throwable", name := "getLocalizedMessage", desc := "()Ljava/lang/String;" } : Jvm.MethodName)) ∈ lw_all := lw_g (lw_at lw_m7 35 rfl) rfl
theorem q1607 : (Jvm.Cond.selects "KernelGym$NoStack" ({ cls := "java/lang/Throwable", name := "getMessage", desc := "()Ljava/lang/String;" } : Jvm.MethodName) ({ cls := "java/lang/Throwable", name := "getMessage", desc := "()Ljava/lang/String;" } : Jvm.MethodName)) ∈ lw_all := lw_g (lw_at lw_m7 50 rfl) rfl
theorem q2120 : (Jvm.Cond.instantiable "KernelGym$NoStack" (6 : Nat)) ∈ lw_all := lw_g (lw_at lw_m9 83 rfl) rfl
theorem q2121 : (Jvm.Cond.castable "KernelGym$NoStack" "KernelGym$NoStack") ∈ lw_tbl := lw_at lw_m9 84 rfl
theorem q2122 : (Jvm.Cond.selects "KernelGym$NoStack" ({ cls := "java/lang/Throwable", name := "fillInStackTrace", desc := "(I)Ljava/lang/Throwable;" } : Jvm.MethodName) ({ cls := "java/lang/Throwable", name := "fillInStackTrace", desc := "(I)Ljava/lang/Throwable;" } : Jvm.MethodName)) ∈ lw_all := lw_g (lw_at lw_m9 85 rfl) rfl
theorem q2123 : (Jvm.Cond.lays "KernelGym$NoStack" "java/lang/Throwable" "cause" "Ljava/lang/Throwable;") ∈ lw_all := lw_g (lw_at lw_m9 86 rfl) rfl
theorem q2124 : (Jvm.Cond.lays "KernelGym$NoStack" "java/lang/Throwable" "stackTrace" "[Ljava/lang/StackTraceElement;") ∈ lw_all := lw_g (lw_at lw_m9 87 rfl) rfl
theorem q2125 : (Jvm.Cond.lays "KernelGym$NoStack" "java/lang/Throwable" "suppressedExceptions" "Ljava/util/List;") ∈ lw_all := lw_g (lw_at lw_m9 88 rfl) rfl
theorem q2126 : (Jvm.Cond.lays "KernelGym$NoStack" "java/lang/Throwable" "detailMessage" "Ljava/lang/String;") ∈ lw_all := lw_g (lw_at lw_m9 89 rfl) rfl
theorem q2127 : (Jvm.Cond.lays "KernelGym$NoStack" "java/lang/Throwable" "backtrace" "Ljava/lang/Object;") ∈ lw_all := lw_g (lw_at lw_m9 90 rfl) rfl
theorem q2129 : (Jvm.Cond.instanceMethod ({ cls := "KernelGym$NoStack", name := "<init>", desc := "(I)V" } : Jvm.MethodName)) ∈ lw_all := lw_g (lw_at lw_m9 92 rfl) rfl
theorem q2130 : (Jvm.Cond.code ({ cls := "KernelGym$NoStack", name := "<init>", desc := "(I)V" } : Jvm.MethodName) prog_19_method_1_code (2 : Nat) (Option.none : Option Jvm.ClassFile.FieldType)) ∈ lw_all := lw_g (lw_at lw_m9 93 rfl) rfl
theorem q2131 : (Jvm.Cond.classLink "KernelGym$NoStack" (1 : Nat) "java/lang/StringBuilder") ∈ lw_all := lw_g (lw_at lw_m9 94 rfl) rfl
theorem q2132 : (Jvm.Cond.methodLink "KernelGym$NoStack" (3 : Nat) ({ cls := "java/lang/StringBuilder", name := "<init>", desc := "()V" } : Jvm.MethodName)) ∈ lw_all := lw_g (lw_at lw_m9 95 rfl) rfl
theorem q2133 : (Jvm.Cond.stringRef "KernelGym$NoStack" (7 : Nat) "the stack pointer is ") ∈ lw_tbl := lw_at lw_m9 96 rfl
theorem q2134 : (Jvm.Cond.methodLink "KernelGym$NoStack" (9 : Nat) ({ cls := "java/lang/StringBuilder", name := "append", desc := "(Ljava/lang/String;)Ljava/lang/StringBuilder;" } : Jvm.MethodName)) ∈ lw_all := lw_g (lw_at lw_m9 97 rfl) rfl
theorem q2135 : (Jvm.Cond.methodLink "KernelGym$NoStack" (13 : Nat) ({ cls := "java/lang/StringBuilder", name := "append", desc := "(I)Ljava/lang/StringBuilder;" } : Jvm.MethodName)) ∈ lw_all := lw_g (lw_at lw_m9 98 rfl) rfl
theorem q2136 : (Jvm.Cond.methodLink "KernelGym$NoStack" (16 : Nat) ({ cls := "java/lang/StringBuilder", name := "toString", desc := "()Ljava/lang/String;" } : Jvm.MethodName)) ∈ lw_all := lw_g (lw_at lw_m9 99 rfl) rfl
theorem q2137 : (Jvm.Cond.methodLink "KernelGym$NoStack" (20 : Nat) ({ cls := "java/lang/Exception", name := "<init>", desc := "(Ljava/lang/String;)V" } : Jvm.MethodName)) ∈ lw_all := lw_g (lw_at lw_m9 100 rfl) rfl
theorem q2138 : (Jvm.Cond.lays "KernelGym$NoStack" "java/lang/Throwable" "depth" "I") ∈ lw_all := lw_g (lw_at lw_m9 101 rfl) rfl
theorem q2139 : (Jvm.Cond.superclass "KernelGym$NoStack" "java/lang/Exception") ∈ lw_all := lw_g (lw_at lw_m9 102 rfl) rfl
theorem q3505 : (Jvm.Cond.castable "KernelGym$NoStack" "java/lang/Object") ∈ lw_tbl := lw_at lw_m15 28 rfl
theorem in_X22 : ∀ w ∈ wsX220, w ∈ lw_all := lw_in wsX220 [2123, 2124, 2125, 2126, 2127, 2138] (by decide +kernel) (by decide +kernel)

