set_option maxRecDepth 100000
/-! KernelGymModel -/
def RX3 : String := "KernelGymModel"
def TX3 : u_T := fun k => match k with
  | 0 => ("KernelGymModel", "thrown", "I", false)
  | 1 => ("KernelGymModel", "lines", "I", false)
  | 2 => ("KernelGymModel", "kinds", "[I", true)
  | 3 => ("KernelGymModel", "numbers", "[I", true)
  | 4 => ("KernelGymModel", "labels", "[I", true)
  | 5 => ("KernelGymModel", "sizes", "[I", true)
  | 6 => ("KernelGymModel", "macroFrom", "[I", true)
  | 7 => ("KernelGymModel", "macroTo", "[I", true)
  | 8 => ("KernelGymModel", "at", "[I", true)
  | 9 => ("KernelGymModel", "to", "[I", true)
  | 10 => ("KernelGymModel", "useOf", "[I", true)
  | 11 => ("KernelGymModel", "macroOf", "[I", true)
  | 12 => ("KernelGymModel", "firsts", "[I", true)
  | 13 => ("KernelGymModel", "seconds", "[I", true)
  | 14 => ("KernelGymModel", "depth", "I", false)
  | 15 => ("KernelGymModel", "present", "I", false)
  | 16 => ("KernelGymModel", "gone", "I", false)
  | 17 => ("KernelGymModel", "uses", "I", false)
  | 18 => ("KernelGymModel", "base", "I", false)
  | 19 => ("KernelGymModel", "operandError", "I", false)
  | 20 => ("KernelGymModel", "built", "[I", true)
  | 21 => ("KernelGymModel", "image", "[I", true)
  | 22 => ("KernelGymModel", "isAssembled", "Z", false)
  | 23 => ("KernelGymModel", "state", "I", false)
  | 24 => ("KernelGymModel", "fault", "I", false)
  | 25 => ("KernelGymModel", "memory", "[I", true)
  | 26 => ("KernelGymModel", "registers", "[I", true)
  | 27 => ("KernelGymModel", "counter", "I", false)
  | 28 => ("KernelGymModel", "stack", "I", false)
  | 29 => ("KernelGymModel", "isZero", "Z", false)
  | 30 => ("KernelGymModel", "isLess", "Z", false)
  | 31 => ("KernelGymModel", "isOn", "Z", false)
  | 32 => ("KernelGymModel", "isTimer", "Z", false)
  | 33 => ("KernelGymModel", "isKey", "Z", false)
  | 34 => ("KernelGymModel", "interval", "I", false)
  | 35 => ("KernelGymModel", "time", "I", false)
  | 36 => ("KernelGymModel", "tape", "[I", true)
  | 37 => ("KernelGymModel", "taped", "I", false)
  | 38 => ("KernelGymModel", "steps", "I", false)
  | 39 => ("KernelGymModel", "read", "I", false)
  | 40 => ("KernelGymModel", "kept", "I", false)
  | 41 => ("KernelGymModel", "keyTimes", "[I", true)
  | 42 => ("KernelGymModel", "keys", "[I", true)
  | 43 => ("KernelGymModel", "told", "I", false)
  | 44 => ("KernelGymModel", "wroteOne", "[I", true)
  | 45 => ("KernelGymModel", "wroteOther", "[I", true)
  | 46 => ("KernelGymModel", "left", "I", false)
  | 47 => ("KernelGymModel", "many", "I", false)
  | 48 => ("KernelGymModel", "changed", "[I", true)
  | 49 => ("KernelGymModel", "contents", "[I", true)
  | 50 => ("KernelGymModel", "disk", "[I", true)
  | 51 => ("KernelGymModel", "will", "[I", true)
  | 52 => ("KernelGymModel", "written", "I", false)
  | 53 => ("KernelGymModel", "startMemory", "[I", true)
  | 54 => ("KernelGymModel", "startDisk", "[I", true)
  | 55 => ("KernelGymModel", "startWritten", "I", false)
  | 56 => ("KernelGymModel", "draftKeys", "[I", true)
  | 57 => ("KernelGymModel", "draftWords", "[I", true)
  | 58 => ("KernelGymModel", "draftedKeys", "I", false)
  | 59 => ("KernelGymModel", "draftedWords", "I", false)
  | 60 => ("KernelGymModel", "tests", "I", false)
  | 61 => ("KernelGymModel", "testKeys", "[I", true)
  | 62 => ("KernelGymModel", "testKeyCounts", "[I", true)
  | 63 => ("KernelGymModel", "testWords", "[I", true)
  | 64 => ("KernelGymModel", "testWordCounts", "[I", true)
  | 65 => ("KernelGymModel", "budgets", "[I", true)
  | 66 => ("KernelGymModel", "blockBudgets", "[I", true)
  | 67 => ("KernelGymModel", "points", "[I", true)
  | 68 => ("KernelGymModel", "crashes", "[I", true)
  | 69 => ("KernelGymModel", "results", "[I", true)
  | 70 => ("KernelGymModel", "havePassed", "[Z", true)
  | 71 => ("KernelGymModel", "asideDisk", "[I", true)
  | 72 => ("KernelGymModel", "asideTimes", "[I", true)
  | _ => ("KernelGymModel", "asideKeys", "[I", true)
def tyX3 : Nat → FieldType := fun k => match k with
  | 0 => .int
  | 1 => .int
  | 2 => .array .int
  | 3 => .array .int
  | 4 => .array .int
  | 5 => .array .int
  | 6 => .array .int
  | 7 => .array .int
  | 8 => .array .int
  | 9 => .array .int
  | 10 => .array .int
  | 11 => .array .int
  | 12 => .array .int
  | 13 => .array .int
  | 14 => .int
  | 15 => .int
  | 16 => .int
  | 17 => .int
  | 18 => .int
  | 19 => .int
  | 20 => .array .int
  | 21 => .array .int
  | 22 => .boolean
  | 23 => .int
  | 24 => .int
  | 25 => .array .int
  | 26 => .array .int
  | 27 => .int
  | 28 => .int
  | 29 => .boolean
  | 30 => .boolean
  | 31 => .boolean
  | 32 => .boolean
  | 33 => .boolean
  | 34 => .int
  | 35 => .int
  | 36 => .array .int
  | 37 => .int
  | 38 => .int
  | 39 => .int
  | 40 => .int
  | 41 => .array .int
  | 42 => .array .int
  | 43 => .int
  | 44 => .array .int
  | 45 => .array .int
  | 46 => .int
  | 47 => .int
  | 48 => .array .int
  | 49 => .array .int
  | 50 => .array .int
  | 51 => .array .int
  | 52 => .int
  | 53 => .array .int
  | 54 => .array .int
  | 55 => .int
  | 56 => .array .int
  | 57 => .array .int
  | 58 => .int
  | 59 => .int
  | 60 => .int
  | 61 => .array .int
  | 62 => .array .int
  | 63 => .array .int
  | 64 => .array .int
  | 65 => .array .int
  | 66 => .array .int
  | 67 => .array .int
  | 68 => .array .int
  | 69 => .array .int
  | 70 => .array .boolean
  | 71 => .array .int
  | 72 => .array .int
  | _ => .array .int
abbrev wsX30 : List Cond := u_ws RX3 TX3 74
set_option maxRecDepth 100000 in
theorem nmX3 : ∀ a, a < 74 → ∀ b, b < 74 → a ≠ b → (TX3 a).2.1 ≠ (TX3 b).2.1 := by decide +kernel
set_option maxRecDepth 100000 in
theorem tyX3_ok : ∀ k, k < 74 → parseFieldDescriptor (TX3 k).2.2.1 = some (tyX3 k) := by decide +kernel
abbrev cX3_init : ByteArray := prog_28_method_1_code
def yX3_init : MethodName := ⟨RX3, "<init>", "()V"⟩
def dkwX3_init_14 : List UInt8 := [42, 16, 20, 188, 10, 181, 0, 134, 42, 182, 0, 137, 177]
abbrev dktX3_init_14 : List UInt8 := dkwX3_init_14 ++ []
def dkwX3_init_13 : List UInt8 := [42, 8, 188, 4, 181, 0, 124, 42, 17, 1, 0, 188, 10, 181, 0, 128, 42, 16, 20, 188, 10, 181, 0, 131]
abbrev dktX3_init_13 : List UInt8 := dkwX3_init_13 ++ dktX3_init_14
def dkwX3_init_12 : List UInt8 := [181, 0, 112, 42, 8, 188, 10, 181, 0, 115, 42, 8, 188, 10, 181, 0, 118, 42, 8, 188, 10, 181, 0, 121]
abbrev dktX3_init_12 : List UInt8 := dkwX3_init_12 ++ dktX3_init_13
def dkwX3_init_11 : List UInt8 := [188, 10, 181, 0, 103, 42, 8, 188, 10, 181, 0, 106, 42, 8, 188, 10, 181, 0, 109, 42, 8, 188, 10]
abbrev dktX3_init_11 : List UInt8 := dkwX3_init_11 ++ dktX3_init_12
def dkwX3_init_10 : List UInt8 := [188, 10, 181, 0, 94, 42, 16, 30, 188, 10, 181, 0, 97, 42, 8, 188, 10, 181, 0, 100, 42, 16, 30]
abbrev dktX3_init_10 : List UInt8 := dkwX3_init_10 ++ dktX3_init_11
def dkwX3_init_9 : List UInt8 := [181, 0, 85, 42, 17, 1, 0, 188, 10, 181, 0, 88, 42, 16, 6, 188, 10, 181, 0, 91, 42, 16, 6]
abbrev dktX3_init_9 : List UInt8 := dkwX3_init_9 ++ dktX3_init_10
def dkwX3_init_8 : List UInt8 := [42, 17, 1, 0, 188, 10, 181, 0, 79, 42, 17, 1, 0, 188, 10, 181, 0, 82, 42, 17, 1, 0, 188, 10]
abbrev dktX3_init_8 : List UInt8 := dkwX3_init_8 ++ dktX3_init_9
def dkwX3_init_7 : List UInt8 := [42, 17, 3, 232, 188, 10, 181, 0, 70, 42, 6, 188, 10, 181, 0, 73, 42, 16, 24, 188, 10, 181, 0, 76]
abbrev dktX3_init_7 : List UInt8 := dkwX3_init_7 ++ dktX3_init_8
def dkwX3_init_6 : List UInt8 := [16, 20, 188, 10, 181, 0, 61, 42, 16, 20, 188, 10, 181, 0, 64, 42, 17, 3, 232, 188, 10, 181, 0, 67]
abbrev dktX3_init_6 : List UInt8 := dkwX3_init_6 ++ dktX3_init_7
def dkwX3_init_5 : List UInt8 := [17, 1, 0, 188, 10, 181, 0, 52, 42, 7, 188, 10, 181, 0, 55, 42, 16, 60, 188, 10, 181, 0, 58, 42]
abbrev dktX3_init_5 : List UInt8 := dkwX3_init_5 ++ dktX3_init_6
def dkwX3_init_4 : List UInt8 := [188, 10, 181, 0, 43, 42, 17, 1, 0, 188, 10, 181, 0, 46, 42, 17, 1, 0, 188, 10, 181, 0, 49, 42]
abbrev dktX3_init_4 : List UInt8 := dkwX3_init_4 ++ dktX3_init_5
def dkwX3_init_3 : List UInt8 := [188, 10, 181, 0, 34, 42, 16, 6, 188, 10, 181, 0, 37, 42, 16, 6, 188, 10, 181, 0, 40, 42, 16, 6]
abbrev dktX3_init_3 : List UInt8 := dkwX3_init_3 ++ dktX3_init_4
def dkwX3_init_2 : List UInt8 := [188, 10, 181, 0, 25, 42, 16, 6, 188, 10, 181, 0, 28, 42, 16, 6, 188, 10, 181, 0, 31, 42, 16, 6]
abbrev dktX3_init_2 : List UInt8 := dkwX3_init_2 ++ dktX3_init_3
def dkwX3_init_1 : List UInt8 := [17, 4, 196, 188, 10, 181, 0, 16, 42, 5, 188, 10, 181, 0, 19, 42, 8, 188, 10, 181, 0, 22, 42, 8]
abbrev dktX3_init_1 : List UInt8 := dkwX3_init_1 ++ dktX3_init_2
def dkwX3_init_0 : List UInt8 := [42, 183, 0, 1, 42, 16, 100, 188, 10, 181, 0, 7, 42, 17, 1, 244, 188, 10, 181, 0, 13, 42]
abbrev dktX3_init_0 : List UInt8 := dkwX3_init_0 ++ dktX3_init_1
theorem dksX3_init_0 : cX3_init.data.toList.drop 0 = dktX3_init_0 := by decide +kernel
theorem dksX3_init_1 : cX3_init.data.toList.drop 22 = dktX3_init_1 := dk_seg dksX3_init_0 22 rfl rfl
theorem dksX3_init_2 : cX3_init.data.toList.drop 46 = dktX3_init_2 := dk_seg dksX3_init_1 24 rfl rfl
theorem dksX3_init_3 : cX3_init.data.toList.drop 70 = dktX3_init_3 := dk_seg dksX3_init_2 24 rfl rfl
theorem dksX3_init_4 : cX3_init.data.toList.drop 94 = dktX3_init_4 := dk_seg dksX3_init_3 24 rfl rfl
theorem dksX3_init_5 : cX3_init.data.toList.drop 118 = dktX3_init_5 := dk_seg dksX3_init_4 24 rfl rfl
theorem dksX3_init_6 : cX3_init.data.toList.drop 142 = dktX3_init_6 := dk_seg dksX3_init_5 24 rfl rfl
theorem dksX3_init_7 : cX3_init.data.toList.drop 166 = dktX3_init_7 := dk_seg dksX3_init_6 24 rfl rfl
theorem dksX3_init_8 : cX3_init.data.toList.drop 190 = dktX3_init_8 := dk_seg dksX3_init_7 24 rfl rfl
theorem dksX3_init_9 : cX3_init.data.toList.drop 214 = dktX3_init_9 := dk_seg dksX3_init_8 24 rfl rfl
theorem dksX3_init_10 : cX3_init.data.toList.drop 237 = dktX3_init_10 := dk_seg dksX3_init_9 23 rfl rfl
theorem dksX3_init_11 : cX3_init.data.toList.drop 260 = dktX3_init_11 := dk_seg dksX3_init_10 23 rfl rfl
theorem dksX3_init_12 : cX3_init.data.toList.drop 283 = dktX3_init_12 := dk_seg dksX3_init_11 23 rfl rfl
theorem dksX3_init_13 : cX3_init.data.toList.drop 307 = dktX3_init_13 := dk_seg dksX3_init_12 24 rfl rfl
theorem dksX3_init_14 : cX3_init.data.toList.drop 331 = dktX3_init_14 := dk_seg dksX3_init_13 24 rfl rfl
theorem dX3_init_0 : decode cX3_init 0 = .ok (.aload_n 0, 1) := dk_42 (dk_at dksX3_init_0 0 rfl rfl)
theorem dX3_init_1 : decode cX3_init 1 = .ok (.invokespecial 1, 3) := dk_183 0 1 (dk_at dksX3_init_0 1 rfl rfl)
theorem dX3_init_4 : decode cX3_init 4 = .ok (.aload_n 0, 1) := dk_42 (dk_at dksX3_init_0 4 rfl rfl)
theorem dX3_init_5 : decode cX3_init 5 = .ok (.bipush 100, 2) := dk_16 100 (dk_at dksX3_init_0 5 rfl rfl)
theorem dX3_init_7 : decode cX3_init 7 = .ok (.newarray .int, 2) := dk_188_10 (dk_at dksX3_init_0 7 rfl rfl)
theorem dX3_init_9 : decode cX3_init 9 = .ok (.putfield 7, 3) := dk_181 0 7 (dk_at dksX3_init_0 9 rfl rfl)
theorem dX3_init_12 : decode cX3_init 12 = .ok (.aload_n 0, 1) := dk_42 (dk_at dksX3_init_0 12 rfl rfl)
theorem dX3_init_13 : decode cX3_init 13 = .ok (.sipush 500, 3) := dk_17 1 244 (dk_at dksX3_init_0 13 rfl rfl)
theorem dX3_init_16 : decode cX3_init 16 = .ok (.newarray .int, 2) := dk_188_10 (dk_at dksX3_init_0 16 rfl rfl)
theorem dX3_init_18 : decode cX3_init 18 = .ok (.putfield 13, 3) := dk_181 0 13 (dk_at dksX3_init_0 18 rfl rfl)
theorem dX3_init_21 : decode cX3_init 21 = .ok (.aload_n 0, 1) := dk_42 (dk_at dksX3_init_0 21 rfl rfl)
theorem dX3_init_22 : decode cX3_init 22 = .ok (.sipush 1220, 3) := dk_17 4 196 (dk_at dksX3_init_1 0 rfl rfl)
theorem dX3_init_25 : decode cX3_init 25 = .ok (.newarray .int, 2) := dk_188_10 (dk_at dksX3_init_1 3 rfl rfl)
theorem dX3_init_27 : decode cX3_init 27 = .ok (.putfield 16, 3) := dk_181 0 16 (dk_at dksX3_init_1 5 rfl rfl)
theorem dX3_init_30 : decode cX3_init 30 = .ok (.aload_n 0, 1) := dk_42 (dk_at dksX3_init_1 8 rfl rfl)
theorem dX3_init_31 : decode cX3_init 31 = .ok (.iconst 2, 1) := dk_5 (dk_at dksX3_init_1 9 rfl rfl)
theorem dX3_init_32 : decode cX3_init 32 = .ok (.newarray .int, 2) := dk_188_10 (dk_at dksX3_init_1 10 rfl rfl)
theorem dX3_init_34 : decode cX3_init 34 = .ok (.putfield 19, 3) := dk_181 0 19 (dk_at dksX3_init_1 12 rfl rfl)
theorem dX3_init_37 : decode cX3_init 37 = .ok (.aload_n 0, 1) := dk_42 (dk_at dksX3_init_1 15 rfl rfl)
theorem dX3_init_38 : decode cX3_init 38 = .ok (.iconst 5, 1) := dk_8 (dk_at dksX3_init_1 16 rfl rfl)
theorem dX3_init_39 : decode cX3_init 39 = .ok (.newarray .int, 2) := dk_188_10 (dk_at dksX3_init_1 17 rfl rfl)
theorem dX3_init_41 : decode cX3_init 41 = .ok (.putfield 22, 3) := dk_181 0 22 (dk_at dksX3_init_1 19 rfl rfl)
theorem dX3_init_44 : decode cX3_init 44 = .ok (.aload_n 0, 1) := dk_42 (dk_at dksX3_init_1 22 rfl rfl)
theorem dX3_init_45 : decode cX3_init 45 = .ok (.iconst 5, 1) := dk_8 (dk_at dksX3_init_1 23 rfl rfl)
theorem dX3_init_46 : decode cX3_init 46 = .ok (.newarray .int, 2) := dk_188_10 (dk_at dksX3_init_2 0 rfl rfl)
theorem dX3_init_48 : decode cX3_init 48 = .ok (.putfield 25, 3) := dk_181 0 25 (dk_at dksX3_init_2 2 rfl rfl)
theorem dX3_init_51 : decode cX3_init 51 = .ok (.aload_n 0, 1) := dk_42 (dk_at dksX3_init_2 5 rfl rfl)
theorem dX3_init_52 : decode cX3_init 52 = .ok (.bipush 6, 2) := dk_16 6 (dk_at dksX3_init_2 6 rfl rfl)
theorem dX3_init_54 : decode cX3_init 54 = .ok (.newarray .int, 2) := dk_188_10 (dk_at dksX3_init_2 8 rfl rfl)
theorem dX3_init_56 : decode cX3_init 56 = .ok (.putfield 28, 3) := dk_181 0 28 (dk_at dksX3_init_2 10 rfl rfl)
theorem dX3_init_59 : decode cX3_init 59 = .ok (.aload_n 0, 1) := dk_42 (dk_at dksX3_init_2 13 rfl rfl)
theorem dX3_init_60 : decode cX3_init 60 = .ok (.bipush 6, 2) := dk_16 6 (dk_at dksX3_init_2 14 rfl rfl)
theorem dX3_init_62 : decode cX3_init 62 = .ok (.newarray .int, 2) := dk_188_10 (dk_at dksX3_init_2 16 rfl rfl)
theorem dX3_init_64 : decode cX3_init 64 = .ok (.putfield 31, 3) := dk_181 0 31 (dk_at dksX3_init_2 18 rfl rfl)
theorem dX3_init_67 : decode cX3_init 67 = .ok (.aload_n 0, 1) := dk_42 (dk_at dksX3_init_2 21 rfl rfl)
theorem dX3_init_68 : decode cX3_init 68 = .ok (.bipush 6, 2) := dk_16 6 (dk_at dksX3_init_2 22 rfl rfl)
theorem dX3_init_70 : decode cX3_init 70 = .ok (.newarray .int, 2) := dk_188_10 (dk_at dksX3_init_3 0 rfl rfl)
theorem dX3_init_72 : decode cX3_init 72 = .ok (.putfield 34, 3) := dk_181 0 34 (dk_at dksX3_init_3 2 rfl rfl)
theorem dX3_init_75 : decode cX3_init 75 = .ok (.aload_n 0, 1) := dk_42 (dk_at dksX3_init_3 5 rfl rfl)
theorem dX3_init_76 : decode cX3_init 76 = .ok (.bipush 6, 2) := dk_16 6 (dk_at dksX3_init_3 6 rfl rfl)
theorem dX3_init_78 : decode cX3_init 78 = .ok (.newarray .int, 2) := dk_188_10 (dk_at dksX3_init_3 8 rfl rfl)
theorem dX3_init_80 : decode cX3_init 80 = .ok (.putfield 37, 3) := dk_181 0 37 (dk_at dksX3_init_3 10 rfl rfl)
theorem dX3_init_83 : decode cX3_init 83 = .ok (.aload_n 0, 1) := dk_42 (dk_at dksX3_init_3 13 rfl rfl)
theorem dX3_init_84 : decode cX3_init 84 = .ok (.bipush 6, 2) := dk_16 6 (dk_at dksX3_init_3 14 rfl rfl)
theorem dX3_init_86 : decode cX3_init 86 = .ok (.newarray .int, 2) := dk_188_10 (dk_at dksX3_init_3 16 rfl rfl)
theorem dX3_init_88 : decode cX3_init 88 = .ok (.putfield 40, 3) := dk_181 0 40 (dk_at dksX3_init_3 18 rfl rfl)
theorem dX3_init_91 : decode cX3_init 91 = .ok (.aload_n 0, 1) := dk_42 (dk_at dksX3_init_3 21 rfl rfl)
theorem dX3_init_92 : decode cX3_init 92 = .ok (.bipush 6, 2) := dk_16 6 (dk_at dksX3_init_3 22 rfl rfl)
theorem dX3_init_94 : decode cX3_init 94 = .ok (.newarray .int, 2) := dk_188_10 (dk_at dksX3_init_4 0 rfl rfl)
theorem dX3_init_96 : decode cX3_init 96 = .ok (.putfield 43, 3) := dk_181 0 43 (dk_at dksX3_init_4 2 rfl rfl)
theorem dX3_init_99 : decode cX3_init 99 = .ok (.aload_n 0, 1) := dk_42 (dk_at dksX3_init_4 5 rfl rfl)
theorem dX3_init_100 : decode cX3_init 100 = .ok (.sipush 256, 3) := dk_17 1 0 (dk_at dksX3_init_4 6 rfl rfl)
theorem dX3_init_103 : decode cX3_init 103 = .ok (.newarray .int, 2) := dk_188_10 (dk_at dksX3_init_4 9 rfl rfl)
theorem dX3_init_105 : decode cX3_init 105 = .ok (.putfield 46, 3) := dk_181 0 46 (dk_at dksX3_init_4 11 rfl rfl)
theorem dX3_init_108 : decode cX3_init 108 = .ok (.aload_n 0, 1) := dk_42 (dk_at dksX3_init_4 14 rfl rfl)
theorem dX3_init_109 : decode cX3_init 109 = .ok (.sipush 256, 3) := dk_17 1 0 (dk_at dksX3_init_4 15 rfl rfl)
theorem dX3_init_112 : decode cX3_init 112 = .ok (.newarray .int, 2) := dk_188_10 (dk_at dksX3_init_4 18 rfl rfl)
theorem dX3_init_114 : decode cX3_init 114 = .ok (.putfield 49, 3) := dk_181 0 49 (dk_at dksX3_init_4 20 rfl rfl)
theorem dX3_init_117 : decode cX3_init 117 = .ok (.aload_n 0, 1) := dk_42 (dk_at dksX3_init_4 23 rfl rfl)
theorem dX3_init_118 : decode cX3_init 118 = .ok (.sipush 256, 3) := dk_17 1 0 (dk_at dksX3_init_5 0 rfl rfl)
theorem dX3_init_121 : decode cX3_init 121 = .ok (.newarray .int, 2) := dk_188_10 (dk_at dksX3_init_5 3 rfl rfl)
theorem dX3_init_123 : decode cX3_init 123 = .ok (.putfield 52, 3) := dk_181 0 52 (dk_at dksX3_init_5 5 rfl rfl)
theorem dX3_init_126 : decode cX3_init 126 = .ok (.aload_n 0, 1) := dk_42 (dk_at dksX3_init_5 8 rfl rfl)
theorem dX3_init_127 : decode cX3_init 127 = .ok (.iconst 4, 1) := dk_7 (dk_at dksX3_init_5 9 rfl rfl)
theorem dX3_init_128 : decode cX3_init 128 = .ok (.newarray .int, 2) := dk_188_10 (dk_at dksX3_init_5 10 rfl rfl)
theorem dX3_init_130 : decode cX3_init 130 = .ok (.putfield 55, 3) := dk_181 0 55 (dk_at dksX3_init_5 12 rfl rfl)
theorem dX3_init_133 : decode cX3_init 133 = .ok (.aload_n 0, 1) := dk_42 (dk_at dksX3_init_5 15 rfl rfl)
theorem dX3_init_134 : decode cX3_init 134 = .ok (.bipush 60, 2) := dk_16 60 (dk_at dksX3_init_5 16 rfl rfl)
theorem dX3_init_136 : decode cX3_init 136 = .ok (.newarray .int, 2) := dk_188_10 (dk_at dksX3_init_5 18 rfl rfl)
theorem dX3_init_138 : decode cX3_init 138 = .ok (.putfield 58, 3) := dk_181 0 58 (dk_at dksX3_init_5 20 rfl rfl)
theorem dX3_init_141 : decode cX3_init 141 = .ok (.aload_n 0, 1) := dk_42 (dk_at dksX3_init_5 23 rfl rfl)
theorem dX3_init_142 : decode cX3_init 142 = .ok (.bipush 20, 2) := dk_16 20 (dk_at dksX3_init_6 0 rfl rfl)
theorem dX3_init_144 : decode cX3_init 144 = .ok (.newarray .int, 2) := dk_188_10 (dk_at dksX3_init_6 2 rfl rfl)
theorem dX3_init_146 : decode cX3_init 146 = .ok (.putfield 61, 3) := dk_181 0 61 (dk_at dksX3_init_6 4 rfl rfl)
theorem dX3_init_149 : decode cX3_init 149 = .ok (.aload_n 0, 1) := dk_42 (dk_at dksX3_init_6 7 rfl rfl)
theorem dX3_init_150 : decode cX3_init 150 = .ok (.bipush 20, 2) := dk_16 20 (dk_at dksX3_init_6 8 rfl rfl)
theorem dX3_init_152 : decode cX3_init 152 = .ok (.newarray .int, 2) := dk_188_10 (dk_at dksX3_init_6 10 rfl rfl)
theorem dX3_init_154 : decode cX3_init 154 = .ok (.putfield 64, 3) := dk_181 0 64 (dk_at dksX3_init_6 12 rfl rfl)
theorem dX3_init_157 : decode cX3_init 157 = .ok (.aload_n 0, 1) := dk_42 (dk_at dksX3_init_6 15 rfl rfl)
theorem dX3_init_158 : decode cX3_init 158 = .ok (.sipush 1000, 3) := dk_17 3 232 (dk_at dksX3_init_6 16 rfl rfl)
theorem dX3_init_161 : decode cX3_init 161 = .ok (.newarray .int, 2) := dk_188_10 (dk_at dksX3_init_6 19 rfl rfl)
theorem dX3_init_163 : decode cX3_init 163 = .ok (.putfield 67, 3) := dk_181 0 67 (dk_at dksX3_init_6 21 rfl rfl)
theorem dX3_init_166 : decode cX3_init 166 = .ok (.aload_n 0, 1) := dk_42 (dk_at dksX3_init_7 0 rfl rfl)
theorem dX3_init_167 : decode cX3_init 167 = .ok (.sipush 1000, 3) := dk_17 3 232 (dk_at dksX3_init_7 1 rfl rfl)
theorem dX3_init_170 : decode cX3_init 170 = .ok (.newarray .int, 2) := dk_188_10 (dk_at dksX3_init_7 4 rfl rfl)
theorem dX3_init_172 : decode cX3_init 172 = .ok (.putfield 70, 3) := dk_181 0 70 (dk_at dksX3_init_7 6 rfl rfl)
theorem dX3_init_175 : decode cX3_init 175 = .ok (.aload_n 0, 1) := dk_42 (dk_at dksX3_init_7 9 rfl rfl)
theorem dX3_init_176 : decode cX3_init 176 = .ok (.iconst 3, 1) := dk_6 (dk_at dksX3_init_7 10 rfl rfl)
theorem dX3_init_177 : decode cX3_init 177 = .ok (.newarray .int, 2) := dk_188_10 (dk_at dksX3_init_7 11 rfl rfl)
theorem dX3_init_179 : decode cX3_init 179 = .ok (.putfield 73, 3) := dk_181 0 73 (dk_at dksX3_init_7 13 rfl rfl)
theorem dX3_init_182 : decode cX3_init 182 = .ok (.aload_n 0, 1) := dk_42 (dk_at dksX3_init_7 16 rfl rfl)
theorem dX3_init_183 : decode cX3_init 183 = .ok (.bipush 24, 2) := dk_16 24 (dk_at dksX3_init_7 17 rfl rfl)
theorem dX3_init_185 : decode cX3_init 185 = .ok (.newarray .int, 2) := dk_188_10 (dk_at dksX3_init_7 19 rfl rfl)
theorem dX3_init_187 : decode cX3_init 187 = .ok (.putfield 76, 3) := dk_181 0 76 (dk_at dksX3_init_7 21 rfl rfl)
theorem dX3_init_190 : decode cX3_init 190 = .ok (.aload_n 0, 1) := dk_42 (dk_at dksX3_init_8 0 rfl rfl)
theorem dX3_init_191 : decode cX3_init 191 = .ok (.sipush 256, 3) := dk_17 1 0 (dk_at dksX3_init_8 1 rfl rfl)
theorem dX3_init_194 : decode cX3_init 194 = .ok (.newarray .int, 2) := dk_188_10 (dk_at dksX3_init_8 4 rfl rfl)
theorem dX3_init_196 : decode cX3_init 196 = .ok (.putfield 79, 3) := dk_181 0 79 (dk_at dksX3_init_8 6 rfl rfl)
theorem dX3_init_199 : decode cX3_init 199 = .ok (.aload_n 0, 1) := dk_42 (dk_at dksX3_init_8 9 rfl rfl)
theorem dX3_init_200 : decode cX3_init 200 = .ok (.sipush 256, 3) := dk_17 1 0 (dk_at dksX3_init_8 10 rfl rfl)
theorem dX3_init_203 : decode cX3_init 203 = .ok (.newarray .int, 2) := dk_188_10 (dk_at dksX3_init_8 13 rfl rfl)
theorem dX3_init_205 : decode cX3_init 205 = .ok (.putfield 82, 3) := dk_181 0 82 (dk_at dksX3_init_8 15 rfl rfl)
theorem dX3_init_208 : decode cX3_init 208 = .ok (.aload_n 0, 1) := dk_42 (dk_at dksX3_init_8 18 rfl rfl)
theorem dX3_init_209 : decode cX3_init 209 = .ok (.sipush 256, 3) := dk_17 1 0 (dk_at dksX3_init_8 19 rfl rfl)
theorem dX3_init_212 : decode cX3_init 212 = .ok (.newarray .int, 2) := dk_188_10 (dk_at dksX3_init_8 22 rfl rfl)
theorem dX3_init_214 : decode cX3_init 214 = .ok (.putfield 85, 3) := dk_181 0 85 (dk_at dksX3_init_9 0 rfl rfl)
theorem dX3_init_217 : decode cX3_init 217 = .ok (.aload_n 0, 1) := dk_42 (dk_at dksX3_init_9 3 rfl rfl)
theorem dX3_init_218 : decode cX3_init 218 = .ok (.sipush 256, 3) := dk_17 1 0 (dk_at dksX3_init_9 4 rfl rfl)
theorem dX3_init_221 : decode cX3_init 221 = .ok (.newarray .int, 2) := dk_188_10 (dk_at dksX3_init_9 7 rfl rfl)
theorem dX3_init_223 : decode cX3_init 223 = .ok (.putfield 88, 3) := dk_181 0 88 (dk_at dksX3_init_9 9 rfl rfl)
theorem dX3_init_226 : decode cX3_init 226 = .ok (.aload_n 0, 1) := dk_42 (dk_at dksX3_init_9 12 rfl rfl)
theorem dX3_init_227 : decode cX3_init 227 = .ok (.bipush 6, 2) := dk_16 6 (dk_at dksX3_init_9 13 rfl rfl)
theorem dX3_init_229 : decode cX3_init 229 = .ok (.newarray .int, 2) := dk_188_10 (dk_at dksX3_init_9 15 rfl rfl)
theorem dX3_init_231 : decode cX3_init 231 = .ok (.putfield 91, 3) := dk_181 0 91 (dk_at dksX3_init_9 17 rfl rfl)
theorem dX3_init_234 : decode cX3_init 234 = .ok (.aload_n 0, 1) := dk_42 (dk_at dksX3_init_9 20 rfl rfl)
theorem dX3_init_235 : decode cX3_init 235 = .ok (.bipush 6, 2) := dk_16 6 (dk_at dksX3_init_9 21 rfl rfl)
theorem dX3_init_237 : decode cX3_init 237 = .ok (.newarray .int, 2) := dk_188_10 (dk_at dksX3_init_10 0 rfl rfl)
theorem dX3_init_239 : decode cX3_init 239 = .ok (.putfield 94, 3) := dk_181 0 94 (dk_at dksX3_init_10 2 rfl rfl)
theorem dX3_init_242 : decode cX3_init 242 = .ok (.aload_n 0, 1) := dk_42 (dk_at dksX3_init_10 5 rfl rfl)
theorem dX3_init_243 : decode cX3_init 243 = .ok (.bipush 30, 2) := dk_16 30 (dk_at dksX3_init_10 6 rfl rfl)
theorem dX3_init_245 : decode cX3_init 245 = .ok (.newarray .int, 2) := dk_188_10 (dk_at dksX3_init_10 8 rfl rfl)
theorem dX3_init_247 : decode cX3_init 247 = .ok (.putfield 97, 3) := dk_181 0 97 (dk_at dksX3_init_10 10 rfl rfl)
theorem dX3_init_250 : decode cX3_init 250 = .ok (.aload_n 0, 1) := dk_42 (dk_at dksX3_init_10 13 rfl rfl)
theorem dX3_init_251 : decode cX3_init 251 = .ok (.iconst 5, 1) := dk_8 (dk_at dksX3_init_10 14 rfl rfl)
theorem dX3_init_252 : decode cX3_init 252 = .ok (.newarray .int, 2) := dk_188_10 (dk_at dksX3_init_10 15 rfl rfl)
theorem dX3_init_254 : decode cX3_init 254 = .ok (.putfield 100, 3) := dk_181 0 100 (dk_at dksX3_init_10 17 rfl rfl)
theorem dX3_init_257 : decode cX3_init 257 = .ok (.aload_n 0, 1) := dk_42 (dk_at dksX3_init_10 20 rfl rfl)
theorem dX3_init_258 : decode cX3_init 258 = .ok (.bipush 30, 2) := dk_16 30 (dk_at dksX3_init_10 21 rfl rfl)
theorem dX3_init_260 : decode cX3_init 260 = .ok (.newarray .int, 2) := dk_188_10 (dk_at dksX3_init_11 0 rfl rfl)
theorem dX3_init_262 : decode cX3_init 262 = .ok (.putfield 103, 3) := dk_181 0 103 (dk_at dksX3_init_11 2 rfl rfl)
theorem dX3_init_265 : decode cX3_init 265 = .ok (.aload_n 0, 1) := dk_42 (dk_at dksX3_init_11 5 rfl rfl)
theorem dX3_init_266 : decode cX3_init 266 = .ok (.iconst 5, 1) := dk_8 (dk_at dksX3_init_11 6 rfl rfl)
theorem dX3_init_267 : decode cX3_init 267 = .ok (.newarray .int, 2) := dk_188_10 (dk_at dksX3_init_11 7 rfl rfl)
theorem dX3_init_269 : decode cX3_init 269 = .ok (.putfield 106, 3) := dk_181 0 106 (dk_at dksX3_init_11 9 rfl rfl)
theorem dX3_init_272 : decode cX3_init 272 = .ok (.aload_n 0, 1) := dk_42 (dk_at dksX3_init_11 12 rfl rfl)
theorem dX3_init_273 : decode cX3_init 273 = .ok (.iconst 5, 1) := dk_8 (dk_at dksX3_init_11 13 rfl rfl)
theorem dX3_init_274 : decode cX3_init 274 = .ok (.newarray .int, 2) := dk_188_10 (dk_at dksX3_init_11 14 rfl rfl)
theorem dX3_init_276 : decode cX3_init 276 = .ok (.putfield 109, 3) := dk_181 0 109 (dk_at dksX3_init_11 16 rfl rfl)
theorem dX3_init_279 : decode cX3_init 279 = .ok (.aload_n 0, 1) := dk_42 (dk_at dksX3_init_11 19 rfl rfl)
theorem dX3_init_280 : decode cX3_init 280 = .ok (.iconst 5, 1) := dk_8 (dk_at dksX3_init_11 20 rfl rfl)
theorem dX3_init_281 : decode cX3_init 281 = .ok (.newarray .int, 2) := dk_188_10 (dk_at dksX3_init_11 21 rfl rfl)
theorem dX3_init_283 : decode cX3_init 283 = .ok (.putfield 112, 3) := dk_181 0 112 (dk_at dksX3_init_12 0 rfl rfl)
theorem dX3_init_286 : decode cX3_init 286 = .ok (.aload_n 0, 1) := dk_42 (dk_at dksX3_init_12 3 rfl rfl)
theorem dX3_init_287 : decode cX3_init 287 = .ok (.iconst 5, 1) := dk_8 (dk_at dksX3_init_12 4 rfl rfl)
theorem dX3_init_288 : decode cX3_init 288 = .ok (.newarray .int, 2) := dk_188_10 (dk_at dksX3_init_12 5 rfl rfl)
theorem dX3_init_290 : decode cX3_init 290 = .ok (.putfield 115, 3) := dk_181 0 115 (dk_at dksX3_init_12 7 rfl rfl)
theorem dX3_init_293 : decode cX3_init 293 = .ok (.aload_n 0, 1) := dk_42 (dk_at dksX3_init_12 10 rfl rfl)
theorem dX3_init_294 : decode cX3_init 294 = .ok (.iconst 5, 1) := dk_8 (dk_at dksX3_init_12 11 rfl rfl)
theorem dX3_init_295 : decode cX3_init 295 = .ok (.newarray .int, 2) := dk_188_10 (dk_at dksX3_init_12 12 rfl rfl)
theorem dX3_init_297 : decode cX3_init 297 = .ok (.putfield 118, 3) := dk_181 0 118 (dk_at dksX3_init_12 14 rfl rfl)
theorem dX3_init_300 : decode cX3_init 300 = .ok (.aload_n 0, 1) := dk_42 (dk_at dksX3_init_12 17 rfl rfl)
theorem dX3_init_301 : decode cX3_init 301 = .ok (.iconst 5, 1) := dk_8 (dk_at dksX3_init_12 18 rfl rfl)
theorem dX3_init_302 : decode cX3_init 302 = .ok (.newarray .int, 2) := dk_188_10 (dk_at dksX3_init_12 19 rfl rfl)
theorem dX3_init_304 : decode cX3_init 304 = .ok (.putfield 121, 3) := dk_181 0 121 (dk_at dksX3_init_12 21 rfl rfl)
theorem dX3_init_307 : decode cX3_init 307 = .ok (.aload_n 0, 1) := dk_42 (dk_at dksX3_init_13 0 rfl rfl)
theorem dX3_init_308 : decode cX3_init 308 = .ok (.iconst 5, 1) := dk_8 (dk_at dksX3_init_13 1 rfl rfl)
theorem dX3_init_309 : decode cX3_init 309 = .ok (.newarray .boolean, 2) := dk_188_4 (dk_at dksX3_init_13 2 rfl rfl)
theorem dX3_init_311 : decode cX3_init 311 = .ok (.putfield 124, 3) := dk_181 0 124 (dk_at dksX3_init_13 4 rfl rfl)
theorem dX3_init_314 : decode cX3_init 314 = .ok (.aload_n 0, 1) := dk_42 (dk_at dksX3_init_13 7 rfl rfl)
theorem dX3_init_315 : decode cX3_init 315 = .ok (.sipush 256, 3) := dk_17 1 0 (dk_at dksX3_init_13 8 rfl rfl)
theorem dX3_init_318 : decode cX3_init 318 = .ok (.newarray .int, 2) := dk_188_10 (dk_at dksX3_init_13 11 rfl rfl)
theorem dX3_init_320 : decode cX3_init 320 = .ok (.putfield 128, 3) := dk_181 0 128 (dk_at dksX3_init_13 13 rfl rfl)
theorem dX3_init_323 : decode cX3_init 323 = .ok (.aload_n 0, 1) := dk_42 (dk_at dksX3_init_13 16 rfl rfl)
theorem dX3_init_324 : decode cX3_init 324 = .ok (.bipush 20, 2) := dk_16 20 (dk_at dksX3_init_13 17 rfl rfl)
theorem dX3_init_326 : decode cX3_init 326 = .ok (.newarray .int, 2) := dk_188_10 (dk_at dksX3_init_13 19 rfl rfl)
theorem dX3_init_328 : decode cX3_init 328 = .ok (.putfield 131, 3) := dk_181 0 131 (dk_at dksX3_init_13 21 rfl rfl)
theorem dX3_init_331 : decode cX3_init 331 = .ok (.aload_n 0, 1) := dk_42 (dk_at dksX3_init_14 0 rfl rfl)
theorem dX3_init_332 : decode cX3_init 332 = .ok (.bipush 20, 2) := dk_16 20 (dk_at dksX3_init_14 1 rfl rfl)
theorem dX3_init_334 : decode cX3_init 334 = .ok (.newarray .int, 2) := dk_188_10 (dk_at dksX3_init_14 3 rfl rfl)
theorem dX3_init_336 : decode cX3_init 336 = .ok (.putfield 134, 3) := dk_181 0 134 (dk_at dksX3_init_14 5 rfl rfl)
theorem dX3_init_339 : decode cX3_init 339 = .ok (.aload_n 0, 1) := dk_42 (dk_at dksX3_init_14 8 rfl rfl)
theorem dX3_init_340 : decode cX3_init 340 = .ok (.invokevirtual 137, 3) := dk_182 0 137 (dk_at dksX3_init_14 9 rfl rfl)
theorem dX3_init_343 : decode cX3_init 343 = .ok (.return_, 1) := dk_177 (dk_at dksX3_init_14 12 rfl rfl)
abbrev cX3_formats : ByteArray := prog_28_method_72_code
def yX3_formats : MethodName := ⟨RX3, "formats", "()V"⟩
def dkwX3_formats_1 : List UInt8 := [180, 0, 79, 16, 32, 17, 0, 255, 79, 42, 3, 181, 1, 133, 177]
abbrev dktX3_formats_1 : List UInt8 := dkwX3_formats_1 ++ []
def dkwX3_formats_0 : List UInt8 := [3, 60, 27, 17, 1, 0, 162, 0, 16, 42, 180, 0, 79, 27, 3, 79, 132, 1, 1, 167, 255, 239, 42]
abbrev dktX3_formats_0 : List UInt8 := dkwX3_formats_0 ++ dktX3_formats_1
theorem dksX3_formats_0 : cX3_formats.data.toList.drop 0 = dktX3_formats_0 := by decide +kernel
theorem dksX3_formats_1 : cX3_formats.data.toList.drop 23 = dktX3_formats_1 := dk_seg dksX3_formats_0 23 rfl rfl
theorem dX3_formats_0 : decode cX3_formats 0 = .ok (.iconst 0, 1) := dk_3 (dk_at dksX3_formats_0 0 rfl rfl)
theorem dX3_formats_1 : decode cX3_formats 1 = .ok (.istore_n 1, 1) := dk_60 (dk_at dksX3_formats_0 1 rfl rfl)
theorem dX3_formats_2 : decode cX3_formats 2 = .ok (.iload_n 1, 1) := dk_27 (dk_at dksX3_formats_0 2 rfl rfl)
theorem dX3_formats_3 : decode cX3_formats 3 = .ok (.sipush 256, 3) := dk_17 1 0 (dk_at dksX3_formats_0 3 rfl rfl)
theorem dX3_formats_6 : decode cX3_formats 6 = .ok (.if_icmp .ge 16, 3) := dk_162 0 16 (dk_at dksX3_formats_0 6 rfl rfl)
theorem dX3_formats_9 : decode cX3_formats 9 = .ok (.aload_n 0, 1) := dk_42 (dk_at dksX3_formats_0 9 rfl rfl)
theorem dX3_formats_10 : decode cX3_formats 10 = .ok (.getfield 79, 3) := dk_180 0 79 (dk_at dksX3_formats_0 10 rfl rfl)
theorem dX3_formats_13 : decode cX3_formats 13 = .ok (.iload_n 1, 1) := dk_27 (dk_at dksX3_formats_0 13 rfl rfl)
theorem dX3_formats_14 : decode cX3_formats 14 = .ok (.iconst 0, 1) := dk_3 (dk_at dksX3_formats_0 14 rfl rfl)
theorem dX3_formats_15 : decode cX3_formats 15 = .ok (.iastore, 1) := dk_79 (dk_at dksX3_formats_0 15 rfl rfl)
theorem dX3_formats_16 : decode cX3_formats 16 = .ok (.iinc 1 1, 3) := dk_132 1 1 (dk_at dksX3_formats_0 16 rfl rfl)
theorem dX3_formats_19 : decode cX3_formats 19 = .ok (.goto (-17), 3) := dk_167 255 239 (dk_at dksX3_formats_0 19 rfl rfl)
theorem dX3_formats_22 : decode cX3_formats 22 = .ok (.aload_n 0, 1) := dk_42 (dk_at dksX3_formats_0 22 rfl rfl)
theorem dX3_formats_23 : decode cX3_formats 23 = .ok (.getfield 79, 3) := dk_180 0 79 (dk_at dksX3_formats_1 0 rfl rfl)
theorem dX3_formats_26 : decode cX3_formats 26 = .ok (.bipush 32, 2) := dk_16 32 (dk_at dksX3_formats_1 3 rfl rfl)
theorem dX3_formats_28 : decode cX3_formats 28 = .ok (.sipush 255, 3) := dk_17 0 255 (dk_at dksX3_formats_1 5 rfl rfl)
theorem dX3_formats_31 : decode cX3_formats 31 = .ok (.iastore, 1) := dk_79 (dk_at dksX3_formats_1 8 rfl rfl)
theorem dX3_formats_32 : decode cX3_formats 32 = .ok (.aload_n 0, 1) := dk_42 (dk_at dksX3_formats_1 9 rfl rfl)
theorem dX3_formats_33 : decode cX3_formats 33 = .ok (.iconst 0, 1) := dk_3 (dk_at dksX3_formats_1 10 rfl rfl)
theorem dX3_formats_34 : decode cX3_formats 34 = .ok (.putfield 389, 3) := dk_181 1 133 (dk_at dksX3_formats_1 11 rfl rfl)
theorem dX3_formats_37 : decode cX3_formats 37 = .ok (.return_, 1) := dk_177 (dk_at dksX3_formats_1 14 rfl rfl)
abbrev cX3_thrown : ByteArray := prog_28_method_2_code
def yX3_thrown : MethodName := ⟨RX3, "thrown", "()I"⟩
theorem dX3_thrown_0 : decode cX3_thrown 0 = .ok (.aload_n 0, 1) := by decide +kernel
theorem dX3_thrown_1 : decode cX3_thrown 1 = .ok (.getfield 140, 3) := by decide +kernel
theorem dX3_thrown_4 : decode cX3_thrown 4 = .ok (.ireturn, 1) := by decide +kernel
abbrev cX3_clear : ByteArray := prog_28_method_5_code
def yX3_clear : MethodName := ⟨RX3, "clear", "()I"⟩
def dkwX3_clear_0 : List UInt8 := [42, 3, 181, 0, 140, 42, 180, 0, 144, 60, 42, 3, 181, 0, 144, 27, 172]
abbrev dktX3_clear_0 : List UInt8 := dkwX3_clear_0 ++ []
theorem dksX3_clear_0 : cX3_clear.data.toList.drop 0 = dktX3_clear_0 := by decide +kernel
theorem dX3_clear_0 : decode cX3_clear 0 = .ok (.aload_n 0, 1) := dk_42 (dk_at dksX3_clear_0 0 rfl rfl)
theorem dX3_clear_1 : decode cX3_clear 1 = .ok (.iconst 0, 1) := dk_3 (dk_at dksX3_clear_0 1 rfl rfl)
theorem dX3_clear_2 : decode cX3_clear 2 = .ok (.putfield 140, 3) := dk_181 0 140 (dk_at dksX3_clear_0 2 rfl rfl)
theorem dX3_clear_5 : decode cX3_clear 5 = .ok (.aload_n 0, 1) := dk_42 (dk_at dksX3_clear_0 5 rfl rfl)
theorem dX3_clear_6 : decode cX3_clear 6 = .ok (.getfield 144, 3) := dk_180 0 144 (dk_at dksX3_clear_0 6 rfl rfl)
theorem dX3_clear_9 : decode cX3_clear 9 = .ok (.istore_n 1, 1) := dk_60 (dk_at dksX3_clear_0 9 rfl rfl)
theorem dX3_clear_10 : decode cX3_clear 10 = .ok (.aload_n 0, 1) := dk_42 (dk_at dksX3_clear_0 10 rfl rfl)
theorem dX3_clear_11 : decode cX3_clear 11 = .ok (.iconst 0, 1) := dk_3 (dk_at dksX3_clear_0 11 rfl rfl)
theorem dX3_clear_12 : decode cX3_clear 12 = .ok (.putfield 144, 3) := dk_181 0 144 (dk_at dksX3_clear_0 12 rfl rfl)
theorem dX3_clear_15 : decode cX3_clear 15 = .ok (.iload_n 1, 1) := dk_27 (dk_at dksX3_clear_0 15 rfl rfl)
theorem dX3_clear_16 : decode cX3_clear 16 = .ok (.ireturn, 1) := dk_172 (dk_at dksX3_clear_0 16 rfl rfl)
abbrev cX3_lines : ByteArray := prog_28_method_6_code
def yX3_lines : MethodName := ⟨RX3, "lines", "()I"⟩
def dkwX3_lines_0 : List UInt8 := [42, 3, 181, 0, 140, 42, 180, 0, 144, 172]
abbrev dktX3_lines_0 : List UInt8 := dkwX3_lines_0 ++ []
theorem dksX3_lines_0 : cX3_lines.data.toList.drop 0 = dktX3_lines_0 := by decide +kernel
theorem dX3_lines_0 : decode cX3_lines 0 = .ok (.aload_n 0, 1) := dk_42 (dk_at dksX3_lines_0 0 rfl rfl)
theorem dX3_lines_1 : decode cX3_lines 1 = .ok (.iconst 0, 1) := dk_3 (dk_at dksX3_lines_0 1 rfl rfl)
theorem dX3_lines_2 : decode cX3_lines 2 = .ok (.putfield 140, 3) := dk_181 0 140 (dk_at dksX3_lines_0 2 rfl rfl)
theorem dX3_lines_5 : decode cX3_lines 5 = .ok (.aload_n 0, 1) := dk_42 (dk_at dksX3_lines_0 5 rfl rfl)
theorem dX3_lines_6 : decode cX3_lines 6 = .ok (.getfield 144, 3) := dk_180 0 144 (dk_at dksX3_lines_0 6 rfl rfl)
theorem dX3_lines_9 : decode cX3_lines 9 = .ok (.ireturn, 1) := dk_172 (dk_at dksX3_lines_0 9 rfl rfl)
abbrev cX3_section : ByteArray := prog_28_method_9_code
def yX3_section : MethodName := ⟨RX3, "section", "(I)I"⟩
def dkwX3_section_0 : List UInt8 := [42, 27, 3, 4, 184, 0, 147, 3, 27, 3, 3, 3, 3, 182, 0, 156, 172]
abbrev dktX3_section_0 : List UInt8 := dkwX3_section_0 ++ []
theorem dksX3_section_0 : cX3_section.data.toList.drop 0 = dktX3_section_0 := by decide +kernel
theorem dX3_section_0 : decode cX3_section 0 = .ok (.aload_n 0, 1) := dk_42 (dk_at dksX3_section_0 0 rfl rfl)
theorem dX3_section_1 : decode cX3_section 1 = .ok (.iload_n 1, 1) := dk_27 (dk_at dksX3_section_0 1 rfl rfl)
theorem dX3_section_2 : decode cX3_section 2 = .ok (.iconst 0, 1) := dk_3 (dk_at dksX3_section_0 2 rfl rfl)
theorem dX3_section_3 : decode cX3_section 3 = .ok (.iconst 1, 1) := dk_4 (dk_at dksX3_section_0 3 rfl rfl)
theorem dX3_section_4 : decode cX3_section 4 = .ok (.invokestatic 147, 3) := dk_184 0 147 (dk_at dksX3_section_0 4 rfl rfl)
theorem dX3_section_7 : decode cX3_section 7 = .ok (.iconst 0, 1) := dk_3 (dk_at dksX3_section_0 7 rfl rfl)
theorem dX3_section_8 : decode cX3_section 8 = .ok (.iload_n 1, 1) := dk_27 (dk_at dksX3_section_0 8 rfl rfl)
theorem dX3_section_9 : decode cX3_section 9 = .ok (.iconst 0, 1) := dk_3 (dk_at dksX3_section_0 9 rfl rfl)
theorem dX3_section_10 : decode cX3_section 10 = .ok (.iconst 0, 1) := dk_3 (dk_at dksX3_section_0 10 rfl rfl)
theorem dX3_section_11 : decode cX3_section 11 = .ok (.iconst 0, 1) := dk_3 (dk_at dksX3_section_0 11 rfl rfl)
theorem dX3_section_12 : decode cX3_section 12 = .ok (.iconst 0, 1) := dk_3 (dk_at dksX3_section_0 12 rfl rfl)
theorem dX3_section_13 : decode cX3_section 13 = .ok (.invokevirtual 156, 3) := dk_182 0 156 (dk_at dksX3_section_0 13 rfl rfl)
theorem dX3_section_16 : decode cX3_section 16 = .ok (.ireturn, 1) := dk_172 (dk_at dksX3_section_0 16 rfl rfl)
abbrev cX3_in : ByteArray := prog_28_method_4_code
def yX3_in : MethodName := ⟨RX3, "in", "(III)Z"⟩
def dkwX3_in_0 : List UInt8 := [26, 27, 161, 0, 12, 26, 28, 163, 0, 7, 4, 167, 0, 4, 3, 172]
abbrev dktX3_in_0 : List UInt8 := dkwX3_in_0 ++ []
theorem dksX3_in_0 : cX3_in.data.toList.drop 0 = dktX3_in_0 := by decide +kernel
theorem dX3_in_0 : decode cX3_in 0 = .ok (.iload_n 0, 1) := dk_26 (dk_at dksX3_in_0 0 rfl rfl)
theorem dX3_in_1 : decode cX3_in 1 = .ok (.iload_n 1, 1) := dk_27 (dk_at dksX3_in_0 1 rfl rfl)
theorem dX3_in_2 : decode cX3_in 2 = .ok (.if_icmp .lt 12, 3) := dk_161 0 12 (dk_at dksX3_in_0 2 rfl rfl)
theorem dX3_in_5 : decode cX3_in 5 = .ok (.iload_n 0, 1) := dk_26 (dk_at dksX3_in_0 5 rfl rfl)
theorem dX3_in_6 : decode cX3_in 6 = .ok (.iload_n 2, 1) := dk_28 (dk_at dksX3_in_0 6 rfl rfl)
theorem dX3_in_7 : decode cX3_in 7 = .ok (.if_icmp .gt 7, 3) := dk_163 0 7 (dk_at dksX3_in_0 7 rfl rfl)
theorem dX3_in_10 : decode cX3_in 10 = .ok (.iconst 1, 1) := dk_4 (dk_at dksX3_in_0 10 rfl rfl)
theorem dX3_in_11 : decode cX3_in 11 = .ok (.goto 4, 3) := dk_167 0 4 (dk_at dksX3_in_0 11 rfl rfl)
theorem dX3_in_14 : decode cX3_in 14 = .ok (.iconst 0, 1) := dk_3 (dk_at dksX3_in_0 14 rfl rfl)
theorem dX3_in_15 : decode cX3_in 15 = .ok (.ireturn, 1) := dk_172 (dk_at dksX3_in_0 15 rfl rfl)
abbrev cX3_adds : ByteArray := prog_28_method_8_code
def yX3_adds : MethodName := ⟨RX3, "adds", "(ZIIIIII)I"⟩
def dkwX3_adds_5 : List UInt8 := [180, 0, 144, 4, 96, 181, 0, 144, 42, 180, 0, 144, 172]
abbrev dktX3_adds_5 : List UInt8 := dkwX3_adds_5 ++ []
def dkwX3_adds_4 : List UInt8 := [6, 96, 21, 6, 79, 42, 180, 0, 13, 8, 42, 180, 0, 144, 104, 7, 96, 21, 7, 79, 42, 89]
abbrev dktX3_adds_4 : List UInt8 := dkwX3_adds_4 ++ dktX3_adds_5
def dkwX3_adds_3 : List UInt8 := [180, 0, 13, 8, 42, 180, 0, 144, 104, 5, 96, 21, 5, 79, 42, 180, 0, 13, 8, 42, 180, 0, 144, 104]
abbrev dktX3_adds_3 : List UInt8 := dkwX3_adds_3 ++ dktX3_adds_4
def dkwX3_adds_2 : List UInt8 := [180, 0, 144, 104, 29, 79, 42, 180, 0, 13, 8, 42, 180, 0, 144, 104, 4, 96, 21, 4, 79, 42]
abbrev dktX3_adds_2 : List UInt8 := dkwX3_adds_2 ++ dktX3_adds_3
def dkwX3_adds_1 : List UInt8 := [182, 0, 152, 154, 0, 5, 3, 172, 42, 180, 0, 7, 42, 180, 0, 144, 28, 79, 42, 180, 0, 13, 8, 42]
abbrev dktX3_adds_1 : List UInt8 := dkwX3_adds_1 ++ dktX3_adds_2
def dkwX3_adds_0 : List UInt8 := [42, 27, 154, 0, 7, 4, 167, 0, 17, 42, 180, 0, 144, 16, 100, 160, 0, 7, 5, 167, 0, 4, 3]
abbrev dktX3_adds_0 : List UInt8 := dkwX3_adds_0 ++ dktX3_adds_1
theorem dksX3_adds_0 : cX3_adds.data.toList.drop 0 = dktX3_adds_0 := by decide +kernel
theorem dksX3_adds_1 : cX3_adds.data.toList.drop 23 = dktX3_adds_1 := dk_seg dksX3_adds_0 23 rfl rfl
theorem dksX3_adds_2 : cX3_adds.data.toList.drop 47 = dktX3_adds_2 := dk_seg dksX3_adds_1 24 rfl rfl
theorem dksX3_adds_3 : cX3_adds.data.toList.drop 69 = dktX3_adds_3 := dk_seg dksX3_adds_2 22 rfl rfl
theorem dksX3_adds_4 : cX3_adds.data.toList.drop 93 = dktX3_adds_4 := dk_seg dksX3_adds_3 24 rfl rfl
theorem dksX3_adds_5 : cX3_adds.data.toList.drop 115 = dktX3_adds_5 := dk_seg dksX3_adds_4 22 rfl rfl
theorem dX3_adds_0 : decode cX3_adds 0 = .ok (.aload_n 0, 1) := dk_42 (dk_at dksX3_adds_0 0 rfl rfl)
theorem dX3_adds_1 : decode cX3_adds 1 = .ok (.iload_n 1, 1) := dk_27 (dk_at dksX3_adds_0 1 rfl rfl)
theorem dX3_adds_2 : decode cX3_adds 2 = .ok (.ifCond .ne 7, 3) := dk_154 0 7 (dk_at dksX3_adds_0 2 rfl rfl)
theorem dX3_adds_5 : decode cX3_adds 5 = .ok (.iconst 1, 1) := dk_4 (dk_at dksX3_adds_0 5 rfl rfl)
theorem dX3_adds_6 : decode cX3_adds 6 = .ok (.goto 17, 3) := dk_167 0 17 (dk_at dksX3_adds_0 6 rfl rfl)
theorem dX3_adds_9 : decode cX3_adds 9 = .ok (.aload_n 0, 1) := dk_42 (dk_at dksX3_adds_0 9 rfl rfl)
theorem dX3_adds_10 : decode cX3_adds 10 = .ok (.getfield 144, 3) := dk_180 0 144 (dk_at dksX3_adds_0 10 rfl rfl)
theorem dX3_adds_13 : decode cX3_adds 13 = .ok (.bipush 100, 2) := dk_16 100 (dk_at dksX3_adds_0 13 rfl rfl)
theorem dX3_adds_15 : decode cX3_adds 15 = .ok (.if_icmp .ne 7, 3) := dk_160 0 7 (dk_at dksX3_adds_0 15 rfl rfl)
theorem dX3_adds_18 : decode cX3_adds 18 = .ok (.iconst 2, 1) := dk_5 (dk_at dksX3_adds_0 18 rfl rfl)
theorem dX3_adds_19 : decode cX3_adds 19 = .ok (.goto 4, 3) := dk_167 0 4 (dk_at dksX3_adds_0 19 rfl rfl)
theorem dX3_adds_22 : decode cX3_adds 22 = .ok (.iconst 0, 1) := dk_3 (dk_at dksX3_adds_0 22 rfl rfl)
theorem dX3_adds_23 : decode cX3_adds 23 = .ok (.invokevirtual 152, 3) := dk_182 0 152 (dk_at dksX3_adds_1 0 rfl rfl)
theorem dX3_adds_26 : decode cX3_adds 26 = .ok (.ifCond .ne 5, 3) := dk_154 0 5 (dk_at dksX3_adds_1 3 rfl rfl)
theorem dX3_adds_29 : decode cX3_adds 29 = .ok (.iconst 0, 1) := dk_3 (dk_at dksX3_adds_1 6 rfl rfl)
theorem dX3_adds_30 : decode cX3_adds 30 = .ok (.ireturn, 1) := dk_172 (dk_at dksX3_adds_1 7 rfl rfl)
theorem dX3_adds_31 : decode cX3_adds 31 = .ok (.aload_n 0, 1) := dk_42 (dk_at dksX3_adds_1 8 rfl rfl)
theorem dX3_adds_32 : decode cX3_adds 32 = .ok (.getfield 7, 3) := dk_180 0 7 (dk_at dksX3_adds_1 9 rfl rfl)
theorem dX3_adds_35 : decode cX3_adds 35 = .ok (.aload_n 0, 1) := dk_42 (dk_at dksX3_adds_1 12 rfl rfl)
theorem dX3_adds_36 : decode cX3_adds 36 = .ok (.getfield 144, 3) := dk_180 0 144 (dk_at dksX3_adds_1 13 rfl rfl)
theorem dX3_adds_39 : decode cX3_adds 39 = .ok (.iload_n 2, 1) := dk_28 (dk_at dksX3_adds_1 16 rfl rfl)
theorem dX3_adds_40 : decode cX3_adds 40 = .ok (.iastore, 1) := dk_79 (dk_at dksX3_adds_1 17 rfl rfl)
theorem dX3_adds_41 : decode cX3_adds 41 = .ok (.aload_n 0, 1) := dk_42 (dk_at dksX3_adds_1 18 rfl rfl)
theorem dX3_adds_42 : decode cX3_adds 42 = .ok (.getfield 13, 3) := dk_180 0 13 (dk_at dksX3_adds_1 19 rfl rfl)
theorem dX3_adds_45 : decode cX3_adds 45 = .ok (.iconst 5, 1) := dk_8 (dk_at dksX3_adds_1 22 rfl rfl)
theorem dX3_adds_46 : decode cX3_adds 46 = .ok (.aload_n 0, 1) := dk_42 (dk_at dksX3_adds_1 23 rfl rfl)
theorem dX3_adds_47 : decode cX3_adds 47 = .ok (.getfield 144, 3) := dk_180 0 144 (dk_at dksX3_adds_2 0 rfl rfl)
theorem dX3_adds_50 : decode cX3_adds 50 = .ok (.imul, 1) := dk_104 (dk_at dksX3_adds_2 3 rfl rfl)
theorem dX3_adds_51 : decode cX3_adds 51 = .ok (.iload_n 3, 1) := dk_29 (dk_at dksX3_adds_2 4 rfl rfl)
theorem dX3_adds_52 : decode cX3_adds 52 = .ok (.iastore, 1) := dk_79 (dk_at dksX3_adds_2 5 rfl rfl)
theorem dX3_adds_53 : decode cX3_adds 53 = .ok (.aload_n 0, 1) := dk_42 (dk_at dksX3_adds_2 6 rfl rfl)
theorem dX3_adds_54 : decode cX3_adds 54 = .ok (.getfield 13, 3) := dk_180 0 13 (dk_at dksX3_adds_2 7 rfl rfl)
theorem dX3_adds_57 : decode cX3_adds 57 = .ok (.iconst 5, 1) := dk_8 (dk_at dksX3_adds_2 10 rfl rfl)
theorem dX3_adds_58 : decode cX3_adds 58 = .ok (.aload_n 0, 1) := dk_42 (dk_at dksX3_adds_2 11 rfl rfl)
theorem dX3_adds_59 : decode cX3_adds 59 = .ok (.getfield 144, 3) := dk_180 0 144 (dk_at dksX3_adds_2 12 rfl rfl)
theorem dX3_adds_62 : decode cX3_adds 62 = .ok (.imul, 1) := dk_104 (dk_at dksX3_adds_2 15 rfl rfl)
theorem dX3_adds_63 : decode cX3_adds 63 = .ok (.iconst 1, 1) := dk_4 (dk_at dksX3_adds_2 16 rfl rfl)
theorem dX3_adds_64 : decode cX3_adds 64 = .ok (.iadd, 1) := dk_96 (dk_at dksX3_adds_2 17 rfl rfl)
theorem dX3_adds_65 : decode cX3_adds 65 = .ok (.iload 4, 2) := dk_21 4 (dk_at dksX3_adds_2 18 rfl rfl)
theorem dX3_adds_67 : decode cX3_adds 67 = .ok (.iastore, 1) := dk_79 (dk_at dksX3_adds_2 20 rfl rfl)
theorem dX3_adds_68 : decode cX3_adds 68 = .ok (.aload_n 0, 1) := dk_42 (dk_at dksX3_adds_2 21 rfl rfl)
theorem dX3_adds_69 : decode cX3_adds 69 = .ok (.getfield 13, 3) := dk_180 0 13 (dk_at dksX3_adds_3 0 rfl rfl)
theorem dX3_adds_72 : decode cX3_adds 72 = .ok (.iconst 5, 1) := dk_8 (dk_at dksX3_adds_3 3 rfl rfl)
theorem dX3_adds_73 : decode cX3_adds 73 = .ok (.aload_n 0, 1) := dk_42 (dk_at dksX3_adds_3 4 rfl rfl)
theorem dX3_adds_74 : decode cX3_adds 74 = .ok (.getfield 144, 3) := dk_180 0 144 (dk_at dksX3_adds_3 5 rfl rfl)
theorem dX3_adds_77 : decode cX3_adds 77 = .ok (.imul, 1) := dk_104 (dk_at dksX3_adds_3 8 rfl rfl)
theorem dX3_adds_78 : decode cX3_adds 78 = .ok (.iconst 2, 1) := dk_5 (dk_at dksX3_adds_3 9 rfl rfl)
theorem dX3_adds_79 : decode cX3_adds 79 = .ok (.iadd, 1) := dk_96 (dk_at dksX3_adds_3 10 rfl rfl)
theorem dX3_adds_80 : decode cX3_adds 80 = .ok (.iload 5, 2) := dk_21 5 (dk_at dksX3_adds_3 11 rfl rfl)
theorem dX3_adds_82 : decode cX3_adds 82 = .ok (.iastore, 1) := dk_79 (dk_at dksX3_adds_3 13 rfl rfl)
theorem dX3_adds_83 : decode cX3_adds 83 = .ok (.aload_n 0, 1) := dk_42 (dk_at dksX3_adds_3 14 rfl rfl)
theorem dX3_adds_84 : decode cX3_adds 84 = .ok (.getfield 13, 3) := dk_180 0 13 (dk_at dksX3_adds_3 15 rfl rfl)
theorem dX3_adds_87 : decode cX3_adds 87 = .ok (.iconst 5, 1) := dk_8 (dk_at dksX3_adds_3 18 rfl rfl)
theorem dX3_adds_88 : decode cX3_adds 88 = .ok (.aload_n 0, 1) := dk_42 (dk_at dksX3_adds_3 19 rfl rfl)
theorem dX3_adds_89 : decode cX3_adds 89 = .ok (.getfield 144, 3) := dk_180 0 144 (dk_at dksX3_adds_3 20 rfl rfl)
theorem dX3_adds_92 : decode cX3_adds 92 = .ok (.imul, 1) := dk_104 (dk_at dksX3_adds_3 23 rfl rfl)
theorem dX3_adds_93 : decode cX3_adds 93 = .ok (.iconst 3, 1) := dk_6 (dk_at dksX3_adds_4 0 rfl rfl)
theorem dX3_adds_94 : decode cX3_adds 94 = .ok (.iadd, 1) := dk_96 (dk_at dksX3_adds_4 1 rfl rfl)
theorem dX3_adds_95 : decode cX3_adds 95 = .ok (.iload 6, 2) := dk_21 6 (dk_at dksX3_adds_4 2 rfl rfl)
theorem dX3_adds_97 : decode cX3_adds 97 = .ok (.iastore, 1) := dk_79 (dk_at dksX3_adds_4 4 rfl rfl)
theorem dX3_adds_98 : decode cX3_adds 98 = .ok (.aload_n 0, 1) := dk_42 (dk_at dksX3_adds_4 5 rfl rfl)
theorem dX3_adds_99 : decode cX3_adds 99 = .ok (.getfield 13, 3) := dk_180 0 13 (dk_at dksX3_adds_4 6 rfl rfl)
theorem dX3_adds_102 : decode cX3_adds 102 = .ok (.iconst 5, 1) := dk_8 (dk_at dksX3_adds_4 9 rfl rfl)
theorem dX3_adds_103 : decode cX3_adds 103 = .ok (.aload_n 0, 1) := dk_42 (dk_at dksX3_adds_4 10 rfl rfl)
theorem dX3_adds_104 : decode cX3_adds 104 = .ok (.getfield 144, 3) := dk_180 0 144 (dk_at dksX3_adds_4 11 rfl rfl)
theorem dX3_adds_107 : decode cX3_adds 107 = .ok (.imul, 1) := dk_104 (dk_at dksX3_adds_4 14 rfl rfl)
theorem dX3_adds_108 : decode cX3_adds 108 = .ok (.iconst 4, 1) := dk_7 (dk_at dksX3_adds_4 15 rfl rfl)
theorem dX3_adds_109 : decode cX3_adds 109 = .ok (.iadd, 1) := dk_96 (dk_at dksX3_adds_4 16 rfl rfl)
theorem dX3_adds_110 : decode cX3_adds 110 = .ok (.iload 7, 2) := dk_21 7 (dk_at dksX3_adds_4 17 rfl rfl)
theorem dX3_adds_112 : decode cX3_adds 112 = .ok (.iastore, 1) := dk_79 (dk_at dksX3_adds_4 19 rfl rfl)
theorem dX3_adds_113 : decode cX3_adds 113 = .ok (.aload_n 0, 1) := dk_42 (dk_at dksX3_adds_4 20 rfl rfl)
theorem dX3_adds_114 : decode cX3_adds 114 = .ok (.dup, 1) := dk_89 (dk_at dksX3_adds_4 21 rfl rfl)
theorem dX3_adds_115 : decode cX3_adds 115 = .ok (.getfield 144, 3) := dk_180 0 144 (dk_at dksX3_adds_5 0 rfl rfl)
theorem dX3_adds_118 : decode cX3_adds 118 = .ok (.iconst 1, 1) := dk_4 (dk_at dksX3_adds_5 3 rfl rfl)
theorem dX3_adds_119 : decode cX3_adds 119 = .ok (.iadd, 1) := dk_96 (dk_at dksX3_adds_5 4 rfl rfl)
theorem dX3_adds_120 : decode cX3_adds 120 = .ok (.putfield 144, 3) := dk_181 0 144 (dk_at dksX3_adds_5 5 rfl rfl)
theorem dX3_adds_123 : decode cX3_adds 123 = .ok (.aload_n 0, 1) := dk_42 (dk_at dksX3_adds_5 8 rfl rfl)
theorem dX3_adds_124 : decode cX3_adds 124 = .ok (.getfield 144, 3) := dk_180 0 144 (dk_at dksX3_adds_5 9 rfl rfl)
theorem dX3_adds_127 : decode cX3_adds 127 = .ok (.ireturn, 1) := dk_172 (dk_at dksX3_adds_5 12 rfl rfl)
abbrev cX3_holds : ByteArray := prog_28_method_3_code
def yX3_holds : MethodName := ⟨RX3, "holds", "(I)Z"⟩
def dkwX3_holds_0 : List UInt8 := [42, 27, 181, 0, 140, 27, 154, 0, 7, 4, 167, 0, 4, 3, 172]
abbrev dktX3_holds_0 : List UInt8 := dkwX3_holds_0 ++ []
theorem dksX3_holds_0 : cX3_holds.data.toList.drop 0 = dktX3_holds_0 := by decide +kernel
theorem dX3_holds_0 : decode cX3_holds 0 = .ok (.aload_n 0, 1) := dk_42 (dk_at dksX3_holds_0 0 rfl rfl)
theorem dX3_holds_1 : decode cX3_holds 1 = .ok (.iload_n 1, 1) := dk_27 (dk_at dksX3_holds_0 1 rfl rfl)
theorem dX3_holds_2 : decode cX3_holds 2 = .ok (.putfield 140, 3) := dk_181 0 140 (dk_at dksX3_holds_0 2 rfl rfl)
theorem dX3_holds_5 : decode cX3_holds 5 = .ok (.iload_n 1, 1) := dk_27 (dk_at dksX3_holds_0 5 rfl rfl)
theorem dX3_holds_6 : decode cX3_holds 6 = .ok (.ifCond .ne 7, 3) := dk_154 0 7 (dk_at dksX3_holds_0 6 rfl rfl)
theorem dX3_holds_9 : decode cX3_holds 9 = .ok (.iconst 1, 1) := dk_4 (dk_at dksX3_holds_0 9 rfl rfl)
theorem dX3_holds_10 : decode cX3_holds 10 = .ok (.goto 4, 3) := dk_167 0 4 (dk_at dksX3_holds_0 10 rfl rfl)
theorem dX3_holds_13 : decode cX3_holds 13 = .ok (.iconst 0, 1) := dk_3 (dk_at dksX3_holds_0 13 rfl rfl)
theorem dX3_holds_14 : decode cX3_holds 14 = .ok (.ireturn, 1) := dk_172 (dk_at dksX3_holds_0 14 rfl rfl)
abbrev cX3_label : ByteArray := prog_28_method_10_code
def yX3_label : MethodName := ⟨RX3, "label", "(I)I"⟩
def dkwX3_label_0 : List UInt8 := [42, 27, 3, 16, 19, 184, 0, 147, 4, 27, 3, 3, 3, 3, 182, 0, 156, 172]
abbrev dktX3_label_0 : List UInt8 := dkwX3_label_0 ++ []
theorem dksX3_label_0 : cX3_label.data.toList.drop 0 = dktX3_label_0 := by decide +kernel
theorem dX3_label_0 : decode cX3_label 0 = .ok (.aload_n 0, 1) := dk_42 (dk_at dksX3_label_0 0 rfl rfl)
theorem dX3_label_1 : decode cX3_label 1 = .ok (.iload_n 1, 1) := dk_27 (dk_at dksX3_label_0 1 rfl rfl)
theorem dX3_label_2 : decode cX3_label 2 = .ok (.iconst 0, 1) := dk_3 (dk_at dksX3_label_0 2 rfl rfl)
theorem dX3_label_3 : decode cX3_label 3 = .ok (.bipush 19, 2) := dk_16 19 (dk_at dksX3_label_0 3 rfl rfl)
theorem dX3_label_5 : decode cX3_label 5 = .ok (.invokestatic 147, 3) := dk_184 0 147 (dk_at dksX3_label_0 5 rfl rfl)
theorem dX3_label_8 : decode cX3_label 8 = .ok (.iconst 1, 1) := dk_4 (dk_at dksX3_label_0 8 rfl rfl)
theorem dX3_label_9 : decode cX3_label 9 = .ok (.iload_n 1, 1) := dk_27 (dk_at dksX3_label_0 9 rfl rfl)
theorem dX3_label_10 : decode cX3_label 10 = .ok (.iconst 0, 1) := dk_3 (dk_at dksX3_label_0 10 rfl rfl)
theorem dX3_label_11 : decode cX3_label 11 = .ok (.iconst 0, 1) := dk_3 (dk_at dksX3_label_0 11 rfl rfl)
theorem dX3_label_12 : decode cX3_label 12 = .ok (.iconst 0, 1) := dk_3 (dk_at dksX3_label_0 12 rfl rfl)
theorem dX3_label_13 : decode cX3_label 13 = .ok (.iconst 0, 1) := dk_3 (dk_at dksX3_label_0 13 rfl rfl)
theorem dX3_label_14 : decode cX3_label 14 = .ok (.invokevirtual 156, 3) := dk_182 0 156 (dk_at dksX3_label_0 14 rfl rfl)
theorem dX3_label_17 : decode cX3_label 17 = .ok (.ireturn, 1) := dk_172 (dk_at dksX3_label_0 17 rfl rfl)
abbrev cX3_code : ByteArray := prog_28_method_11_code
def yX3_code : MethodName := ⟨RX3, "code", "(IIIII)I"⟩
def dkwX3_code_2 : List UInt8 := [21, 6, 5, 21, 4, 21, 5, 16, 16, 27, 104, 7, 28, 104, 96, 29, 96, 3, 3, 182, 0, 156, 172]
abbrev dktX3_code_2 : List UInt8 := dkwX3_code_2 ++ []
def dkwX3_code_1 : List UInt8 := [184, 0, 147, 153, 0, 17, 21, 4, 21, 5, 184, 0, 160, 153, 0, 7, 4, 167, 0, 4, 3, 54, 6, 42]
abbrev dktX3_code_1 : List UInt8 := dkwX3_code_1 ++ dktX3_code_2
def dkwX3_code_0 : List UInt8 := [27, 3, 16, 26, 184, 0, 147, 153, 0, 35, 28, 3, 6, 184, 0, 147, 153, 0, 26, 29, 3, 6]
abbrev dktX3_code_0 : List UInt8 := dkwX3_code_0 ++ dktX3_code_1
theorem dksX3_code_0 : cX3_code.data.toList.drop 0 = dktX3_code_0 := by decide +kernel
theorem dksX3_code_1 : cX3_code.data.toList.drop 22 = dktX3_code_1 := dk_seg dksX3_code_0 22 rfl rfl
theorem dksX3_code_2 : cX3_code.data.toList.drop 46 = dktX3_code_2 := dk_seg dksX3_code_1 24 rfl rfl
theorem dX3_code_0 : decode cX3_code 0 = .ok (.iload_n 1, 1) := dk_27 (dk_at dksX3_code_0 0 rfl rfl)
theorem dX3_code_1 : decode cX3_code 1 = .ok (.iconst 0, 1) := dk_3 (dk_at dksX3_code_0 1 rfl rfl)
theorem dX3_code_2 : decode cX3_code 2 = .ok (.bipush 26, 2) := dk_16 26 (dk_at dksX3_code_0 2 rfl rfl)
theorem dX3_code_4 : decode cX3_code 4 = .ok (.invokestatic 147, 3) := dk_184 0 147 (dk_at dksX3_code_0 4 rfl rfl)
theorem dX3_code_7 : decode cX3_code 7 = .ok (.ifCond .eq 35, 3) := dk_153 0 35 (dk_at dksX3_code_0 7 rfl rfl)
theorem dX3_code_10 : decode cX3_code 10 = .ok (.iload_n 2, 1) := dk_28 (dk_at dksX3_code_0 10 rfl rfl)
theorem dX3_code_11 : decode cX3_code 11 = .ok (.iconst 0, 1) := dk_3 (dk_at dksX3_code_0 11 rfl rfl)
theorem dX3_code_12 : decode cX3_code 12 = .ok (.iconst 3, 1) := dk_6 (dk_at dksX3_code_0 12 rfl rfl)
theorem dX3_code_13 : decode cX3_code 13 = .ok (.invokestatic 147, 3) := dk_184 0 147 (dk_at dksX3_code_0 13 rfl rfl)
theorem dX3_code_16 : decode cX3_code 16 = .ok (.ifCond .eq 26, 3) := dk_153 0 26 (dk_at dksX3_code_0 16 rfl rfl)
theorem dX3_code_19 : decode cX3_code 19 = .ok (.iload_n 3, 1) := dk_29 (dk_at dksX3_code_0 19 rfl rfl)
theorem dX3_code_20 : decode cX3_code 20 = .ok (.iconst 0, 1) := dk_3 (dk_at dksX3_code_0 20 rfl rfl)
theorem dX3_code_21 : decode cX3_code 21 = .ok (.iconst 3, 1) := dk_6 (dk_at dksX3_code_0 21 rfl rfl)
theorem dX3_code_22 : decode cX3_code 22 = .ok (.invokestatic 147, 3) := dk_184 0 147 (dk_at dksX3_code_1 0 rfl rfl)
theorem dX3_code_25 : decode cX3_code 25 = .ok (.ifCond .eq 17, 3) := dk_153 0 17 (dk_at dksX3_code_1 3 rfl rfl)
theorem dX3_code_28 : decode cX3_code 28 = .ok (.iload 4, 2) := dk_21 4 (dk_at dksX3_code_1 6 rfl rfl)
theorem dX3_code_30 : decode cX3_code 30 = .ok (.iload 5, 2) := dk_21 5 (dk_at dksX3_code_1 8 rfl rfl)
theorem dX3_code_32 : decode cX3_code 32 = .ok (.invokestatic 160, 3) := dk_184 0 160 (dk_at dksX3_code_1 10 rfl rfl)
theorem dX3_code_35 : decode cX3_code 35 = .ok (.ifCond .eq 7, 3) := dk_153 0 7 (dk_at dksX3_code_1 13 rfl rfl)
theorem dX3_code_38 : decode cX3_code 38 = .ok (.iconst 1, 1) := dk_4 (dk_at dksX3_code_1 16 rfl rfl)
theorem dX3_code_39 : decode cX3_code 39 = .ok (.goto 4, 3) := dk_167 0 4 (dk_at dksX3_code_1 17 rfl rfl)
theorem dX3_code_42 : decode cX3_code 42 = .ok (.iconst 0, 1) := dk_3 (dk_at dksX3_code_1 20 rfl rfl)
theorem dX3_code_43 : decode cX3_code 43 = .ok (.istore 6, 2) := dk_54 6 (dk_at dksX3_code_1 21 rfl rfl)
theorem dX3_code_45 : decode cX3_code 45 = .ok (.aload_n 0, 1) := dk_42 (dk_at dksX3_code_1 23 rfl rfl)
theorem dX3_code_46 : decode cX3_code 46 = .ok (.iload 6, 2) := dk_21 6 (dk_at dksX3_code_2 0 rfl rfl)
theorem dX3_code_48 : decode cX3_code 48 = .ok (.iconst 2, 1) := dk_5 (dk_at dksX3_code_2 2 rfl rfl)
theorem dX3_code_49 : decode cX3_code 49 = .ok (.iload 4, 2) := dk_21 4 (dk_at dksX3_code_2 3 rfl rfl)
theorem dX3_code_51 : decode cX3_code 51 = .ok (.iload 5, 2) := dk_21 5 (dk_at dksX3_code_2 5 rfl rfl)
theorem dX3_code_53 : decode cX3_code 53 = .ok (.bipush 16, 2) := dk_16 16 (dk_at dksX3_code_2 7 rfl rfl)
theorem dX3_code_55 : decode cX3_code 55 = .ok (.iload_n 1, 1) := dk_27 (dk_at dksX3_code_2 9 rfl rfl)
theorem dX3_code_56 : decode cX3_code 56 = .ok (.imul, 1) := dk_104 (dk_at dksX3_code_2 10 rfl rfl)
theorem dX3_code_57 : decode cX3_code 57 = .ok (.iconst 4, 1) := dk_7 (dk_at dksX3_code_2 11 rfl rfl)
theorem dX3_code_58 : decode cX3_code 58 = .ok (.iload_n 2, 1) := dk_28 (dk_at dksX3_code_2 12 rfl rfl)
theorem dX3_code_59 : decode cX3_code 59 = .ok (.imul, 1) := dk_104 (dk_at dksX3_code_2 13 rfl rfl)
theorem dX3_code_60 : decode cX3_code 60 = .ok (.iadd, 1) := dk_96 (dk_at dksX3_code_2 14 rfl rfl)
theorem dX3_code_61 : decode cX3_code 61 = .ok (.iload_n 3, 1) := dk_29 (dk_at dksX3_code_2 15 rfl rfl)
theorem dX3_code_62 : decode cX3_code 62 = .ok (.iadd, 1) := dk_96 (dk_at dksX3_code_2 16 rfl rfl)
theorem dX3_code_63 : decode cX3_code 63 = .ok (.iconst 0, 1) := dk_3 (dk_at dksX3_code_2 17 rfl rfl)
theorem dX3_code_64 : decode cX3_code 64 = .ok (.iconst 0, 1) := dk_3 (dk_at dksX3_code_2 18 rfl rfl)
theorem dX3_code_65 : decode cX3_code 65 = .ok (.invokevirtual 156, 3) := dk_182 0 156 (dk_at dksX3_code_2 19 rfl rfl)
theorem dX3_code_68 : decode cX3_code 68 = .ok (.ireturn, 1) := dk_172 (dk_at dksX3_code_2 22 rfl rfl)
abbrev cX3_isOperand : ByteArray := prog_28_method_7_code
def yX3_isOperand : MethodName := ⟨RX3, "isOperand", "(II)Z"⟩
def dkwX3_isOperand_1 : List UInt8 := [184, 0, 147, 153, 0, 7, 4, 167, 0, 4, 3, 172]
abbrev dktX3_isOperand_1 : List UInt8 := dkwX3_isOperand_1 ++ []
def dkwX3_isOperand_0 : List UInt8 := [26, 3, 6, 184, 0, 147, 153, 0, 27, 27, 3, 26, 4, 160, 0, 8, 16, 19, 167, 0, 5, 18, 151]
abbrev dktX3_isOperand_0 : List UInt8 := dkwX3_isOperand_0 ++ dktX3_isOperand_1
theorem dksX3_isOperand_0 : cX3_isOperand.data.toList.drop 0 = dktX3_isOperand_0 := by decide +kernel
theorem dksX3_isOperand_1 : cX3_isOperand.data.toList.drop 23 = dktX3_isOperand_1 := dk_seg dksX3_isOperand_0 23 rfl rfl
theorem dX3_isOperand_0 : decode cX3_isOperand 0 = .ok (.iload_n 0, 1) := dk_26 (dk_at dksX3_isOperand_0 0 rfl rfl)
theorem dX3_isOperand_1 : decode cX3_isOperand 1 = .ok (.iconst 0, 1) := dk_3 (dk_at dksX3_isOperand_0 1 rfl rfl)
theorem dX3_isOperand_2 : decode cX3_isOperand 2 = .ok (.iconst 3, 1) := dk_6 (dk_at dksX3_isOperand_0 2 rfl rfl)
theorem dX3_isOperand_3 : decode cX3_isOperand 3 = .ok (.invokestatic 147, 3) := dk_184 0 147 (dk_at dksX3_isOperand_0 3 rfl rfl)
theorem dX3_isOperand_6 : decode cX3_isOperand 6 = .ok (.ifCond .eq 27, 3) := dk_153 0 27 (dk_at dksX3_isOperand_0 6 rfl rfl)
theorem dX3_isOperand_9 : decode cX3_isOperand 9 = .ok (.iload_n 1, 1) := dk_27 (dk_at dksX3_isOperand_0 9 rfl rfl)
theorem dX3_isOperand_10 : decode cX3_isOperand 10 = .ok (.iconst 0, 1) := dk_3 (dk_at dksX3_isOperand_0 10 rfl rfl)
theorem dX3_isOperand_11 : decode cX3_isOperand 11 = .ok (.iload_n 0, 1) := dk_26 (dk_at dksX3_isOperand_0 11 rfl rfl)
theorem dX3_isOperand_12 : decode cX3_isOperand 12 = .ok (.iconst 1, 1) := dk_4 (dk_at dksX3_isOperand_0 12 rfl rfl)
theorem dX3_isOperand_13 : decode cX3_isOperand 13 = .ok (.if_icmp .ne 8, 3) := dk_160 0 8 (dk_at dksX3_isOperand_0 13 rfl rfl)
theorem dX3_isOperand_16 : decode cX3_isOperand 16 = .ok (.bipush 19, 2) := dk_16 19 (dk_at dksX3_isOperand_0 16 rfl rfl)
theorem dX3_isOperand_18 : decode cX3_isOperand 18 = .ok (.goto 5, 3) := dk_167 0 5 (dk_at dksX3_isOperand_0 18 rfl rfl)
theorem dX3_isOperand_21 : decode cX3_isOperand 21 = .ok (.ldc 151, 2) := dk_18 151 (dk_at dksX3_isOperand_0 21 rfl rfl)
theorem dX3_isOperand_23 : decode cX3_isOperand 23 = .ok (.invokestatic 147, 3) := dk_184 0 147 (dk_at dksX3_isOperand_1 0 rfl rfl)
theorem dX3_isOperand_26 : decode cX3_isOperand 26 = .ok (.ifCond .eq 7, 3) := dk_153 0 7 (dk_at dksX3_isOperand_1 3 rfl rfl)
theorem dX3_isOperand_29 : decode cX3_isOperand 29 = .ok (.iconst 1, 1) := dk_4 (dk_at dksX3_isOperand_1 6 rfl rfl)
theorem dX3_isOperand_30 : decode cX3_isOperand 30 = .ok (.goto 4, 3) := dk_167 0 4 (dk_at dksX3_isOperand_1 7 rfl rfl)
theorem dX3_isOperand_33 : decode cX3_isOperand 33 = .ok (.iconst 0, 1) := dk_3 (dk_at dksX3_isOperand_1 10 rfl rfl)
theorem dX3_isOperand_34 : decode cX3_isOperand 34 = .ok (.ireturn, 1) := dk_172 (dk_at dksX3_isOperand_1 11 rfl rfl)
abbrev cX3_word : ByteArray := prog_28_method_12_code
def yX3_word : MethodName := ⟨RX3, "word", "(II)I"⟩
def dkwX3_word_0 : List UInt8 := [42, 27, 28, 184, 0, 160, 6, 27, 28, 3, 3, 3, 182, 0, 156, 172]
abbrev dktX3_word_0 : List UInt8 := dkwX3_word_0 ++ []
theorem dksX3_word_0 : cX3_word.data.toList.drop 0 = dktX3_word_0 := by decide +kernel
theorem dX3_word_0 : decode cX3_word 0 = .ok (.aload_n 0, 1) := dk_42 (dk_at dksX3_word_0 0 rfl rfl)
theorem dX3_word_1 : decode cX3_word 1 = .ok (.iload_n 1, 1) := dk_27 (dk_at dksX3_word_0 1 rfl rfl)
theorem dX3_word_2 : decode cX3_word 2 = .ok (.iload_n 2, 1) := dk_28 (dk_at dksX3_word_0 2 rfl rfl)
theorem dX3_word_3 : decode cX3_word 3 = .ok (.invokestatic 160, 3) := dk_184 0 160 (dk_at dksX3_word_0 3 rfl rfl)
theorem dX3_word_6 : decode cX3_word 6 = .ok (.iconst 3, 1) := dk_6 (dk_at dksX3_word_0 6 rfl rfl)
theorem dX3_word_7 : decode cX3_word 7 = .ok (.iload_n 1, 1) := dk_27 (dk_at dksX3_word_0 7 rfl rfl)
theorem dX3_word_8 : decode cX3_word 8 = .ok (.iload_n 2, 1) := dk_28 (dk_at dksX3_word_0 8 rfl rfl)
theorem dX3_word_9 : decode cX3_word 9 = .ok (.iconst 0, 1) := dk_3 (dk_at dksX3_word_0 9 rfl rfl)
theorem dX3_word_10 : decode cX3_word 10 = .ok (.iconst 0, 1) := dk_3 (dk_at dksX3_word_0 10 rfl rfl)
theorem dX3_word_11 : decode cX3_word 11 = .ok (.iconst 0, 1) := dk_3 (dk_at dksX3_word_0 11 rfl rfl)
theorem dX3_word_12 : decode cX3_word 12 = .ok (.invokevirtual 156, 3) := dk_182 0 156 (dk_at dksX3_word_0 12 rfl rfl)
theorem dX3_word_15 : decode cX3_word 15 = .ok (.ireturn, 1) := dk_172 (dk_at dksX3_word_0 15 rfl rfl)
abbrev cX3_space : ByteArray := prog_28_method_13_code
def yX3_space : MethodName := ⟨RX3, "space", "(I)I"⟩
def dkwX3_space_0 : List UInt8 := [42, 27, 4, 16, 32, 184, 0, 147, 7, 27, 3, 3, 3, 3, 182, 0, 156, 172]
abbrev dktX3_space_0 : List UInt8 := dkwX3_space_0 ++ []
theorem dksX3_space_0 : cX3_space.data.toList.drop 0 = dktX3_space_0 := by decide +kernel
theorem dX3_space_0 : decode cX3_space 0 = .ok (.aload_n 0, 1) := dk_42 (dk_at dksX3_space_0 0 rfl rfl)
theorem dX3_space_1 : decode cX3_space 1 = .ok (.iload_n 1, 1) := dk_27 (dk_at dksX3_space_0 1 rfl rfl)
theorem dX3_space_2 : decode cX3_space 2 = .ok (.iconst 1, 1) := dk_4 (dk_at dksX3_space_0 2 rfl rfl)
theorem dX3_space_3 : decode cX3_space 3 = .ok (.bipush 32, 2) := dk_16 32 (dk_at dksX3_space_0 3 rfl rfl)
theorem dX3_space_5 : decode cX3_space 5 = .ok (.invokestatic 147, 3) := dk_184 0 147 (dk_at dksX3_space_0 5 rfl rfl)
theorem dX3_space_8 : decode cX3_space 8 = .ok (.iconst 4, 1) := dk_7 (dk_at dksX3_space_0 8 rfl rfl)
theorem dX3_space_9 : decode cX3_space 9 = .ok (.iload_n 1, 1) := dk_27 (dk_at dksX3_space_0 9 rfl rfl)
theorem dX3_space_10 : decode cX3_space 10 = .ok (.iconst 0, 1) := dk_3 (dk_at dksX3_space_0 10 rfl rfl)
theorem dX3_space_11 : decode cX3_space 11 = .ok (.iconst 0, 1) := dk_3 (dk_at dksX3_space_0 11 rfl rfl)
theorem dX3_space_12 : decode cX3_space 12 = .ok (.iconst 0, 1) := dk_3 (dk_at dksX3_space_0 12 rfl rfl)
theorem dX3_space_13 : decode cX3_space 13 = .ok (.iconst 0, 1) := dk_3 (dk_at dksX3_space_0 13 rfl rfl)
theorem dX3_space_14 : decode cX3_space 14 = .ok (.invokevirtual 156, 3) := dk_182 0 156 (dk_at dksX3_space_0 14 rfl rfl)
theorem dX3_space_17 : decode cX3_space 17 = .ok (.ireturn, 1) := dk_172 (dk_at dksX3_space_0 17 rfl rfl)
abbrev cX3_vector : ByteArray := prog_28_method_14_code
def yX3_vector : MethodName := ⟨RX3, "vector", "(III)I"⟩
def dkwX3_vector_1 : List UInt8 := [28, 29, 27, 3, 3, 182, 0, 156, 172]
abbrev dktX3_vector_1 : List UInt8 := dkwX3_vector_1 ++ []
def dkwX3_vector_0 : List UInt8 := [42, 27, 3, 4, 184, 0, 147, 153, 0, 15, 28, 29, 184, 0, 160, 153, 0, 7, 4, 167, 0, 4, 3, 8]
abbrev dktX3_vector_0 : List UInt8 := dkwX3_vector_0 ++ dktX3_vector_1
theorem dksX3_vector_0 : cX3_vector.data.toList.drop 0 = dktX3_vector_0 := by decide +kernel
theorem dksX3_vector_1 : cX3_vector.data.toList.drop 24 = dktX3_vector_1 := dk_seg dksX3_vector_0 24 rfl rfl
theorem dX3_vector_0 : decode cX3_vector 0 = .ok (.aload_n 0, 1) := dk_42 (dk_at dksX3_vector_0 0 rfl rfl)
theorem dX3_vector_1 : decode cX3_vector 1 = .ok (.iload_n 1, 1) := dk_27 (dk_at dksX3_vector_0 1 rfl rfl)
theorem dX3_vector_2 : decode cX3_vector 2 = .ok (.iconst 0, 1) := dk_3 (dk_at dksX3_vector_0 2 rfl rfl)
theorem dX3_vector_3 : decode cX3_vector 3 = .ok (.iconst 1, 1) := dk_4 (dk_at dksX3_vector_0 3 rfl rfl)
theorem dX3_vector_4 : decode cX3_vector 4 = .ok (.invokestatic 147, 3) := dk_184 0 147 (dk_at dksX3_vector_0 4 rfl rfl)
theorem dX3_vector_7 : decode cX3_vector 7 = .ok (.ifCond .eq 15, 3) := dk_153 0 15 (dk_at dksX3_vector_0 7 rfl rfl)
theorem dX3_vector_10 : decode cX3_vector 10 = .ok (.iload_n 2, 1) := dk_28 (dk_at dksX3_vector_0 10 rfl rfl)
theorem dX3_vector_11 : decode cX3_vector 11 = .ok (.iload_n 3, 1) := dk_29 (dk_at dksX3_vector_0 11 rfl rfl)
theorem dX3_vector_12 : decode cX3_vector 12 = .ok (.invokestatic 160, 3) := dk_184 0 160 (dk_at dksX3_vector_0 12 rfl rfl)
theorem dX3_vector_15 : decode cX3_vector 15 = .ok (.ifCond .eq 7, 3) := dk_153 0 7 (dk_at dksX3_vector_0 15 rfl rfl)
theorem dX3_vector_18 : decode cX3_vector 18 = .ok (.iconst 1, 1) := dk_4 (dk_at dksX3_vector_0 18 rfl rfl)
theorem dX3_vector_19 : decode cX3_vector 19 = .ok (.goto 4, 3) := dk_167 0 4 (dk_at dksX3_vector_0 19 rfl rfl)
theorem dX3_vector_22 : decode cX3_vector 22 = .ok (.iconst 0, 1) := dk_3 (dk_at dksX3_vector_0 22 rfl rfl)
theorem dX3_vector_23 : decode cX3_vector 23 = .ok (.iconst 5, 1) := dk_8 (dk_at dksX3_vector_0 23 rfl rfl)
theorem dX3_vector_24 : decode cX3_vector 24 = .ok (.iload_n 2, 1) := dk_28 (dk_at dksX3_vector_1 0 rfl rfl)
theorem dX3_vector_25 : decode cX3_vector 25 = .ok (.iload_n 3, 1) := dk_29 (dk_at dksX3_vector_1 1 rfl rfl)
theorem dX3_vector_26 : decode cX3_vector 26 = .ok (.iload_n 1, 1) := dk_27 (dk_at dksX3_vector_1 2 rfl rfl)
theorem dX3_vector_27 : decode cX3_vector 27 = .ok (.iconst 0, 1) := dk_3 (dk_at dksX3_vector_1 3 rfl rfl)
theorem dX3_vector_28 : decode cX3_vector 28 = .ok (.iconst 0, 1) := dk_3 (dk_at dksX3_vector_1 4 rfl rfl)
theorem dX3_vector_29 : decode cX3_vector 29 = .ok (.invokevirtual 156, 3) := dk_182 0 156 (dk_at dksX3_vector_1 5 rfl rfl)
theorem dX3_vector_32 : decode cX3_vector 32 = .ok (.ireturn, 1) := dk_172 (dk_at dksX3_vector_1 8 rfl rfl)
abbrev cX3_macro : ByteArray := prog_28_method_15_code
def yX3_macro : MethodName := ⟨RX3, "macro", "(I)I"⟩
def dkwX3_macro_0 : List UInt8 := [42, 27, 3, 7, 184, 0, 147, 16, 6, 27, 3, 3, 3, 3, 182, 0, 156, 172]
abbrev dktX3_macro_0 : List UInt8 := dkwX3_macro_0 ++ []
theorem dksX3_macro_0 : cX3_macro.data.toList.drop 0 = dktX3_macro_0 := by decide +kernel
theorem dX3_macro_0 : decode cX3_macro 0 = .ok (.aload_n 0, 1) := dk_42 (dk_at dksX3_macro_0 0 rfl rfl)
theorem dX3_macro_1 : decode cX3_macro 1 = .ok (.iload_n 1, 1) := dk_27 (dk_at dksX3_macro_0 1 rfl rfl)
theorem dX3_macro_2 : decode cX3_macro 2 = .ok (.iconst 0, 1) := dk_3 (dk_at dksX3_macro_0 2 rfl rfl)
theorem dX3_macro_3 : decode cX3_macro 3 = .ok (.iconst 4, 1) := dk_7 (dk_at dksX3_macro_0 3 rfl rfl)
theorem dX3_macro_4 : decode cX3_macro 4 = .ok (.invokestatic 147, 3) := dk_184 0 147 (dk_at dksX3_macro_0 4 rfl rfl)
theorem dX3_macro_7 : decode cX3_macro 7 = .ok (.bipush 6, 2) := dk_16 6 (dk_at dksX3_macro_0 7 rfl rfl)
theorem dX3_macro_9 : decode cX3_macro 9 = .ok (.iload_n 1, 1) := dk_27 (dk_at dksX3_macro_0 9 rfl rfl)
theorem dX3_macro_10 : decode cX3_macro 10 = .ok (.iconst 0, 1) := dk_3 (dk_at dksX3_macro_0 10 rfl rfl)
theorem dX3_macro_11 : decode cX3_macro 11 = .ok (.iconst 0, 1) := dk_3 (dk_at dksX3_macro_0 11 rfl rfl)
theorem dX3_macro_12 : decode cX3_macro 12 = .ok (.iconst 0, 1) := dk_3 (dk_at dksX3_macro_0 12 rfl rfl)
theorem dX3_macro_13 : decode cX3_macro 13 = .ok (.iconst 0, 1) := dk_3 (dk_at dksX3_macro_0 13 rfl rfl)
theorem dX3_macro_14 : decode cX3_macro 14 = .ok (.invokevirtual 156, 3) := dk_182 0 156 (dk_at dksX3_macro_0 14 rfl rfl)
theorem dX3_macro_17 : decode cX3_macro 17 = .ok (.ireturn, 1) := dk_172 (dk_at dksX3_macro_0 17 rfl rfl)
abbrev cX3_endMacro : ByteArray := prog_28_method_16_code
def yX3_endMacro : MethodName := ⟨RX3, "endMacro", "()I"⟩
def dkwX3_endMacro_1 : List UInt8 := [4, 16, 7, 3, 3, 3, 3, 3, 182, 0, 156, 172]
abbrev dktX3_endMacro_1 : List UInt8 := dkwX3_endMacro_1 ++ []
def dkwX3_endMacro_0 : List UInt8 := [42, 42, 180, 0, 144, 16, 100, 160, 0, 7, 4, 167, 0, 4, 3, 182, 0, 152, 154, 0, 5, 3, 172, 42]
abbrev dktX3_endMacro_0 : List UInt8 := dkwX3_endMacro_0 ++ dktX3_endMacro_1
theorem dksX3_endMacro_0 : cX3_endMacro.data.toList.drop 0 = dktX3_endMacro_0 := by decide +kernel
theorem dksX3_endMacro_1 : cX3_endMacro.data.toList.drop 24 = dktX3_endMacro_1 := dk_seg dksX3_endMacro_0 24 rfl rfl
theorem dX3_endMacro_0 : decode cX3_endMacro 0 = .ok (.aload_n 0, 1) := dk_42 (dk_at dksX3_endMacro_0 0 rfl rfl)
theorem dX3_endMacro_1 : decode cX3_endMacro 1 = .ok (.aload_n 0, 1) := dk_42 (dk_at dksX3_endMacro_0 1 rfl rfl)
theorem dX3_endMacro_2 : decode cX3_endMacro 2 = .ok (.getfield 144, 3) := dk_180 0 144 (dk_at dksX3_endMacro_0 2 rfl rfl)
theorem dX3_endMacro_5 : decode cX3_endMacro 5 = .ok (.bipush 100, 2) := dk_16 100 (dk_at dksX3_endMacro_0 5 rfl rfl)
theorem dX3_endMacro_7 : decode cX3_endMacro 7 = .ok (.if_icmp .ne 7, 3) := dk_160 0 7 (dk_at dksX3_endMacro_0 7 rfl rfl)
theorem dX3_endMacro_10 : decode cX3_endMacro 10 = .ok (.iconst 1, 1) := dk_4 (dk_at dksX3_endMacro_0 10 rfl rfl)
theorem dX3_endMacro_11 : decode cX3_endMacro 11 = .ok (.goto 4, 3) := dk_167 0 4 (dk_at dksX3_endMacro_0 11 rfl rfl)
theorem dX3_endMacro_14 : decode cX3_endMacro 14 = .ok (.iconst 0, 1) := dk_3 (dk_at dksX3_endMacro_0 14 rfl rfl)
theorem dX3_endMacro_15 : decode cX3_endMacro 15 = .ok (.invokevirtual 152, 3) := dk_182 0 152 (dk_at dksX3_endMacro_0 15 rfl rfl)
theorem dX3_endMacro_18 : decode cX3_endMacro 18 = .ok (.ifCond .ne 5, 3) := dk_154 0 5 (dk_at dksX3_endMacro_0 18 rfl rfl)
theorem dX3_endMacro_21 : decode cX3_endMacro 21 = .ok (.iconst 0, 1) := dk_3 (dk_at dksX3_endMacro_0 21 rfl rfl)
theorem dX3_endMacro_22 : decode cX3_endMacro 22 = .ok (.ireturn, 1) := dk_172 (dk_at dksX3_endMacro_0 22 rfl rfl)
theorem dX3_endMacro_23 : decode cX3_endMacro 23 = .ok (.aload_n 0, 1) := dk_42 (dk_at dksX3_endMacro_0 23 rfl rfl)
theorem dX3_endMacro_24 : decode cX3_endMacro 24 = .ok (.iconst 1, 1) := dk_4 (dk_at dksX3_endMacro_1 0 rfl rfl)
theorem dX3_endMacro_25 : decode cX3_endMacro 25 = .ok (.bipush 7, 2) := dk_16 7 (dk_at dksX3_endMacro_1 1 rfl rfl)
theorem dX3_endMacro_27 : decode cX3_endMacro 27 = .ok (.iconst 0, 1) := dk_3 (dk_at dksX3_endMacro_1 3 rfl rfl)
theorem dX3_endMacro_28 : decode cX3_endMacro 28 = .ok (.iconst 0, 1) := dk_3 (dk_at dksX3_endMacro_1 4 rfl rfl)
theorem dX3_endMacro_29 : decode cX3_endMacro 29 = .ok (.iconst 0, 1) := dk_3 (dk_at dksX3_endMacro_1 5 rfl rfl)
theorem dX3_endMacro_30 : decode cX3_endMacro 30 = .ok (.iconst 0, 1) := dk_3 (dk_at dksX3_endMacro_1 6 rfl rfl)
theorem dX3_endMacro_31 : decode cX3_endMacro 31 = .ok (.iconst 0, 1) := dk_3 (dk_at dksX3_endMacro_1 7 rfl rfl)
theorem dX3_endMacro_32 : decode cX3_endMacro 32 = .ok (.invokevirtual 156, 3) := dk_182 0 156 (dk_at dksX3_endMacro_1 8 rfl rfl)
theorem dX3_endMacro_35 : decode cX3_endMacro 35 = .ok (.ireturn, 1) := dk_172 (dk_at dksX3_endMacro_1 11 rfl rfl)
abbrev cX3_use : ByteArray := prog_28_method_17_code
def yX3_use : MethodName := ⟨RX3, "use", "(IIIII)I"⟩
def dkwX3_use_2 : List UInt8 := [182, 0, 156, 172]
abbrev dktX3_use_2 : List UInt8 := dkwX3_use_2 ++ []
def dkwX3_use_1 : List UInt8 := [153, 0, 7, 4, 167, 0, 4, 3, 54, 6, 42, 21, 6, 16, 8, 28, 29, 21, 4, 21, 5, 27]
abbrev dktX3_use_1 : List UInt8 := dkwX3_use_1 ++ dktX3_use_2
def dkwX3_use_0 : List UInt8 := [27, 3, 7, 184, 0, 147, 153, 0, 25, 28, 29, 184, 0, 160, 153, 0, 17, 21, 4, 21, 5, 184, 0, 160]
abbrev dktX3_use_0 : List UInt8 := dkwX3_use_0 ++ dktX3_use_1
theorem dksX3_use_0 : cX3_use.data.toList.drop 0 = dktX3_use_0 := by decide +kernel
theorem dksX3_use_1 : cX3_use.data.toList.drop 24 = dktX3_use_1 := dk_seg dksX3_use_0 24 rfl rfl
theorem dksX3_use_2 : cX3_use.data.toList.drop 46 = dktX3_use_2 := dk_seg dksX3_use_1 22 rfl rfl
theorem dX3_use_0 : decode cX3_use 0 = .ok (.iload_n 1, 1) := dk_27 (dk_at dksX3_use_0 0 rfl rfl)
theorem dX3_use_1 : decode cX3_use 1 = .ok (.iconst 0, 1) := dk_3 (dk_at dksX3_use_0 1 rfl rfl)
theorem dX3_use_2 : decode cX3_use 2 = .ok (.iconst 4, 1) := dk_7 (dk_at dksX3_use_0 2 rfl rfl)
theorem dX3_use_3 : decode cX3_use 3 = .ok (.invokestatic 147, 3) := dk_184 0 147 (dk_at dksX3_use_0 3 rfl rfl)
theorem dX3_use_6 : decode cX3_use 6 = .ok (.ifCond .eq 25, 3) := dk_153 0 25 (dk_at dksX3_use_0 6 rfl rfl)
theorem dX3_use_9 : decode cX3_use 9 = .ok (.iload_n 2, 1) := dk_28 (dk_at dksX3_use_0 9 rfl rfl)
theorem dX3_use_10 : decode cX3_use 10 = .ok (.iload_n 3, 1) := dk_29 (dk_at dksX3_use_0 10 rfl rfl)
theorem dX3_use_11 : decode cX3_use 11 = .ok (.invokestatic 160, 3) := dk_184 0 160 (dk_at dksX3_use_0 11 rfl rfl)
theorem dX3_use_14 : decode cX3_use 14 = .ok (.ifCond .eq 17, 3) := dk_153 0 17 (dk_at dksX3_use_0 14 rfl rfl)
theorem dX3_use_17 : decode cX3_use 17 = .ok (.iload 4, 2) := dk_21 4 (dk_at dksX3_use_0 17 rfl rfl)
theorem dX3_use_19 : decode cX3_use 19 = .ok (.iload 5, 2) := dk_21 5 (dk_at dksX3_use_0 19 rfl rfl)
theorem dX3_use_21 : decode cX3_use 21 = .ok (.invokestatic 160, 3) := dk_184 0 160 (dk_at dksX3_use_0 21 rfl rfl)
theorem dX3_use_24 : decode cX3_use 24 = .ok (.ifCond .eq 7, 3) := dk_153 0 7 (dk_at dksX3_use_1 0 rfl rfl)
theorem dX3_use_27 : decode cX3_use 27 = .ok (.iconst 1, 1) := dk_4 (dk_at dksX3_use_1 3 rfl rfl)
theorem dX3_use_28 : decode cX3_use 28 = .ok (.goto 4, 3) := dk_167 0 4 (dk_at dksX3_use_1 4 rfl rfl)
theorem dX3_use_31 : decode cX3_use 31 = .ok (.iconst 0, 1) := dk_3 (dk_at dksX3_use_1 7 rfl rfl)
theorem dX3_use_32 : decode cX3_use 32 = .ok (.istore 6, 2) := dk_54 6 (dk_at dksX3_use_1 8 rfl rfl)
theorem dX3_use_34 : decode cX3_use 34 = .ok (.aload_n 0, 1) := dk_42 (dk_at dksX3_use_1 10 rfl rfl)
theorem dX3_use_35 : decode cX3_use 35 = .ok (.iload 6, 2) := dk_21 6 (dk_at dksX3_use_1 11 rfl rfl)
theorem dX3_use_37 : decode cX3_use 37 = .ok (.bipush 8, 2) := dk_16 8 (dk_at dksX3_use_1 13 rfl rfl)
theorem dX3_use_39 : decode cX3_use 39 = .ok (.iload_n 2, 1) := dk_28 (dk_at dksX3_use_1 15 rfl rfl)
theorem dX3_use_40 : decode cX3_use 40 = .ok (.iload_n 3, 1) := dk_29 (dk_at dksX3_use_1 16 rfl rfl)
theorem dX3_use_41 : decode cX3_use 41 = .ok (.iload 4, 2) := dk_21 4 (dk_at dksX3_use_1 17 rfl rfl)
theorem dX3_use_43 : decode cX3_use 43 = .ok (.iload 5, 2) := dk_21 5 (dk_at dksX3_use_1 19 rfl rfl)
theorem dX3_use_45 : decode cX3_use 45 = .ok (.iload_n 1, 1) := dk_27 (dk_at dksX3_use_1 21 rfl rfl)
theorem dX3_use_46 : decode cX3_use 46 = .ok (.invokevirtual 156, 3) := dk_182 0 156 (dk_at dksX3_use_2 0 rfl rfl)
theorem dX3_use_49 : decode cX3_use 49 = .ok (.ireturn, 1) := dk_172 (dk_at dksX3_use_2 3 rfl rfl)
abbrev cX3_error : ByteArray := prog_28_method_31_code
def yX3_error : MethodName := ⟨RX3, "error", "()I"⟩
def dkwX3_error_0 : List UInt8 := [42, 3, 181, 0, 140, 42, 182, 0, 224, 172]
abbrev dktX3_error_0 : List UInt8 := dkwX3_error_0 ++ []
theorem dksX3_error_0 : cX3_error.data.toList.drop 0 = dktX3_error_0 := by decide +kernel
theorem dX3_error_0 : decode cX3_error 0 = .ok (.aload_n 0, 1) := dk_42 (dk_at dksX3_error_0 0 rfl rfl)
theorem dX3_error_1 : decode cX3_error 1 = .ok (.iconst 0, 1) := dk_3 (dk_at dksX3_error_0 1 rfl rfl)
theorem dX3_error_2 : decode cX3_error 2 = .ok (.putfield 140, 3) := dk_181 0 140 (dk_at dksX3_error_0 2 rfl rfl)
theorem dX3_error_5 : decode cX3_error 5 = .ok (.aload_n 0, 1) := dk_42 (dk_at dksX3_error_0 5 rfl rfl)
theorem dX3_error_6 : decode cX3_error 6 = .ok (.invokevirtual 224, 3) := dk_182 0 224 (dk_at dksX3_error_0 6 rfl rfl)
theorem dX3_error_9 : decode cX3_error 9 = .ok (.ireturn, 1) := dk_172 (dk_at dksX3_error_0 9 rfl rfl)
abbrev cX3_errorOfSource : ByteArray := prog_28_method_30_code
def yX3_errorOfSource : MethodName := ⟨RX3, "errorOfSource", "()I"⟩
def dkwX3_errorOfSource_2 : List UInt8 := [182, 0, 220, 60, 27, 154, 0, 11, 42, 4, 182, 0, 220, 167, 0, 4, 27, 172]
abbrev dktX3_errorOfSource_2 : List UInt8 := dkwX3_errorOfSource_2 ++ []
def dkwX3_errorOfSource_1 : List UInt8 := [27, 17, 1, 0, 162, 0, 16, 42, 180, 0, 46, 27, 3, 79, 132, 1, 1, 167, 255, 239, 42, 3]
abbrev dktX3_errorOfSource_1 : List UInt8 := dkwX3_errorOfSource_1 ++ dktX3_errorOfSource_2
def dkwX3_errorOfSource_0 : List UInt8 := [3, 60, 27, 17, 4, 196, 162, 0, 16, 42, 180, 0, 16, 27, 2, 79, 132, 1, 1, 167, 255, 239, 3, 60]
abbrev dktX3_errorOfSource_0 : List UInt8 := dkwX3_errorOfSource_0 ++ dktX3_errorOfSource_1
theorem dksX3_errorOfSource_0 : cX3_errorOfSource.data.toList.drop 0 = dktX3_errorOfSource_0 := by decide +kernel
theorem dksX3_errorOfSource_1 : cX3_errorOfSource.data.toList.drop 24 = dktX3_errorOfSource_1 := dk_seg dksX3_errorOfSource_0 24 rfl rfl
theorem dksX3_errorOfSource_2 : cX3_errorOfSource.data.toList.drop 46 = dktX3_errorOfSource_2 := dk_seg dksX3_errorOfSource_1 22 rfl rfl
theorem dX3_errorOfSource_0 : decode cX3_errorOfSource 0 = .ok (.iconst 0, 1) := dk_3 (dk_at dksX3_errorOfSource_0 0 rfl rfl)
theorem dX3_errorOfSource_1 : decode cX3_errorOfSource 1 = .ok (.istore_n 1, 1) := dk_60 (dk_at dksX3_errorOfSource_0 1 rfl rfl)
theorem dX3_errorOfSource_2 : decode cX3_errorOfSource 2 = .ok (.iload_n 1, 1) := dk_27 (dk_at dksX3_errorOfSource_0 2 rfl rfl)
theorem dX3_errorOfSource_3 : decode cX3_errorOfSource 3 = .ok (.sipush 1220, 3) := dk_17 4 196 (dk_at dksX3_errorOfSource_0 3 rfl rfl)
theorem dX3_errorOfSource_6 : decode cX3_errorOfSource 6 = .ok (.if_icmp .ge 16, 3) := dk_162 0 16 (dk_at dksX3_errorOfSource_0 6 rfl rfl)
theorem dX3_errorOfSource_9 : decode cX3_errorOfSource 9 = .ok (.aload_n 0, 1) := dk_42 (dk_at dksX3_errorOfSource_0 9 rfl rfl)
theorem dX3_errorOfSource_10 : decode cX3_errorOfSource 10 = .ok (.getfield 16, 3) := dk_180 0 16 (dk_at dksX3_errorOfSource_0 10 rfl rfl)
theorem dX3_errorOfSource_13 : decode cX3_errorOfSource 13 = .ok (.iload_n 1, 1) := dk_27 (dk_at dksX3_errorOfSource_0 13 rfl rfl)
theorem dX3_errorOfSource_14 : decode cX3_errorOfSource 14 = .ok (.iconst (-1), 1) := dk_2 (dk_at dksX3_errorOfSource_0 14 rfl rfl)
theorem dX3_errorOfSource_15 : decode cX3_errorOfSource 15 = .ok (.iastore, 1) := dk_79 (dk_at dksX3_errorOfSource_0 15 rfl rfl)
theorem dX3_errorOfSource_16 : decode cX3_errorOfSource 16 = .ok (.iinc 1 1, 3) := dk_132 1 1 (dk_at dksX3_errorOfSource_0 16 rfl rfl)
theorem dX3_errorOfSource_19 : decode cX3_errorOfSource 19 = .ok (.goto (-17), 3) := dk_167 255 239 (dk_at dksX3_errorOfSource_0 19 rfl rfl)
theorem dX3_errorOfSource_22 : decode cX3_errorOfSource 22 = .ok (.iconst 0, 1) := dk_3 (dk_at dksX3_errorOfSource_0 22 rfl rfl)
theorem dX3_errorOfSource_23 : decode cX3_errorOfSource 23 = .ok (.istore_n 1, 1) := dk_60 (dk_at dksX3_errorOfSource_0 23 rfl rfl)
theorem dX3_errorOfSource_24 : decode cX3_errorOfSource 24 = .ok (.iload_n 1, 1) := dk_27 (dk_at dksX3_errorOfSource_1 0 rfl rfl)
theorem dX3_errorOfSource_25 : decode cX3_errorOfSource 25 = .ok (.sipush 256, 3) := dk_17 1 0 (dk_at dksX3_errorOfSource_1 1 rfl rfl)
theorem dX3_errorOfSource_28 : decode cX3_errorOfSource 28 = .ok (.if_icmp .ge 16, 3) := dk_162 0 16 (dk_at dksX3_errorOfSource_1 4 rfl rfl)
theorem dX3_errorOfSource_31 : decode cX3_errorOfSource 31 = .ok (.aload_n 0, 1) := dk_42 (dk_at dksX3_errorOfSource_1 7 rfl rfl)
theorem dX3_errorOfSource_32 : decode cX3_errorOfSource 32 = .ok (.getfield 46, 3) := dk_180 0 46 (dk_at dksX3_errorOfSource_1 8 rfl rfl)
theorem dX3_errorOfSource_35 : decode cX3_errorOfSource 35 = .ok (.iload_n 1, 1) := dk_27 (dk_at dksX3_errorOfSource_1 11 rfl rfl)
theorem dX3_errorOfSource_36 : decode cX3_errorOfSource 36 = .ok (.iconst 0, 1) := dk_3 (dk_at dksX3_errorOfSource_1 12 rfl rfl)
theorem dX3_errorOfSource_37 : decode cX3_errorOfSource 37 = .ok (.iastore, 1) := dk_79 (dk_at dksX3_errorOfSource_1 13 rfl rfl)
theorem dX3_errorOfSource_38 : decode cX3_errorOfSource 38 = .ok (.iinc 1 1, 3) := dk_132 1 1 (dk_at dksX3_errorOfSource_1 14 rfl rfl)
theorem dX3_errorOfSource_41 : decode cX3_errorOfSource 41 = .ok (.goto (-17), 3) := dk_167 255 239 (dk_at dksX3_errorOfSource_1 17 rfl rfl)
theorem dX3_errorOfSource_44 : decode cX3_errorOfSource 44 = .ok (.aload_n 0, 1) := dk_42 (dk_at dksX3_errorOfSource_1 20 rfl rfl)
theorem dX3_errorOfSource_45 : decode cX3_errorOfSource 45 = .ok (.iconst 0, 1) := dk_3 (dk_at dksX3_errorOfSource_1 21 rfl rfl)
theorem dX3_errorOfSource_46 : decode cX3_errorOfSource 46 = .ok (.invokevirtual 220, 3) := dk_182 0 220 (dk_at dksX3_errorOfSource_2 0 rfl rfl)
theorem dX3_errorOfSource_49 : decode cX3_errorOfSource 49 = .ok (.istore_n 1, 1) := dk_60 (dk_at dksX3_errorOfSource_2 3 rfl rfl)
theorem dX3_errorOfSource_50 : decode cX3_errorOfSource 50 = .ok (.iload_n 1, 1) := dk_27 (dk_at dksX3_errorOfSource_2 4 rfl rfl)
theorem dX3_errorOfSource_51 : decode cX3_errorOfSource 51 = .ok (.ifCond .ne 11, 3) := dk_154 0 11 (dk_at dksX3_errorOfSource_2 5 rfl rfl)
theorem dX3_errorOfSource_54 : decode cX3_errorOfSource 54 = .ok (.aload_n 0, 1) := dk_42 (dk_at dksX3_errorOfSource_2 8 rfl rfl)
theorem dX3_errorOfSource_55 : decode cX3_errorOfSource 55 = .ok (.iconst 1, 1) := dk_4 (dk_at dksX3_errorOfSource_2 9 rfl rfl)
theorem dX3_errorOfSource_56 : decode cX3_errorOfSource 56 = .ok (.invokevirtual 220, 3) := dk_182 0 220 (dk_at dksX3_errorOfSource_2 10 rfl rfl)
theorem dX3_errorOfSource_59 : decode cX3_errorOfSource 59 = .ok (.goto 4, 3) := dk_167 0 4 (dk_at dksX3_errorOfSource_2 13 rfl rfl)
theorem dX3_errorOfSource_62 : decode cX3_errorOfSource 62 = .ok (.iload_n 1, 1) := dk_27 (dk_at dksX3_errorOfSource_2 16 rfl rfl)
theorem dX3_errorOfSource_63 : decode cX3_errorOfSource 63 = .ok (.ireturn, 1) := dk_172 (dk_at dksX3_errorOfSource_2 17 rfl rfl)
abbrev cX3_goesThrough : ByteArray := prog_28_method_29_code
def yX3_goesThrough : MethodName := ⟨RX3, "goesThrough", "(Z)I"⟩
def dkwX3_goesThrough_6 : List UInt8 := [92, 46, 4, 96, 79, 42, 28, 27, 182, 0, 217, 62, 29, 153, 0, 5, 29, 172, 167, 255, 179, 3, 172]
abbrev dktX3_goesThrough_6 : List UInt8 := dkwX3_goesThrough_6 ++ []
def dkwX3_goesThrough_5 : List UInt8 := [181, 0, 164, 167, 255, 218, 42, 180, 0, 28, 42, 180, 0, 164, 46, 61, 42, 180, 0, 28, 42, 180, 0, 164]
abbrev dktX3_goesThrough_5 : List UInt8 := dkwX3_goesThrough_5 ++ dktX3_goesThrough_6
def dkwX3_goesThrough_4 : List UInt8 := [180, 0, 164, 46, 42, 180, 0, 31, 42, 180, 0, 164, 46, 160, 0, 16, 42, 89, 180, 0, 164, 4, 100]
abbrev dktX3_goesThrough_4 : List UInt8 := dkwX3_goesThrough_4 ++ dktX3_goesThrough_5
def dkwX3_goesThrough_3 : List UInt8 := [180, 0, 22, 28, 2, 79, 132, 2, 1, 167, 255, 241, 42, 180, 0, 164, 155, 0, 76, 42, 180, 0, 28, 42]
abbrev dktX3_goesThrough_3 : List UInt8 := dkwX3_goesThrough_3 ++ dktX3_goesThrough_4
def dkwX3_goesThrough_2 : List UInt8 := [180, 0, 28, 3, 3, 79, 42, 180, 0, 31, 3, 42, 180, 0, 144, 79, 3, 61, 28, 8, 162, 0, 16, 42]
abbrev dktX3_goesThrough_2 : List UInt8 := dkwX3_goesThrough_2 ++ dktX3_goesThrough_3
def dkwX3_goesThrough_1 : List UInt8 := [4, 3, 79, 42, 3, 181, 0, 191, 42, 3, 181, 0, 198, 42, 3, 181, 0, 188, 42, 3, 181, 0, 164, 42]
abbrev dktX3_goesThrough_1 : List UInt8 := dkwX3_goesThrough_1 ++ dktX3_goesThrough_2
def dkwX3_goesThrough_0 : List UInt8 := [42, 16, 8, 42, 180, 0, 19, 3, 46, 96, 181, 0, 177, 42, 180, 0, 19, 3, 3, 79, 42, 180, 0, 19]
abbrev dktX3_goesThrough_0 : List UInt8 := dkwX3_goesThrough_0 ++ dktX3_goesThrough_1
theorem dksX3_goesThrough_0 : cX3_goesThrough.data.toList.drop 0 = dktX3_goesThrough_0 := by decide +kernel
theorem dksX3_goesThrough_1 : cX3_goesThrough.data.toList.drop 24 = dktX3_goesThrough_1 := dk_seg dksX3_goesThrough_0 24 rfl rfl
theorem dksX3_goesThrough_2 : cX3_goesThrough.data.toList.drop 48 = dktX3_goesThrough_2 := dk_seg dksX3_goesThrough_1 24 rfl rfl
theorem dksX3_goesThrough_3 : cX3_goesThrough.data.toList.drop 72 = dktX3_goesThrough_3 := dk_seg dksX3_goesThrough_2 24 rfl rfl
theorem dksX3_goesThrough_4 : cX3_goesThrough.data.toList.drop 96 = dktX3_goesThrough_4 := dk_seg dksX3_goesThrough_3 24 rfl rfl
theorem dksX3_goesThrough_5 : cX3_goesThrough.data.toList.drop 119 = dktX3_goesThrough_5 := dk_seg dksX3_goesThrough_4 23 rfl rfl
theorem dksX3_goesThrough_6 : cX3_goesThrough.data.toList.drop 143 = dktX3_goesThrough_6 := dk_seg dksX3_goesThrough_5 24 rfl rfl
theorem dX3_goesThrough_0 : decode cX3_goesThrough 0 = .ok (.aload_n 0, 1) := dk_42 (dk_at dksX3_goesThrough_0 0 rfl rfl)
theorem dX3_goesThrough_1 : decode cX3_goesThrough 1 = .ok (.bipush 8, 2) := dk_16 8 (dk_at dksX3_goesThrough_0 1 rfl rfl)
theorem dX3_goesThrough_3 : decode cX3_goesThrough 3 = .ok (.aload_n 0, 1) := dk_42 (dk_at dksX3_goesThrough_0 3 rfl rfl)
theorem dX3_goesThrough_4 : decode cX3_goesThrough 4 = .ok (.getfield 19, 3) := dk_180 0 19 (dk_at dksX3_goesThrough_0 4 rfl rfl)
theorem dX3_goesThrough_7 : decode cX3_goesThrough 7 = .ok (.iconst 0, 1) := dk_3 (dk_at dksX3_goesThrough_0 7 rfl rfl)
theorem dX3_goesThrough_8 : decode cX3_goesThrough 8 = .ok (.iaload, 1) := dk_46 (dk_at dksX3_goesThrough_0 8 rfl rfl)
theorem dX3_goesThrough_9 : decode cX3_goesThrough 9 = .ok (.iadd, 1) := dk_96 (dk_at dksX3_goesThrough_0 9 rfl rfl)
theorem dX3_goesThrough_10 : decode cX3_goesThrough 10 = .ok (.putfield 177, 3) := dk_181 0 177 (dk_at dksX3_goesThrough_0 10 rfl rfl)
theorem dX3_goesThrough_13 : decode cX3_goesThrough 13 = .ok (.aload_n 0, 1) := dk_42 (dk_at dksX3_goesThrough_0 13 rfl rfl)
theorem dX3_goesThrough_14 : decode cX3_goesThrough 14 = .ok (.getfield 19, 3) := dk_180 0 19 (dk_at dksX3_goesThrough_0 14 rfl rfl)
theorem dX3_goesThrough_17 : decode cX3_goesThrough 17 = .ok (.iconst 0, 1) := dk_3 (dk_at dksX3_goesThrough_0 17 rfl rfl)
theorem dX3_goesThrough_18 : decode cX3_goesThrough 18 = .ok (.iconst 0, 1) := dk_3 (dk_at dksX3_goesThrough_0 18 rfl rfl)
theorem dX3_goesThrough_19 : decode cX3_goesThrough 19 = .ok (.iastore, 1) := dk_79 (dk_at dksX3_goesThrough_0 19 rfl rfl)
theorem dX3_goesThrough_20 : decode cX3_goesThrough 20 = .ok (.aload_n 0, 1) := dk_42 (dk_at dksX3_goesThrough_0 20 rfl rfl)
theorem dX3_goesThrough_21 : decode cX3_goesThrough 21 = .ok (.getfield 19, 3) := dk_180 0 19 (dk_at dksX3_goesThrough_0 21 rfl rfl)
theorem dX3_goesThrough_24 : decode cX3_goesThrough 24 = .ok (.iconst 1, 1) := dk_4 (dk_at dksX3_goesThrough_1 0 rfl rfl)
theorem dX3_goesThrough_25 : decode cX3_goesThrough 25 = .ok (.iconst 0, 1) := dk_3 (dk_at dksX3_goesThrough_1 1 rfl rfl)
theorem dX3_goesThrough_26 : decode cX3_goesThrough 26 = .ok (.iastore, 1) := dk_79 (dk_at dksX3_goesThrough_1 2 rfl rfl)
theorem dX3_goesThrough_27 : decode cX3_goesThrough 27 = .ok (.aload_n 0, 1) := dk_42 (dk_at dksX3_goesThrough_1 3 rfl rfl)
theorem dX3_goesThrough_28 : decode cX3_goesThrough 28 = .ok (.iconst 0, 1) := dk_3 (dk_at dksX3_goesThrough_1 4 rfl rfl)
theorem dX3_goesThrough_29 : decode cX3_goesThrough 29 = .ok (.putfield 191, 3) := dk_181 0 191 (dk_at dksX3_goesThrough_1 5 rfl rfl)
theorem dX3_goesThrough_32 : decode cX3_goesThrough 32 = .ok (.aload_n 0, 1) := dk_42 (dk_at dksX3_goesThrough_1 8 rfl rfl)
theorem dX3_goesThrough_33 : decode cX3_goesThrough 33 = .ok (.iconst 0, 1) := dk_3 (dk_at dksX3_goesThrough_1 9 rfl rfl)
theorem dX3_goesThrough_34 : decode cX3_goesThrough 34 = .ok (.putfield 198, 3) := dk_181 0 198 (dk_at dksX3_goesThrough_1 10 rfl rfl)
theorem dX3_goesThrough_37 : decode cX3_goesThrough 37 = .ok (.aload_n 0, 1) := dk_42 (dk_at dksX3_goesThrough_1 13 rfl rfl)
theorem dX3_goesThrough_38 : decode cX3_goesThrough 38 = .ok (.iconst 0, 1) := dk_3 (dk_at dksX3_goesThrough_1 14 rfl rfl)
theorem dX3_goesThrough_39 : decode cX3_goesThrough 39 = .ok (.putfield 188, 3) := dk_181 0 188 (dk_at dksX3_goesThrough_1 15 rfl rfl)
theorem dX3_goesThrough_42 : decode cX3_goesThrough 42 = .ok (.aload_n 0, 1) := dk_42 (dk_at dksX3_goesThrough_1 18 rfl rfl)
theorem dX3_goesThrough_43 : decode cX3_goesThrough 43 = .ok (.iconst 0, 1) := dk_3 (dk_at dksX3_goesThrough_1 19 rfl rfl)
theorem dX3_goesThrough_44 : decode cX3_goesThrough 44 = .ok (.putfield 164, 3) := dk_181 0 164 (dk_at dksX3_goesThrough_1 20 rfl rfl)
theorem dX3_goesThrough_47 : decode cX3_goesThrough 47 = .ok (.aload_n 0, 1) := dk_42 (dk_at dksX3_goesThrough_1 23 rfl rfl)
theorem dX3_goesThrough_48 : decode cX3_goesThrough 48 = .ok (.getfield 28, 3) := dk_180 0 28 (dk_at dksX3_goesThrough_2 0 rfl rfl)
theorem dX3_goesThrough_51 : decode cX3_goesThrough 51 = .ok (.iconst 0, 1) := dk_3 (dk_at dksX3_goesThrough_2 3 rfl rfl)
theorem dX3_goesThrough_52 : decode cX3_goesThrough 52 = .ok (.iconst 0, 1) := dk_3 (dk_at dksX3_goesThrough_2 4 rfl rfl)
theorem dX3_goesThrough_53 : decode cX3_goesThrough 53 = .ok (.iastore, 1) := dk_79 (dk_at dksX3_goesThrough_2 5 rfl rfl)
theorem dX3_goesThrough_54 : decode cX3_goesThrough 54 = .ok (.aload_n 0, 1) := dk_42 (dk_at dksX3_goesThrough_2 6 rfl rfl)
theorem dX3_goesThrough_55 : decode cX3_goesThrough 55 = .ok (.getfield 31, 3) := dk_180 0 31 (dk_at dksX3_goesThrough_2 7 rfl rfl)
theorem dX3_goesThrough_58 : decode cX3_goesThrough 58 = .ok (.iconst 0, 1) := dk_3 (dk_at dksX3_goesThrough_2 10 rfl rfl)
theorem dX3_goesThrough_59 : decode cX3_goesThrough 59 = .ok (.aload_n 0, 1) := dk_42 (dk_at dksX3_goesThrough_2 11 rfl rfl)
theorem dX3_goesThrough_60 : decode cX3_goesThrough 60 = .ok (.getfield 144, 3) := dk_180 0 144 (dk_at dksX3_goesThrough_2 12 rfl rfl)
theorem dX3_goesThrough_63 : decode cX3_goesThrough 63 = .ok (.iastore, 1) := dk_79 (dk_at dksX3_goesThrough_2 15 rfl rfl)
theorem dX3_goesThrough_64 : decode cX3_goesThrough 64 = .ok (.iconst 0, 1) := dk_3 (dk_at dksX3_goesThrough_2 16 rfl rfl)
theorem dX3_goesThrough_65 : decode cX3_goesThrough 65 = .ok (.istore_n 2, 1) := dk_61 (dk_at dksX3_goesThrough_2 17 rfl rfl)
theorem dX3_goesThrough_66 : decode cX3_goesThrough 66 = .ok (.iload_n 2, 1) := dk_28 (dk_at dksX3_goesThrough_2 18 rfl rfl)
theorem dX3_goesThrough_67 : decode cX3_goesThrough 67 = .ok (.iconst 5, 1) := dk_8 (dk_at dksX3_goesThrough_2 19 rfl rfl)
theorem dX3_goesThrough_68 : decode cX3_goesThrough 68 = .ok (.if_icmp .ge 16, 3) := dk_162 0 16 (dk_at dksX3_goesThrough_2 20 rfl rfl)
theorem dX3_goesThrough_71 : decode cX3_goesThrough 71 = .ok (.aload_n 0, 1) := dk_42 (dk_at dksX3_goesThrough_2 23 rfl rfl)
theorem dX3_goesThrough_72 : decode cX3_goesThrough 72 = .ok (.getfield 22, 3) := dk_180 0 22 (dk_at dksX3_goesThrough_3 0 rfl rfl)
theorem dX3_goesThrough_75 : decode cX3_goesThrough 75 = .ok (.iload_n 2, 1) := dk_28 (dk_at dksX3_goesThrough_3 3 rfl rfl)
theorem dX3_goesThrough_76 : decode cX3_goesThrough 76 = .ok (.iconst (-1), 1) := dk_2 (dk_at dksX3_goesThrough_3 4 rfl rfl)
theorem dX3_goesThrough_77 : decode cX3_goesThrough 77 = .ok (.iastore, 1) := dk_79 (dk_at dksX3_goesThrough_3 5 rfl rfl)
theorem dX3_goesThrough_78 : decode cX3_goesThrough 78 = .ok (.iinc 2 1, 3) := dk_132 2 1 (dk_at dksX3_goesThrough_3 6 rfl rfl)
theorem dX3_goesThrough_81 : decode cX3_goesThrough 81 = .ok (.goto (-15), 3) := dk_167 255 241 (dk_at dksX3_goesThrough_3 9 rfl rfl)
theorem dX3_goesThrough_84 : decode cX3_goesThrough 84 = .ok (.aload_n 0, 1) := dk_42 (dk_at dksX3_goesThrough_3 12 rfl rfl)
theorem dX3_goesThrough_85 : decode cX3_goesThrough 85 = .ok (.getfield 164, 3) := dk_180 0 164 (dk_at dksX3_goesThrough_3 13 rfl rfl)
theorem dX3_goesThrough_88 : decode cX3_goesThrough 88 = .ok (.ifCond .lt 76, 3) := dk_155 0 76 (dk_at dksX3_goesThrough_3 16 rfl rfl)
theorem dX3_goesThrough_91 : decode cX3_goesThrough 91 = .ok (.aload_n 0, 1) := dk_42 (dk_at dksX3_goesThrough_3 19 rfl rfl)
theorem dX3_goesThrough_92 : decode cX3_goesThrough 92 = .ok (.getfield 28, 3) := dk_180 0 28 (dk_at dksX3_goesThrough_3 20 rfl rfl)
theorem dX3_goesThrough_95 : decode cX3_goesThrough 95 = .ok (.aload_n 0, 1) := dk_42 (dk_at dksX3_goesThrough_3 23 rfl rfl)
theorem dX3_goesThrough_96 : decode cX3_goesThrough 96 = .ok (.getfield 164, 3) := dk_180 0 164 (dk_at dksX3_goesThrough_4 0 rfl rfl)
theorem dX3_goesThrough_99 : decode cX3_goesThrough 99 = .ok (.iaload, 1) := dk_46 (dk_at dksX3_goesThrough_4 3 rfl rfl)
theorem dX3_goesThrough_100 : decode cX3_goesThrough 100 = .ok (.aload_n 0, 1) := dk_42 (dk_at dksX3_goesThrough_4 4 rfl rfl)
theorem dX3_goesThrough_101 : decode cX3_goesThrough 101 = .ok (.getfield 31, 3) := dk_180 0 31 (dk_at dksX3_goesThrough_4 5 rfl rfl)
theorem dX3_goesThrough_104 : decode cX3_goesThrough 104 = .ok (.aload_n 0, 1) := dk_42 (dk_at dksX3_goesThrough_4 8 rfl rfl)
theorem dX3_goesThrough_105 : decode cX3_goesThrough 105 = .ok (.getfield 164, 3) := dk_180 0 164 (dk_at dksX3_goesThrough_4 9 rfl rfl)
theorem dX3_goesThrough_108 : decode cX3_goesThrough 108 = .ok (.iaload, 1) := dk_46 (dk_at dksX3_goesThrough_4 12 rfl rfl)
theorem dX3_goesThrough_109 : decode cX3_goesThrough 109 = .ok (.if_icmp .ne 16, 3) := dk_160 0 16 (dk_at dksX3_goesThrough_4 13 rfl rfl)
theorem dX3_goesThrough_112 : decode cX3_goesThrough 112 = .ok (.aload_n 0, 1) := dk_42 (dk_at dksX3_goesThrough_4 16 rfl rfl)
theorem dX3_goesThrough_113 : decode cX3_goesThrough 113 = .ok (.dup, 1) := dk_89 (dk_at dksX3_goesThrough_4 17 rfl rfl)
theorem dX3_goesThrough_114 : decode cX3_goesThrough 114 = .ok (.getfield 164, 3) := dk_180 0 164 (dk_at dksX3_goesThrough_4 18 rfl rfl)
theorem dX3_goesThrough_117 : decode cX3_goesThrough 117 = .ok (.iconst 1, 1) := dk_4 (dk_at dksX3_goesThrough_4 21 rfl rfl)
theorem dX3_goesThrough_118 : decode cX3_goesThrough 118 = .ok (.isub, 1) := dk_100 (dk_at dksX3_goesThrough_4 22 rfl rfl)
theorem dX3_goesThrough_119 : decode cX3_goesThrough 119 = .ok (.putfield 164, 3) := dk_181 0 164 (dk_at dksX3_goesThrough_5 0 rfl rfl)
theorem dX3_goesThrough_122 : decode cX3_goesThrough 122 = .ok (.goto (-38), 3) := dk_167 255 218 (dk_at dksX3_goesThrough_5 3 rfl rfl)
theorem dX3_goesThrough_125 : decode cX3_goesThrough 125 = .ok (.aload_n 0, 1) := dk_42 (dk_at dksX3_goesThrough_5 6 rfl rfl)
theorem dX3_goesThrough_126 : decode cX3_goesThrough 126 = .ok (.getfield 28, 3) := dk_180 0 28 (dk_at dksX3_goesThrough_5 7 rfl rfl)
theorem dX3_goesThrough_129 : decode cX3_goesThrough 129 = .ok (.aload_n 0, 1) := dk_42 (dk_at dksX3_goesThrough_5 10 rfl rfl)
theorem dX3_goesThrough_130 : decode cX3_goesThrough 130 = .ok (.getfield 164, 3) := dk_180 0 164 (dk_at dksX3_goesThrough_5 11 rfl rfl)
theorem dX3_goesThrough_133 : decode cX3_goesThrough 133 = .ok (.iaload, 1) := dk_46 (dk_at dksX3_goesThrough_5 14 rfl rfl)
theorem dX3_goesThrough_134 : decode cX3_goesThrough 134 = .ok (.istore_n 2, 1) := dk_61 (dk_at dksX3_goesThrough_5 15 rfl rfl)
theorem dX3_goesThrough_135 : decode cX3_goesThrough 135 = .ok (.aload_n 0, 1) := dk_42 (dk_at dksX3_goesThrough_5 16 rfl rfl)
theorem dX3_goesThrough_136 : decode cX3_goesThrough 136 = .ok (.getfield 28, 3) := dk_180 0 28 (dk_at dksX3_goesThrough_5 17 rfl rfl)
theorem dX3_goesThrough_139 : decode cX3_goesThrough 139 = .ok (.aload_n 0, 1) := dk_42 (dk_at dksX3_goesThrough_5 20 rfl rfl)
theorem dX3_goesThrough_140 : decode cX3_goesThrough 140 = .ok (.getfield 164, 3) := dk_180 0 164 (dk_at dksX3_goesThrough_5 21 rfl rfl)
theorem dX3_goesThrough_143 : decode cX3_goesThrough 143 = .ok (.dup2, 1) := dk_92 (dk_at dksX3_goesThrough_6 0 rfl rfl)
theorem dX3_goesThrough_144 : decode cX3_goesThrough 144 = .ok (.iaload, 1) := dk_46 (dk_at dksX3_goesThrough_6 1 rfl rfl)
theorem dX3_goesThrough_145 : decode cX3_goesThrough 145 = .ok (.iconst 1, 1) := dk_4 (dk_at dksX3_goesThrough_6 2 rfl rfl)
theorem dX3_goesThrough_146 : decode cX3_goesThrough 146 = .ok (.iadd, 1) := dk_96 (dk_at dksX3_goesThrough_6 3 rfl rfl)
theorem dX3_goesThrough_147 : decode cX3_goesThrough 147 = .ok (.iastore, 1) := dk_79 (dk_at dksX3_goesThrough_6 4 rfl rfl)
theorem dX3_goesThrough_148 : decode cX3_goesThrough 148 = .ok (.aload_n 0, 1) := dk_42 (dk_at dksX3_goesThrough_6 5 rfl rfl)
theorem dX3_goesThrough_149 : decode cX3_goesThrough 149 = .ok (.iload_n 2, 1) := dk_28 (dk_at dksX3_goesThrough_6 6 rfl rfl)
theorem dX3_goesThrough_150 : decode cX3_goesThrough 150 = .ok (.iload_n 1, 1) := dk_27 (dk_at dksX3_goesThrough_6 7 rfl rfl)
theorem dX3_goesThrough_151 : decode cX3_goesThrough 151 = .ok (.invokevirtual 217, 3) := dk_182 0 217 (dk_at dksX3_goesThrough_6 8 rfl rfl)
theorem dX3_goesThrough_154 : decode cX3_goesThrough 154 = .ok (.istore_n 3, 1) := dk_62 (dk_at dksX3_goesThrough_6 11 rfl rfl)
theorem dX3_goesThrough_155 : decode cX3_goesThrough 155 = .ok (.iload_n 3, 1) := dk_29 (dk_at dksX3_goesThrough_6 12 rfl rfl)
theorem dX3_goesThrough_156 : decode cX3_goesThrough 156 = .ok (.ifCond .eq 5, 3) := dk_153 0 5 (dk_at dksX3_goesThrough_6 13 rfl rfl)
theorem dX3_goesThrough_159 : decode cX3_goesThrough 159 = .ok (.iload_n 3, 1) := dk_29 (dk_at dksX3_goesThrough_6 16 rfl rfl)
theorem dX3_goesThrough_160 : decode cX3_goesThrough 160 = .ok (.ireturn, 1) := dk_172 (dk_at dksX3_goesThrough_6 17 rfl rfl)
theorem dX3_goesThrough_161 : decode cX3_goesThrough 161 = .ok (.goto (-77), 3) := dk_167 255 179 (dk_at dksX3_goesThrough_6 18 rfl rfl)
theorem dX3_goesThrough_164 : decode cX3_goesThrough 164 = .ok (.iconst 0, 1) := dk_3 (dk_at dksX3_goesThrough_6 21 rfl rfl)
theorem dX3_goesThrough_165 : decode cX3_goesThrough 165 = .ok (.ireturn, 1) := dk_172 (dk_at dksX3_goesThrough_6 22 rfl rfl)
abbrev cX3_goes : ByteArray := prog_28_method_28_code
def yX3_goes : MethodName := ⟨RX3, "goes", "(IZ)I"⟩
def dkwX3_goes_7 : List UInt8 := [172]
abbrev dktX3_goes_7 : List UInt8 := dkwX3_goes_7 ++ []
def dkwX3_goes_6 : List UInt8 := [42, 180, 0, 191, 92, 46, 29, 96, 79, 21, 4, 4, 160, 0, 11, 42, 27, 182, 0, 214, 167, 0, 4, 3]
abbrev dktX3_goes_6 : List UInt8 := dkwX3_goes_6 ++ dktX3_goes_7
def dkwX3_goes_5 : List UInt8 := [160, 0, 10, 42, 27, 28, 182, 0, 207, 172, 28, 153, 0, 9, 42, 27, 182, 0, 211, 172, 42, 180, 0, 19]
abbrev dktX3_goes_5 : List UInt8 := dkwX3_goes_5 ++ dktX3_goes_6
def dkwX3_goes_4 : List UInt8 := [42, 27, 182, 0, 204, 172, 21, 4, 16, 7, 160, 0, 9, 17, 1, 144, 27, 96, 172, 21, 4, 16, 8]
abbrev dktX3_goes_4 : List UInt8 := dkwX3_goes_4 ++ dktX3_goes_5
def dkwX3_goes_3 : List UInt8 := [154, 0, 17, 42, 42, 180, 0, 13, 8, 27, 104, 46, 181, 0, 191, 3, 172, 21, 4, 16, 6, 160, 0, 9]
abbrev dktX3_goes_3 : List UInt8 := dkwX3_goes_3 ++ dktX3_goes_4
def dkwX3_goes_2 : List UInt8 := [42, 180, 0, 19, 4, 46, 96, 29, 96, 17, 0, 248, 164, 0, 8, 16, 100, 27, 96, 172, 21, 4]
abbrev dktX3_goes_2 : List UInt8 := dkwX3_goes_2 ++ dktX3_goes_3
def dkwX3_goes_1 : List UInt8 := [28, 154, 0, 43, 42, 180, 0, 198, 17, 1, 44, 163, 0, 28, 29, 158, 0, 29, 42, 180, 0, 19, 3, 46]
abbrev dktX3_goes_1 : List UInt8 := dkwX3_goes_1 ++ dktX3_goes_2
def dkwX3_goes_0 : List UInt8 := [42, 89, 180, 0, 198, 4, 96, 181, 0, 198, 42, 27, 182, 0, 201, 62, 42, 180, 0, 7, 27, 46, 54, 4]
abbrev dktX3_goes_0 : List UInt8 := dkwX3_goes_0 ++ dktX3_goes_1
theorem dksX3_goes_0 : cX3_goes.data.toList.drop 0 = dktX3_goes_0 := by decide +kernel
theorem dksX3_goes_1 : cX3_goes.data.toList.drop 24 = dktX3_goes_1 := dk_seg dksX3_goes_0 24 rfl rfl
theorem dksX3_goes_2 : cX3_goes.data.toList.drop 48 = dktX3_goes_2 := dk_seg dksX3_goes_1 24 rfl rfl
theorem dksX3_goes_3 : cX3_goes.data.toList.drop 70 = dktX3_goes_3 := dk_seg dksX3_goes_2 22 rfl rfl
theorem dksX3_goes_4 : cX3_goes.data.toList.drop 94 = dktX3_goes_4 := dk_seg dksX3_goes_3 24 rfl rfl
theorem dksX3_goes_5 : cX3_goes.data.toList.drop 117 = dktX3_goes_5 := dk_seg dksX3_goes_4 23 rfl rfl
theorem dksX3_goes_6 : cX3_goes.data.toList.drop 141 = dktX3_goes_6 := dk_seg dksX3_goes_5 24 rfl rfl
theorem dksX3_goes_7 : cX3_goes.data.toList.drop 165 = dktX3_goes_7 := dk_seg dksX3_goes_6 24 rfl rfl
theorem dX3_goes_0 : decode cX3_goes 0 = .ok (.aload_n 0, 1) := dk_42 (dk_at dksX3_goes_0 0 rfl rfl)
theorem dX3_goes_1 : decode cX3_goes 1 = .ok (.dup, 1) := dk_89 (dk_at dksX3_goes_0 1 rfl rfl)
theorem dX3_goes_2 : decode cX3_goes 2 = .ok (.getfield 198, 3) := dk_180 0 198 (dk_at dksX3_goes_0 2 rfl rfl)
theorem dX3_goes_5 : decode cX3_goes 5 = .ok (.iconst 1, 1) := dk_4 (dk_at dksX3_goes_0 5 rfl rfl)
theorem dX3_goes_6 : decode cX3_goes 6 = .ok (.iadd, 1) := dk_96 (dk_at dksX3_goes_0 6 rfl rfl)
theorem dX3_goes_7 : decode cX3_goes 7 = .ok (.putfield 198, 3) := dk_181 0 198 (dk_at dksX3_goes_0 7 rfl rfl)
theorem dX3_goes_10 : decode cX3_goes 10 = .ok (.aload_n 0, 1) := dk_42 (dk_at dksX3_goes_0 10 rfl rfl)
theorem dX3_goes_11 : decode cX3_goes 11 = .ok (.iload_n 1, 1) := dk_27 (dk_at dksX3_goes_0 11 rfl rfl)
theorem dX3_goes_12 : decode cX3_goes 12 = .ok (.invokevirtual 201, 3) := dk_182 0 201 (dk_at dksX3_goes_0 12 rfl rfl)
theorem dX3_goes_15 : decode cX3_goes 15 = .ok (.istore_n 3, 1) := dk_62 (dk_at dksX3_goes_0 15 rfl rfl)
theorem dX3_goes_16 : decode cX3_goes 16 = .ok (.aload_n 0, 1) := dk_42 (dk_at dksX3_goes_0 16 rfl rfl)
theorem dX3_goes_17 : decode cX3_goes 17 = .ok (.getfield 7, 3) := dk_180 0 7 (dk_at dksX3_goes_0 17 rfl rfl)
theorem dX3_goes_20 : decode cX3_goes 20 = .ok (.iload_n 1, 1) := dk_27 (dk_at dksX3_goes_0 20 rfl rfl)
theorem dX3_goes_21 : decode cX3_goes 21 = .ok (.iaload, 1) := dk_46 (dk_at dksX3_goes_0 21 rfl rfl)
theorem dX3_goes_22 : decode cX3_goes 22 = .ok (.istore 4, 2) := dk_54 4 (dk_at dksX3_goes_0 22 rfl rfl)
theorem dX3_goes_24 : decode cX3_goes 24 = .ok (.iload_n 2, 1) := dk_28 (dk_at dksX3_goes_1 0 rfl rfl)
theorem dX3_goes_25 : decode cX3_goes 25 = .ok (.ifCond .ne 43, 3) := dk_154 0 43 (dk_at dksX3_goes_1 1 rfl rfl)
theorem dX3_goes_28 : decode cX3_goes 28 = .ok (.aload_n 0, 1) := dk_42 (dk_at dksX3_goes_1 4 rfl rfl)
theorem dX3_goes_29 : decode cX3_goes 29 = .ok (.getfield 198, 3) := dk_180 0 198 (dk_at dksX3_goes_1 5 rfl rfl)
theorem dX3_goes_32 : decode cX3_goes 32 = .ok (.sipush 300, 3) := dk_17 1 44 (dk_at dksX3_goes_1 8 rfl rfl)
theorem dX3_goes_35 : decode cX3_goes 35 = .ok (.if_icmp .gt 28, 3) := dk_163 0 28 (dk_at dksX3_goes_1 11 rfl rfl)
theorem dX3_goes_38 : decode cX3_goes 38 = .ok (.iload_n 3, 1) := dk_29 (dk_at dksX3_goes_1 14 rfl rfl)
theorem dX3_goes_39 : decode cX3_goes 39 = .ok (.ifCond .le 29, 3) := dk_158 0 29 (dk_at dksX3_goes_1 15 rfl rfl)
theorem dX3_goes_42 : decode cX3_goes 42 = .ok (.aload_n 0, 1) := dk_42 (dk_at dksX3_goes_1 18 rfl rfl)
theorem dX3_goes_43 : decode cX3_goes 43 = .ok (.getfield 19, 3) := dk_180 0 19 (dk_at dksX3_goes_1 19 rfl rfl)
theorem dX3_goes_46 : decode cX3_goes 46 = .ok (.iconst 0, 1) := dk_3 (dk_at dksX3_goes_1 22 rfl rfl)
theorem dX3_goes_47 : decode cX3_goes 47 = .ok (.iaload, 1) := dk_46 (dk_at dksX3_goes_1 23 rfl rfl)
theorem dX3_goes_48 : decode cX3_goes 48 = .ok (.aload_n 0, 1) := dk_42 (dk_at dksX3_goes_2 0 rfl rfl)
theorem dX3_goes_49 : decode cX3_goes 49 = .ok (.getfield 19, 3) := dk_180 0 19 (dk_at dksX3_goes_2 1 rfl rfl)
theorem dX3_goes_52 : decode cX3_goes 52 = .ok (.iconst 1, 1) := dk_4 (dk_at dksX3_goes_2 4 rfl rfl)
theorem dX3_goes_53 : decode cX3_goes 53 = .ok (.iaload, 1) := dk_46 (dk_at dksX3_goes_2 5 rfl rfl)
theorem dX3_goes_54 : decode cX3_goes 54 = .ok (.iadd, 1) := dk_96 (dk_at dksX3_goes_2 6 rfl rfl)
theorem dX3_goes_55 : decode cX3_goes 55 = .ok (.iload_n 3, 1) := dk_29 (dk_at dksX3_goes_2 7 rfl rfl)
theorem dX3_goes_56 : decode cX3_goes 56 = .ok (.iadd, 1) := dk_96 (dk_at dksX3_goes_2 8 rfl rfl)
theorem dX3_goes_57 : decode cX3_goes 57 = .ok (.sipush 248, 3) := dk_17 0 248 (dk_at dksX3_goes_2 9 rfl rfl)
theorem dX3_goes_60 : decode cX3_goes 60 = .ok (.if_icmp .le 8, 3) := dk_164 0 8 (dk_at dksX3_goes_2 12 rfl rfl)
theorem dX3_goes_63 : decode cX3_goes 63 = .ok (.bipush 100, 2) := dk_16 100 (dk_at dksX3_goes_2 15 rfl rfl)
theorem dX3_goes_65 : decode cX3_goes 65 = .ok (.iload_n 1, 1) := dk_27 (dk_at dksX3_goes_2 17 rfl rfl)
theorem dX3_goes_66 : decode cX3_goes 66 = .ok (.iadd, 1) := dk_96 (dk_at dksX3_goes_2 18 rfl rfl)
theorem dX3_goes_67 : decode cX3_goes 67 = .ok (.ireturn, 1) := dk_172 (dk_at dksX3_goes_2 19 rfl rfl)
theorem dX3_goes_68 : decode cX3_goes 68 = .ok (.iload 4, 2) := dk_21 4 (dk_at dksX3_goes_2 20 rfl rfl)
theorem dX3_goes_70 : decode cX3_goes 70 = .ok (.ifCond .ne 17, 3) := dk_154 0 17 (dk_at dksX3_goes_3 0 rfl rfl)
theorem dX3_goes_73 : decode cX3_goes 73 = .ok (.aload_n 0, 1) := dk_42 (dk_at dksX3_goes_3 3 rfl rfl)
theorem dX3_goes_74 : decode cX3_goes 74 = .ok (.aload_n 0, 1) := dk_42 (dk_at dksX3_goes_3 4 rfl rfl)
theorem dX3_goes_75 : decode cX3_goes 75 = .ok (.getfield 13, 3) := dk_180 0 13 (dk_at dksX3_goes_3 5 rfl rfl)
theorem dX3_goes_78 : decode cX3_goes 78 = .ok (.iconst 5, 1) := dk_8 (dk_at dksX3_goes_3 8 rfl rfl)
theorem dX3_goes_79 : decode cX3_goes 79 = .ok (.iload_n 1, 1) := dk_27 (dk_at dksX3_goes_3 9 rfl rfl)
theorem dX3_goes_80 : decode cX3_goes 80 = .ok (.imul, 1) := dk_104 (dk_at dksX3_goes_3 10 rfl rfl)
theorem dX3_goes_81 : decode cX3_goes 81 = .ok (.iaload, 1) := dk_46 (dk_at dksX3_goes_3 11 rfl rfl)
theorem dX3_goes_82 : decode cX3_goes 82 = .ok (.putfield 191, 3) := dk_181 0 191 (dk_at dksX3_goes_3 12 rfl rfl)
theorem dX3_goes_85 : decode cX3_goes 85 = .ok (.iconst 0, 1) := dk_3 (dk_at dksX3_goes_3 15 rfl rfl)
theorem dX3_goes_86 : decode cX3_goes 86 = .ok (.ireturn, 1) := dk_172 (dk_at dksX3_goes_3 16 rfl rfl)
theorem dX3_goes_87 : decode cX3_goes 87 = .ok (.iload 4, 2) := dk_21 4 (dk_at dksX3_goes_3 17 rfl rfl)
theorem dX3_goes_89 : decode cX3_goes 89 = .ok (.bipush 6, 2) := dk_16 6 (dk_at dksX3_goes_3 19 rfl rfl)
theorem dX3_goes_91 : decode cX3_goes 91 = .ok (.if_icmp .ne 9, 3) := dk_160 0 9 (dk_at dksX3_goes_3 21 rfl rfl)
theorem dX3_goes_94 : decode cX3_goes 94 = .ok (.aload_n 0, 1) := dk_42 (dk_at dksX3_goes_4 0 rfl rfl)
theorem dX3_goes_95 : decode cX3_goes 95 = .ok (.iload_n 1, 1) := dk_27 (dk_at dksX3_goes_4 1 rfl rfl)
theorem dX3_goes_96 : decode cX3_goes 96 = .ok (.invokevirtual 204, 3) := dk_182 0 204 (dk_at dksX3_goes_4 2 rfl rfl)
theorem dX3_goes_99 : decode cX3_goes 99 = .ok (.ireturn, 1) := dk_172 (dk_at dksX3_goes_4 5 rfl rfl)
theorem dX3_goes_100 : decode cX3_goes 100 = .ok (.iload 4, 2) := dk_21 4 (dk_at dksX3_goes_4 6 rfl rfl)
theorem dX3_goes_102 : decode cX3_goes 102 = .ok (.bipush 7, 2) := dk_16 7 (dk_at dksX3_goes_4 8 rfl rfl)
theorem dX3_goes_104 : decode cX3_goes 104 = .ok (.if_icmp .ne 9, 3) := dk_160 0 9 (dk_at dksX3_goes_4 10 rfl rfl)
theorem dX3_goes_107 : decode cX3_goes 107 = .ok (.sipush 400, 3) := dk_17 1 144 (dk_at dksX3_goes_4 13 rfl rfl)
theorem dX3_goes_110 : decode cX3_goes 110 = .ok (.iload_n 1, 1) := dk_27 (dk_at dksX3_goes_4 16 rfl rfl)
theorem dX3_goes_111 : decode cX3_goes 111 = .ok (.iadd, 1) := dk_96 (dk_at dksX3_goes_4 17 rfl rfl)
theorem dX3_goes_112 : decode cX3_goes 112 = .ok (.ireturn, 1) := dk_172 (dk_at dksX3_goes_4 18 rfl rfl)
theorem dX3_goes_113 : decode cX3_goes 113 = .ok (.iload 4, 2) := dk_21 4 (dk_at dksX3_goes_4 19 rfl rfl)
theorem dX3_goes_115 : decode cX3_goes 115 = .ok (.bipush 8, 2) := dk_16 8 (dk_at dksX3_goes_4 21 rfl rfl)
theorem dX3_goes_117 : decode cX3_goes 117 = .ok (.if_icmp .ne 10, 3) := dk_160 0 10 (dk_at dksX3_goes_5 0 rfl rfl)
theorem dX3_goes_120 : decode cX3_goes 120 = .ok (.aload_n 0, 1) := dk_42 (dk_at dksX3_goes_5 3 rfl rfl)
theorem dX3_goes_121 : decode cX3_goes 121 = .ok (.iload_n 1, 1) := dk_27 (dk_at dksX3_goes_5 4 rfl rfl)
theorem dX3_goes_122 : decode cX3_goes 122 = .ok (.iload_n 2, 1) := dk_28 (dk_at dksX3_goes_5 5 rfl rfl)
theorem dX3_goes_123 : decode cX3_goes 123 = .ok (.invokevirtual 207, 3) := dk_182 0 207 (dk_at dksX3_goes_5 6 rfl rfl)
theorem dX3_goes_126 : decode cX3_goes 126 = .ok (.ireturn, 1) := dk_172 (dk_at dksX3_goes_5 9 rfl rfl)
theorem dX3_goes_127 : decode cX3_goes 127 = .ok (.iload_n 2, 1) := dk_28 (dk_at dksX3_goes_5 10 rfl rfl)
theorem dX3_goes_128 : decode cX3_goes 128 = .ok (.ifCond .eq 9, 3) := dk_153 0 9 (dk_at dksX3_goes_5 11 rfl rfl)
theorem dX3_goes_131 : decode cX3_goes 131 = .ok (.aload_n 0, 1) := dk_42 (dk_at dksX3_goes_5 14 rfl rfl)
theorem dX3_goes_132 : decode cX3_goes 132 = .ok (.iload_n 1, 1) := dk_27 (dk_at dksX3_goes_5 15 rfl rfl)
theorem dX3_goes_133 : decode cX3_goes 133 = .ok (.invokevirtual 211, 3) := dk_182 0 211 (dk_at dksX3_goes_5 16 rfl rfl)
theorem dX3_goes_136 : decode cX3_goes 136 = .ok (.ireturn, 1) := dk_172 (dk_at dksX3_goes_5 19 rfl rfl)
theorem dX3_goes_137 : decode cX3_goes 137 = .ok (.aload_n 0, 1) := dk_42 (dk_at dksX3_goes_5 20 rfl rfl)
theorem dX3_goes_138 : decode cX3_goes 138 = .ok (.getfield 19, 3) := dk_180 0 19 (dk_at dksX3_goes_5 21 rfl rfl)
theorem dX3_goes_141 : decode cX3_goes 141 = .ok (.aload_n 0, 1) := dk_42 (dk_at dksX3_goes_6 0 rfl rfl)
theorem dX3_goes_142 : decode cX3_goes 142 = .ok (.getfield 191, 3) := dk_180 0 191 (dk_at dksX3_goes_6 1 rfl rfl)
theorem dX3_goes_145 : decode cX3_goes 145 = .ok (.dup2, 1) := dk_92 (dk_at dksX3_goes_6 4 rfl rfl)
theorem dX3_goes_146 : decode cX3_goes 146 = .ok (.iaload, 1) := dk_46 (dk_at dksX3_goes_6 5 rfl rfl)
theorem dX3_goes_147 : decode cX3_goes 147 = .ok (.iload_n 3, 1) := dk_29 (dk_at dksX3_goes_6 6 rfl rfl)
theorem dX3_goes_148 : decode cX3_goes 148 = .ok (.iadd, 1) := dk_96 (dk_at dksX3_goes_6 7 rfl rfl)
theorem dX3_goes_149 : decode cX3_goes 149 = .ok (.iastore, 1) := dk_79 (dk_at dksX3_goes_6 8 rfl rfl)
theorem dX3_goes_150 : decode cX3_goes 150 = .ok (.iload 4, 2) := dk_21 4 (dk_at dksX3_goes_6 9 rfl rfl)
theorem dX3_goes_152 : decode cX3_goes 152 = .ok (.iconst 1, 1) := dk_4 (dk_at dksX3_goes_6 11 rfl rfl)
theorem dX3_goes_153 : decode cX3_goes 153 = .ok (.if_icmp .ne 11, 3) := dk_160 0 11 (dk_at dksX3_goes_6 12 rfl rfl)
theorem dX3_goes_156 : decode cX3_goes 156 = .ok (.aload_n 0, 1) := dk_42 (dk_at dksX3_goes_6 15 rfl rfl)
theorem dX3_goes_157 : decode cX3_goes 157 = .ok (.iload_n 1, 1) := dk_27 (dk_at dksX3_goes_6 16 rfl rfl)
theorem dX3_goes_158 : decode cX3_goes 158 = .ok (.invokevirtual 214, 3) := dk_182 0 214 (dk_at dksX3_goes_6 17 rfl rfl)
theorem dX3_goes_161 : decode cX3_goes 161 = .ok (.goto 4, 3) := dk_167 0 4 (dk_at dksX3_goes_6 20 rfl rfl)
theorem dX3_goes_164 : decode cX3_goes 164 = .ok (.iconst 0, 1) := dk_3 (dk_at dksX3_goes_6 23 rfl rfl)
theorem dX3_goes_165 : decode cX3_goes 165 = .ok (.ireturn, 1) := dk_172 (dk_at dksX3_goes_7 0 rfl rfl)
abbrev cX3_wordsOf : ByteArray := prog_28_method_19_code
def yX3_wordsOf : MethodName := ⟨RX3, "wordsOf", "(I)I"⟩
def dkwX3_wordsOf_1 : List UInt8 := [167, 0, 20, 28, 7, 160, 0, 14, 42, 180, 0, 13, 8, 27, 104, 46, 167, 0, 4, 3, 172]
abbrev dktX3_wordsOf_1 : List UInt8 := dkwX3_wordsOf_1 ++ []
def dkwX3_wordsOf_0 : List UInt8 := [42, 180, 0, 7, 27, 46, 61, 28, 5, 160, 0, 7, 5, 167, 0, 29, 28, 6, 160, 0, 7, 4]
abbrev dktX3_wordsOf_0 : List UInt8 := dkwX3_wordsOf_0 ++ dktX3_wordsOf_1
theorem dksX3_wordsOf_0 : cX3_wordsOf.data.toList.drop 0 = dktX3_wordsOf_0 := by decide +kernel
theorem dksX3_wordsOf_1 : cX3_wordsOf.data.toList.drop 22 = dktX3_wordsOf_1 := dk_seg dksX3_wordsOf_0 22 rfl rfl
theorem dX3_wordsOf_0 : decode cX3_wordsOf 0 = .ok (.aload_n 0, 1) := dk_42 (dk_at dksX3_wordsOf_0 0 rfl rfl)
theorem dX3_wordsOf_1 : decode cX3_wordsOf 1 = .ok (.getfield 7, 3) := dk_180 0 7 (dk_at dksX3_wordsOf_0 1 rfl rfl)
theorem dX3_wordsOf_4 : decode cX3_wordsOf 4 = .ok (.iload_n 1, 1) := dk_27 (dk_at dksX3_wordsOf_0 4 rfl rfl)
theorem dX3_wordsOf_5 : decode cX3_wordsOf 5 = .ok (.iaload, 1) := dk_46 (dk_at dksX3_wordsOf_0 5 rfl rfl)
theorem dX3_wordsOf_6 : decode cX3_wordsOf 6 = .ok (.istore_n 2, 1) := dk_61 (dk_at dksX3_wordsOf_0 6 rfl rfl)
theorem dX3_wordsOf_7 : decode cX3_wordsOf 7 = .ok (.iload_n 2, 1) := dk_28 (dk_at dksX3_wordsOf_0 7 rfl rfl)
theorem dX3_wordsOf_8 : decode cX3_wordsOf 8 = .ok (.iconst 2, 1) := dk_5 (dk_at dksX3_wordsOf_0 8 rfl rfl)
theorem dX3_wordsOf_9 : decode cX3_wordsOf 9 = .ok (.if_icmp .ne 7, 3) := dk_160 0 7 (dk_at dksX3_wordsOf_0 9 rfl rfl)
theorem dX3_wordsOf_12 : decode cX3_wordsOf 12 = .ok (.iconst 2, 1) := dk_5 (dk_at dksX3_wordsOf_0 12 rfl rfl)
theorem dX3_wordsOf_13 : decode cX3_wordsOf 13 = .ok (.goto 29, 3) := dk_167 0 29 (dk_at dksX3_wordsOf_0 13 rfl rfl)
theorem dX3_wordsOf_16 : decode cX3_wordsOf 16 = .ok (.iload_n 2, 1) := dk_28 (dk_at dksX3_wordsOf_0 16 rfl rfl)
theorem dX3_wordsOf_17 : decode cX3_wordsOf 17 = .ok (.iconst 3, 1) := dk_6 (dk_at dksX3_wordsOf_0 17 rfl rfl)
theorem dX3_wordsOf_18 : decode cX3_wordsOf 18 = .ok (.if_icmp .ne 7, 3) := dk_160 0 7 (dk_at dksX3_wordsOf_0 18 rfl rfl)
theorem dX3_wordsOf_21 : decode cX3_wordsOf 21 = .ok (.iconst 1, 1) := dk_4 (dk_at dksX3_wordsOf_0 21 rfl rfl)
theorem dX3_wordsOf_22 : decode cX3_wordsOf 22 = .ok (.goto 20, 3) := dk_167 0 20 (dk_at dksX3_wordsOf_1 0 rfl rfl)
theorem dX3_wordsOf_25 : decode cX3_wordsOf 25 = .ok (.iload_n 2, 1) := dk_28 (dk_at dksX3_wordsOf_1 3 rfl rfl)
theorem dX3_wordsOf_26 : decode cX3_wordsOf 26 = .ok (.iconst 4, 1) := dk_7 (dk_at dksX3_wordsOf_1 4 rfl rfl)
theorem dX3_wordsOf_27 : decode cX3_wordsOf 27 = .ok (.if_icmp .ne 14, 3) := dk_160 0 14 (dk_at dksX3_wordsOf_1 5 rfl rfl)
theorem dX3_wordsOf_30 : decode cX3_wordsOf 30 = .ok (.aload_n 0, 1) := dk_42 (dk_at dksX3_wordsOf_1 8 rfl rfl)
theorem dX3_wordsOf_31 : decode cX3_wordsOf 31 = .ok (.getfield 13, 3) := dk_180 0 13 (dk_at dksX3_wordsOf_1 9 rfl rfl)
theorem dX3_wordsOf_34 : decode cX3_wordsOf 34 = .ok (.iconst 5, 1) := dk_8 (dk_at dksX3_wordsOf_1 12 rfl rfl)
theorem dX3_wordsOf_35 : decode cX3_wordsOf 35 = .ok (.iload_n 1, 1) := dk_27 (dk_at dksX3_wordsOf_1 13 rfl rfl)
theorem dX3_wordsOf_36 : decode cX3_wordsOf 36 = .ok (.imul, 1) := dk_104 (dk_at dksX3_wordsOf_1 14 rfl rfl)
theorem dX3_wordsOf_37 : decode cX3_wordsOf 37 = .ok (.iaload, 1) := dk_46 (dk_at dksX3_wordsOf_1 15 rfl rfl)
theorem dX3_wordsOf_38 : decode cX3_wordsOf 38 = .ok (.goto 4, 3) := dk_167 0 4 (dk_at dksX3_wordsOf_1 16 rfl rfl)
theorem dX3_wordsOf_41 : decode cX3_wordsOf 41 = .ok (.iconst 0, 1) := dk_3 (dk_at dksX3_wordsOf_1 19 rfl rfl)
theorem dX3_wordsOf_42 : decode cX3_wordsOf 42 = .ok (.ireturn, 1) := dk_172 (dk_at dksX3_wordsOf_1 20 rfl rfl)
abbrev cX3_begins : ByteArray := prog_28_method_21_code
def yX3_begins : MethodName := ⟨RX3, "begins", "(I)I"⟩
def dkwX3_begins_3 : List UInt8 := [42, 180, 0, 25, 28, 29, 79, 42, 180, 0, 28, 42, 180, 0, 164, 29, 4, 96, 79, 3, 172]
abbrev dktX3_begins_3 : List UInt8 := dkwX3_begins_3 ++ []
def dkwX3_begins_2 : List UInt8 := [17, 1, 144, 29, 2, 160, 0, 7, 27, 167, 0, 4, 29, 96, 172, 42, 180, 0, 22, 28, 27, 4, 96, 79]
abbrev dktX3_begins_2 : List UInt8 := dkwX3_begins_2 ++ dktX3_begins_3
def dkwX3_begins_1 : List UInt8 := [172, 42, 27, 182, 0, 167, 62, 29, 2, 159, 0, 14, 42, 180, 0, 7, 29, 46, 16, 6, 160, 0, 18]
abbrev dktX3_begins_1 : List UInt8 := dkwX3_begins_1 ++ dktX3_begins_2
def dkwX3_begins_0 : List UInt8 := [42, 180, 0, 13, 8, 27, 104, 46, 61, 42, 180, 0, 22, 28, 46, 2, 159, 0, 9, 17, 1, 44, 27, 96]
abbrev dktX3_begins_0 : List UInt8 := dkwX3_begins_0 ++ dktX3_begins_1
theorem dksX3_begins_0 : cX3_begins.data.toList.drop 0 = dktX3_begins_0 := by decide +kernel
theorem dksX3_begins_1 : cX3_begins.data.toList.drop 24 = dktX3_begins_1 := dk_seg dksX3_begins_0 24 rfl rfl
theorem dksX3_begins_2 : cX3_begins.data.toList.drop 47 = dktX3_begins_2 := dk_seg dksX3_begins_1 23 rfl rfl
theorem dksX3_begins_3 : cX3_begins.data.toList.drop 71 = dktX3_begins_3 := dk_seg dksX3_begins_2 24 rfl rfl
theorem dX3_begins_0 : decode cX3_begins 0 = .ok (.aload_n 0, 1) := dk_42 (dk_at dksX3_begins_0 0 rfl rfl)
theorem dX3_begins_1 : decode cX3_begins 1 = .ok (.getfield 13, 3) := dk_180 0 13 (dk_at dksX3_begins_0 1 rfl rfl)
theorem dX3_begins_4 : decode cX3_begins 4 = .ok (.iconst 5, 1) := dk_8 (dk_at dksX3_begins_0 4 rfl rfl)
theorem dX3_begins_5 : decode cX3_begins 5 = .ok (.iload_n 1, 1) := dk_27 (dk_at dksX3_begins_0 5 rfl rfl)
theorem dX3_begins_6 : decode cX3_begins 6 = .ok (.imul, 1) := dk_104 (dk_at dksX3_begins_0 6 rfl rfl)
theorem dX3_begins_7 : decode cX3_begins 7 = .ok (.iaload, 1) := dk_46 (dk_at dksX3_begins_0 7 rfl rfl)
theorem dX3_begins_8 : decode cX3_begins 8 = .ok (.istore_n 2, 1) := dk_61 (dk_at dksX3_begins_0 8 rfl rfl)
theorem dX3_begins_9 : decode cX3_begins 9 = .ok (.aload_n 0, 1) := dk_42 (dk_at dksX3_begins_0 9 rfl rfl)
theorem dX3_begins_10 : decode cX3_begins 10 = .ok (.getfield 22, 3) := dk_180 0 22 (dk_at dksX3_begins_0 10 rfl rfl)
theorem dX3_begins_13 : decode cX3_begins 13 = .ok (.iload_n 2, 1) := dk_28 (dk_at dksX3_begins_0 13 rfl rfl)
theorem dX3_begins_14 : decode cX3_begins 14 = .ok (.iaload, 1) := dk_46 (dk_at dksX3_begins_0 14 rfl rfl)
theorem dX3_begins_15 : decode cX3_begins 15 = .ok (.iconst (-1), 1) := dk_2 (dk_at dksX3_begins_0 15 rfl rfl)
theorem dX3_begins_16 : decode cX3_begins 16 = .ok (.if_icmp .eq 9, 3) := dk_159 0 9 (dk_at dksX3_begins_0 16 rfl rfl)
theorem dX3_begins_19 : decode cX3_begins 19 = .ok (.sipush 300, 3) := dk_17 1 44 (dk_at dksX3_begins_0 19 rfl rfl)
theorem dX3_begins_22 : decode cX3_begins 22 = .ok (.iload_n 1, 1) := dk_27 (dk_at dksX3_begins_0 22 rfl rfl)
theorem dX3_begins_23 : decode cX3_begins 23 = .ok (.iadd, 1) := dk_96 (dk_at dksX3_begins_0 23 rfl rfl)
theorem dX3_begins_24 : decode cX3_begins 24 = .ok (.ireturn, 1) := dk_172 (dk_at dksX3_begins_1 0 rfl rfl)
theorem dX3_begins_25 : decode cX3_begins 25 = .ok (.aload_n 0, 1) := dk_42 (dk_at dksX3_begins_1 1 rfl rfl)
theorem dX3_begins_26 : decode cX3_begins 26 = .ok (.iload_n 1, 1) := dk_27 (dk_at dksX3_begins_1 2 rfl rfl)
theorem dX3_begins_27 : decode cX3_begins 27 = .ok (.invokevirtual 167, 3) := dk_182 0 167 (dk_at dksX3_begins_1 3 rfl rfl)
theorem dX3_begins_30 : decode cX3_begins 30 = .ok (.istore_n 3, 1) := dk_62 (dk_at dksX3_begins_1 6 rfl rfl)
theorem dX3_begins_31 : decode cX3_begins 31 = .ok (.iload_n 3, 1) := dk_29 (dk_at dksX3_begins_1 7 rfl rfl)
theorem dX3_begins_32 : decode cX3_begins 32 = .ok (.iconst (-1), 1) := dk_2 (dk_at dksX3_begins_1 8 rfl rfl)
theorem dX3_begins_33 : decode cX3_begins 33 = .ok (.if_icmp .eq 14, 3) := dk_159 0 14 (dk_at dksX3_begins_1 9 rfl rfl)
theorem dX3_begins_36 : decode cX3_begins 36 = .ok (.aload_n 0, 1) := dk_42 (dk_at dksX3_begins_1 12 rfl rfl)
theorem dX3_begins_37 : decode cX3_begins 37 = .ok (.getfield 7, 3) := dk_180 0 7 (dk_at dksX3_begins_1 13 rfl rfl)
theorem dX3_begins_40 : decode cX3_begins 40 = .ok (.iload_n 3, 1) := dk_29 (dk_at dksX3_begins_1 16 rfl rfl)
theorem dX3_begins_41 : decode cX3_begins 41 = .ok (.iaload, 1) := dk_46 (dk_at dksX3_begins_1 17 rfl rfl)
theorem dX3_begins_42 : decode cX3_begins 42 = .ok (.bipush 6, 2) := dk_16 6 (dk_at dksX3_begins_1 18 rfl rfl)
theorem dX3_begins_44 : decode cX3_begins 44 = .ok (.if_icmp .ne 18, 3) := dk_160 0 18 (dk_at dksX3_begins_1 20 rfl rfl)
theorem dX3_begins_47 : decode cX3_begins 47 = .ok (.sipush 400, 3) := dk_17 1 144 (dk_at dksX3_begins_2 0 rfl rfl)
theorem dX3_begins_50 : decode cX3_begins 50 = .ok (.iload_n 3, 1) := dk_29 (dk_at dksX3_begins_2 3 rfl rfl)
theorem dX3_begins_51 : decode cX3_begins 51 = .ok (.iconst (-1), 1) := dk_2 (dk_at dksX3_begins_2 4 rfl rfl)
theorem dX3_begins_52 : decode cX3_begins 52 = .ok (.if_icmp .ne 7, 3) := dk_160 0 7 (dk_at dksX3_begins_2 5 rfl rfl)
theorem dX3_begins_55 : decode cX3_begins 55 = .ok (.iload_n 1, 1) := dk_27 (dk_at dksX3_begins_2 8 rfl rfl)
theorem dX3_begins_56 : decode cX3_begins 56 = .ok (.goto 4, 3) := dk_167 0 4 (dk_at dksX3_begins_2 9 rfl rfl)
theorem dX3_begins_59 : decode cX3_begins 59 = .ok (.iload_n 3, 1) := dk_29 (dk_at dksX3_begins_2 12 rfl rfl)
theorem dX3_begins_60 : decode cX3_begins 60 = .ok (.iadd, 1) := dk_96 (dk_at dksX3_begins_2 13 rfl rfl)
theorem dX3_begins_61 : decode cX3_begins 61 = .ok (.ireturn, 1) := dk_172 (dk_at dksX3_begins_2 14 rfl rfl)
theorem dX3_begins_62 : decode cX3_begins 62 = .ok (.aload_n 0, 1) := dk_42 (dk_at dksX3_begins_2 15 rfl rfl)
theorem dX3_begins_63 : decode cX3_begins 63 = .ok (.getfield 22, 3) := dk_180 0 22 (dk_at dksX3_begins_2 16 rfl rfl)
theorem dX3_begins_66 : decode cX3_begins 66 = .ok (.iload_n 2, 1) := dk_28 (dk_at dksX3_begins_2 19 rfl rfl)
theorem dX3_begins_67 : decode cX3_begins 67 = .ok (.iload_n 1, 1) := dk_27 (dk_at dksX3_begins_2 20 rfl rfl)
theorem dX3_begins_68 : decode cX3_begins 68 = .ok (.iconst 1, 1) := dk_4 (dk_at dksX3_begins_2 21 rfl rfl)
theorem dX3_begins_69 : decode cX3_begins 69 = .ok (.iadd, 1) := dk_96 (dk_at dksX3_begins_2 22 rfl rfl)
theorem dX3_begins_70 : decode cX3_begins 70 = .ok (.iastore, 1) := dk_79 (dk_at dksX3_begins_2 23 rfl rfl)
theorem dX3_begins_71 : decode cX3_begins 71 = .ok (.aload_n 0, 1) := dk_42 (dk_at dksX3_begins_3 0 rfl rfl)
theorem dX3_begins_72 : decode cX3_begins 72 = .ok (.getfield 25, 3) := dk_180 0 25 (dk_at dksX3_begins_3 1 rfl rfl)
theorem dX3_begins_75 : decode cX3_begins 75 = .ok (.iload_n 2, 1) := dk_28 (dk_at dksX3_begins_3 4 rfl rfl)
theorem dX3_begins_76 : decode cX3_begins 76 = .ok (.iload_n 3, 1) := dk_29 (dk_at dksX3_begins_3 5 rfl rfl)
theorem dX3_begins_77 : decode cX3_begins 77 = .ok (.iastore, 1) := dk_79 (dk_at dksX3_begins_3 6 rfl rfl)
theorem dX3_begins_78 : decode cX3_begins 78 = .ok (.aload_n 0, 1) := dk_42 (dk_at dksX3_begins_3 7 rfl rfl)
theorem dX3_begins_79 : decode cX3_begins 79 = .ok (.getfield 28, 3) := dk_180 0 28 (dk_at dksX3_begins_3 8 rfl rfl)
theorem dX3_begins_82 : decode cX3_begins 82 = .ok (.aload_n 0, 1) := dk_42 (dk_at dksX3_begins_3 11 rfl rfl)
theorem dX3_begins_83 : decode cX3_begins 83 = .ok (.getfield 164, 3) := dk_180 0 164 (dk_at dksX3_begins_3 12 rfl rfl)
theorem dX3_begins_86 : decode cX3_begins 86 = .ok (.iload_n 3, 1) := dk_29 (dk_at dksX3_begins_3 15 rfl rfl)
theorem dX3_begins_87 : decode cX3_begins 87 = .ok (.iconst 1, 1) := dk_4 (dk_at dksX3_begins_3 16 rfl rfl)
theorem dX3_begins_88 : decode cX3_begins 88 = .ok (.iadd, 1) := dk_96 (dk_at dksX3_begins_3 17 rfl rfl)
theorem dX3_begins_89 : decode cX3_begins 89 = .ok (.iastore, 1) := dk_79 (dk_at dksX3_begins_3 18 rfl rfl)
theorem dX3_begins_90 : decode cX3_begins 90 = .ok (.iconst 0, 1) := dk_3 (dk_at dksX3_begins_3 19 rfl rfl)
theorem dX3_begins_91 : decode cX3_begins 91 = .ok (.ireturn, 1) := dk_172 (dk_at dksX3_begins_3 20 rfl rfl)
abbrev cX3_nextOf : ByteArray := prog_28_method_20_code
def yX3_nextOf : MethodName := ⟨RX3, "nextOf", "(I)I"⟩
def dkwX3_nextOf_1 : List UInt8 := [180, 0, 7, 28, 46, 16, 6, 160, 0, 5, 28, 172, 132, 2, 1, 167, 255, 221, 2, 172]
abbrev dktX3_nextOf_1 : List UInt8 := dkwX3_nextOf_1 ++ []
def dkwX3_nextOf_0 : List UInt8 := [27, 4, 96, 61, 28, 42, 180, 0, 144, 162, 0, 33, 42, 180, 0, 7, 28, 46, 16, 7, 159, 0, 14, 42]
abbrev dktX3_nextOf_0 : List UInt8 := dkwX3_nextOf_0 ++ dktX3_nextOf_1
theorem dksX3_nextOf_0 : cX3_nextOf.data.toList.drop 0 = dktX3_nextOf_0 := by decide +kernel
theorem dksX3_nextOf_1 : cX3_nextOf.data.toList.drop 24 = dktX3_nextOf_1 := dk_seg dksX3_nextOf_0 24 rfl rfl
theorem dX3_nextOf_0 : decode cX3_nextOf 0 = .ok (.iload_n 1, 1) := dk_27 (dk_at dksX3_nextOf_0 0 rfl rfl)
theorem dX3_nextOf_1 : decode cX3_nextOf 1 = .ok (.iconst 1, 1) := dk_4 (dk_at dksX3_nextOf_0 1 rfl rfl)
theorem dX3_nextOf_2 : decode cX3_nextOf 2 = .ok (.iadd, 1) := dk_96 (dk_at dksX3_nextOf_0 2 rfl rfl)
theorem dX3_nextOf_3 : decode cX3_nextOf 3 = .ok (.istore_n 2, 1) := dk_61 (dk_at dksX3_nextOf_0 3 rfl rfl)
theorem dX3_nextOf_4 : decode cX3_nextOf 4 = .ok (.iload_n 2, 1) := dk_28 (dk_at dksX3_nextOf_0 4 rfl rfl)
theorem dX3_nextOf_5 : decode cX3_nextOf 5 = .ok (.aload_n 0, 1) := dk_42 (dk_at dksX3_nextOf_0 5 rfl rfl)
theorem dX3_nextOf_6 : decode cX3_nextOf 6 = .ok (.getfield 144, 3) := dk_180 0 144 (dk_at dksX3_nextOf_0 6 rfl rfl)
theorem dX3_nextOf_9 : decode cX3_nextOf 9 = .ok (.if_icmp .ge 33, 3) := dk_162 0 33 (dk_at dksX3_nextOf_0 9 rfl rfl)
theorem dX3_nextOf_12 : decode cX3_nextOf 12 = .ok (.aload_n 0, 1) := dk_42 (dk_at dksX3_nextOf_0 12 rfl rfl)
theorem dX3_nextOf_13 : decode cX3_nextOf 13 = .ok (.getfield 7, 3) := dk_180 0 7 (dk_at dksX3_nextOf_0 13 rfl rfl)
theorem dX3_nextOf_16 : decode cX3_nextOf 16 = .ok (.iload_n 2, 1) := dk_28 (dk_at dksX3_nextOf_0 16 rfl rfl)
theorem dX3_nextOf_17 : decode cX3_nextOf 17 = .ok (.iaload, 1) := dk_46 (dk_at dksX3_nextOf_0 17 rfl rfl)
theorem dX3_nextOf_18 : decode cX3_nextOf 18 = .ok (.bipush 7, 2) := dk_16 7 (dk_at dksX3_nextOf_0 18 rfl rfl)
theorem dX3_nextOf_20 : decode cX3_nextOf 20 = .ok (.if_icmp .eq 14, 3) := dk_159 0 14 (dk_at dksX3_nextOf_0 20 rfl rfl)
theorem dX3_nextOf_23 : decode cX3_nextOf 23 = .ok (.aload_n 0, 1) := dk_42 (dk_at dksX3_nextOf_0 23 rfl rfl)
theorem dX3_nextOf_24 : decode cX3_nextOf 24 = .ok (.getfield 7, 3) := dk_180 0 7 (dk_at dksX3_nextOf_1 0 rfl rfl)
theorem dX3_nextOf_27 : decode cX3_nextOf 27 = .ok (.iload_n 2, 1) := dk_28 (dk_at dksX3_nextOf_1 3 rfl rfl)
theorem dX3_nextOf_28 : decode cX3_nextOf 28 = .ok (.iaload, 1) := dk_46 (dk_at dksX3_nextOf_1 4 rfl rfl)
theorem dX3_nextOf_29 : decode cX3_nextOf 29 = .ok (.bipush 6, 2) := dk_16 6 (dk_at dksX3_nextOf_1 5 rfl rfl)
theorem dX3_nextOf_31 : decode cX3_nextOf 31 = .ok (.if_icmp .ne 5, 3) := dk_160 0 5 (dk_at dksX3_nextOf_1 7 rfl rfl)
theorem dX3_nextOf_34 : decode cX3_nextOf 34 = .ok (.iload_n 2, 1) := dk_28 (dk_at dksX3_nextOf_1 10 rfl rfl)
theorem dX3_nextOf_35 : decode cX3_nextOf 35 = .ok (.ireturn, 1) := dk_172 (dk_at dksX3_nextOf_1 11 rfl rfl)
theorem dX3_nextOf_36 : decode cX3_nextOf 36 = .ok (.iinc 2 1, 3) := dk_132 2 1 (dk_at dksX3_nextOf_1 12 rfl rfl)
theorem dX3_nextOf_39 : decode cX3_nextOf 39 = .ok (.goto (-35), 3) := dk_167 255 221 (dk_at dksX3_nextOf_1 15 rfl rfl)
theorem dX3_nextOf_42 : decode cX3_nextOf 42 = .ok (.iconst (-1), 1) := dk_2 (dk_at dksX3_nextOf_1 18 rfl rfl)
theorem dX3_nextOf_43 : decode cX3_nextOf 43 = .ok (.ireturn, 1) := dk_172 (dk_at dksX3_nextOf_1 19 rfl rfl)
abbrev cX3_usesMacro : ByteArray := prog_28_method_24_code
def yX3_usesMacro : MethodName := ⟨RX3, "usesMacro", "(IZ)I"⟩
def dkwX3_usesMacro_10 : List UInt8 := [154, 0, 7, 3, 167, 0, 10, 16, 100, 21, 6, 104, 27, 96, 172]
abbrev dktX3_usesMacro_10 : List UInt8 := dkwX3_usesMacro_10 ++ []
def dkwX3_usesMacro_9 : List UInt8 := [180, 0, 43, 42, 180, 0, 164, 21, 7, 79, 42, 89, 180, 0, 188, 4, 96, 181, 0, 188, 21, 6]
abbrev dktX3_usesMacro_9 : List UInt8 := dkwX3_usesMacro_9 ++ dktX3_usesMacro_10
def dkwX3_usesMacro_8 : List UInt8 := [42, 180, 0, 37, 42, 180, 0, 164, 21, 4, 79, 42, 180, 0, 40, 42, 180, 0, 164, 21, 5, 79, 42]
abbrev dktX3_usesMacro_8 : List UInt8 := dkwX3_usesMacro_8 ++ dktX3_usesMacro_9
def dkwX3_usesMacro_7 : List UInt8 := [180, 0, 164, 42, 180, 0, 25, 21, 4, 46, 79, 42, 180, 0, 34, 42, 180, 0, 164, 42, 180, 0, 188, 79]
abbrev dktX3_usesMacro_7 : List UInt8 := dkwX3_usesMacro_7 ++ dktX3_usesMacro_8
def dkwX3_usesMacro_6 : List UInt8 := [181, 0, 164, 42, 180, 0, 28, 42, 180, 0, 164, 42, 180, 0, 22, 21, 4, 46, 79, 42, 180, 0, 31, 42]
abbrev dktX3_usesMacro_6 : List UInt8 := dkwX3_usesMacro_6 ++ dktX3_usesMacro_7
def dkwX3_usesMacro_5 : List UInt8 := [21, 6, 154, 0, 10, 42, 180, 0, 171, 167, 0, 5, 21, 6, 54, 6, 42, 89, 180, 0, 164, 4, 96]
abbrev dktX3_usesMacro_5 : List UInt8 := dkwX3_usesMacro_5 ++ dktX3_usesMacro_6
def dkwX3_usesMacro_4 : List UInt8 := [5, 96, 46, 42, 180, 0, 13, 29, 6, 96, 46, 182, 0, 184, 167, 0, 4, 3, 54, 7, 28, 153, 0, 15]
abbrev dktX3_usesMacro_4 : List UInt8 := dkwX3_usesMacro_4 ++ dktX3_usesMacro_5
def dkwX3_usesMacro_3 : List UInt8 := [28, 153, 0, 10, 42, 180, 0, 171, 167, 0, 4, 3, 54, 6, 28, 153, 0, 26, 42, 42, 180, 0, 13, 29]
abbrev dktX3_usesMacro_3 : List UInt8 := dkwX3_usesMacro_3 ++ dktX3_usesMacro_4
def dkwX3_usesMacro_2 : List UInt8 := [42, 42, 180, 0, 13, 29, 46, 42, 180, 0, 13, 29, 4, 96, 46, 182, 0, 184, 167, 0, 4, 3, 54, 5]
abbrev dktX3_usesMacro_2 : List UInt8 := dkwX3_usesMacro_2 ++ dktX3_usesMacro_3
def dkwX3_usesMacro_1 : List UInt8 := [46, 2, 159, 0, 12, 42, 21, 4, 182, 0, 181, 153, 0, 9, 17, 1, 244, 27, 96, 172, 28, 153, 0, 24]
abbrev dktX3_usesMacro_1 : List UInt8 := dkwX3_usesMacro_1 ++ dktX3_usesMacro_2
def dkwX3_usesMacro_0 : List UInt8 := [8, 27, 104, 62, 42, 180, 0, 13, 29, 7, 96, 46, 54, 4, 28, 154, 0, 29, 42, 180, 0, 22, 21, 4]
abbrev dktX3_usesMacro_0 : List UInt8 := dkwX3_usesMacro_0 ++ dktX3_usesMacro_1
theorem dksX3_usesMacro_0 : cX3_usesMacro.data.toList.drop 0 = dktX3_usesMacro_0 := by decide +kernel
theorem dksX3_usesMacro_1 : cX3_usesMacro.data.toList.drop 24 = dktX3_usesMacro_1 := dk_seg dksX3_usesMacro_0 24 rfl rfl
theorem dksX3_usesMacro_2 : cX3_usesMacro.data.toList.drop 48 = dktX3_usesMacro_2 := dk_seg dksX3_usesMacro_1 24 rfl rfl
theorem dksX3_usesMacro_3 : cX3_usesMacro.data.toList.drop 72 = dktX3_usesMacro_3 := dk_seg dksX3_usesMacro_2 24 rfl rfl
theorem dksX3_usesMacro_4 : cX3_usesMacro.data.toList.drop 96 = dktX3_usesMacro_4 := dk_seg dksX3_usesMacro_3 24 rfl rfl
theorem dksX3_usesMacro_5 : cX3_usesMacro.data.toList.drop 120 = dktX3_usesMacro_5 := dk_seg dksX3_usesMacro_4 24 rfl rfl
theorem dksX3_usesMacro_6 : cX3_usesMacro.data.toList.drop 143 = dktX3_usesMacro_6 := dk_seg dksX3_usesMacro_5 23 rfl rfl
theorem dksX3_usesMacro_7 : cX3_usesMacro.data.toList.drop 167 = dktX3_usesMacro_7 := dk_seg dksX3_usesMacro_6 24 rfl rfl
theorem dksX3_usesMacro_8 : cX3_usesMacro.data.toList.drop 191 = dktX3_usesMacro_8 := dk_seg dksX3_usesMacro_7 24 rfl rfl
theorem dksX3_usesMacro_9 : cX3_usesMacro.data.toList.drop 214 = dktX3_usesMacro_9 := dk_seg dksX3_usesMacro_8 23 rfl rfl
theorem dksX3_usesMacro_10 : cX3_usesMacro.data.toList.drop 236 = dktX3_usesMacro_10 := dk_seg dksX3_usesMacro_9 22 rfl rfl
theorem dX3_usesMacro_0 : decode cX3_usesMacro 0 = .ok (.iconst 5, 1) := dk_8 (dk_at dksX3_usesMacro_0 0 rfl rfl)
theorem dX3_usesMacro_1 : decode cX3_usesMacro 1 = .ok (.iload_n 1, 1) := dk_27 (dk_at dksX3_usesMacro_0 1 rfl rfl)
theorem dX3_usesMacro_2 : decode cX3_usesMacro 2 = .ok (.imul, 1) := dk_104 (dk_at dksX3_usesMacro_0 2 rfl rfl)
theorem dX3_usesMacro_3 : decode cX3_usesMacro 3 = .ok (.istore_n 3, 1) := dk_62 (dk_at dksX3_usesMacro_0 3 rfl rfl)
theorem dX3_usesMacro_4 : decode cX3_usesMacro 4 = .ok (.aload_n 0, 1) := dk_42 (dk_at dksX3_usesMacro_0 4 rfl rfl)
theorem dX3_usesMacro_5 : decode cX3_usesMacro 5 = .ok (.getfield 13, 3) := dk_180 0 13 (dk_at dksX3_usesMacro_0 5 rfl rfl)
theorem dX3_usesMacro_8 : decode cX3_usesMacro 8 = .ok (.iload_n 3, 1) := dk_29 (dk_at dksX3_usesMacro_0 8 rfl rfl)
theorem dX3_usesMacro_9 : decode cX3_usesMacro 9 = .ok (.iconst 4, 1) := dk_7 (dk_at dksX3_usesMacro_0 9 rfl rfl)
theorem dX3_usesMacro_10 : decode cX3_usesMacro 10 = .ok (.iadd, 1) := dk_96 (dk_at dksX3_usesMacro_0 10 rfl rfl)
theorem dX3_usesMacro_11 : decode cX3_usesMacro 11 = .ok (.iaload, 1) := dk_46 (dk_at dksX3_usesMacro_0 11 rfl rfl)
theorem dX3_usesMacro_12 : decode cX3_usesMacro 12 = .ok (.istore 4, 2) := dk_54 4 (dk_at dksX3_usesMacro_0 12 rfl rfl)
theorem dX3_usesMacro_14 : decode cX3_usesMacro 14 = .ok (.iload_n 2, 1) := dk_28 (dk_at dksX3_usesMacro_0 14 rfl rfl)
theorem dX3_usesMacro_15 : decode cX3_usesMacro 15 = .ok (.ifCond .ne 29, 3) := dk_154 0 29 (dk_at dksX3_usesMacro_0 15 rfl rfl)
theorem dX3_usesMacro_18 : decode cX3_usesMacro 18 = .ok (.aload_n 0, 1) := dk_42 (dk_at dksX3_usesMacro_0 18 rfl rfl)
theorem dX3_usesMacro_19 : decode cX3_usesMacro 19 = .ok (.getfield 22, 3) := dk_180 0 22 (dk_at dksX3_usesMacro_0 19 rfl rfl)
theorem dX3_usesMacro_22 : decode cX3_usesMacro 22 = .ok (.iload 4, 2) := dk_21 4 (dk_at dksX3_usesMacro_0 22 rfl rfl)
theorem dX3_usesMacro_24 : decode cX3_usesMacro 24 = .ok (.iaload, 1) := dk_46 (dk_at dksX3_usesMacro_1 0 rfl rfl)
theorem dX3_usesMacro_25 : decode cX3_usesMacro 25 = .ok (.iconst (-1), 1) := dk_2 (dk_at dksX3_usesMacro_1 1 rfl rfl)
theorem dX3_usesMacro_26 : decode cX3_usesMacro 26 = .ok (.if_icmp .eq 12, 3) := dk_159 0 12 (dk_at dksX3_usesMacro_1 2 rfl rfl)
theorem dX3_usesMacro_29 : decode cX3_usesMacro 29 = .ok (.aload_n 0, 1) := dk_42 (dk_at dksX3_usesMacro_1 5 rfl rfl)
theorem dX3_usesMacro_30 : decode cX3_usesMacro 30 = .ok (.iload 4, 2) := dk_21 4 (dk_at dksX3_usesMacro_1 6 rfl rfl)
theorem dX3_usesMacro_32 : decode cX3_usesMacro 32 = .ok (.invokevirtual 181, 3) := dk_182 0 181 (dk_at dksX3_usesMacro_1 8 rfl rfl)
theorem dX3_usesMacro_35 : decode cX3_usesMacro 35 = .ok (.ifCond .eq 9, 3) := dk_153 0 9 (dk_at dksX3_usesMacro_1 11 rfl rfl)
theorem dX3_usesMacro_38 : decode cX3_usesMacro 38 = .ok (.sipush 500, 3) := dk_17 1 244 (dk_at dksX3_usesMacro_1 14 rfl rfl)
theorem dX3_usesMacro_41 : decode cX3_usesMacro 41 = .ok (.iload_n 1, 1) := dk_27 (dk_at dksX3_usesMacro_1 17 rfl rfl)
theorem dX3_usesMacro_42 : decode cX3_usesMacro 42 = .ok (.iadd, 1) := dk_96 (dk_at dksX3_usesMacro_1 18 rfl rfl)
theorem dX3_usesMacro_43 : decode cX3_usesMacro 43 = .ok (.ireturn, 1) := dk_172 (dk_at dksX3_usesMacro_1 19 rfl rfl)
theorem dX3_usesMacro_44 : decode cX3_usesMacro 44 = .ok (.iload_n 2, 1) := dk_28 (dk_at dksX3_usesMacro_1 20 rfl rfl)
theorem dX3_usesMacro_45 : decode cX3_usesMacro 45 = .ok (.ifCond .eq 24, 3) := dk_153 0 24 (dk_at dksX3_usesMacro_1 21 rfl rfl)
theorem dX3_usesMacro_48 : decode cX3_usesMacro 48 = .ok (.aload_n 0, 1) := dk_42 (dk_at dksX3_usesMacro_2 0 rfl rfl)
theorem dX3_usesMacro_49 : decode cX3_usesMacro 49 = .ok (.aload_n 0, 1) := dk_42 (dk_at dksX3_usesMacro_2 1 rfl rfl)
theorem dX3_usesMacro_50 : decode cX3_usesMacro 50 = .ok (.getfield 13, 3) := dk_180 0 13 (dk_at dksX3_usesMacro_2 2 rfl rfl)
theorem dX3_usesMacro_53 : decode cX3_usesMacro 53 = .ok (.iload_n 3, 1) := dk_29 (dk_at dksX3_usesMacro_2 5 rfl rfl)
theorem dX3_usesMacro_54 : decode cX3_usesMacro 54 = .ok (.iaload, 1) := dk_46 (dk_at dksX3_usesMacro_2 6 rfl rfl)
theorem dX3_usesMacro_55 : decode cX3_usesMacro 55 = .ok (.aload_n 0, 1) := dk_42 (dk_at dksX3_usesMacro_2 7 rfl rfl)
theorem dX3_usesMacro_56 : decode cX3_usesMacro 56 = .ok (.getfield 13, 3) := dk_180 0 13 (dk_at dksX3_usesMacro_2 8 rfl rfl)
theorem dX3_usesMacro_59 : decode cX3_usesMacro 59 = .ok (.iload_n 3, 1) := dk_29 (dk_at dksX3_usesMacro_2 11 rfl rfl)
theorem dX3_usesMacro_60 : decode cX3_usesMacro 60 = .ok (.iconst 1, 1) := dk_4 (dk_at dksX3_usesMacro_2 12 rfl rfl)
theorem dX3_usesMacro_61 : decode cX3_usesMacro 61 = .ok (.iadd, 1) := dk_96 (dk_at dksX3_usesMacro_2 13 rfl rfl)
theorem dX3_usesMacro_62 : decode cX3_usesMacro 62 = .ok (.iaload, 1) := dk_46 (dk_at dksX3_usesMacro_2 14 rfl rfl)
theorem dX3_usesMacro_63 : decode cX3_usesMacro 63 = .ok (.invokevirtual 184, 3) := dk_182 0 184 (dk_at dksX3_usesMacro_2 15 rfl rfl)
theorem dX3_usesMacro_66 : decode cX3_usesMacro 66 = .ok (.goto 4, 3) := dk_167 0 4 (dk_at dksX3_usesMacro_2 18 rfl rfl)
theorem dX3_usesMacro_69 : decode cX3_usesMacro 69 = .ok (.iconst 0, 1) := dk_3 (dk_at dksX3_usesMacro_2 21 rfl rfl)
theorem dX3_usesMacro_70 : decode cX3_usesMacro 70 = .ok (.istore 5, 2) := dk_54 5 (dk_at dksX3_usesMacro_2 22 rfl rfl)
theorem dX3_usesMacro_72 : decode cX3_usesMacro 72 = .ok (.iload_n 2, 1) := dk_28 (dk_at dksX3_usesMacro_3 0 rfl rfl)
theorem dX3_usesMacro_73 : decode cX3_usesMacro 73 = .ok (.ifCond .eq 10, 3) := dk_153 0 10 (dk_at dksX3_usesMacro_3 1 rfl rfl)
theorem dX3_usesMacro_76 : decode cX3_usesMacro 76 = .ok (.aload_n 0, 1) := dk_42 (dk_at dksX3_usesMacro_3 4 rfl rfl)
theorem dX3_usesMacro_77 : decode cX3_usesMacro 77 = .ok (.getfield 171, 3) := dk_180 0 171 (dk_at dksX3_usesMacro_3 5 rfl rfl)
theorem dX3_usesMacro_80 : decode cX3_usesMacro 80 = .ok (.goto 4, 3) := dk_167 0 4 (dk_at dksX3_usesMacro_3 8 rfl rfl)
theorem dX3_usesMacro_83 : decode cX3_usesMacro 83 = .ok (.iconst 0, 1) := dk_3 (dk_at dksX3_usesMacro_3 11 rfl rfl)
theorem dX3_usesMacro_84 : decode cX3_usesMacro 84 = .ok (.istore 6, 2) := dk_54 6 (dk_at dksX3_usesMacro_3 12 rfl rfl)
theorem dX3_usesMacro_86 : decode cX3_usesMacro 86 = .ok (.iload_n 2, 1) := dk_28 (dk_at dksX3_usesMacro_3 14 rfl rfl)
theorem dX3_usesMacro_87 : decode cX3_usesMacro 87 = .ok (.ifCond .eq 26, 3) := dk_153 0 26 (dk_at dksX3_usesMacro_3 15 rfl rfl)
theorem dX3_usesMacro_90 : decode cX3_usesMacro 90 = .ok (.aload_n 0, 1) := dk_42 (dk_at dksX3_usesMacro_3 18 rfl rfl)
theorem dX3_usesMacro_91 : decode cX3_usesMacro 91 = .ok (.aload_n 0, 1) := dk_42 (dk_at dksX3_usesMacro_3 19 rfl rfl)
theorem dX3_usesMacro_92 : decode cX3_usesMacro 92 = .ok (.getfield 13, 3) := dk_180 0 13 (dk_at dksX3_usesMacro_3 20 rfl rfl)
theorem dX3_usesMacro_95 : decode cX3_usesMacro 95 = .ok (.iload_n 3, 1) := dk_29 (dk_at dksX3_usesMacro_3 23 rfl rfl)
theorem dX3_usesMacro_96 : decode cX3_usesMacro 96 = .ok (.iconst 2, 1) := dk_5 (dk_at dksX3_usesMacro_4 0 rfl rfl)
theorem dX3_usesMacro_97 : decode cX3_usesMacro 97 = .ok (.iadd, 1) := dk_96 (dk_at dksX3_usesMacro_4 1 rfl rfl)
theorem dX3_usesMacro_98 : decode cX3_usesMacro 98 = .ok (.iaload, 1) := dk_46 (dk_at dksX3_usesMacro_4 2 rfl rfl)
theorem dX3_usesMacro_99 : decode cX3_usesMacro 99 = .ok (.aload_n 0, 1) := dk_42 (dk_at dksX3_usesMacro_4 3 rfl rfl)
theorem dX3_usesMacro_100 : decode cX3_usesMacro 100 = .ok (.getfield 13, 3) := dk_180 0 13 (dk_at dksX3_usesMacro_4 4 rfl rfl)
theorem dX3_usesMacro_103 : decode cX3_usesMacro 103 = .ok (.iload_n 3, 1) := dk_29 (dk_at dksX3_usesMacro_4 7 rfl rfl)
theorem dX3_usesMacro_104 : decode cX3_usesMacro 104 = .ok (.iconst 3, 1) := dk_6 (dk_at dksX3_usesMacro_4 8 rfl rfl)
theorem dX3_usesMacro_105 : decode cX3_usesMacro 105 = .ok (.iadd, 1) := dk_96 (dk_at dksX3_usesMacro_4 9 rfl rfl)
theorem dX3_usesMacro_106 : decode cX3_usesMacro 106 = .ok (.iaload, 1) := dk_46 (dk_at dksX3_usesMacro_4 10 rfl rfl)
theorem dX3_usesMacro_107 : decode cX3_usesMacro 107 = .ok (.invokevirtual 184, 3) := dk_182 0 184 (dk_at dksX3_usesMacro_4 11 rfl rfl)
theorem dX3_usesMacro_110 : decode cX3_usesMacro 110 = .ok (.goto 4, 3) := dk_167 0 4 (dk_at dksX3_usesMacro_4 14 rfl rfl)
theorem dX3_usesMacro_113 : decode cX3_usesMacro 113 = .ok (.iconst 0, 1) := dk_3 (dk_at dksX3_usesMacro_4 17 rfl rfl)
theorem dX3_usesMacro_114 : decode cX3_usesMacro 114 = .ok (.istore 7, 2) := dk_54 7 (dk_at dksX3_usesMacro_4 18 rfl rfl)
theorem dX3_usesMacro_116 : decode cX3_usesMacro 116 = .ok (.iload_n 2, 1) := dk_28 (dk_at dksX3_usesMacro_4 20 rfl rfl)
theorem dX3_usesMacro_117 : decode cX3_usesMacro 117 = .ok (.ifCond .eq 15, 3) := dk_153 0 15 (dk_at dksX3_usesMacro_4 21 rfl rfl)
theorem dX3_usesMacro_120 : decode cX3_usesMacro 120 = .ok (.iload 6, 2) := dk_21 6 (dk_at dksX3_usesMacro_5 0 rfl rfl)
theorem dX3_usesMacro_122 : decode cX3_usesMacro 122 = .ok (.ifCond .ne 10, 3) := dk_154 0 10 (dk_at dksX3_usesMacro_5 2 rfl rfl)
theorem dX3_usesMacro_125 : decode cX3_usesMacro 125 = .ok (.aload_n 0, 1) := dk_42 (dk_at dksX3_usesMacro_5 5 rfl rfl)
theorem dX3_usesMacro_126 : decode cX3_usesMacro 126 = .ok (.getfield 171, 3) := dk_180 0 171 (dk_at dksX3_usesMacro_5 6 rfl rfl)
theorem dX3_usesMacro_129 : decode cX3_usesMacro 129 = .ok (.goto 5, 3) := dk_167 0 5 (dk_at dksX3_usesMacro_5 9 rfl rfl)
theorem dX3_usesMacro_132 : decode cX3_usesMacro 132 = .ok (.iload 6, 2) := dk_21 6 (dk_at dksX3_usesMacro_5 12 rfl rfl)
theorem dX3_usesMacro_134 : decode cX3_usesMacro 134 = .ok (.istore 6, 2) := dk_54 6 (dk_at dksX3_usesMacro_5 14 rfl rfl)
theorem dX3_usesMacro_136 : decode cX3_usesMacro 136 = .ok (.aload_n 0, 1) := dk_42 (dk_at dksX3_usesMacro_5 16 rfl rfl)
theorem dX3_usesMacro_137 : decode cX3_usesMacro 137 = .ok (.dup, 1) := dk_89 (dk_at dksX3_usesMacro_5 17 rfl rfl)
theorem dX3_usesMacro_138 : decode cX3_usesMacro 138 = .ok (.getfield 164, 3) := dk_180 0 164 (dk_at dksX3_usesMacro_5 18 rfl rfl)
theorem dX3_usesMacro_141 : decode cX3_usesMacro 141 = .ok (.iconst 1, 1) := dk_4 (dk_at dksX3_usesMacro_5 21 rfl rfl)
theorem dX3_usesMacro_142 : decode cX3_usesMacro 142 = .ok (.iadd, 1) := dk_96 (dk_at dksX3_usesMacro_5 22 rfl rfl)
theorem dX3_usesMacro_143 : decode cX3_usesMacro 143 = .ok (.putfield 164, 3) := dk_181 0 164 (dk_at dksX3_usesMacro_6 0 rfl rfl)
theorem dX3_usesMacro_146 : decode cX3_usesMacro 146 = .ok (.aload_n 0, 1) := dk_42 (dk_at dksX3_usesMacro_6 3 rfl rfl)
theorem dX3_usesMacro_147 : decode cX3_usesMacro 147 = .ok (.getfield 28, 3) := dk_180 0 28 (dk_at dksX3_usesMacro_6 4 rfl rfl)
theorem dX3_usesMacro_150 : decode cX3_usesMacro 150 = .ok (.aload_n 0, 1) := dk_42 (dk_at dksX3_usesMacro_6 7 rfl rfl)
theorem dX3_usesMacro_151 : decode cX3_usesMacro 151 = .ok (.getfield 164, 3) := dk_180 0 164 (dk_at dksX3_usesMacro_6 8 rfl rfl)
theorem dX3_usesMacro_154 : decode cX3_usesMacro 154 = .ok (.aload_n 0, 1) := dk_42 (dk_at dksX3_usesMacro_6 11 rfl rfl)
theorem dX3_usesMacro_155 : decode cX3_usesMacro 155 = .ok (.getfield 22, 3) := dk_180 0 22 (dk_at dksX3_usesMacro_6 12 rfl rfl)
theorem dX3_usesMacro_158 : decode cX3_usesMacro 158 = .ok (.iload 4, 2) := dk_21 4 (dk_at dksX3_usesMacro_6 15 rfl rfl)
theorem dX3_usesMacro_160 : decode cX3_usesMacro 160 = .ok (.iaload, 1) := dk_46 (dk_at dksX3_usesMacro_6 17 rfl rfl)
theorem dX3_usesMacro_161 : decode cX3_usesMacro 161 = .ok (.iastore, 1) := dk_79 (dk_at dksX3_usesMacro_6 18 rfl rfl)
theorem dX3_usesMacro_162 : decode cX3_usesMacro 162 = .ok (.aload_n 0, 1) := dk_42 (dk_at dksX3_usesMacro_6 19 rfl rfl)
theorem dX3_usesMacro_163 : decode cX3_usesMacro 163 = .ok (.getfield 31, 3) := dk_180 0 31 (dk_at dksX3_usesMacro_6 20 rfl rfl)
theorem dX3_usesMacro_166 : decode cX3_usesMacro 166 = .ok (.aload_n 0, 1) := dk_42 (dk_at dksX3_usesMacro_6 23 rfl rfl)
theorem dX3_usesMacro_167 : decode cX3_usesMacro 167 = .ok (.getfield 164, 3) := dk_180 0 164 (dk_at dksX3_usesMacro_7 0 rfl rfl)
theorem dX3_usesMacro_170 : decode cX3_usesMacro 170 = .ok (.aload_n 0, 1) := dk_42 (dk_at dksX3_usesMacro_7 3 rfl rfl)
theorem dX3_usesMacro_171 : decode cX3_usesMacro 171 = .ok (.getfield 25, 3) := dk_180 0 25 (dk_at dksX3_usesMacro_7 4 rfl rfl)
theorem dX3_usesMacro_174 : decode cX3_usesMacro 174 = .ok (.iload 4, 2) := dk_21 4 (dk_at dksX3_usesMacro_7 7 rfl rfl)
theorem dX3_usesMacro_176 : decode cX3_usesMacro 176 = .ok (.iaload, 1) := dk_46 (dk_at dksX3_usesMacro_7 9 rfl rfl)
theorem dX3_usesMacro_177 : decode cX3_usesMacro 177 = .ok (.iastore, 1) := dk_79 (dk_at dksX3_usesMacro_7 10 rfl rfl)
theorem dX3_usesMacro_178 : decode cX3_usesMacro 178 = .ok (.aload_n 0, 1) := dk_42 (dk_at dksX3_usesMacro_7 11 rfl rfl)
theorem dX3_usesMacro_179 : decode cX3_usesMacro 179 = .ok (.getfield 34, 3) := dk_180 0 34 (dk_at dksX3_usesMacro_7 12 rfl rfl)
theorem dX3_usesMacro_182 : decode cX3_usesMacro 182 = .ok (.aload_n 0, 1) := dk_42 (dk_at dksX3_usesMacro_7 15 rfl rfl)
theorem dX3_usesMacro_183 : decode cX3_usesMacro 183 = .ok (.getfield 164, 3) := dk_180 0 164 (dk_at dksX3_usesMacro_7 16 rfl rfl)
theorem dX3_usesMacro_186 : decode cX3_usesMacro 186 = .ok (.aload_n 0, 1) := dk_42 (dk_at dksX3_usesMacro_7 19 rfl rfl)
theorem dX3_usesMacro_187 : decode cX3_usesMacro 187 = .ok (.getfield 188, 3) := dk_180 0 188 (dk_at dksX3_usesMacro_7 20 rfl rfl)
theorem dX3_usesMacro_190 : decode cX3_usesMacro 190 = .ok (.iastore, 1) := dk_79 (dk_at dksX3_usesMacro_7 23 rfl rfl)
theorem dX3_usesMacro_191 : decode cX3_usesMacro 191 = .ok (.aload_n 0, 1) := dk_42 (dk_at dksX3_usesMacro_8 0 rfl rfl)
theorem dX3_usesMacro_192 : decode cX3_usesMacro 192 = .ok (.getfield 37, 3) := dk_180 0 37 (dk_at dksX3_usesMacro_8 1 rfl rfl)
theorem dX3_usesMacro_195 : decode cX3_usesMacro 195 = .ok (.aload_n 0, 1) := dk_42 (dk_at dksX3_usesMacro_8 4 rfl rfl)
theorem dX3_usesMacro_196 : decode cX3_usesMacro 196 = .ok (.getfield 164, 3) := dk_180 0 164 (dk_at dksX3_usesMacro_8 5 rfl rfl)
theorem dX3_usesMacro_199 : decode cX3_usesMacro 199 = .ok (.iload 4, 2) := dk_21 4 (dk_at dksX3_usesMacro_8 8 rfl rfl)
theorem dX3_usesMacro_201 : decode cX3_usesMacro 201 = .ok (.iastore, 1) := dk_79 (dk_at dksX3_usesMacro_8 10 rfl rfl)
theorem dX3_usesMacro_202 : decode cX3_usesMacro 202 = .ok (.aload_n 0, 1) := dk_42 (dk_at dksX3_usesMacro_8 11 rfl rfl)
theorem dX3_usesMacro_203 : decode cX3_usesMacro 203 = .ok (.getfield 40, 3) := dk_180 0 40 (dk_at dksX3_usesMacro_8 12 rfl rfl)
theorem dX3_usesMacro_206 : decode cX3_usesMacro 206 = .ok (.aload_n 0, 1) := dk_42 (dk_at dksX3_usesMacro_8 15 rfl rfl)
theorem dX3_usesMacro_207 : decode cX3_usesMacro 207 = .ok (.getfield 164, 3) := dk_180 0 164 (dk_at dksX3_usesMacro_8 16 rfl rfl)
theorem dX3_usesMacro_210 : decode cX3_usesMacro 210 = .ok (.iload 5, 2) := dk_21 5 (dk_at dksX3_usesMacro_8 19 rfl rfl)
theorem dX3_usesMacro_212 : decode cX3_usesMacro 212 = .ok (.iastore, 1) := dk_79 (dk_at dksX3_usesMacro_8 21 rfl rfl)
theorem dX3_usesMacro_213 : decode cX3_usesMacro 213 = .ok (.aload_n 0, 1) := dk_42 (dk_at dksX3_usesMacro_8 22 rfl rfl)
theorem dX3_usesMacro_214 : decode cX3_usesMacro 214 = .ok (.getfield 43, 3) := dk_180 0 43 (dk_at dksX3_usesMacro_9 0 rfl rfl)
theorem dX3_usesMacro_217 : decode cX3_usesMacro 217 = .ok (.aload_n 0, 1) := dk_42 (dk_at dksX3_usesMacro_9 3 rfl rfl)
theorem dX3_usesMacro_218 : decode cX3_usesMacro 218 = .ok (.getfield 164, 3) := dk_180 0 164 (dk_at dksX3_usesMacro_9 4 rfl rfl)
theorem dX3_usesMacro_221 : decode cX3_usesMacro 221 = .ok (.iload 7, 2) := dk_21 7 (dk_at dksX3_usesMacro_9 7 rfl rfl)
theorem dX3_usesMacro_223 : decode cX3_usesMacro 223 = .ok (.iastore, 1) := dk_79 (dk_at dksX3_usesMacro_9 9 rfl rfl)
theorem dX3_usesMacro_224 : decode cX3_usesMacro 224 = .ok (.aload_n 0, 1) := dk_42 (dk_at dksX3_usesMacro_9 10 rfl rfl)
theorem dX3_usesMacro_225 : decode cX3_usesMacro 225 = .ok (.dup, 1) := dk_89 (dk_at dksX3_usesMacro_9 11 rfl rfl)
theorem dX3_usesMacro_226 : decode cX3_usesMacro 226 = .ok (.getfield 188, 3) := dk_180 0 188 (dk_at dksX3_usesMacro_9 12 rfl rfl)
theorem dX3_usesMacro_229 : decode cX3_usesMacro 229 = .ok (.iconst 1, 1) := dk_4 (dk_at dksX3_usesMacro_9 15 rfl rfl)
theorem dX3_usesMacro_230 : decode cX3_usesMacro 230 = .ok (.iadd, 1) := dk_96 (dk_at dksX3_usesMacro_9 16 rfl rfl)
theorem dX3_usesMacro_231 : decode cX3_usesMacro 231 = .ok (.putfield 188, 3) := dk_181 0 188 (dk_at dksX3_usesMacro_9 17 rfl rfl)
theorem dX3_usesMacro_234 : decode cX3_usesMacro 234 = .ok (.iload 6, 2) := dk_21 6 (dk_at dksX3_usesMacro_9 20 rfl rfl)
theorem dX3_usesMacro_236 : decode cX3_usesMacro 236 = .ok (.ifCond .ne 7, 3) := dk_154 0 7 (dk_at dksX3_usesMacro_10 0 rfl rfl)
theorem dX3_usesMacro_239 : decode cX3_usesMacro 239 = .ok (.iconst 0, 1) := dk_3 (dk_at dksX3_usesMacro_10 3 rfl rfl)
theorem dX3_usesMacro_240 : decode cX3_usesMacro 240 = .ok (.goto 10, 3) := dk_167 0 10 (dk_at dksX3_usesMacro_10 4 rfl rfl)
theorem dX3_usesMacro_243 : decode cX3_usesMacro 243 = .ok (.bipush 100, 2) := dk_16 100 (dk_at dksX3_usesMacro_10 7 rfl rfl)
theorem dX3_usesMacro_245 : decode cX3_usesMacro 245 = .ok (.iload 6, 2) := dk_21 6 (dk_at dksX3_usesMacro_10 9 rfl rfl)
theorem dX3_usesMacro_247 : decode cX3_usesMacro 247 = .ok (.imul, 1) := dk_104 (dk_at dksX3_usesMacro_10 11 rfl rfl)
theorem dX3_usesMacro_248 : decode cX3_usesMacro 248 = .ok (.iload_n 1, 1) := dk_27 (dk_at dksX3_usesMacro_10 12 rfl rfl)
theorem dX3_usesMacro_249 : decode cX3_usesMacro 249 = .ok (.iadd, 1) := dk_96 (dk_at dksX3_usesMacro_10 13 rfl rfl)
theorem dX3_usesMacro_250 : decode cX3_usesMacro 250 = .ok (.ireturn, 1) := dk_172 (dk_at dksX3_usesMacro_10 14 rfl rfl)
abbrev cX3_isGoneThrough : ByteArray := prog_28_method_22_code
def yX3_isGoneThrough : MethodName := ⟨RX3, "isGoneThrough", "(I)Z"⟩
def dkwX3_isGoneThrough_1 : List UInt8 := [132, 2, 1, 167, 255, 233, 3, 172]
abbrev dktX3_isGoneThrough_1 : List UInt8 := dkwX3_isGoneThrough_1 ++ []
def dkwX3_isGoneThrough_0 : List UInt8 := [4, 61, 28, 42, 180, 0, 164, 163, 0, 21, 42, 180, 0, 37, 28, 46, 27, 160, 0, 5, 4, 172]
abbrev dktX3_isGoneThrough_0 : List UInt8 := dkwX3_isGoneThrough_0 ++ dktX3_isGoneThrough_1
theorem dksX3_isGoneThrough_0 : cX3_isGoneThrough.data.toList.drop 0 = dktX3_isGoneThrough_0 := by decide +kernel
theorem dksX3_isGoneThrough_1 : cX3_isGoneThrough.data.toList.drop 22 = dktX3_isGoneThrough_1 := dk_seg dksX3_isGoneThrough_0 22 rfl rfl
theorem dX3_isGoneThrough_0 : decode cX3_isGoneThrough 0 = .ok (.iconst 1, 1) := dk_4 (dk_at dksX3_isGoneThrough_0 0 rfl rfl)
theorem dX3_isGoneThrough_1 : decode cX3_isGoneThrough 1 = .ok (.istore_n 2, 1) := dk_61 (dk_at dksX3_isGoneThrough_0 1 rfl rfl)
theorem dX3_isGoneThrough_2 : decode cX3_isGoneThrough 2 = .ok (.iload_n 2, 1) := dk_28 (dk_at dksX3_isGoneThrough_0 2 rfl rfl)
theorem dX3_isGoneThrough_3 : decode cX3_isGoneThrough 3 = .ok (.aload_n 0, 1) := dk_42 (dk_at dksX3_isGoneThrough_0 3 rfl rfl)
theorem dX3_isGoneThrough_4 : decode cX3_isGoneThrough 4 = .ok (.getfield 164, 3) := dk_180 0 164 (dk_at dksX3_isGoneThrough_0 4 rfl rfl)
theorem dX3_isGoneThrough_7 : decode cX3_isGoneThrough 7 = .ok (.if_icmp .gt 21, 3) := dk_163 0 21 (dk_at dksX3_isGoneThrough_0 7 rfl rfl)
theorem dX3_isGoneThrough_10 : decode cX3_isGoneThrough 10 = .ok (.aload_n 0, 1) := dk_42 (dk_at dksX3_isGoneThrough_0 10 rfl rfl)
theorem dX3_isGoneThrough_11 : decode cX3_isGoneThrough 11 = .ok (.getfield 37, 3) := dk_180 0 37 (dk_at dksX3_isGoneThrough_0 11 rfl rfl)
theorem dX3_isGoneThrough_14 : decode cX3_isGoneThrough 14 = .ok (.iload_n 2, 1) := dk_28 (dk_at dksX3_isGoneThrough_0 14 rfl rfl)
theorem dX3_isGoneThrough_15 : decode cX3_isGoneThrough 15 = .ok (.iaload, 1) := dk_46 (dk_at dksX3_isGoneThrough_0 15 rfl rfl)
theorem dX3_isGoneThrough_16 : decode cX3_isGoneThrough 16 = .ok (.iload_n 1, 1) := dk_27 (dk_at dksX3_isGoneThrough_0 16 rfl rfl)
theorem dX3_isGoneThrough_17 : decode cX3_isGoneThrough 17 = .ok (.if_icmp .ne 5, 3) := dk_160 0 5 (dk_at dksX3_isGoneThrough_0 17 rfl rfl)
theorem dX3_isGoneThrough_20 : decode cX3_isGoneThrough 20 = .ok (.iconst 1, 1) := dk_4 (dk_at dksX3_isGoneThrough_0 20 rfl rfl)
theorem dX3_isGoneThrough_21 : decode cX3_isGoneThrough 21 = .ok (.ireturn, 1) := dk_172 (dk_at dksX3_isGoneThrough_0 21 rfl rfl)
theorem dX3_isGoneThrough_22 : decode cX3_isGoneThrough 22 = .ok (.iinc 2 1, 3) := dk_132 2 1 (dk_at dksX3_isGoneThrough_1 0 rfl rfl)
theorem dX3_isGoneThrough_25 : decode cX3_isGoneThrough 25 = .ok (.goto (-23), 3) := dk_167 255 233 (dk_at dksX3_isGoneThrough_1 3 rfl rfl)
theorem dX3_isGoneThrough_28 : decode cX3_isGoneThrough 28 = .ok (.iconst 0, 1) := dk_3 (dk_at dksX3_isGoneThrough_1 6 rfl rfl)
theorem dX3_isGoneThrough_29 : decode cX3_isGoneThrough 29 = .ok (.ireturn, 1) := dk_172 (dk_at dksX3_isGoneThrough_1 7 rfl rfl)
abbrev cX3_value : ByteArray := prog_28_method_23_code
def yX3_value : MethodName := ⟨RX3, "value", "(II)I"⟩
def dkwX3_value_5 : List UInt8 := [167, 0, 12, 42, 180, 0, 43, 42, 180, 0, 164, 46, 28, 96, 18, 180, 112, 172]
abbrev dktX3_value_5 : List UInt8 := dkwX3_value_5 ++ []
def dkwX3_value_4 : List UInt8 := [180, 0, 164, 154, 0, 7, 3, 167, 0, 34, 27, 5, 160, 0, 15, 42, 180, 0, 40, 42, 180, 0, 164, 46]
abbrev dktX3_value_4 : List UInt8 := dkwX3_value_4 ++ dktX3_value_5
def dkwX3_value_3 : List UInt8 := [162, 0, 5, 28, 172, 42, 42, 180, 0, 164, 154, 0, 8, 16, 7, 167, 0, 4, 3, 181, 0, 171, 42]
abbrev dktX3_value_3 : List UInt8 := dkwX3_value_3 ++ dktX3_value_4
def dkwX3_value_2 : List UInt8 := [17, 3, 232, 112, 29, 17, 3, 232, 162, 0, 8, 16, 8, 167, 0, 7, 42, 180, 0, 177, 96, 172, 27, 5]
abbrev dktX3_value_2 : List UInt8 := dkwX3_value_2 ++ dktX3_value_3
def dkwX3_value_1 : List UInt8 := [160, 0, 8, 16, 6, 167, 0, 4, 3, 181, 0, 171, 29, 2, 160, 0, 7, 3, 167, 0, 25, 29]
abbrev dktX3_value_1 : List UInt8 := dkwX3_value_1 ++ dktX3_value_2
def dkwX3_value_0 : List UInt8 := [42, 3, 181, 0, 171, 27, 4, 160, 0, 61, 42, 180, 0, 16, 42, 28, 182, 0, 174, 46, 62, 42, 29, 2]
abbrev dktX3_value_0 : List UInt8 := dkwX3_value_0 ++ dktX3_value_1
theorem dksX3_value_0 : cX3_value.data.toList.drop 0 = dktX3_value_0 := by decide +kernel
theorem dksX3_value_1 : cX3_value.data.toList.drop 24 = dktX3_value_1 := dk_seg dksX3_value_0 24 rfl rfl
theorem dksX3_value_2 : cX3_value.data.toList.drop 46 = dktX3_value_2 := dk_seg dksX3_value_1 22 rfl rfl
theorem dksX3_value_3 : cX3_value.data.toList.drop 70 = dktX3_value_3 := dk_seg dksX3_value_2 24 rfl rfl
theorem dksX3_value_4 : cX3_value.data.toList.drop 93 = dktX3_value_4 := dk_seg dksX3_value_3 23 rfl rfl
theorem dksX3_value_5 : cX3_value.data.toList.drop 117 = dktX3_value_5 := dk_seg dksX3_value_4 24 rfl rfl
theorem dX3_value_0 : decode cX3_value 0 = .ok (.aload_n 0, 1) := dk_42 (dk_at dksX3_value_0 0 rfl rfl)
theorem dX3_value_1 : decode cX3_value 1 = .ok (.iconst 0, 1) := dk_3 (dk_at dksX3_value_0 1 rfl rfl)
theorem dX3_value_2 : decode cX3_value 2 = .ok (.putfield 171, 3) := dk_181 0 171 (dk_at dksX3_value_0 2 rfl rfl)
theorem dX3_value_5 : decode cX3_value 5 = .ok (.iload_n 1, 1) := dk_27 (dk_at dksX3_value_0 5 rfl rfl)
theorem dX3_value_6 : decode cX3_value 6 = .ok (.iconst 1, 1) := dk_4 (dk_at dksX3_value_0 6 rfl rfl)
theorem dX3_value_7 : decode cX3_value 7 = .ok (.if_icmp .ne 61, 3) := dk_160 0 61 (dk_at dksX3_value_0 7 rfl rfl)
theorem dX3_value_10 : decode cX3_value 10 = .ok (.aload_n 0, 1) := dk_42 (dk_at dksX3_value_0 10 rfl rfl)
theorem dX3_value_11 : decode cX3_value 11 = .ok (.getfield 16, 3) := dk_180 0 16 (dk_at dksX3_value_0 11 rfl rfl)
theorem dX3_value_14 : decode cX3_value 14 = .ok (.aload_n 0, 1) := dk_42 (dk_at dksX3_value_0 14 rfl rfl)
theorem dX3_value_15 : decode cX3_value 15 = .ok (.iload_n 2, 1) := dk_28 (dk_at dksX3_value_0 15 rfl rfl)
theorem dX3_value_16 : decode cX3_value 16 = .ok (.invokevirtual 174, 3) := dk_182 0 174 (dk_at dksX3_value_0 16 rfl rfl)
theorem dX3_value_19 : decode cX3_value 19 = .ok (.iaload, 1) := dk_46 (dk_at dksX3_value_0 19 rfl rfl)
theorem dX3_value_20 : decode cX3_value 20 = .ok (.istore_n 3, 1) := dk_62 (dk_at dksX3_value_0 20 rfl rfl)
theorem dX3_value_21 : decode cX3_value 21 = .ok (.aload_n 0, 1) := dk_42 (dk_at dksX3_value_0 21 rfl rfl)
theorem dX3_value_22 : decode cX3_value 22 = .ok (.iload_n 3, 1) := dk_29 (dk_at dksX3_value_0 22 rfl rfl)
theorem dX3_value_23 : decode cX3_value 23 = .ok (.iconst (-1), 1) := dk_2 (dk_at dksX3_value_0 23 rfl rfl)
theorem dX3_value_24 : decode cX3_value 24 = .ok (.if_icmp .ne 8, 3) := dk_160 0 8 (dk_at dksX3_value_1 0 rfl rfl)
theorem dX3_value_27 : decode cX3_value 27 = .ok (.bipush 6, 2) := dk_16 6 (dk_at dksX3_value_1 3 rfl rfl)
theorem dX3_value_29 : decode cX3_value 29 = .ok (.goto 4, 3) := dk_167 0 4 (dk_at dksX3_value_1 5 rfl rfl)
theorem dX3_value_32 : decode cX3_value 32 = .ok (.iconst 0, 1) := dk_3 (dk_at dksX3_value_1 8 rfl rfl)
theorem dX3_value_33 : decode cX3_value 33 = .ok (.putfield 171, 3) := dk_181 0 171 (dk_at dksX3_value_1 9 rfl rfl)
theorem dX3_value_36 : decode cX3_value 36 = .ok (.iload_n 3, 1) := dk_29 (dk_at dksX3_value_1 12 rfl rfl)
theorem dX3_value_37 : decode cX3_value 37 = .ok (.iconst (-1), 1) := dk_2 (dk_at dksX3_value_1 13 rfl rfl)
theorem dX3_value_38 : decode cX3_value 38 = .ok (.if_icmp .ne 7, 3) := dk_160 0 7 (dk_at dksX3_value_1 14 rfl rfl)
theorem dX3_value_41 : decode cX3_value 41 = .ok (.iconst 0, 1) := dk_3 (dk_at dksX3_value_1 17 rfl rfl)
theorem dX3_value_42 : decode cX3_value 42 = .ok (.goto 25, 3) := dk_167 0 25 (dk_at dksX3_value_1 18 rfl rfl)
theorem dX3_value_45 : decode cX3_value 45 = .ok (.iload_n 3, 1) := dk_29 (dk_at dksX3_value_1 21 rfl rfl)
theorem dX3_value_46 : decode cX3_value 46 = .ok (.sipush 1000, 3) := dk_17 3 232 (dk_at dksX3_value_2 0 rfl rfl)
theorem dX3_value_49 : decode cX3_value 49 = .ok (.irem, 1) := dk_112 (dk_at dksX3_value_2 3 rfl rfl)
theorem dX3_value_50 : decode cX3_value 50 = .ok (.iload_n 3, 1) := dk_29 (dk_at dksX3_value_2 4 rfl rfl)
theorem dX3_value_51 : decode cX3_value 51 = .ok (.sipush 1000, 3) := dk_17 3 232 (dk_at dksX3_value_2 5 rfl rfl)
theorem dX3_value_54 : decode cX3_value 54 = .ok (.if_icmp .ge 8, 3) := dk_162 0 8 (dk_at dksX3_value_2 8 rfl rfl)
theorem dX3_value_57 : decode cX3_value 57 = .ok (.bipush 8, 2) := dk_16 8 (dk_at dksX3_value_2 11 rfl rfl)
theorem dX3_value_59 : decode cX3_value 59 = .ok (.goto 7, 3) := dk_167 0 7 (dk_at dksX3_value_2 13 rfl rfl)
theorem dX3_value_62 : decode cX3_value 62 = .ok (.aload_n 0, 1) := dk_42 (dk_at dksX3_value_2 16 rfl rfl)
theorem dX3_value_63 : decode cX3_value 63 = .ok (.getfield 177, 3) := dk_180 0 177 (dk_at dksX3_value_2 17 rfl rfl)
theorem dX3_value_66 : decode cX3_value 66 = .ok (.iadd, 1) := dk_96 (dk_at dksX3_value_2 20 rfl rfl)
theorem dX3_value_67 : decode cX3_value 67 = .ok (.ireturn, 1) := dk_172 (dk_at dksX3_value_2 21 rfl rfl)
theorem dX3_value_68 : decode cX3_value 68 = .ok (.iload_n 1, 1) := dk_27 (dk_at dksX3_value_2 22 rfl rfl)
theorem dX3_value_69 : decode cX3_value 69 = .ok (.iconst 2, 1) := dk_5 (dk_at dksX3_value_2 23 rfl rfl)
theorem dX3_value_70 : decode cX3_value 70 = .ok (.if_icmp .ge 5, 3) := dk_162 0 5 (dk_at dksX3_value_3 0 rfl rfl)
theorem dX3_value_73 : decode cX3_value 73 = .ok (.iload_n 2, 1) := dk_28 (dk_at dksX3_value_3 3 rfl rfl)
theorem dX3_value_74 : decode cX3_value 74 = .ok (.ireturn, 1) := dk_172 (dk_at dksX3_value_3 4 rfl rfl)
theorem dX3_value_75 : decode cX3_value 75 = .ok (.aload_n 0, 1) := dk_42 (dk_at dksX3_value_3 5 rfl rfl)
theorem dX3_value_76 : decode cX3_value 76 = .ok (.aload_n 0, 1) := dk_42 (dk_at dksX3_value_3 6 rfl rfl)
theorem dX3_value_77 : decode cX3_value 77 = .ok (.getfield 164, 3) := dk_180 0 164 (dk_at dksX3_value_3 7 rfl rfl)
theorem dX3_value_80 : decode cX3_value 80 = .ok (.ifCond .ne 8, 3) := dk_154 0 8 (dk_at dksX3_value_3 10 rfl rfl)
theorem dX3_value_83 : decode cX3_value 83 = .ok (.bipush 7, 2) := dk_16 7 (dk_at dksX3_value_3 13 rfl rfl)
theorem dX3_value_85 : decode cX3_value 85 = .ok (.goto 4, 3) := dk_167 0 4 (dk_at dksX3_value_3 15 rfl rfl)
theorem dX3_value_88 : decode cX3_value 88 = .ok (.iconst 0, 1) := dk_3 (dk_at dksX3_value_3 18 rfl rfl)
theorem dX3_value_89 : decode cX3_value 89 = .ok (.putfield 171, 3) := dk_181 0 171 (dk_at dksX3_value_3 19 rfl rfl)
theorem dX3_value_92 : decode cX3_value 92 = .ok (.aload_n 0, 1) := dk_42 (dk_at dksX3_value_3 22 rfl rfl)
theorem dX3_value_93 : decode cX3_value 93 = .ok (.getfield 164, 3) := dk_180 0 164 (dk_at dksX3_value_4 0 rfl rfl)
theorem dX3_value_96 : decode cX3_value 96 = .ok (.ifCond .ne 7, 3) := dk_154 0 7 (dk_at dksX3_value_4 3 rfl rfl)
theorem dX3_value_99 : decode cX3_value 99 = .ok (.iconst 0, 1) := dk_3 (dk_at dksX3_value_4 6 rfl rfl)
theorem dX3_value_100 : decode cX3_value 100 = .ok (.goto 34, 3) := dk_167 0 34 (dk_at dksX3_value_4 7 rfl rfl)
theorem dX3_value_103 : decode cX3_value 103 = .ok (.iload_n 1, 1) := dk_27 (dk_at dksX3_value_4 10 rfl rfl)
theorem dX3_value_104 : decode cX3_value 104 = .ok (.iconst 2, 1) := dk_5 (dk_at dksX3_value_4 11 rfl rfl)
theorem dX3_value_105 : decode cX3_value 105 = .ok (.if_icmp .ne 15, 3) := dk_160 0 15 (dk_at dksX3_value_4 12 rfl rfl)
theorem dX3_value_108 : decode cX3_value 108 = .ok (.aload_n 0, 1) := dk_42 (dk_at dksX3_value_4 15 rfl rfl)
theorem dX3_value_109 : decode cX3_value 109 = .ok (.getfield 40, 3) := dk_180 0 40 (dk_at dksX3_value_4 16 rfl rfl)
theorem dX3_value_112 : decode cX3_value 112 = .ok (.aload_n 0, 1) := dk_42 (dk_at dksX3_value_4 19 rfl rfl)
theorem dX3_value_113 : decode cX3_value 113 = .ok (.getfield 164, 3) := dk_180 0 164 (dk_at dksX3_value_4 20 rfl rfl)
theorem dX3_value_116 : decode cX3_value 116 = .ok (.iaload, 1) := dk_46 (dk_at dksX3_value_4 23 rfl rfl)
theorem dX3_value_117 : decode cX3_value 117 = .ok (.goto 12, 3) := dk_167 0 12 (dk_at dksX3_value_5 0 rfl rfl)
theorem dX3_value_120 : decode cX3_value 120 = .ok (.aload_n 0, 1) := dk_42 (dk_at dksX3_value_5 3 rfl rfl)
theorem dX3_value_121 : decode cX3_value 121 = .ok (.getfield 43, 3) := dk_180 0 43 (dk_at dksX3_value_5 4 rfl rfl)
theorem dX3_value_124 : decode cX3_value 124 = .ok (.aload_n 0, 1) := dk_42 (dk_at dksX3_value_5 7 rfl rfl)
theorem dX3_value_125 : decode cX3_value 125 = .ok (.getfield 164, 3) := dk_180 0 164 (dk_at dksX3_value_5 8 rfl rfl)
theorem dX3_value_128 : decode cX3_value 128 = .ok (.iaload, 1) := dk_46 (dk_at dksX3_value_5 11 rfl rfl)
theorem dX3_value_129 : decode cX3_value 129 = .ok (.iload_n 2, 1) := dk_28 (dk_at dksX3_value_5 12 rfl rfl)
theorem dX3_value_130 : decode cX3_value 130 = .ok (.iadd, 1) := dk_96 (dk_at dksX3_value_5 13 rfl rfl)
theorem dX3_value_131 : decode cX3_value 131 = .ok (.ldc 180, 2) := dk_18 180 (dk_at dksX3_value_5 14 rfl rfl)
theorem dX3_value_133 : decode cX3_value 133 = .ok (.irem, 1) := dk_112 (dk_at dksX3_value_5 16 rfl rfl)
theorem dX3_value_134 : decode cX3_value 134 = .ok (.ireturn, 1) := dk_172 (dk_at dksX3_value_5 17 rfl rfl)
abbrev cX3_placeOf : ByteArray := prog_28_method_18_code
def yX3_placeOf : MethodName := ⟨RX3, "placeOf", "(I)I"⟩
def dkwX3_placeOf_1 : List UInt8 := [42, 180, 0, 164, 46, 104, 96, 27, 96, 16, 16, 100, 172]
abbrev dktX3_placeOf_1 : List UInt8 := dkwX3_placeOf_1 ++ []
def dkwX3_placeOf_0 : List UInt8 := [27, 16, 16, 161, 0, 10, 42, 180, 0, 164, 154, 0, 7, 27, 167, 0, 22, 16, 20, 7, 42, 180, 0, 34]
abbrev dktX3_placeOf_0 : List UInt8 := dkwX3_placeOf_0 ++ dktX3_placeOf_1
theorem dksX3_placeOf_0 : cX3_placeOf.data.toList.drop 0 = dktX3_placeOf_0 := by decide +kernel
theorem dksX3_placeOf_1 : cX3_placeOf.data.toList.drop 24 = dktX3_placeOf_1 := dk_seg dksX3_placeOf_0 24 rfl rfl
theorem dX3_placeOf_0 : decode cX3_placeOf 0 = .ok (.iload_n 1, 1) := dk_27 (dk_at dksX3_placeOf_0 0 rfl rfl)
theorem dX3_placeOf_1 : decode cX3_placeOf 1 = .ok (.bipush 16, 2) := dk_16 16 (dk_at dksX3_placeOf_0 1 rfl rfl)
theorem dX3_placeOf_3 : decode cX3_placeOf 3 = .ok (.if_icmp .lt 10, 3) := dk_161 0 10 (dk_at dksX3_placeOf_0 3 rfl rfl)
theorem dX3_placeOf_6 : decode cX3_placeOf 6 = .ok (.aload_n 0, 1) := dk_42 (dk_at dksX3_placeOf_0 6 rfl rfl)
theorem dX3_placeOf_7 : decode cX3_placeOf 7 = .ok (.getfield 164, 3) := dk_180 0 164 (dk_at dksX3_placeOf_0 7 rfl rfl)
theorem dX3_placeOf_10 : decode cX3_placeOf 10 = .ok (.ifCond .ne 7, 3) := dk_154 0 7 (dk_at dksX3_placeOf_0 10 rfl rfl)
theorem dX3_placeOf_13 : decode cX3_placeOf 13 = .ok (.iload_n 1, 1) := dk_27 (dk_at dksX3_placeOf_0 13 rfl rfl)
theorem dX3_placeOf_14 : decode cX3_placeOf 14 = .ok (.goto 22, 3) := dk_167 0 22 (dk_at dksX3_placeOf_0 14 rfl rfl)
theorem dX3_placeOf_17 : decode cX3_placeOf 17 = .ok (.bipush 20, 2) := dk_16 20 (dk_at dksX3_placeOf_0 17 rfl rfl)
theorem dX3_placeOf_19 : decode cX3_placeOf 19 = .ok (.iconst 4, 1) := dk_7 (dk_at dksX3_placeOf_0 19 rfl rfl)
theorem dX3_placeOf_20 : decode cX3_placeOf 20 = .ok (.aload_n 0, 1) := dk_42 (dk_at dksX3_placeOf_0 20 rfl rfl)
theorem dX3_placeOf_21 : decode cX3_placeOf 21 = .ok (.getfield 34, 3) := dk_180 0 34 (dk_at dksX3_placeOf_0 21 rfl rfl)
theorem dX3_placeOf_24 : decode cX3_placeOf 24 = .ok (.aload_n 0, 1) := dk_42 (dk_at dksX3_placeOf_1 0 rfl rfl)
theorem dX3_placeOf_25 : decode cX3_placeOf 25 = .ok (.getfield 164, 3) := dk_180 0 164 (dk_at dksX3_placeOf_1 1 rfl rfl)
theorem dX3_placeOf_28 : decode cX3_placeOf 28 = .ok (.iaload, 1) := dk_46 (dk_at dksX3_placeOf_1 4 rfl rfl)
theorem dX3_placeOf_29 : decode cX3_placeOf 29 = .ok (.imul, 1) := dk_104 (dk_at dksX3_placeOf_1 5 rfl rfl)
theorem dX3_placeOf_30 : decode cX3_placeOf 30 = .ok (.iadd, 1) := dk_96 (dk_at dksX3_placeOf_1 6 rfl rfl)
theorem dX3_placeOf_31 : decode cX3_placeOf 31 = .ok (.iload_n 1, 1) := dk_27 (dk_at dksX3_placeOf_1 7 rfl rfl)
theorem dX3_placeOf_32 : decode cX3_placeOf 32 = .ok (.iadd, 1) := dk_96 (dk_at dksX3_placeOf_1 8 rfl rfl)
theorem dX3_placeOf_33 : decode cX3_placeOf 33 = .ok (.bipush 16, 2) := dk_16 16 (dk_at dksX3_placeOf_1 9 rfl rfl)
theorem dX3_placeOf_35 : decode cX3_placeOf 35 = .ok (.isub, 1) := dk_100 (dk_at dksX3_placeOf_1 11 rfl rfl)
theorem dX3_placeOf_36 : decode cX3_placeOf 36 = .ok (.ireturn, 1) := dk_172 (dk_at dksX3_placeOf_1 12 rfl rfl)
abbrev cX3_builds : ByteArray := prog_28_method_27_code
def yX3_builds : MethodName := ⟨RX3, "builds", "(I)I"⟩
def dkwX3_builds_5 : List UInt8 := [180, 0, 13, 28, 5, 96, 46, 182, 0, 194, 42, 21, 4, 182, 0, 194, 3, 172]
abbrev dktX3_builds_5 : List UInt8 := dkwX3_builds_5 ++ []
def dkwX3_builds_4 : List UInt8 := [42, 180, 0, 46, 42, 180, 0, 13, 28, 5, 96, 46, 21, 4, 79, 3, 172, 29, 5, 160, 0, 15, 42, 42]
abbrev dktX3_builds_4 : List UInt8 := dkwX3_builds_4 ++ dktX3_builds_5
def dkwX3_builds_3 : List UInt8 := [54, 4, 42, 180, 0, 171, 153, 0, 13, 16, 100, 42, 180, 0, 171, 104, 27, 96, 172, 29, 8, 160, 0, 20]
abbrev dktX3_builds_3 : List UInt8 := dkwX3_builds_3 ++ dktX3_builds_4
def dkwX3_builds_2 : List UInt8 := [159, 0, 5, 3, 172, 42, 42, 180, 0, 13, 28, 46, 42, 180, 0, 13, 28, 4, 96, 46, 182, 0, 184]
abbrev dktX3_builds_2 : List UInt8 := dkwX3_builds_2 ++ dktX3_builds_3
def dkwX3_builds_1 : List UInt8 := [92, 46, 42, 180, 0, 13, 28, 46, 96, 79, 3, 172, 29, 5, 159, 0, 15, 29, 6, 159, 0, 10, 29, 8]
abbrev dktX3_builds_1 : List UInt8 := dkwX3_builds_1 ++ dktX3_builds_2
def dkwX3_builds_0 : List UInt8 := [8, 27, 104, 61, 42, 180, 0, 7, 27, 46, 62, 29, 7, 160, 0, 23, 42, 180, 0, 19, 42, 180, 0, 191]
abbrev dktX3_builds_0 : List UInt8 := dkwX3_builds_0 ++ dktX3_builds_1
theorem dksX3_builds_0 : cX3_builds.data.toList.drop 0 = dktX3_builds_0 := by decide +kernel
theorem dksX3_builds_1 : cX3_builds.data.toList.drop 24 = dktX3_builds_1 := dk_seg dksX3_builds_0 24 rfl rfl
theorem dksX3_builds_2 : cX3_builds.data.toList.drop 48 = dktX3_builds_2 := dk_seg dksX3_builds_1 24 rfl rfl
theorem dksX3_builds_3 : cX3_builds.data.toList.drop 71 = dktX3_builds_3 := dk_seg dksX3_builds_2 23 rfl rfl
theorem dksX3_builds_4 : cX3_builds.data.toList.drop 95 = dktX3_builds_4 := dk_seg dksX3_builds_3 24 rfl rfl
theorem dksX3_builds_5 : cX3_builds.data.toList.drop 119 = dktX3_builds_5 := dk_seg dksX3_builds_4 24 rfl rfl
theorem dX3_builds_0 : decode cX3_builds 0 = .ok (.iconst 5, 1) := dk_8 (dk_at dksX3_builds_0 0 rfl rfl)
theorem dX3_builds_1 : decode cX3_builds 1 = .ok (.iload_n 1, 1) := dk_27 (dk_at dksX3_builds_0 1 rfl rfl)
theorem dX3_builds_2 : decode cX3_builds 2 = .ok (.imul, 1) := dk_104 (dk_at dksX3_builds_0 2 rfl rfl)
theorem dX3_builds_3 : decode cX3_builds 3 = .ok (.istore_n 2, 1) := dk_61 (dk_at dksX3_builds_0 3 rfl rfl)
theorem dX3_builds_4 : decode cX3_builds 4 = .ok (.aload_n 0, 1) := dk_42 (dk_at dksX3_builds_0 4 rfl rfl)
theorem dX3_builds_5 : decode cX3_builds 5 = .ok (.getfield 7, 3) := dk_180 0 7 (dk_at dksX3_builds_0 5 rfl rfl)
theorem dX3_builds_8 : decode cX3_builds 8 = .ok (.iload_n 1, 1) := dk_27 (dk_at dksX3_builds_0 8 rfl rfl)
theorem dX3_builds_9 : decode cX3_builds 9 = .ok (.iaload, 1) := dk_46 (dk_at dksX3_builds_0 9 rfl rfl)
theorem dX3_builds_10 : decode cX3_builds 10 = .ok (.istore_n 3, 1) := dk_62 (dk_at dksX3_builds_0 10 rfl rfl)
theorem dX3_builds_11 : decode cX3_builds 11 = .ok (.iload_n 3, 1) := dk_29 (dk_at dksX3_builds_0 11 rfl rfl)
theorem dX3_builds_12 : decode cX3_builds 12 = .ok (.iconst 4, 1) := dk_7 (dk_at dksX3_builds_0 12 rfl rfl)
theorem dX3_builds_13 : decode cX3_builds 13 = .ok (.if_icmp .ne 23, 3) := dk_160 0 23 (dk_at dksX3_builds_0 13 rfl rfl)
theorem dX3_builds_16 : decode cX3_builds 16 = .ok (.aload_n 0, 1) := dk_42 (dk_at dksX3_builds_0 16 rfl rfl)
theorem dX3_builds_17 : decode cX3_builds 17 = .ok (.getfield 19, 3) := dk_180 0 19 (dk_at dksX3_builds_0 17 rfl rfl)
theorem dX3_builds_20 : decode cX3_builds 20 = .ok (.aload_n 0, 1) := dk_42 (dk_at dksX3_builds_0 20 rfl rfl)
theorem dX3_builds_21 : decode cX3_builds 21 = .ok (.getfield 191, 3) := dk_180 0 191 (dk_at dksX3_builds_0 21 rfl rfl)
theorem dX3_builds_24 : decode cX3_builds 24 = .ok (.dup2, 1) := dk_92 (dk_at dksX3_builds_1 0 rfl rfl)
theorem dX3_builds_25 : decode cX3_builds 25 = .ok (.iaload, 1) := dk_46 (dk_at dksX3_builds_1 1 rfl rfl)
theorem dX3_builds_26 : decode cX3_builds 26 = .ok (.aload_n 0, 1) := dk_42 (dk_at dksX3_builds_1 2 rfl rfl)
theorem dX3_builds_27 : decode cX3_builds 27 = .ok (.getfield 13, 3) := dk_180 0 13 (dk_at dksX3_builds_1 3 rfl rfl)
theorem dX3_builds_30 : decode cX3_builds 30 = .ok (.iload_n 2, 1) := dk_28 (dk_at dksX3_builds_1 6 rfl rfl)
theorem dX3_builds_31 : decode cX3_builds 31 = .ok (.iaload, 1) := dk_46 (dk_at dksX3_builds_1 7 rfl rfl)
theorem dX3_builds_32 : decode cX3_builds 32 = .ok (.iadd, 1) := dk_96 (dk_at dksX3_builds_1 8 rfl rfl)
theorem dX3_builds_33 : decode cX3_builds 33 = .ok (.iastore, 1) := dk_79 (dk_at dksX3_builds_1 9 rfl rfl)
theorem dX3_builds_34 : decode cX3_builds 34 = .ok (.iconst 0, 1) := dk_3 (dk_at dksX3_builds_1 10 rfl rfl)
theorem dX3_builds_35 : decode cX3_builds 35 = .ok (.ireturn, 1) := dk_172 (dk_at dksX3_builds_1 11 rfl rfl)
theorem dX3_builds_36 : decode cX3_builds 36 = .ok (.iload_n 3, 1) := dk_29 (dk_at dksX3_builds_1 12 rfl rfl)
theorem dX3_builds_37 : decode cX3_builds 37 = .ok (.iconst 2, 1) := dk_5 (dk_at dksX3_builds_1 13 rfl rfl)
theorem dX3_builds_38 : decode cX3_builds 38 = .ok (.if_icmp .eq 15, 3) := dk_159 0 15 (dk_at dksX3_builds_1 14 rfl rfl)
theorem dX3_builds_41 : decode cX3_builds 41 = .ok (.iload_n 3, 1) := dk_29 (dk_at dksX3_builds_1 17 rfl rfl)
theorem dX3_builds_42 : decode cX3_builds 42 = .ok (.iconst 3, 1) := dk_6 (dk_at dksX3_builds_1 18 rfl rfl)
theorem dX3_builds_43 : decode cX3_builds 43 = .ok (.if_icmp .eq 10, 3) := dk_159 0 10 (dk_at dksX3_builds_1 19 rfl rfl)
theorem dX3_builds_46 : decode cX3_builds 46 = .ok (.iload_n 3, 1) := dk_29 (dk_at dksX3_builds_1 22 rfl rfl)
theorem dX3_builds_47 : decode cX3_builds 47 = .ok (.iconst 5, 1) := dk_8 (dk_at dksX3_builds_1 23 rfl rfl)
theorem dX3_builds_48 : decode cX3_builds 48 = .ok (.if_icmp .eq 5, 3) := dk_159 0 5 (dk_at dksX3_builds_2 0 rfl rfl)
theorem dX3_builds_51 : decode cX3_builds 51 = .ok (.iconst 0, 1) := dk_3 (dk_at dksX3_builds_2 3 rfl rfl)
theorem dX3_builds_52 : decode cX3_builds 52 = .ok (.ireturn, 1) := dk_172 (dk_at dksX3_builds_2 4 rfl rfl)
theorem dX3_builds_53 : decode cX3_builds 53 = .ok (.aload_n 0, 1) := dk_42 (dk_at dksX3_builds_2 5 rfl rfl)
theorem dX3_builds_54 : decode cX3_builds 54 = .ok (.aload_n 0, 1) := dk_42 (dk_at dksX3_builds_2 6 rfl rfl)
theorem dX3_builds_55 : decode cX3_builds 55 = .ok (.getfield 13, 3) := dk_180 0 13 (dk_at dksX3_builds_2 7 rfl rfl)
theorem dX3_builds_58 : decode cX3_builds 58 = .ok (.iload_n 2, 1) := dk_28 (dk_at dksX3_builds_2 10 rfl rfl)
theorem dX3_builds_59 : decode cX3_builds 59 = .ok (.iaload, 1) := dk_46 (dk_at dksX3_builds_2 11 rfl rfl)
theorem dX3_builds_60 : decode cX3_builds 60 = .ok (.aload_n 0, 1) := dk_42 (dk_at dksX3_builds_2 12 rfl rfl)
theorem dX3_builds_61 : decode cX3_builds 61 = .ok (.getfield 13, 3) := dk_180 0 13 (dk_at dksX3_builds_2 13 rfl rfl)
theorem dX3_builds_64 : decode cX3_builds 64 = .ok (.iload_n 2, 1) := dk_28 (dk_at dksX3_builds_2 16 rfl rfl)
theorem dX3_builds_65 : decode cX3_builds 65 = .ok (.iconst 1, 1) := dk_4 (dk_at dksX3_builds_2 17 rfl rfl)
theorem dX3_builds_66 : decode cX3_builds 66 = .ok (.iadd, 1) := dk_96 (dk_at dksX3_builds_2 18 rfl rfl)
theorem dX3_builds_67 : decode cX3_builds 67 = .ok (.iaload, 1) := dk_46 (dk_at dksX3_builds_2 19 rfl rfl)
theorem dX3_builds_68 : decode cX3_builds 68 = .ok (.invokevirtual 184, 3) := dk_182 0 184 (dk_at dksX3_builds_2 20 rfl rfl)
theorem dX3_builds_71 : decode cX3_builds 71 = .ok (.istore 4, 2) := dk_54 4 (dk_at dksX3_builds_3 0 rfl rfl)
theorem dX3_builds_73 : decode cX3_builds 73 = .ok (.aload_n 0, 1) := dk_42 (dk_at dksX3_builds_3 2 rfl rfl)
theorem dX3_builds_74 : decode cX3_builds 74 = .ok (.getfield 171, 3) := dk_180 0 171 (dk_at dksX3_builds_3 3 rfl rfl)
theorem dX3_builds_77 : decode cX3_builds 77 = .ok (.ifCond .eq 13, 3) := dk_153 0 13 (dk_at dksX3_builds_3 6 rfl rfl)
theorem dX3_builds_80 : decode cX3_builds 80 = .ok (.bipush 100, 2) := dk_16 100 (dk_at dksX3_builds_3 9 rfl rfl)
theorem dX3_builds_82 : decode cX3_builds 82 = .ok (.aload_n 0, 1) := dk_42 (dk_at dksX3_builds_3 11 rfl rfl)
theorem dX3_builds_83 : decode cX3_builds 83 = .ok (.getfield 171, 3) := dk_180 0 171 (dk_at dksX3_builds_3 12 rfl rfl)
theorem dX3_builds_86 : decode cX3_builds 86 = .ok (.imul, 1) := dk_104 (dk_at dksX3_builds_3 15 rfl rfl)
theorem dX3_builds_87 : decode cX3_builds 87 = .ok (.iload_n 1, 1) := dk_27 (dk_at dksX3_builds_3 16 rfl rfl)
theorem dX3_builds_88 : decode cX3_builds 88 = .ok (.iadd, 1) := dk_96 (dk_at dksX3_builds_3 17 rfl rfl)
theorem dX3_builds_89 : decode cX3_builds 89 = .ok (.ireturn, 1) := dk_172 (dk_at dksX3_builds_3 18 rfl rfl)
theorem dX3_builds_90 : decode cX3_builds 90 = .ok (.iload_n 3, 1) := dk_29 (dk_at dksX3_builds_3 19 rfl rfl)
theorem dX3_builds_91 : decode cX3_builds 91 = .ok (.iconst 5, 1) := dk_8 (dk_at dksX3_builds_3 20 rfl rfl)
theorem dX3_builds_92 : decode cX3_builds 92 = .ok (.if_icmp .ne 20, 3) := dk_160 0 20 (dk_at dksX3_builds_3 21 rfl rfl)
theorem dX3_builds_95 : decode cX3_builds 95 = .ok (.aload_n 0, 1) := dk_42 (dk_at dksX3_builds_4 0 rfl rfl)
theorem dX3_builds_96 : decode cX3_builds 96 = .ok (.getfield 46, 3) := dk_180 0 46 (dk_at dksX3_builds_4 1 rfl rfl)
theorem dX3_builds_99 : decode cX3_builds 99 = .ok (.aload_n 0, 1) := dk_42 (dk_at dksX3_builds_4 4 rfl rfl)
theorem dX3_builds_100 : decode cX3_builds 100 = .ok (.getfield 13, 3) := dk_180 0 13 (dk_at dksX3_builds_4 5 rfl rfl)
theorem dX3_builds_103 : decode cX3_builds 103 = .ok (.iload_n 2, 1) := dk_28 (dk_at dksX3_builds_4 8 rfl rfl)
theorem dX3_builds_104 : decode cX3_builds 104 = .ok (.iconst 2, 1) := dk_5 (dk_at dksX3_builds_4 9 rfl rfl)
theorem dX3_builds_105 : decode cX3_builds 105 = .ok (.iadd, 1) := dk_96 (dk_at dksX3_builds_4 10 rfl rfl)
theorem dX3_builds_106 : decode cX3_builds 106 = .ok (.iaload, 1) := dk_46 (dk_at dksX3_builds_4 11 rfl rfl)
theorem dX3_builds_107 : decode cX3_builds 107 = .ok (.iload 4, 2) := dk_21 4 (dk_at dksX3_builds_4 12 rfl rfl)
theorem dX3_builds_109 : decode cX3_builds 109 = .ok (.iastore, 1) := dk_79 (dk_at dksX3_builds_4 14 rfl rfl)
theorem dX3_builds_110 : decode cX3_builds 110 = .ok (.iconst 0, 1) := dk_3 (dk_at dksX3_builds_4 15 rfl rfl)
theorem dX3_builds_111 : decode cX3_builds 111 = .ok (.ireturn, 1) := dk_172 (dk_at dksX3_builds_4 16 rfl rfl)
theorem dX3_builds_112 : decode cX3_builds 112 = .ok (.iload_n 3, 1) := dk_29 (dk_at dksX3_builds_4 17 rfl rfl)
theorem dX3_builds_113 : decode cX3_builds 113 = .ok (.iconst 2, 1) := dk_5 (dk_at dksX3_builds_4 18 rfl rfl)
theorem dX3_builds_114 : decode cX3_builds 114 = .ok (.if_icmp .ne 15, 3) := dk_160 0 15 (dk_at dksX3_builds_4 19 rfl rfl)
theorem dX3_builds_117 : decode cX3_builds 117 = .ok (.aload_n 0, 1) := dk_42 (dk_at dksX3_builds_4 22 rfl rfl)
theorem dX3_builds_118 : decode cX3_builds 118 = .ok (.aload_n 0, 1) := dk_42 (dk_at dksX3_builds_4 23 rfl rfl)
theorem dX3_builds_119 : decode cX3_builds 119 = .ok (.getfield 13, 3) := dk_180 0 13 (dk_at dksX3_builds_5 0 rfl rfl)
theorem dX3_builds_122 : decode cX3_builds 122 = .ok (.iload_n 2, 1) := dk_28 (dk_at dksX3_builds_5 3 rfl rfl)
theorem dX3_builds_123 : decode cX3_builds 123 = .ok (.iconst 2, 1) := dk_5 (dk_at dksX3_builds_5 4 rfl rfl)
theorem dX3_builds_124 : decode cX3_builds 124 = .ok (.iadd, 1) := dk_96 (dk_at dksX3_builds_5 5 rfl rfl)
theorem dX3_builds_125 : decode cX3_builds 125 = .ok (.iaload, 1) := dk_46 (dk_at dksX3_builds_5 6 rfl rfl)
theorem dX3_builds_126 : decode cX3_builds 126 = .ok (.invokevirtual 194, 3) := dk_182 0 194 (dk_at dksX3_builds_5 7 rfl rfl)
theorem dX3_builds_129 : decode cX3_builds 129 = .ok (.aload_n 0, 1) := dk_42 (dk_at dksX3_builds_5 10 rfl rfl)
theorem dX3_builds_130 : decode cX3_builds 130 = .ok (.iload 4, 2) := dk_21 4 (dk_at dksX3_builds_5 11 rfl rfl)
theorem dX3_builds_132 : decode cX3_builds 132 = .ok (.invokevirtual 194, 3) := dk_182 0 194 (dk_at dksX3_builds_5 13 rfl rfl)
theorem dX3_builds_135 : decode cX3_builds 135 = .ok (.iconst 0, 1) := dk_3 (dk_at dksX3_builds_5 16 rfl rfl)
theorem dX3_builds_136 : decode cX3_builds 136 = .ok (.ireturn, 1) := dk_172 (dk_at dksX3_builds_5 17 rfl rfl)
abbrev cX3_puts : ByteArray := prog_28_method_26_code
def yX3_puts : MethodName := ⟨RX3, "puts", "(I)V"⟩
def dkwX3_puts_1 : List UInt8 := [42, 180, 0, 191, 46, 96, 27, 79, 42, 180, 0, 19, 42, 180, 0, 191, 92, 46, 4, 96, 79, 177]
abbrev dktX3_puts_1 : List UInt8 := dkwX3_puts_1 ++ []
def dkwX3_puts_0 : List UInt8 := [42, 180, 0, 46, 42, 180, 0, 191, 154, 0, 8, 16, 8, 167, 0, 7, 42, 180, 0, 177, 42, 180, 0, 19]
abbrev dktX3_puts_0 : List UInt8 := dkwX3_puts_0 ++ dktX3_puts_1
theorem dksX3_puts_0 : cX3_puts.data.toList.drop 0 = dktX3_puts_0 := by decide +kernel
theorem dksX3_puts_1 : cX3_puts.data.toList.drop 24 = dktX3_puts_1 := dk_seg dksX3_puts_0 24 rfl rfl
theorem dX3_puts_0 : decode cX3_puts 0 = .ok (.aload_n 0, 1) := dk_42 (dk_at dksX3_puts_0 0 rfl rfl)
theorem dX3_puts_1 : decode cX3_puts 1 = .ok (.getfield 46, 3) := dk_180 0 46 (dk_at dksX3_puts_0 1 rfl rfl)
theorem dX3_puts_4 : decode cX3_puts 4 = .ok (.aload_n 0, 1) := dk_42 (dk_at dksX3_puts_0 4 rfl rfl)
theorem dX3_puts_5 : decode cX3_puts 5 = .ok (.getfield 191, 3) := dk_180 0 191 (dk_at dksX3_puts_0 5 rfl rfl)
theorem dX3_puts_8 : decode cX3_puts 8 = .ok (.ifCond .ne 8, 3) := dk_154 0 8 (dk_at dksX3_puts_0 8 rfl rfl)
theorem dX3_puts_11 : decode cX3_puts 11 = .ok (.bipush 8, 2) := dk_16 8 (dk_at dksX3_puts_0 11 rfl rfl)
theorem dX3_puts_13 : decode cX3_puts 13 = .ok (.goto 7, 3) := dk_167 0 7 (dk_at dksX3_puts_0 13 rfl rfl)
theorem dX3_puts_16 : decode cX3_puts 16 = .ok (.aload_n 0, 1) := dk_42 (dk_at dksX3_puts_0 16 rfl rfl)
theorem dX3_puts_17 : decode cX3_puts 17 = .ok (.getfield 177, 3) := dk_180 0 177 (dk_at dksX3_puts_0 17 rfl rfl)
theorem dX3_puts_20 : decode cX3_puts 20 = .ok (.aload_n 0, 1) := dk_42 (dk_at dksX3_puts_0 20 rfl rfl)
theorem dX3_puts_21 : decode cX3_puts 21 = .ok (.getfield 19, 3) := dk_180 0 19 (dk_at dksX3_puts_0 21 rfl rfl)
theorem dX3_puts_24 : decode cX3_puts 24 = .ok (.aload_n 0, 1) := dk_42 (dk_at dksX3_puts_1 0 rfl rfl)
theorem dX3_puts_25 : decode cX3_puts 25 = .ok (.getfield 191, 3) := dk_180 0 191 (dk_at dksX3_puts_1 1 rfl rfl)
theorem dX3_puts_28 : decode cX3_puts 28 = .ok (.iaload, 1) := dk_46 (dk_at dksX3_puts_1 4 rfl rfl)
theorem dX3_puts_29 : decode cX3_puts 29 = .ok (.iadd, 1) := dk_96 (dk_at dksX3_puts_1 5 rfl rfl)
theorem dX3_puts_30 : decode cX3_puts 30 = .ok (.iload_n 1, 1) := dk_27 (dk_at dksX3_puts_1 6 rfl rfl)
theorem dX3_puts_31 : decode cX3_puts 31 = .ok (.iastore, 1) := dk_79 (dk_at dksX3_puts_1 7 rfl rfl)
theorem dX3_puts_32 : decode cX3_puts 32 = .ok (.aload_n 0, 1) := dk_42 (dk_at dksX3_puts_1 8 rfl rfl)
theorem dX3_puts_33 : decode cX3_puts 33 = .ok (.getfield 19, 3) := dk_180 0 19 (dk_at dksX3_puts_1 9 rfl rfl)
theorem dX3_puts_36 : decode cX3_puts 36 = .ok (.aload_n 0, 1) := dk_42 (dk_at dksX3_puts_1 12 rfl rfl)
theorem dX3_puts_37 : decode cX3_puts 37 = .ok (.getfield 191, 3) := dk_180 0 191 (dk_at dksX3_puts_1 13 rfl rfl)
theorem dX3_puts_40 : decode cX3_puts 40 = .ok (.dup2, 1) := dk_92 (dk_at dksX3_puts_1 16 rfl rfl)
theorem dX3_puts_41 : decode cX3_puts 41 = .ok (.iaload, 1) := dk_46 (dk_at dksX3_puts_1 17 rfl rfl)
theorem dX3_puts_42 : decode cX3_puts 42 = .ok (.iconst 1, 1) := dk_4 (dk_at dksX3_puts_1 18 rfl rfl)
theorem dX3_puts_43 : decode cX3_puts 43 = .ok (.iadd, 1) := dk_96 (dk_at dksX3_puts_1 19 rfl rfl)
theorem dX3_puts_44 : decode cX3_puts 44 = .ok (.iastore, 1) := dk_79 (dk_at dksX3_puts_1 20 rfl rfl)
theorem dX3_puts_45 : decode cX3_puts 45 = .ok (.return_, 1) := dk_177 (dk_at dksX3_puts_1 21 rfl rfl)
abbrev cX3_setsLabel : ByteArray := prog_28_method_25_code
def yX3_setsLabel : MethodName := ⟨RX3, "setsLabel", "(I)I"⟩
def dkwX3_setsLabel_2 : List UInt8 := [180, 0, 191, 46, 96, 79, 3, 172]
abbrev dktX3_setsLabel_2 : List UInt8 := dkwX3_setsLabel_2 ++ []
def dkwX3_setsLabel_1 : List UInt8 := [17, 0, 200, 27, 96, 172, 42, 180, 0, 16, 28, 17, 3, 232, 42, 180, 0, 191, 104, 42, 180, 0, 19, 42]
abbrev dktX3_setsLabel_1 : List UInt8 := dkwX3_setsLabel_1 ++ dktX3_setsLabel_2
def dkwX3_setsLabel_0 : List UInt8 := [42, 42, 180, 0, 13, 8, 27, 104, 46, 182, 0, 174, 61, 42, 180, 0, 16, 28, 46, 2, 159, 0, 9]
abbrev dktX3_setsLabel_0 : List UInt8 := dkwX3_setsLabel_0 ++ dktX3_setsLabel_1
theorem dksX3_setsLabel_0 : cX3_setsLabel.data.toList.drop 0 = dktX3_setsLabel_0 := by decide +kernel
theorem dksX3_setsLabel_1 : cX3_setsLabel.data.toList.drop 23 = dktX3_setsLabel_1 := dk_seg dksX3_setsLabel_0 23 rfl rfl
theorem dksX3_setsLabel_2 : cX3_setsLabel.data.toList.drop 47 = dktX3_setsLabel_2 := dk_seg dksX3_setsLabel_1 24 rfl rfl
theorem dX3_setsLabel_0 : decode cX3_setsLabel 0 = .ok (.aload_n 0, 1) := dk_42 (dk_at dksX3_setsLabel_0 0 rfl rfl)
theorem dX3_setsLabel_1 : decode cX3_setsLabel 1 = .ok (.aload_n 0, 1) := dk_42 (dk_at dksX3_setsLabel_0 1 rfl rfl)
theorem dX3_setsLabel_2 : decode cX3_setsLabel 2 = .ok (.getfield 13, 3) := dk_180 0 13 (dk_at dksX3_setsLabel_0 2 rfl rfl)
theorem dX3_setsLabel_5 : decode cX3_setsLabel 5 = .ok (.iconst 5, 1) := dk_8 (dk_at dksX3_setsLabel_0 5 rfl rfl)
theorem dX3_setsLabel_6 : decode cX3_setsLabel 6 = .ok (.iload_n 1, 1) := dk_27 (dk_at dksX3_setsLabel_0 6 rfl rfl)
theorem dX3_setsLabel_7 : decode cX3_setsLabel 7 = .ok (.imul, 1) := dk_104 (dk_at dksX3_setsLabel_0 7 rfl rfl)
theorem dX3_setsLabel_8 : decode cX3_setsLabel 8 = .ok (.iaload, 1) := dk_46 (dk_at dksX3_setsLabel_0 8 rfl rfl)
theorem dX3_setsLabel_9 : decode cX3_setsLabel 9 = .ok (.invokevirtual 174, 3) := dk_182 0 174 (dk_at dksX3_setsLabel_0 9 rfl rfl)
theorem dX3_setsLabel_12 : decode cX3_setsLabel 12 = .ok (.istore_n 2, 1) := dk_61 (dk_at dksX3_setsLabel_0 12 rfl rfl)
theorem dX3_setsLabel_13 : decode cX3_setsLabel 13 = .ok (.aload_n 0, 1) := dk_42 (dk_at dksX3_setsLabel_0 13 rfl rfl)
theorem dX3_setsLabel_14 : decode cX3_setsLabel 14 = .ok (.getfield 16, 3) := dk_180 0 16 (dk_at dksX3_setsLabel_0 14 rfl rfl)
theorem dX3_setsLabel_17 : decode cX3_setsLabel 17 = .ok (.iload_n 2, 1) := dk_28 (dk_at dksX3_setsLabel_0 17 rfl rfl)
theorem dX3_setsLabel_18 : decode cX3_setsLabel 18 = .ok (.iaload, 1) := dk_46 (dk_at dksX3_setsLabel_0 18 rfl rfl)
theorem dX3_setsLabel_19 : decode cX3_setsLabel 19 = .ok (.iconst (-1), 1) := dk_2 (dk_at dksX3_setsLabel_0 19 rfl rfl)
theorem dX3_setsLabel_20 : decode cX3_setsLabel 20 = .ok (.if_icmp .eq 9, 3) := dk_159 0 9 (dk_at dksX3_setsLabel_0 20 rfl rfl)
theorem dX3_setsLabel_23 : decode cX3_setsLabel 23 = .ok (.sipush 200, 3) := dk_17 0 200 (dk_at dksX3_setsLabel_1 0 rfl rfl)
theorem dX3_setsLabel_26 : decode cX3_setsLabel 26 = .ok (.iload_n 1, 1) := dk_27 (dk_at dksX3_setsLabel_1 3 rfl rfl)
theorem dX3_setsLabel_27 : decode cX3_setsLabel 27 = .ok (.iadd, 1) := dk_96 (dk_at dksX3_setsLabel_1 4 rfl rfl)
theorem dX3_setsLabel_28 : decode cX3_setsLabel 28 = .ok (.ireturn, 1) := dk_172 (dk_at dksX3_setsLabel_1 5 rfl rfl)
theorem dX3_setsLabel_29 : decode cX3_setsLabel 29 = .ok (.aload_n 0, 1) := dk_42 (dk_at dksX3_setsLabel_1 6 rfl rfl)
theorem dX3_setsLabel_30 : decode cX3_setsLabel 30 = .ok (.getfield 16, 3) := dk_180 0 16 (dk_at dksX3_setsLabel_1 7 rfl rfl)
theorem dX3_setsLabel_33 : decode cX3_setsLabel 33 = .ok (.iload_n 2, 1) := dk_28 (dk_at dksX3_setsLabel_1 10 rfl rfl)
theorem dX3_setsLabel_34 : decode cX3_setsLabel 34 = .ok (.sipush 1000, 3) := dk_17 3 232 (dk_at dksX3_setsLabel_1 11 rfl rfl)
theorem dX3_setsLabel_37 : decode cX3_setsLabel 37 = .ok (.aload_n 0, 1) := dk_42 (dk_at dksX3_setsLabel_1 14 rfl rfl)
theorem dX3_setsLabel_38 : decode cX3_setsLabel 38 = .ok (.getfield 191, 3) := dk_180 0 191 (dk_at dksX3_setsLabel_1 15 rfl rfl)
theorem dX3_setsLabel_41 : decode cX3_setsLabel 41 = .ok (.imul, 1) := dk_104 (dk_at dksX3_setsLabel_1 18 rfl rfl)
theorem dX3_setsLabel_42 : decode cX3_setsLabel 42 = .ok (.aload_n 0, 1) := dk_42 (dk_at dksX3_setsLabel_1 19 rfl rfl)
theorem dX3_setsLabel_43 : decode cX3_setsLabel 43 = .ok (.getfield 19, 3) := dk_180 0 19 (dk_at dksX3_setsLabel_1 20 rfl rfl)
theorem dX3_setsLabel_46 : decode cX3_setsLabel 46 = .ok (.aload_n 0, 1) := dk_42 (dk_at dksX3_setsLabel_1 23 rfl rfl)
theorem dX3_setsLabel_47 : decode cX3_setsLabel 47 = .ok (.getfield 191, 3) := dk_180 0 191 (dk_at dksX3_setsLabel_2 0 rfl rfl)
theorem dX3_setsLabel_50 : decode cX3_setsLabel 50 = .ok (.iaload, 1) := dk_46 (dk_at dksX3_setsLabel_2 3 rfl rfl)
theorem dX3_setsLabel_51 : decode cX3_setsLabel 51 = .ok (.iadd, 1) := dk_96 (dk_at dksX3_setsLabel_2 4 rfl rfl)
theorem dX3_setsLabel_52 : decode cX3_setsLabel 52 = .ok (.iastore, 1) := dk_79 (dk_at dksX3_setsLabel_2 5 rfl rfl)
theorem dX3_setsLabel_53 : decode cX3_setsLabel 53 = .ok (.iconst 0, 1) := dk_3 (dk_at dksX3_setsLabel_2 6 rfl rfl)
theorem dX3_setsLabel_54 : decode cX3_setsLabel 54 = .ok (.ireturn, 1) := dk_172 (dk_at dksX3_setsLabel_2 7 rfl rfl)
abbrev cX3_assemble : ByteArray := prog_28_method_32_code
def yX3_assemble : MethodName := ⟨RX3, "assemble", "()I"⟩
def dkwX3_assemble_2 : List UInt8 := [42, 4, 181, 0, 228, 42, 180, 0, 19, 3, 46, 42, 180, 0, 19, 4, 46, 96, 172]
abbrev dktX3_assemble_2 : List UInt8 := dkwX3_assemble_2 ++ []
def dkwX3_assemble_1 : List UInt8 := [17, 1, 0, 162, 0, 21, 42, 180, 0, 49, 27, 42, 180, 0, 46, 27, 46, 79, 132, 1, 1, 167, 255, 234]
abbrev dktX3_assemble_1 : List UInt8 := dkwX3_assemble_1 ++ dktX3_assemble_2
def dkwX3_assemble_0 : List UInt8 := [42, 42, 182, 0, 224, 154, 0, 7, 3, 167, 0, 4, 4, 182, 0, 152, 154, 0, 5, 3, 172, 3, 60, 27]
abbrev dktX3_assemble_0 : List UInt8 := dkwX3_assemble_0 ++ dktX3_assemble_1
theorem dksX3_assemble_0 : cX3_assemble.data.toList.drop 0 = dktX3_assemble_0 := by decide +kernel
theorem dksX3_assemble_1 : cX3_assemble.data.toList.drop 24 = dktX3_assemble_1 := dk_seg dksX3_assemble_0 24 rfl rfl
theorem dksX3_assemble_2 : cX3_assemble.data.toList.drop 48 = dktX3_assemble_2 := dk_seg dksX3_assemble_1 24 rfl rfl
theorem dX3_assemble_0 : decode cX3_assemble 0 = .ok (.aload_n 0, 1) := dk_42 (dk_at dksX3_assemble_0 0 rfl rfl)
theorem dX3_assemble_1 : decode cX3_assemble 1 = .ok (.aload_n 0, 1) := dk_42 (dk_at dksX3_assemble_0 1 rfl rfl)
theorem dX3_assemble_2 : decode cX3_assemble 2 = .ok (.invokevirtual 224, 3) := dk_182 0 224 (dk_at dksX3_assemble_0 2 rfl rfl)
theorem dX3_assemble_5 : decode cX3_assemble 5 = .ok (.ifCond .ne 7, 3) := dk_154 0 7 (dk_at dksX3_assemble_0 5 rfl rfl)
theorem dX3_assemble_8 : decode cX3_assemble 8 = .ok (.iconst 0, 1) := dk_3 (dk_at dksX3_assemble_0 8 rfl rfl)
theorem dX3_assemble_9 : decode cX3_assemble 9 = .ok (.goto 4, 3) := dk_167 0 4 (dk_at dksX3_assemble_0 9 rfl rfl)
theorem dX3_assemble_12 : decode cX3_assemble 12 = .ok (.iconst 1, 1) := dk_4 (dk_at dksX3_assemble_0 12 rfl rfl)
theorem dX3_assemble_13 : decode cX3_assemble 13 = .ok (.invokevirtual 152, 3) := dk_182 0 152 (dk_at dksX3_assemble_0 13 rfl rfl)
theorem dX3_assemble_16 : decode cX3_assemble 16 = .ok (.ifCond .ne 5, 3) := dk_154 0 5 (dk_at dksX3_assemble_0 16 rfl rfl)
theorem dX3_assemble_19 : decode cX3_assemble 19 = .ok (.iconst 0, 1) := dk_3 (dk_at dksX3_assemble_0 19 rfl rfl)
theorem dX3_assemble_20 : decode cX3_assemble 20 = .ok (.ireturn, 1) := dk_172 (dk_at dksX3_assemble_0 20 rfl rfl)
theorem dX3_assemble_21 : decode cX3_assemble 21 = .ok (.iconst 0, 1) := dk_3 (dk_at dksX3_assemble_0 21 rfl rfl)
theorem dX3_assemble_22 : decode cX3_assemble 22 = .ok (.istore_n 1, 1) := dk_60 (dk_at dksX3_assemble_0 22 rfl rfl)
theorem dX3_assemble_23 : decode cX3_assemble 23 = .ok (.iload_n 1, 1) := dk_27 (dk_at dksX3_assemble_0 23 rfl rfl)
theorem dX3_assemble_24 : decode cX3_assemble 24 = .ok (.sipush 256, 3) := dk_17 1 0 (dk_at dksX3_assemble_1 0 rfl rfl)
theorem dX3_assemble_27 : decode cX3_assemble 27 = .ok (.if_icmp .ge 21, 3) := dk_162 0 21 (dk_at dksX3_assemble_1 3 rfl rfl)
theorem dX3_assemble_30 : decode cX3_assemble 30 = .ok (.aload_n 0, 1) := dk_42 (dk_at dksX3_assemble_1 6 rfl rfl)
theorem dX3_assemble_31 : decode cX3_assemble 31 = .ok (.getfield 49, 3) := dk_180 0 49 (dk_at dksX3_assemble_1 7 rfl rfl)
theorem dX3_assemble_34 : decode cX3_assemble 34 = .ok (.iload_n 1, 1) := dk_27 (dk_at dksX3_assemble_1 10 rfl rfl)
theorem dX3_assemble_35 : decode cX3_assemble 35 = .ok (.aload_n 0, 1) := dk_42 (dk_at dksX3_assemble_1 11 rfl rfl)
theorem dX3_assemble_36 : decode cX3_assemble 36 = .ok (.getfield 46, 3) := dk_180 0 46 (dk_at dksX3_assemble_1 12 rfl rfl)
theorem dX3_assemble_39 : decode cX3_assemble 39 = .ok (.iload_n 1, 1) := dk_27 (dk_at dksX3_assemble_1 15 rfl rfl)
theorem dX3_assemble_40 : decode cX3_assemble 40 = .ok (.iaload, 1) := dk_46 (dk_at dksX3_assemble_1 16 rfl rfl)
theorem dX3_assemble_41 : decode cX3_assemble 41 = .ok (.iastore, 1) := dk_79 (dk_at dksX3_assemble_1 17 rfl rfl)
theorem dX3_assemble_42 : decode cX3_assemble 42 = .ok (.iinc 1 1, 3) := dk_132 1 1 (dk_at dksX3_assemble_1 18 rfl rfl)
theorem dX3_assemble_45 : decode cX3_assemble 45 = .ok (.goto (-22), 3) := dk_167 255 234 (dk_at dksX3_assemble_1 21 rfl rfl)
theorem dX3_assemble_48 : decode cX3_assemble 48 = .ok (.aload_n 0, 1) := dk_42 (dk_at dksX3_assemble_2 0 rfl rfl)
theorem dX3_assemble_49 : decode cX3_assemble 49 = .ok (.iconst 1, 1) := dk_4 (dk_at dksX3_assemble_2 1 rfl rfl)
theorem dX3_assemble_50 : decode cX3_assemble 50 = .ok (.putfield 228, 3) := dk_181 0 228 (dk_at dksX3_assemble_2 2 rfl rfl)
theorem dX3_assemble_53 : decode cX3_assemble 53 = .ok (.aload_n 0, 1) := dk_42 (dk_at dksX3_assemble_2 5 rfl rfl)
theorem dX3_assemble_54 : decode cX3_assemble 54 = .ok (.getfield 19, 3) := dk_180 0 19 (dk_at dksX3_assemble_2 6 rfl rfl)
theorem dX3_assemble_57 : decode cX3_assemble 57 = .ok (.iconst 0, 1) := dk_3 (dk_at dksX3_assemble_2 9 rfl rfl)
theorem dX3_assemble_58 : decode cX3_assemble 58 = .ok (.iaload, 1) := dk_46 (dk_at dksX3_assemble_2 10 rfl rfl)
theorem dX3_assemble_59 : decode cX3_assemble 59 = .ok (.aload_n 0, 1) := dk_42 (dk_at dksX3_assemble_2 11 rfl rfl)
theorem dX3_assemble_60 : decode cX3_assemble 60 = .ok (.getfield 19, 3) := dk_180 0 19 (dk_at dksX3_assemble_2 12 rfl rfl)
theorem dX3_assemble_63 : decode cX3_assemble 63 = .ok (.iconst 1, 1) := dk_4 (dk_at dksX3_assemble_2 15 rfl rfl)
theorem dX3_assemble_64 : decode cX3_assemble 64 = .ok (.iaload, 1) := dk_46 (dk_at dksX3_assemble_2 16 rfl rfl)
theorem dX3_assemble_65 : decode cX3_assemble 65 = .ok (.iadd, 1) := dk_96 (dk_at dksX3_assemble_2 17 rfl rfl)
theorem dX3_assemble_66 : decode cX3_assemble 66 = .ok (.ireturn, 1) := dk_172 (dk_at dksX3_assemble_2 18 rfl rfl)
abbrev cX3_image : ByteArray := prog_28_method_33_code
def yX3_image : MethodName := ⟨RX3, "image", "(I)I"⟩
def dkwX3_image_1 : List UInt8 := [167, 0, 4, 5, 182, 0, 152, 153, 0, 12, 42, 180, 0, 49, 27, 46, 167, 0, 4, 3, 172]
abbrev dktX3_image_1 : List UInt8 := dkwX3_image_1 ++ []
def dkwX3_image_0 : List UInt8 := [42, 27, 3, 17, 0, 255, 184, 0, 147, 154, 0, 7, 4, 167, 0, 15, 42, 180, 0, 228, 153, 0, 7, 3]
abbrev dktX3_image_0 : List UInt8 := dkwX3_image_0 ++ dktX3_image_1
theorem dksX3_image_0 : cX3_image.data.toList.drop 0 = dktX3_image_0 := by decide +kernel
theorem dksX3_image_1 : cX3_image.data.toList.drop 24 = dktX3_image_1 := dk_seg dksX3_image_0 24 rfl rfl
theorem dX3_image_0 : decode cX3_image 0 = .ok (.aload_n 0, 1) := dk_42 (dk_at dksX3_image_0 0 rfl rfl)
theorem dX3_image_1 : decode cX3_image 1 = .ok (.iload_n 1, 1) := dk_27 (dk_at dksX3_image_0 1 rfl rfl)
theorem dX3_image_2 : decode cX3_image 2 = .ok (.iconst 0, 1) := dk_3 (dk_at dksX3_image_0 2 rfl rfl)
theorem dX3_image_3 : decode cX3_image 3 = .ok (.sipush 255, 3) := dk_17 0 255 (dk_at dksX3_image_0 3 rfl rfl)
theorem dX3_image_6 : decode cX3_image 6 = .ok (.invokestatic 147, 3) := dk_184 0 147 (dk_at dksX3_image_0 6 rfl rfl)
theorem dX3_image_9 : decode cX3_image 9 = .ok (.ifCond .ne 7, 3) := dk_154 0 7 (dk_at dksX3_image_0 9 rfl rfl)
theorem dX3_image_12 : decode cX3_image 12 = .ok (.iconst 1, 1) := dk_4 (dk_at dksX3_image_0 12 rfl rfl)
theorem dX3_image_13 : decode cX3_image 13 = .ok (.goto 15, 3) := dk_167 0 15 (dk_at dksX3_image_0 13 rfl rfl)
theorem dX3_image_16 : decode cX3_image 16 = .ok (.aload_n 0, 1) := dk_42 (dk_at dksX3_image_0 16 rfl rfl)
theorem dX3_image_17 : decode cX3_image 17 = .ok (.getfield 228, 3) := dk_180 0 228 (dk_at dksX3_image_0 17 rfl rfl)
theorem dX3_image_20 : decode cX3_image 20 = .ok (.ifCond .eq 7, 3) := dk_153 0 7 (dk_at dksX3_image_0 20 rfl rfl)
theorem dX3_image_23 : decode cX3_image 23 = .ok (.iconst 0, 1) := dk_3 (dk_at dksX3_image_0 23 rfl rfl)
theorem dX3_image_24 : decode cX3_image 24 = .ok (.goto 4, 3) := dk_167 0 4 (dk_at dksX3_image_1 0 rfl rfl)
theorem dX3_image_27 : decode cX3_image 27 = .ok (.iconst 2, 1) := dk_5 (dk_at dksX3_image_1 3 rfl rfl)
theorem dX3_image_28 : decode cX3_image 28 = .ok (.invokevirtual 152, 3) := dk_182 0 152 (dk_at dksX3_image_1 4 rfl rfl)
theorem dX3_image_31 : decode cX3_image 31 = .ok (.ifCond .eq 12, 3) := dk_153 0 12 (dk_at dksX3_image_1 7 rfl rfl)
theorem dX3_image_34 : decode cX3_image 34 = .ok (.aload_n 0, 1) := dk_42 (dk_at dksX3_image_1 10 rfl rfl)
theorem dX3_image_35 : decode cX3_image 35 = .ok (.getfield 49, 3) := dk_180 0 49 (dk_at dksX3_image_1 11 rfl rfl)
theorem dX3_image_38 : decode cX3_image 38 = .ok (.iload_n 1, 1) := dk_27 (dk_at dksX3_image_1 14 rfl rfl)
theorem dX3_image_39 : decode cX3_image 39 = .ok (.iaload, 1) := dk_46 (dk_at dksX3_image_1 15 rfl rfl)
theorem dX3_image_40 : decode cX3_image 40 = .ok (.goto 4, 3) := dk_167 0 4 (dk_at dksX3_image_1 16 rfl rfl)
theorem dX3_image_43 : decode cX3_image 43 = .ok (.iconst 0, 1) := dk_3 (dk_at dksX3_image_1 19 rfl rfl)
theorem dX3_image_44 : decode cX3_image 44 = .ok (.ireturn, 1) := dk_172 (dk_at dksX3_image_1 20 rfl rfl)
abbrev cX3_start : ByteArray := prog_28_method_75_code
def yX3_start : MethodName := ⟨RX3, "start", "()I"⟩
def dkwX3_start_3 : List UInt8 := [3, 181, 1, 164, 42, 42, 180, 0, 85, 182, 1, 150, 27, 172]
abbrev dktX3_start_3 : List UInt8 := dkwX3_start_3 ++ []
def dkwX3_start_2 : List UInt8 := [180, 0, 49, 42, 180, 0, 85, 184, 1, 143, 42, 42, 180, 1, 133, 181, 1, 147, 42, 3, 181, 1, 31, 42]
abbrev dktX3_start_2 : List UInt8 := dkwX3_start_2 ++ dktX3_start_3
def dkwX3_start_1 : List UInt8 := [154, 0, 5, 3, 172, 42, 182, 1, 161, 60, 42, 180, 0, 79, 42, 180, 0, 88, 184, 1, 143, 42]
abbrev dktX3_start_1 : List UInt8 := dkwX3_start_1 ++ dktX3_start_2
def dkwX3_start_0 : List UInt8 := [42, 42, 182, 1, 157, 154, 0, 10, 42, 180, 0, 228, 154, 0, 7, 4, 167, 0, 4, 3, 182, 0, 152]
abbrev dktX3_start_0 : List UInt8 := dkwX3_start_0 ++ dktX3_start_1
theorem dksX3_start_0 : cX3_start.data.toList.drop 0 = dktX3_start_0 := by decide +kernel
theorem dksX3_start_1 : cX3_start.data.toList.drop 23 = dktX3_start_1 := dk_seg dksX3_start_0 23 rfl rfl
theorem dksX3_start_2 : cX3_start.data.toList.drop 45 = dktX3_start_2 := dk_seg dksX3_start_1 22 rfl rfl
theorem dksX3_start_3 : cX3_start.data.toList.drop 69 = dktX3_start_3 := dk_seg dksX3_start_2 24 rfl rfl
theorem dX3_start_0 : decode cX3_start 0 = .ok (.aload_n 0, 1) := dk_42 (dk_at dksX3_start_0 0 rfl rfl)
theorem dX3_start_1 : decode cX3_start 1 = .ok (.aload_n 0, 1) := dk_42 (dk_at dksX3_start_0 1 rfl rfl)
theorem dX3_start_2 : decode cX3_start 2 = .ok (.invokevirtual 413, 3) := dk_182 1 157 (dk_at dksX3_start_0 2 rfl rfl)
theorem dX3_start_5 : decode cX3_start 5 = .ok (.ifCond .ne 10, 3) := dk_154 0 10 (dk_at dksX3_start_0 5 rfl rfl)
theorem dX3_start_8 : decode cX3_start 8 = .ok (.aload_n 0, 1) := dk_42 (dk_at dksX3_start_0 8 rfl rfl)
theorem dX3_start_9 : decode cX3_start 9 = .ok (.getfield 228, 3) := dk_180 0 228 (dk_at dksX3_start_0 9 rfl rfl)
theorem dX3_start_12 : decode cX3_start 12 = .ok (.ifCond .ne 7, 3) := dk_154 0 7 (dk_at dksX3_start_0 12 rfl rfl)
theorem dX3_start_15 : decode cX3_start 15 = .ok (.iconst 1, 1) := dk_4 (dk_at dksX3_start_0 15 rfl rfl)
theorem dX3_start_16 : decode cX3_start 16 = .ok (.goto 4, 3) := dk_167 0 4 (dk_at dksX3_start_0 16 rfl rfl)
theorem dX3_start_19 : decode cX3_start 19 = .ok (.iconst 0, 1) := dk_3 (dk_at dksX3_start_0 19 rfl rfl)
theorem dX3_start_20 : decode cX3_start 20 = .ok (.invokevirtual 152, 3) := dk_182 0 152 (dk_at dksX3_start_0 20 rfl rfl)
theorem dX3_start_23 : decode cX3_start 23 = .ok (.ifCond .ne 5, 3) := dk_154 0 5 (dk_at dksX3_start_1 0 rfl rfl)
theorem dX3_start_26 : decode cX3_start 26 = .ok (.iconst 0, 1) := dk_3 (dk_at dksX3_start_1 3 rfl rfl)
theorem dX3_start_27 : decode cX3_start 27 = .ok (.ireturn, 1) := dk_172 (dk_at dksX3_start_1 4 rfl rfl)
theorem dX3_start_28 : decode cX3_start 28 = .ok (.aload_n 0, 1) := dk_42 (dk_at dksX3_start_1 5 rfl rfl)
theorem dX3_start_29 : decode cX3_start 29 = .ok (.invokevirtual 417, 3) := dk_182 1 161 (dk_at dksX3_start_1 6 rfl rfl)
theorem dX3_start_32 : decode cX3_start 32 = .ok (.istore_n 1, 1) := dk_60 (dk_at dksX3_start_1 9 rfl rfl)
theorem dX3_start_33 : decode cX3_start 33 = .ok (.aload_n 0, 1) := dk_42 (dk_at dksX3_start_1 10 rfl rfl)
theorem dX3_start_34 : decode cX3_start 34 = .ok (.getfield 79, 3) := dk_180 0 79 (dk_at dksX3_start_1 11 rfl rfl)
theorem dX3_start_37 : decode cX3_start 37 = .ok (.aload_n 0, 1) := dk_42 (dk_at dksX3_start_1 14 rfl rfl)
theorem dX3_start_38 : decode cX3_start 38 = .ok (.getfield 88, 3) := dk_180 0 88 (dk_at dksX3_start_1 15 rfl rfl)
theorem dX3_start_41 : decode cX3_start 41 = .ok (.invokestatic 399, 3) := dk_184 1 143 (dk_at dksX3_start_1 18 rfl rfl)
theorem dX3_start_44 : decode cX3_start 44 = .ok (.aload_n 0, 1) := dk_42 (dk_at dksX3_start_1 21 rfl rfl)
theorem dX3_start_45 : decode cX3_start 45 = .ok (.getfield 49, 3) := dk_180 0 49 (dk_at dksX3_start_2 0 rfl rfl)
theorem dX3_start_48 : decode cX3_start 48 = .ok (.aload_n 0, 1) := dk_42 (dk_at dksX3_start_2 3 rfl rfl)
theorem dX3_start_49 : decode cX3_start 49 = .ok (.getfield 85, 3) := dk_180 0 85 (dk_at dksX3_start_2 4 rfl rfl)
theorem dX3_start_52 : decode cX3_start 52 = .ok (.invokestatic 399, 3) := dk_184 1 143 (dk_at dksX3_start_2 7 rfl rfl)
theorem dX3_start_55 : decode cX3_start 55 = .ok (.aload_n 0, 1) := dk_42 (dk_at dksX3_start_2 10 rfl rfl)
theorem dX3_start_56 : decode cX3_start 56 = .ok (.aload_n 0, 1) := dk_42 (dk_at dksX3_start_2 11 rfl rfl)
theorem dX3_start_57 : decode cX3_start 57 = .ok (.getfield 389, 3) := dk_180 1 133 (dk_at dksX3_start_2 12 rfl rfl)
theorem dX3_start_60 : decode cX3_start 60 = .ok (.putfield 403, 3) := dk_181 1 147 (dk_at dksX3_start_2 15 rfl rfl)
theorem dX3_start_63 : decode cX3_start 63 = .ok (.aload_n 0, 1) := dk_42 (dk_at dksX3_start_2 18 rfl rfl)
theorem dX3_start_64 : decode cX3_start 64 = .ok (.iconst 0, 1) := dk_3 (dk_at dksX3_start_2 19 rfl rfl)
theorem dX3_start_65 : decode cX3_start 65 = .ok (.putfield 287, 3) := dk_181 1 31 (dk_at dksX3_start_2 20 rfl rfl)
theorem dX3_start_68 : decode cX3_start 68 = .ok (.aload_n 0, 1) := dk_42 (dk_at dksX3_start_2 23 rfl rfl)
theorem dX3_start_69 : decode cX3_start 69 = .ok (.iconst 0, 1) := dk_3 (dk_at dksX3_start_3 0 rfl rfl)
theorem dX3_start_70 : decode cX3_start 70 = .ok (.putfield 420, 3) := dk_181 1 164 (dk_at dksX3_start_3 1 rfl rfl)
theorem dX3_start_73 : decode cX3_start 73 = .ok (.aload_n 0, 1) := dk_42 (dk_at dksX3_start_3 4 rfl rfl)
theorem dX3_start_74 : decode cX3_start 74 = .ok (.aload_n 0, 1) := dk_42 (dk_at dksX3_start_3 5 rfl rfl)
theorem dX3_start_75 : decode cX3_start 75 = .ok (.getfield 85, 3) := dk_180 0 85 (dk_at dksX3_start_3 6 rfl rfl)
theorem dX3_start_78 : decode cX3_start 78 = .ok (.invokevirtual 406, 3) := dk_182 1 150 (dk_at dksX3_start_3 9 rfl rfl)
theorem dX3_start_81 : decode cX3_start 81 = .ok (.iload_n 1, 1) := dk_27 (dk_at dksX3_start_3 12 rfl rfl)
theorem dX3_start_82 : decode cX3_start 82 = .ok (.ireturn, 1) := dk_172 (dk_at dksX3_start_3 13 rfl rfl)
abbrev cX3_isMachine : ByteArray := prog_28_method_34_code
def yX3_isMachine : MethodName := ⟨RX3, "isMachine", "()Z"⟩
def dkwX3_isMachine_0 : List UInt8 := [42, 180, 0, 232, 153, 0, 7, 4, 167, 0, 4, 3, 172]
abbrev dktX3_isMachine_0 : List UInt8 := dkwX3_isMachine_0 ++ []
theorem dksX3_isMachine_0 : cX3_isMachine.data.toList.drop 0 = dktX3_isMachine_0 := by decide +kernel
theorem dX3_isMachine_0 : decode cX3_isMachine 0 = .ok (.aload_n 0, 1) := dk_42 (dk_at dksX3_isMachine_0 0 rfl rfl)
theorem dX3_isMachine_1 : decode cX3_isMachine 1 = .ok (.getfield 232, 3) := dk_180 0 232 (dk_at dksX3_isMachine_0 1 rfl rfl)
theorem dX3_isMachine_4 : decode cX3_isMachine 4 = .ok (.ifCond .eq 7, 3) := dk_153 0 7 (dk_at dksX3_isMachine_0 4 rfl rfl)
theorem dX3_isMachine_7 : decode cX3_isMachine 7 = .ok (.iconst 1, 1) := dk_4 (dk_at dksX3_isMachine_0 7 rfl rfl)
theorem dX3_isMachine_8 : decode cX3_isMachine 8 = .ok (.goto 4, 3) := dk_167 0 4 (dk_at dksX3_isMachine_0 8 rfl rfl)
theorem dX3_isMachine_11 : decode cX3_isMachine 11 = .ok (.iconst 0, 1) := dk_3 (dk_at dksX3_isMachine_0 11 rfl rfl)
theorem dX3_isMachine_12 : decode cX3_isMachine 12 = .ok (.ireturn, 1) := dk_172 (dk_at dksX3_isMachine_0 12 rfl rfl)
abbrev cX3_mends : ByteArray := prog_28_method_71_code
def yX3_mends : MethodName := ⟨RX3, "mends", "()I"⟩
def dkwX3_mends_4 : List UInt8 := [167, 255, 207, 42, 3, 182, 1, 136, 42, 89, 180, 1, 133, 27, 96, 181, 1, 133, 27, 172]
abbrev dktX3_mends_4 : List UInt8 := dkwX3_mends_4 ++ []
def dkwX3_mends_3 : List UInt8 := [16, 8, 108, 96, 46, 104, 28, 16, 8, 112, 96, 42, 180, 0, 79, 16, 8, 28, 96, 46, 79, 132, 2, 1]
abbrev dktX3_mends_3 : List UInt8 := dkwX3_mends_3 ++ dktX3_mends_4
def dkwX3_mends_2 : List UInt8 := [16, 8, 42, 180, 0, 79, 3, 46, 104, 162, 0, 42, 42, 180, 0, 79, 16, 8, 42, 180, 0, 79, 4, 28]
abbrev dktX3_mends_2 : List UInt8 := dkwX3_mends_2 ++ dktX3_mends_3
def dkwX3_mends_1 : List UInt8 := [182, 1, 140, 42, 180, 0, 79, 7, 46, 160, 0, 66, 27, 42, 180, 0, 79, 3, 46, 96, 60, 3, 61, 28]
abbrev dktX3_mends_1 : List UInt8 := dkwX3_mends_1 ++ dktX3_mends_2
def dkwX3_mends_0 : List UInt8 := [42, 180, 0, 79, 3, 46, 154, 0, 5, 3, 172, 4, 60, 42, 180, 0, 79, 3, 46, 6, 163, 0, 79, 42]
abbrev dktX3_mends_0 : List UInt8 := dkwX3_mends_0 ++ dktX3_mends_1
theorem dksX3_mends_0 : cX3_mends.data.toList.drop 0 = dktX3_mends_0 := by decide +kernel
theorem dksX3_mends_1 : cX3_mends.data.toList.drop 24 = dktX3_mends_1 := dk_seg dksX3_mends_0 24 rfl rfl
theorem dksX3_mends_2 : cX3_mends.data.toList.drop 48 = dktX3_mends_2 := dk_seg dksX3_mends_1 24 rfl rfl
theorem dksX3_mends_3 : cX3_mends.data.toList.drop 72 = dktX3_mends_3 := dk_seg dksX3_mends_2 24 rfl rfl
theorem dksX3_mends_4 : cX3_mends.data.toList.drop 96 = dktX3_mends_4 := dk_seg dksX3_mends_3 24 rfl rfl
theorem dX3_mends_0 : decode cX3_mends 0 = .ok (.aload_n 0, 1) := dk_42 (dk_at dksX3_mends_0 0 rfl rfl)
theorem dX3_mends_1 : decode cX3_mends 1 = .ok (.getfield 79, 3) := dk_180 0 79 (dk_at dksX3_mends_0 1 rfl rfl)
theorem dX3_mends_4 : decode cX3_mends 4 = .ok (.iconst 0, 1) := dk_3 (dk_at dksX3_mends_0 4 rfl rfl)
theorem dX3_mends_5 : decode cX3_mends 5 = .ok (.iaload, 1) := dk_46 (dk_at dksX3_mends_0 5 rfl rfl)
theorem dX3_mends_6 : decode cX3_mends 6 = .ok (.ifCond .ne 5, 3) := dk_154 0 5 (dk_at dksX3_mends_0 6 rfl rfl)
theorem dX3_mends_9 : decode cX3_mends 9 = .ok (.iconst 0, 1) := dk_3 (dk_at dksX3_mends_0 9 rfl rfl)
theorem dX3_mends_10 : decode cX3_mends 10 = .ok (.ireturn, 1) := dk_172 (dk_at dksX3_mends_0 10 rfl rfl)
theorem dX3_mends_11 : decode cX3_mends 11 = .ok (.iconst 1, 1) := dk_4 (dk_at dksX3_mends_0 11 rfl rfl)
theorem dX3_mends_12 : decode cX3_mends 12 = .ok (.istore_n 1, 1) := dk_60 (dk_at dksX3_mends_0 12 rfl rfl)
theorem dX3_mends_13 : decode cX3_mends 13 = .ok (.aload_n 0, 1) := dk_42 (dk_at dksX3_mends_0 13 rfl rfl)
theorem dX3_mends_14 : decode cX3_mends 14 = .ok (.getfield 79, 3) := dk_180 0 79 (dk_at dksX3_mends_0 14 rfl rfl)
theorem dX3_mends_17 : decode cX3_mends 17 = .ok (.iconst 0, 1) := dk_3 (dk_at dksX3_mends_0 17 rfl rfl)
theorem dX3_mends_18 : decode cX3_mends 18 = .ok (.iaload, 1) := dk_46 (dk_at dksX3_mends_0 18 rfl rfl)
theorem dX3_mends_19 : decode cX3_mends 19 = .ok (.iconst 3, 1) := dk_6 (dk_at dksX3_mends_0 19 rfl rfl)
theorem dX3_mends_20 : decode cX3_mends 20 = .ok (.if_icmp .gt 79, 3) := dk_163 0 79 (dk_at dksX3_mends_0 20 rfl rfl)
theorem dX3_mends_23 : decode cX3_mends 23 = .ok (.aload_n 0, 1) := dk_42 (dk_at dksX3_mends_0 23 rfl rfl)
theorem dX3_mends_24 : decode cX3_mends 24 = .ok (.invokevirtual 396, 3) := dk_182 1 140 (dk_at dksX3_mends_1 0 rfl rfl)
theorem dX3_mends_27 : decode cX3_mends 27 = .ok (.aload_n 0, 1) := dk_42 (dk_at dksX3_mends_1 3 rfl rfl)
theorem dX3_mends_28 : decode cX3_mends 28 = .ok (.getfield 79, 3) := dk_180 0 79 (dk_at dksX3_mends_1 4 rfl rfl)
theorem dX3_mends_31 : decode cX3_mends 31 = .ok (.iconst 4, 1) := dk_7 (dk_at dksX3_mends_1 7 rfl rfl)
theorem dX3_mends_32 : decode cX3_mends 32 = .ok (.iaload, 1) := dk_46 (dk_at dksX3_mends_1 8 rfl rfl)
theorem dX3_mends_33 : decode cX3_mends 33 = .ok (.if_icmp .ne 66, 3) := dk_160 0 66 (dk_at dksX3_mends_1 9 rfl rfl)
theorem dX3_mends_36 : decode cX3_mends 36 = .ok (.iload_n 1, 1) := dk_27 (dk_at dksX3_mends_1 12 rfl rfl)
theorem dX3_mends_37 : decode cX3_mends 37 = .ok (.aload_n 0, 1) := dk_42 (dk_at dksX3_mends_1 13 rfl rfl)
theorem dX3_mends_38 : decode cX3_mends 38 = .ok (.getfield 79, 3) := dk_180 0 79 (dk_at dksX3_mends_1 14 rfl rfl)
theorem dX3_mends_41 : decode cX3_mends 41 = .ok (.iconst 0, 1) := dk_3 (dk_at dksX3_mends_1 17 rfl rfl)
theorem dX3_mends_42 : decode cX3_mends 42 = .ok (.iaload, 1) := dk_46 (dk_at dksX3_mends_1 18 rfl rfl)
theorem dX3_mends_43 : decode cX3_mends 43 = .ok (.iadd, 1) := dk_96 (dk_at dksX3_mends_1 19 rfl rfl)
theorem dX3_mends_44 : decode cX3_mends 44 = .ok (.istore_n 1, 1) := dk_60 (dk_at dksX3_mends_1 20 rfl rfl)
theorem dX3_mends_45 : decode cX3_mends 45 = .ok (.iconst 0, 1) := dk_3 (dk_at dksX3_mends_1 21 rfl rfl)
theorem dX3_mends_46 : decode cX3_mends 46 = .ok (.istore_n 2, 1) := dk_61 (dk_at dksX3_mends_1 22 rfl rfl)
theorem dX3_mends_47 : decode cX3_mends 47 = .ok (.iload_n 2, 1) := dk_28 (dk_at dksX3_mends_1 23 rfl rfl)
theorem dX3_mends_48 : decode cX3_mends 48 = .ok (.bipush 8, 2) := dk_16 8 (dk_at dksX3_mends_2 0 rfl rfl)
theorem dX3_mends_50 : decode cX3_mends 50 = .ok (.aload_n 0, 1) := dk_42 (dk_at dksX3_mends_2 2 rfl rfl)
theorem dX3_mends_51 : decode cX3_mends 51 = .ok (.getfield 79, 3) := dk_180 0 79 (dk_at dksX3_mends_2 3 rfl rfl)
theorem dX3_mends_54 : decode cX3_mends 54 = .ok (.iconst 0, 1) := dk_3 (dk_at dksX3_mends_2 6 rfl rfl)
theorem dX3_mends_55 : decode cX3_mends 55 = .ok (.iaload, 1) := dk_46 (dk_at dksX3_mends_2 7 rfl rfl)
theorem dX3_mends_56 : decode cX3_mends 56 = .ok (.imul, 1) := dk_104 (dk_at dksX3_mends_2 8 rfl rfl)
theorem dX3_mends_57 : decode cX3_mends 57 = .ok (.if_icmp .ge 42, 3) := dk_162 0 42 (dk_at dksX3_mends_2 9 rfl rfl)
theorem dX3_mends_60 : decode cX3_mends 60 = .ok (.aload_n 0, 1) := dk_42 (dk_at dksX3_mends_2 12 rfl rfl)
theorem dX3_mends_61 : decode cX3_mends 61 = .ok (.getfield 79, 3) := dk_180 0 79 (dk_at dksX3_mends_2 13 rfl rfl)
theorem dX3_mends_64 : decode cX3_mends 64 = .ok (.bipush 8, 2) := dk_16 8 (dk_at dksX3_mends_2 16 rfl rfl)
theorem dX3_mends_66 : decode cX3_mends 66 = .ok (.aload_n 0, 1) := dk_42 (dk_at dksX3_mends_2 18 rfl rfl)
theorem dX3_mends_67 : decode cX3_mends 67 = .ok (.getfield 79, 3) := dk_180 0 79 (dk_at dksX3_mends_2 19 rfl rfl)
theorem dX3_mends_70 : decode cX3_mends 70 = .ok (.iconst 1, 1) := dk_4 (dk_at dksX3_mends_2 22 rfl rfl)
theorem dX3_mends_71 : decode cX3_mends 71 = .ok (.iload_n 2, 1) := dk_28 (dk_at dksX3_mends_2 23 rfl rfl)
theorem dX3_mends_72 : decode cX3_mends 72 = .ok (.bipush 8, 2) := dk_16 8 (dk_at dksX3_mends_3 0 rfl rfl)
theorem dX3_mends_74 : decode cX3_mends 74 = .ok (.idiv, 1) := dk_108 (dk_at dksX3_mends_3 2 rfl rfl)
theorem dX3_mends_75 : decode cX3_mends 75 = .ok (.iadd, 1) := dk_96 (dk_at dksX3_mends_3 3 rfl rfl)
theorem dX3_mends_76 : decode cX3_mends 76 = .ok (.iaload, 1) := dk_46 (dk_at dksX3_mends_3 4 rfl rfl)
theorem dX3_mends_77 : decode cX3_mends 77 = .ok (.imul, 1) := dk_104 (dk_at dksX3_mends_3 5 rfl rfl)
theorem dX3_mends_78 : decode cX3_mends 78 = .ok (.iload_n 2, 1) := dk_28 (dk_at dksX3_mends_3 6 rfl rfl)
theorem dX3_mends_79 : decode cX3_mends 79 = .ok (.bipush 8, 2) := dk_16 8 (dk_at dksX3_mends_3 7 rfl rfl)
theorem dX3_mends_81 : decode cX3_mends 81 = .ok (.irem, 1) := dk_112 (dk_at dksX3_mends_3 9 rfl rfl)
theorem dX3_mends_82 : decode cX3_mends 82 = .ok (.iadd, 1) := dk_96 (dk_at dksX3_mends_3 10 rfl rfl)
theorem dX3_mends_83 : decode cX3_mends 83 = .ok (.aload_n 0, 1) := dk_42 (dk_at dksX3_mends_3 11 rfl rfl)
theorem dX3_mends_84 : decode cX3_mends 84 = .ok (.getfield 79, 3) := dk_180 0 79 (dk_at dksX3_mends_3 12 rfl rfl)
theorem dX3_mends_87 : decode cX3_mends 87 = .ok (.bipush 8, 2) := dk_16 8 (dk_at dksX3_mends_3 15 rfl rfl)
theorem dX3_mends_89 : decode cX3_mends 89 = .ok (.iload_n 2, 1) := dk_28 (dk_at dksX3_mends_3 17 rfl rfl)
theorem dX3_mends_90 : decode cX3_mends 90 = .ok (.iadd, 1) := dk_96 (dk_at dksX3_mends_3 18 rfl rfl)
theorem dX3_mends_91 : decode cX3_mends 91 = .ok (.iaload, 1) := dk_46 (dk_at dksX3_mends_3 19 rfl rfl)
theorem dX3_mends_92 : decode cX3_mends 92 = .ok (.iastore, 1) := dk_79 (dk_at dksX3_mends_3 20 rfl rfl)
theorem dX3_mends_93 : decode cX3_mends 93 = .ok (.iinc 2 1, 3) := dk_132 2 1 (dk_at dksX3_mends_3 21 rfl rfl)
theorem dX3_mends_96 : decode cX3_mends 96 = .ok (.goto (-49), 3) := dk_167 255 207 (dk_at dksX3_mends_4 0 rfl rfl)
theorem dX3_mends_99 : decode cX3_mends 99 = .ok (.aload_n 0, 1) := dk_42 (dk_at dksX3_mends_4 3 rfl rfl)
theorem dX3_mends_100 : decode cX3_mends 100 = .ok (.iconst 0, 1) := dk_3 (dk_at dksX3_mends_4 4 rfl rfl)
theorem dX3_mends_101 : decode cX3_mends 101 = .ok (.invokevirtual 392, 3) := dk_182 1 136 (dk_at dksX3_mends_4 5 rfl rfl)
theorem dX3_mends_104 : decode cX3_mends 104 = .ok (.aload_n 0, 1) := dk_42 (dk_at dksX3_mends_4 8 rfl rfl)
theorem dX3_mends_105 : decode cX3_mends 105 = .ok (.dup, 1) := dk_89 (dk_at dksX3_mends_4 9 rfl rfl)
theorem dX3_mends_106 : decode cX3_mends 106 = .ok (.getfield 389, 3) := dk_180 1 133 (dk_at dksX3_mends_4 10 rfl rfl)
theorem dX3_mends_109 : decode cX3_mends 109 = .ok (.iload_n 1, 1) := dk_27 (dk_at dksX3_mends_4 13 rfl rfl)
theorem dX3_mends_110 : decode cX3_mends 110 = .ok (.iadd, 1) := dk_96 (dk_at dksX3_mends_4 14 rfl rfl)
theorem dX3_mends_111 : decode cX3_mends 111 = .ok (.putfield 389, 3) := dk_181 1 133 (dk_at dksX3_mends_4 15 rfl rfl)
theorem dX3_mends_114 : decode cX3_mends 114 = .ok (.iload_n 1, 1) := dk_27 (dk_at dksX3_mends_4 18 rfl rfl)
theorem dX3_mends_115 : decode cX3_mends 115 = .ok (.ireturn, 1) := dk_172 (dk_at dksX3_mends_4 19 rfl rfl)
abbrev cX3_checkOfLog : ByteArray := prog_28_method_70_code
def yX3_checkOfLog : MethodName := ⟨RX3, "checkOfLog", "()I"⟩
def dkwX3_checkOfLog_2 : List UInt8 := [16, 8, 28, 96, 46, 96, 60, 132, 2, 1, 167, 255, 228, 27, 18, 180, 112, 172]
abbrev dktX3_checkOfLog_2 : List UInt8 := dkwX3_checkOfLog_2 ++ []
def dkwX3_checkOfLog_1 : List UInt8 := [6, 46, 96, 60, 3, 61, 28, 16, 8, 42, 180, 0, 79, 3, 46, 104, 162, 0, 21, 27, 42, 180, 0, 79]
abbrev dktX3_checkOfLog_1 : List UInt8 := dkwX3_checkOfLog_1 ++ dktX3_checkOfLog_2
def dkwX3_checkOfLog_0 : List UInt8 := [42, 180, 0, 79, 3, 46, 42, 180, 0, 79, 4, 46, 96, 42, 180, 0, 79, 5, 46, 96, 42, 180, 0, 79]
abbrev dktX3_checkOfLog_0 : List UInt8 := dkwX3_checkOfLog_0 ++ dktX3_checkOfLog_1
theorem dksX3_checkOfLog_0 : cX3_checkOfLog.data.toList.drop 0 = dktX3_checkOfLog_0 := by decide +kernel
theorem dksX3_checkOfLog_1 : cX3_checkOfLog.data.toList.drop 24 = dktX3_checkOfLog_1 := dk_seg dksX3_checkOfLog_0 24 rfl rfl
theorem dksX3_checkOfLog_2 : cX3_checkOfLog.data.toList.drop 48 = dktX3_checkOfLog_2 := dk_seg dksX3_checkOfLog_1 24 rfl rfl
theorem dX3_checkOfLog_0 : decode cX3_checkOfLog 0 = .ok (.aload_n 0, 1) := dk_42 (dk_at dksX3_checkOfLog_0 0 rfl rfl)
theorem dX3_checkOfLog_1 : decode cX3_checkOfLog 1 = .ok (.getfield 79, 3) := dk_180 0 79 (dk_at dksX3_checkOfLog_0 1 rfl rfl)
theorem dX3_checkOfLog_4 : decode cX3_checkOfLog 4 = .ok (.iconst 0, 1) := dk_3 (dk_at dksX3_checkOfLog_0 4 rfl rfl)
theorem dX3_checkOfLog_5 : decode cX3_checkOfLog 5 = .ok (.iaload, 1) := dk_46 (dk_at dksX3_checkOfLog_0 5 rfl rfl)
theorem dX3_checkOfLog_6 : decode cX3_checkOfLog 6 = .ok (.aload_n 0, 1) := dk_42 (dk_at dksX3_checkOfLog_0 6 rfl rfl)
theorem dX3_checkOfLog_7 : decode cX3_checkOfLog 7 = .ok (.getfield 79, 3) := dk_180 0 79 (dk_at dksX3_checkOfLog_0 7 rfl rfl)
theorem dX3_checkOfLog_10 : decode cX3_checkOfLog 10 = .ok (.iconst 1, 1) := dk_4 (dk_at dksX3_checkOfLog_0 10 rfl rfl)
theorem dX3_checkOfLog_11 : decode cX3_checkOfLog 11 = .ok (.iaload, 1) := dk_46 (dk_at dksX3_checkOfLog_0 11 rfl rfl)
theorem dX3_checkOfLog_12 : decode cX3_checkOfLog 12 = .ok (.iadd, 1) := dk_96 (dk_at dksX3_checkOfLog_0 12 rfl rfl)
theorem dX3_checkOfLog_13 : decode cX3_checkOfLog 13 = .ok (.aload_n 0, 1) := dk_42 (dk_at dksX3_checkOfLog_0 13 rfl rfl)
theorem dX3_checkOfLog_14 : decode cX3_checkOfLog 14 = .ok (.getfield 79, 3) := dk_180 0 79 (dk_at dksX3_checkOfLog_0 14 rfl rfl)
theorem dX3_checkOfLog_17 : decode cX3_checkOfLog 17 = .ok (.iconst 2, 1) := dk_5 (dk_at dksX3_checkOfLog_0 17 rfl rfl)
theorem dX3_checkOfLog_18 : decode cX3_checkOfLog 18 = .ok (.iaload, 1) := dk_46 (dk_at dksX3_checkOfLog_0 18 rfl rfl)
theorem dX3_checkOfLog_19 : decode cX3_checkOfLog 19 = .ok (.iadd, 1) := dk_96 (dk_at dksX3_checkOfLog_0 19 rfl rfl)
theorem dX3_checkOfLog_20 : decode cX3_checkOfLog 20 = .ok (.aload_n 0, 1) := dk_42 (dk_at dksX3_checkOfLog_0 20 rfl rfl)
theorem dX3_checkOfLog_21 : decode cX3_checkOfLog 21 = .ok (.getfield 79, 3) := dk_180 0 79 (dk_at dksX3_checkOfLog_0 21 rfl rfl)
theorem dX3_checkOfLog_24 : decode cX3_checkOfLog 24 = .ok (.iconst 3, 1) := dk_6 (dk_at dksX3_checkOfLog_1 0 rfl rfl)
theorem dX3_checkOfLog_25 : decode cX3_checkOfLog 25 = .ok (.iaload, 1) := dk_46 (dk_at dksX3_checkOfLog_1 1 rfl rfl)
theorem dX3_checkOfLog_26 : decode cX3_checkOfLog 26 = .ok (.iadd, 1) := dk_96 (dk_at dksX3_checkOfLog_1 2 rfl rfl)
theorem dX3_checkOfLog_27 : decode cX3_checkOfLog 27 = .ok (.istore_n 1, 1) := dk_60 (dk_at dksX3_checkOfLog_1 3 rfl rfl)
theorem dX3_checkOfLog_28 : decode cX3_checkOfLog 28 = .ok (.iconst 0, 1) := dk_3 (dk_at dksX3_checkOfLog_1 4 rfl rfl)
theorem dX3_checkOfLog_29 : decode cX3_checkOfLog 29 = .ok (.istore_n 2, 1) := dk_61 (dk_at dksX3_checkOfLog_1 5 rfl rfl)
theorem dX3_checkOfLog_30 : decode cX3_checkOfLog 30 = .ok (.iload_n 2, 1) := dk_28 (dk_at dksX3_checkOfLog_1 6 rfl rfl)
theorem dX3_checkOfLog_31 : decode cX3_checkOfLog 31 = .ok (.bipush 8, 2) := dk_16 8 (dk_at dksX3_checkOfLog_1 7 rfl rfl)
theorem dX3_checkOfLog_33 : decode cX3_checkOfLog 33 = .ok (.aload_n 0, 1) := dk_42 (dk_at dksX3_checkOfLog_1 9 rfl rfl)
theorem dX3_checkOfLog_34 : decode cX3_checkOfLog 34 = .ok (.getfield 79, 3) := dk_180 0 79 (dk_at dksX3_checkOfLog_1 10 rfl rfl)
theorem dX3_checkOfLog_37 : decode cX3_checkOfLog 37 = .ok (.iconst 0, 1) := dk_3 (dk_at dksX3_checkOfLog_1 13 rfl rfl)
theorem dX3_checkOfLog_38 : decode cX3_checkOfLog 38 = .ok (.iaload, 1) := dk_46 (dk_at dksX3_checkOfLog_1 14 rfl rfl)
theorem dX3_checkOfLog_39 : decode cX3_checkOfLog 39 = .ok (.imul, 1) := dk_104 (dk_at dksX3_checkOfLog_1 15 rfl rfl)
theorem dX3_checkOfLog_40 : decode cX3_checkOfLog 40 = .ok (.if_icmp .ge 21, 3) := dk_162 0 21 (dk_at dksX3_checkOfLog_1 16 rfl rfl)
theorem dX3_checkOfLog_43 : decode cX3_checkOfLog 43 = .ok (.iload_n 1, 1) := dk_27 (dk_at dksX3_checkOfLog_1 19 rfl rfl)
theorem dX3_checkOfLog_44 : decode cX3_checkOfLog 44 = .ok (.aload_n 0, 1) := dk_42 (dk_at dksX3_checkOfLog_1 20 rfl rfl)
theorem dX3_checkOfLog_45 : decode cX3_checkOfLog 45 = .ok (.getfield 79, 3) := dk_180 0 79 (dk_at dksX3_checkOfLog_1 21 rfl rfl)
theorem dX3_checkOfLog_48 : decode cX3_checkOfLog 48 = .ok (.bipush 8, 2) := dk_16 8 (dk_at dksX3_checkOfLog_2 0 rfl rfl)
theorem dX3_checkOfLog_50 : decode cX3_checkOfLog 50 = .ok (.iload_n 2, 1) := dk_28 (dk_at dksX3_checkOfLog_2 2 rfl rfl)
theorem dX3_checkOfLog_51 : decode cX3_checkOfLog 51 = .ok (.iadd, 1) := dk_96 (dk_at dksX3_checkOfLog_2 3 rfl rfl)
theorem dX3_checkOfLog_52 : decode cX3_checkOfLog 52 = .ok (.iaload, 1) := dk_46 (dk_at dksX3_checkOfLog_2 4 rfl rfl)
theorem dX3_checkOfLog_53 : decode cX3_checkOfLog 53 = .ok (.iadd, 1) := dk_96 (dk_at dksX3_checkOfLog_2 5 rfl rfl)
theorem dX3_checkOfLog_54 : decode cX3_checkOfLog 54 = .ok (.istore_n 1, 1) := dk_60 (dk_at dksX3_checkOfLog_2 6 rfl rfl)
theorem dX3_checkOfLog_55 : decode cX3_checkOfLog 55 = .ok (.iinc 2 1, 3) := dk_132 2 1 (dk_at dksX3_checkOfLog_2 7 rfl rfl)
theorem dX3_checkOfLog_58 : decode cX3_checkOfLog 58 = .ok (.goto (-28), 3) := dk_167 255 228 (dk_at dksX3_checkOfLog_2 10 rfl rfl)
theorem dX3_checkOfLog_61 : decode cX3_checkOfLog 61 = .ok (.iload_n 1, 1) := dk_27 (dk_at dksX3_checkOfLog_2 13 rfl rfl)
theorem dX3_checkOfLog_62 : decode cX3_checkOfLog 62 = .ok (.ldc 180, 2) := dk_18 180 (dk_at dksX3_checkOfLog_2 14 rfl rfl)
theorem dX3_checkOfLog_64 : decode cX3_checkOfLog 64 = .ok (.irem, 1) := dk_112 (dk_at dksX3_checkOfLog_2 16 rfl rfl)
theorem dX3_checkOfLog_65 : decode cX3_checkOfLog 65 = .ok (.ireturn, 1) := dk_172 (dk_at dksX3_checkOfLog_2 17 rfl rfl)
abbrev cX3_writesHead : ByteArray := prog_28_method_69_code
def yX3_writesHead : MethodName := ⟨RX3, "writesHead", "(Z)V"⟩
def dkwX3_writesHead_5 : List UInt8 := [18, 180, 112, 79, 177]
abbrev dktX3_writesHead_5 : List UInt8 := dkwX3_writesHead_5 ++ []
def dkwX3_writesHead_4 : List UInt8 := [162, 0, 18, 28, 42, 180, 0, 76, 29, 46, 96, 61, 132, 3, 1, 167, 255, 233, 42, 180, 0, 79, 7, 28]
abbrev dktX3_writesHead_4 : List UInt8 := dkwX3_writesHead_4 ++ dktX3_writesHead_5
def dkwX3_writesHead_3 : List UInt8 := [180, 0, 73, 29, 46, 96, 61, 132, 3, 1, 167, 255, 222, 3, 62, 29, 16, 8, 42, 180, 1, 130, 104]
abbrev dktX3_writesHead_3 : List UInt8 := dkwX3_writesHead_3 ++ dktX3_writesHead_4
def dkwX3_writesHead_2 : List UInt8 := [180, 1, 130, 162, 0, 32, 42, 180, 0, 79, 4, 29, 96, 42, 180, 0, 73, 29, 46, 79, 28, 42]
abbrev dktX3_writesHead_2 : List UInt8 := dkwX3_writesHead_2 ++ dktX3_writesHead_3
def dkwX3_writesHead_1 : List UInt8 := [154, 0, 4, 177, 42, 180, 1, 130, 61, 42, 180, 0, 79, 3, 42, 180, 1, 130, 79, 3, 62, 29, 42]
abbrev dktX3_writesHead_1 : List UInt8 := dkwX3_writesHead_1 ++ dktX3_writesHead_2
def dkwX3_writesHead_0 : List UInt8 := [3, 61, 28, 16, 8, 162, 0, 16, 42, 180, 0, 79, 28, 3, 79, 132, 2, 1, 167, 255, 240, 27]
abbrev dktX3_writesHead_0 : List UInt8 := dkwX3_writesHead_0 ++ dktX3_writesHead_1
theorem dksX3_writesHead_0 : cX3_writesHead.data.toList.drop 0 = dktX3_writesHead_0 := by decide +kernel
theorem dksX3_writesHead_1 : cX3_writesHead.data.toList.drop 22 = dktX3_writesHead_1 := dk_seg dksX3_writesHead_0 22 rfl rfl
theorem dksX3_writesHead_2 : cX3_writesHead.data.toList.drop 45 = dktX3_writesHead_2 := dk_seg dksX3_writesHead_1 23 rfl rfl
theorem dksX3_writesHead_3 : cX3_writesHead.data.toList.drop 67 = dktX3_writesHead_3 := dk_seg dksX3_writesHead_2 22 rfl rfl
theorem dksX3_writesHead_4 : cX3_writesHead.data.toList.drop 90 = dktX3_writesHead_4 := dk_seg dksX3_writesHead_3 23 rfl rfl
theorem dksX3_writesHead_5 : cX3_writesHead.data.toList.drop 114 = dktX3_writesHead_5 := dk_seg dksX3_writesHead_4 24 rfl rfl
theorem dX3_writesHead_0 : decode cX3_writesHead 0 = .ok (.iconst 0, 1) := dk_3 (dk_at dksX3_writesHead_0 0 rfl rfl)
theorem dX3_writesHead_1 : decode cX3_writesHead 1 = .ok (.istore_n 2, 1) := dk_61 (dk_at dksX3_writesHead_0 1 rfl rfl)
theorem dX3_writesHead_2 : decode cX3_writesHead 2 = .ok (.iload_n 2, 1) := dk_28 (dk_at dksX3_writesHead_0 2 rfl rfl)
theorem dX3_writesHead_3 : decode cX3_writesHead 3 = .ok (.bipush 8, 2) := dk_16 8 (dk_at dksX3_writesHead_0 3 rfl rfl)
theorem dX3_writesHead_5 : decode cX3_writesHead 5 = .ok (.if_icmp .ge 16, 3) := dk_162 0 16 (dk_at dksX3_writesHead_0 5 rfl rfl)
theorem dX3_writesHead_8 : decode cX3_writesHead 8 = .ok (.aload_n 0, 1) := dk_42 (dk_at dksX3_writesHead_0 8 rfl rfl)
theorem dX3_writesHead_9 : decode cX3_writesHead 9 = .ok (.getfield 79, 3) := dk_180 0 79 (dk_at dksX3_writesHead_0 9 rfl rfl)
theorem dX3_writesHead_12 : decode cX3_writesHead 12 = .ok (.iload_n 2, 1) := dk_28 (dk_at dksX3_writesHead_0 12 rfl rfl)
theorem dX3_writesHead_13 : decode cX3_writesHead 13 = .ok (.iconst 0, 1) := dk_3 (dk_at dksX3_writesHead_0 13 rfl rfl)
theorem dX3_writesHead_14 : decode cX3_writesHead 14 = .ok (.iastore, 1) := dk_79 (dk_at dksX3_writesHead_0 14 rfl rfl)
theorem dX3_writesHead_15 : decode cX3_writesHead 15 = .ok (.iinc 2 1, 3) := dk_132 2 1 (dk_at dksX3_writesHead_0 15 rfl rfl)
theorem dX3_writesHead_18 : decode cX3_writesHead 18 = .ok (.goto (-16), 3) := dk_167 255 240 (dk_at dksX3_writesHead_0 18 rfl rfl)
theorem dX3_writesHead_21 : decode cX3_writesHead 21 = .ok (.iload_n 1, 1) := dk_27 (dk_at dksX3_writesHead_0 21 rfl rfl)
theorem dX3_writesHead_22 : decode cX3_writesHead 22 = .ok (.ifCond .ne 4, 3) := dk_154 0 4 (dk_at dksX3_writesHead_1 0 rfl rfl)
theorem dX3_writesHead_25 : decode cX3_writesHead 25 = .ok (.return_, 1) := dk_177 (dk_at dksX3_writesHead_1 3 rfl rfl)
theorem dX3_writesHead_26 : decode cX3_writesHead 26 = .ok (.aload_n 0, 1) := dk_42 (dk_at dksX3_writesHead_1 4 rfl rfl)
theorem dX3_writesHead_27 : decode cX3_writesHead 27 = .ok (.getfield 386, 3) := dk_180 1 130 (dk_at dksX3_writesHead_1 5 rfl rfl)
theorem dX3_writesHead_30 : decode cX3_writesHead 30 = .ok (.istore_n 2, 1) := dk_61 (dk_at dksX3_writesHead_1 8 rfl rfl)
theorem dX3_writesHead_31 : decode cX3_writesHead 31 = .ok (.aload_n 0, 1) := dk_42 (dk_at dksX3_writesHead_1 9 rfl rfl)
theorem dX3_writesHead_32 : decode cX3_writesHead 32 = .ok (.getfield 79, 3) := dk_180 0 79 (dk_at dksX3_writesHead_1 10 rfl rfl)
theorem dX3_writesHead_35 : decode cX3_writesHead 35 = .ok (.iconst 0, 1) := dk_3 (dk_at dksX3_writesHead_1 13 rfl rfl)
theorem dX3_writesHead_36 : decode cX3_writesHead 36 = .ok (.aload_n 0, 1) := dk_42 (dk_at dksX3_writesHead_1 14 rfl rfl)
theorem dX3_writesHead_37 : decode cX3_writesHead 37 = .ok (.getfield 386, 3) := dk_180 1 130 (dk_at dksX3_writesHead_1 15 rfl rfl)
theorem dX3_writesHead_40 : decode cX3_writesHead 40 = .ok (.iastore, 1) := dk_79 (dk_at dksX3_writesHead_1 18 rfl rfl)
theorem dX3_writesHead_41 : decode cX3_writesHead 41 = .ok (.iconst 0, 1) := dk_3 (dk_at dksX3_writesHead_1 19 rfl rfl)
theorem dX3_writesHead_42 : decode cX3_writesHead 42 = .ok (.istore_n 3, 1) := dk_62 (dk_at dksX3_writesHead_1 20 rfl rfl)
theorem dX3_writesHead_43 : decode cX3_writesHead 43 = .ok (.iload_n 3, 1) := dk_29 (dk_at dksX3_writesHead_1 21 rfl rfl)
theorem dX3_writesHead_44 : decode cX3_writesHead 44 = .ok (.aload_n 0, 1) := dk_42 (dk_at dksX3_writesHead_1 22 rfl rfl)
theorem dX3_writesHead_45 : decode cX3_writesHead 45 = .ok (.getfield 386, 3) := dk_180 1 130 (dk_at dksX3_writesHead_2 0 rfl rfl)
theorem dX3_writesHead_48 : decode cX3_writesHead 48 = .ok (.if_icmp .ge 32, 3) := dk_162 0 32 (dk_at dksX3_writesHead_2 3 rfl rfl)
theorem dX3_writesHead_51 : decode cX3_writesHead 51 = .ok (.aload_n 0, 1) := dk_42 (dk_at dksX3_writesHead_2 6 rfl rfl)
theorem dX3_writesHead_52 : decode cX3_writesHead 52 = .ok (.getfield 79, 3) := dk_180 0 79 (dk_at dksX3_writesHead_2 7 rfl rfl)
theorem dX3_writesHead_55 : decode cX3_writesHead 55 = .ok (.iconst 1, 1) := dk_4 (dk_at dksX3_writesHead_2 10 rfl rfl)
theorem dX3_writesHead_56 : decode cX3_writesHead 56 = .ok (.iload_n 3, 1) := dk_29 (dk_at dksX3_writesHead_2 11 rfl rfl)
theorem dX3_writesHead_57 : decode cX3_writesHead 57 = .ok (.iadd, 1) := dk_96 (dk_at dksX3_writesHead_2 12 rfl rfl)
theorem dX3_writesHead_58 : decode cX3_writesHead 58 = .ok (.aload_n 0, 1) := dk_42 (dk_at dksX3_writesHead_2 13 rfl rfl)
theorem dX3_writesHead_59 : decode cX3_writesHead 59 = .ok (.getfield 73, 3) := dk_180 0 73 (dk_at dksX3_writesHead_2 14 rfl rfl)
theorem dX3_writesHead_62 : decode cX3_writesHead 62 = .ok (.iload_n 3, 1) := dk_29 (dk_at dksX3_writesHead_2 17 rfl rfl)
theorem dX3_writesHead_63 : decode cX3_writesHead 63 = .ok (.iaload, 1) := dk_46 (dk_at dksX3_writesHead_2 18 rfl rfl)
theorem dX3_writesHead_64 : decode cX3_writesHead 64 = .ok (.iastore, 1) := dk_79 (dk_at dksX3_writesHead_2 19 rfl rfl)
theorem dX3_writesHead_65 : decode cX3_writesHead 65 = .ok (.iload_n 2, 1) := dk_28 (dk_at dksX3_writesHead_2 20 rfl rfl)
theorem dX3_writesHead_66 : decode cX3_writesHead 66 = .ok (.aload_n 0, 1) := dk_42 (dk_at dksX3_writesHead_2 21 rfl rfl)
theorem dX3_writesHead_67 : decode cX3_writesHead 67 = .ok (.getfield 73, 3) := dk_180 0 73 (dk_at dksX3_writesHead_3 0 rfl rfl)
theorem dX3_writesHead_70 : decode cX3_writesHead 70 = .ok (.iload_n 3, 1) := dk_29 (dk_at dksX3_writesHead_3 3 rfl rfl)
theorem dX3_writesHead_71 : decode cX3_writesHead 71 = .ok (.iaload, 1) := dk_46 (dk_at dksX3_writesHead_3 4 rfl rfl)
theorem dX3_writesHead_72 : decode cX3_writesHead 72 = .ok (.iadd, 1) := dk_96 (dk_at dksX3_writesHead_3 5 rfl rfl)
theorem dX3_writesHead_73 : decode cX3_writesHead 73 = .ok (.istore_n 2, 1) := dk_61 (dk_at dksX3_writesHead_3 6 rfl rfl)
theorem dX3_writesHead_74 : decode cX3_writesHead 74 = .ok (.iinc 3 1, 3) := dk_132 3 1 (dk_at dksX3_writesHead_3 7 rfl rfl)
theorem dX3_writesHead_77 : decode cX3_writesHead 77 = .ok (.goto (-34), 3) := dk_167 255 222 (dk_at dksX3_writesHead_3 10 rfl rfl)
theorem dX3_writesHead_80 : decode cX3_writesHead 80 = .ok (.iconst 0, 1) := dk_3 (dk_at dksX3_writesHead_3 13 rfl rfl)
theorem dX3_writesHead_81 : decode cX3_writesHead 81 = .ok (.istore_n 3, 1) := dk_62 (dk_at dksX3_writesHead_3 14 rfl rfl)
theorem dX3_writesHead_82 : decode cX3_writesHead 82 = .ok (.iload_n 3, 1) := dk_29 (dk_at dksX3_writesHead_3 15 rfl rfl)
theorem dX3_writesHead_83 : decode cX3_writesHead 83 = .ok (.bipush 8, 2) := dk_16 8 (dk_at dksX3_writesHead_3 16 rfl rfl)
theorem dX3_writesHead_85 : decode cX3_writesHead 85 = .ok (.aload_n 0, 1) := dk_42 (dk_at dksX3_writesHead_3 18 rfl rfl)
theorem dX3_writesHead_86 : decode cX3_writesHead 86 = .ok (.getfield 386, 3) := dk_180 1 130 (dk_at dksX3_writesHead_3 19 rfl rfl)
theorem dX3_writesHead_89 : decode cX3_writesHead 89 = .ok (.imul, 1) := dk_104 (dk_at dksX3_writesHead_3 22 rfl rfl)
theorem dX3_writesHead_90 : decode cX3_writesHead 90 = .ok (.if_icmp .ge 18, 3) := dk_162 0 18 (dk_at dksX3_writesHead_4 0 rfl rfl)
theorem dX3_writesHead_93 : decode cX3_writesHead 93 = .ok (.iload_n 2, 1) := dk_28 (dk_at dksX3_writesHead_4 3 rfl rfl)
theorem dX3_writesHead_94 : decode cX3_writesHead 94 = .ok (.aload_n 0, 1) := dk_42 (dk_at dksX3_writesHead_4 4 rfl rfl)
theorem dX3_writesHead_95 : decode cX3_writesHead 95 = .ok (.getfield 76, 3) := dk_180 0 76 (dk_at dksX3_writesHead_4 5 rfl rfl)
theorem dX3_writesHead_98 : decode cX3_writesHead 98 = .ok (.iload_n 3, 1) := dk_29 (dk_at dksX3_writesHead_4 8 rfl rfl)
theorem dX3_writesHead_99 : decode cX3_writesHead 99 = .ok (.iaload, 1) := dk_46 (dk_at dksX3_writesHead_4 9 rfl rfl)
theorem dX3_writesHead_100 : decode cX3_writesHead 100 = .ok (.iadd, 1) := dk_96 (dk_at dksX3_writesHead_4 10 rfl rfl)
theorem dX3_writesHead_101 : decode cX3_writesHead 101 = .ok (.istore_n 2, 1) := dk_61 (dk_at dksX3_writesHead_4 11 rfl rfl)
theorem dX3_writesHead_102 : decode cX3_writesHead 102 = .ok (.iinc 3 1, 3) := dk_132 3 1 (dk_at dksX3_writesHead_4 12 rfl rfl)
theorem dX3_writesHead_105 : decode cX3_writesHead 105 = .ok (.goto (-23), 3) := dk_167 255 233 (dk_at dksX3_writesHead_4 15 rfl rfl)
theorem dX3_writesHead_108 : decode cX3_writesHead 108 = .ok (.aload_n 0, 1) := dk_42 (dk_at dksX3_writesHead_4 18 rfl rfl)
theorem dX3_writesHead_109 : decode cX3_writesHead 109 = .ok (.getfield 79, 3) := dk_180 0 79 (dk_at dksX3_writesHead_4 19 rfl rfl)
theorem dX3_writesHead_112 : decode cX3_writesHead 112 = .ok (.iconst 4, 1) := dk_7 (dk_at dksX3_writesHead_4 22 rfl rfl)
theorem dX3_writesHead_113 : decode cX3_writesHead 113 = .ok (.iload_n 2, 1) := dk_28 (dk_at dksX3_writesHead_4 23 rfl rfl)
theorem dX3_writesHead_114 : decode cX3_writesHead 114 = .ok (.ldc 180, 2) := dk_18 180 (dk_at dksX3_writesHead_5 0 rfl rfl)
theorem dX3_writesHead_116 : decode cX3_writesHead 116 = .ok (.irem, 1) := dk_112 (dk_at dksX3_writesHead_5 2 rfl rfl)
theorem dX3_writesHead_117 : decode cX3_writesHead 117 = .ok (.iastore, 1) := dk_79 (dk_at dksX3_writesHead_5 3 rfl rfl)
theorem dX3_writesHead_118 : decode cX3_writesHead 118 = .ok (.return_, 1) := dk_177 (dk_at dksX3_writesHead_5 4 rfl rfl)
abbrev cX3_copies : ByteArray := prog_28_method_73_code
def yX3_copies : MethodName := ⟨RX3, "copies", "([I[I)V"⟩
def dkwX3_copies_0 : List UInt8 := [3, 61, 28, 17, 1, 0, 162, 0, 15, 43, 28, 42, 28, 46, 79, 132, 2, 1, 167, 255, 240, 177]
abbrev dktX3_copies_0 : List UInt8 := dkwX3_copies_0 ++ []
theorem dksX3_copies_0 : cX3_copies.data.toList.drop 0 = dktX3_copies_0 := by decide +kernel
theorem dX3_copies_0 : decode cX3_copies 0 = .ok (.iconst 0, 1) := dk_3 (dk_at dksX3_copies_0 0 rfl rfl)
theorem dX3_copies_1 : decode cX3_copies 1 = .ok (.istore_n 2, 1) := dk_61 (dk_at dksX3_copies_0 1 rfl rfl)
theorem dX3_copies_2 : decode cX3_copies 2 = .ok (.iload_n 2, 1) := dk_28 (dk_at dksX3_copies_0 2 rfl rfl)
theorem dX3_copies_3 : decode cX3_copies 3 = .ok (.sipush 256, 3) := dk_17 1 0 (dk_at dksX3_copies_0 3 rfl rfl)
theorem dX3_copies_6 : decode cX3_copies 6 = .ok (.if_icmp .ge 15, 3) := dk_162 0 15 (dk_at dksX3_copies_0 6 rfl rfl)
theorem dX3_copies_9 : decode cX3_copies 9 = .ok (.aload_n 1, 1) := dk_43 (dk_at dksX3_copies_0 9 rfl rfl)
theorem dX3_copies_10 : decode cX3_copies 10 = .ok (.iload_n 2, 1) := dk_28 (dk_at dksX3_copies_0 10 rfl rfl)
theorem dX3_copies_11 : decode cX3_copies 11 = .ok (.aload_n 0, 1) := dk_42 (dk_at dksX3_copies_0 11 rfl rfl)
theorem dX3_copies_12 : decode cX3_copies 12 = .ok (.iload_n 2, 1) := dk_28 (dk_at dksX3_copies_0 12 rfl rfl)
theorem dX3_copies_13 : decode cX3_copies 13 = .ok (.iaload, 1) := dk_46 (dk_at dksX3_copies_0 13 rfl rfl)
theorem dX3_copies_14 : decode cX3_copies 14 = .ok (.iastore, 1) := dk_79 (dk_at dksX3_copies_0 14 rfl rfl)
theorem dX3_copies_15 : decode cX3_copies 15 = .ok (.iinc 2 1, 3) := dk_132 2 1 (dk_at dksX3_copies_0 15 rfl rfl)
theorem dX3_copies_18 : decode cX3_copies 18 = .ok (.goto (-16), 3) := dk_167 255 240 (dk_at dksX3_copies_0 18 rfl rfl)
theorem dX3_copies_21 : decode cX3_copies 21 = .ok (.return_, 1) := dk_177 (dk_at dksX3_copies_0 21 rfl rfl)
abbrev cX3_wakes : ByteArray := prog_28_method_40_code
def yX3_wakes : MethodName := ⟨RX3, "wakes", "([I)V"⟩
def dkwX3_wakes_2 : List UInt8 := [177]
abbrev dktX3_wakes_2 : List UInt8 := dkwX3_wakes_2 ++ []
def dkwX3_wakes_1 : List UInt8 := [132, 2, 1, 167, 255, 237, 42, 4, 181, 0, 232, 42, 16, 8, 181, 0, 254, 42, 17, 1, 0, 181, 0, 241]
abbrev dktX3_wakes_1 : List UInt8 := dkwX3_wakes_1 ++ dktX3_wakes_2
def dkwX3_wakes_0 : List UInt8 := [42, 182, 0, 251, 3, 61, 28, 17, 1, 0, 162, 0, 18, 42, 180, 0, 52, 28, 43, 28, 46, 79]
abbrev dktX3_wakes_0 : List UInt8 := dkwX3_wakes_0 ++ dktX3_wakes_1
theorem dksX3_wakes_0 : cX3_wakes.data.toList.drop 0 = dktX3_wakes_0 := by decide +kernel
theorem dksX3_wakes_1 : cX3_wakes.data.toList.drop 22 = dktX3_wakes_1 := dk_seg dksX3_wakes_0 22 rfl rfl
theorem dksX3_wakes_2 : cX3_wakes.data.toList.drop 46 = dktX3_wakes_2 := dk_seg dksX3_wakes_1 24 rfl rfl
theorem dX3_wakes_0 : decode cX3_wakes 0 = .ok (.aload_n 0, 1) := dk_42 (dk_at dksX3_wakes_0 0 rfl rfl)
theorem dX3_wakes_1 : decode cX3_wakes 1 = .ok (.invokevirtual 251, 3) := dk_182 0 251 (dk_at dksX3_wakes_0 1 rfl rfl)
theorem dX3_wakes_4 : decode cX3_wakes 4 = .ok (.iconst 0, 1) := dk_3 (dk_at dksX3_wakes_0 4 rfl rfl)
theorem dX3_wakes_5 : decode cX3_wakes 5 = .ok (.istore_n 2, 1) := dk_61 (dk_at dksX3_wakes_0 5 rfl rfl)
theorem dX3_wakes_6 : decode cX3_wakes 6 = .ok (.iload_n 2, 1) := dk_28 (dk_at dksX3_wakes_0 6 rfl rfl)
theorem dX3_wakes_7 : decode cX3_wakes 7 = .ok (.sipush 256, 3) := dk_17 1 0 (dk_at dksX3_wakes_0 7 rfl rfl)
theorem dX3_wakes_10 : decode cX3_wakes 10 = .ok (.if_icmp .ge 18, 3) := dk_162 0 18 (dk_at dksX3_wakes_0 10 rfl rfl)
theorem dX3_wakes_13 : decode cX3_wakes 13 = .ok (.aload_n 0, 1) := dk_42 (dk_at dksX3_wakes_0 13 rfl rfl)
theorem dX3_wakes_14 : decode cX3_wakes 14 = .ok (.getfield 52, 3) := dk_180 0 52 (dk_at dksX3_wakes_0 14 rfl rfl)
theorem dX3_wakes_17 : decode cX3_wakes 17 = .ok (.iload_n 2, 1) := dk_28 (dk_at dksX3_wakes_0 17 rfl rfl)
theorem dX3_wakes_18 : decode cX3_wakes 18 = .ok (.aload_n 1, 1) := dk_43 (dk_at dksX3_wakes_0 18 rfl rfl)
theorem dX3_wakes_19 : decode cX3_wakes 19 = .ok (.iload_n 2, 1) := dk_28 (dk_at dksX3_wakes_0 19 rfl rfl)
theorem dX3_wakes_20 : decode cX3_wakes 20 = .ok (.iaload, 1) := dk_46 (dk_at dksX3_wakes_0 20 rfl rfl)
theorem dX3_wakes_21 : decode cX3_wakes 21 = .ok (.iastore, 1) := dk_79 (dk_at dksX3_wakes_0 21 rfl rfl)
theorem dX3_wakes_22 : decode cX3_wakes 22 = .ok (.iinc 2 1, 3) := dk_132 2 1 (dk_at dksX3_wakes_1 0 rfl rfl)
theorem dX3_wakes_25 : decode cX3_wakes 25 = .ok (.goto (-19), 3) := dk_167 255 237 (dk_at dksX3_wakes_1 3 rfl rfl)
theorem dX3_wakes_28 : decode cX3_wakes 28 = .ok (.aload_n 0, 1) := dk_42 (dk_at dksX3_wakes_1 6 rfl rfl)
theorem dX3_wakes_29 : decode cX3_wakes 29 = .ok (.iconst 1, 1) := dk_4 (dk_at dksX3_wakes_1 7 rfl rfl)
theorem dX3_wakes_30 : decode cX3_wakes 30 = .ok (.putfield 232, 3) := dk_181 0 232 (dk_at dksX3_wakes_1 8 rfl rfl)
theorem dX3_wakes_33 : decode cX3_wakes 33 = .ok (.aload_n 0, 1) := dk_42 (dk_at dksX3_wakes_1 11 rfl rfl)
theorem dX3_wakes_34 : decode cX3_wakes 34 = .ok (.bipush 8, 2) := dk_16 8 (dk_at dksX3_wakes_1 12 rfl rfl)
theorem dX3_wakes_36 : decode cX3_wakes 36 = .ok (.putfield 254, 3) := dk_181 0 254 (dk_at dksX3_wakes_1 14 rfl rfl)
theorem dX3_wakes_39 : decode cX3_wakes 39 = .ok (.aload_n 0, 1) := dk_42 (dk_at dksX3_wakes_1 17 rfl rfl)
theorem dX3_wakes_40 : decode cX3_wakes 40 = .ok (.sipush 256, 3) := dk_17 1 0 (dk_at dksX3_wakes_1 18 rfl rfl)
theorem dX3_wakes_43 : decode cX3_wakes 43 = .ok (.putfield 241, 3) := dk_181 0 241 (dk_at dksX3_wakes_1 21 rfl rfl)
theorem dX3_wakes_46 : decode cX3_wakes 46 = .ok (.return_, 1) := dk_177 (dk_at dksX3_wakes_2 0 rfl rfl)
abbrev cX3_sleeps : ByteArray := prog_28_method_41_code
def yX3_sleeps : MethodName := ⟨RX3, "sleeps", "()V"⟩
def dkwX3_sleeps_5 : List UInt8 := [177]
abbrev dktX3_sleeps_5 : List UInt8 := dkwX3_sleeps_5 ++ []
def dkwX3_sleeps_4 : List UInt8 := [3, 181, 1, 19, 42, 3, 181, 1, 22, 42, 3, 181, 0, 235, 42, 3, 181, 1, 25, 42, 3, 181, 1, 28]
abbrev dktX3_sleeps_4 : List UInt8 := dkwX3_sleeps_4 ++ dktX3_sleeps_5
def dkwX3_sleeps_3 : List UInt8 := [181, 1, 4, 42, 3, 181, 1, 7, 42, 3, 181, 1, 10, 42, 3, 181, 1, 13, 42, 3, 181, 1, 16, 42]
abbrev dktX3_sleeps_3 : List UInt8 := dkwX3_sleeps_3 ++ dktX3_sleeps_4
def dkwX3_sleeps_2 : List UInt8 := [132, 1, 1, 167, 255, 241, 42, 3, 181, 0, 254, 42, 3, 181, 0, 241, 42, 3, 181, 1, 1, 42, 3]
abbrev dktX3_sleeps_2 : List UInt8 := dkwX3_sleeps_2 ++ dktX3_sleeps_3
def dkwX3_sleeps_1 : List UInt8 := [3, 79, 132, 1, 1, 167, 255, 239, 3, 60, 27, 7, 162, 0, 16, 42, 180, 0, 55, 27, 3, 79]
abbrev dktX3_sleeps_1 : List UInt8 := dkwX3_sleeps_1 ++ dktX3_sleeps_2
def dkwX3_sleeps_0 : List UInt8 := [42, 3, 181, 0, 232, 42, 3, 181, 0, 248, 3, 60, 27, 17, 1, 0, 162, 0, 16, 42, 180, 0, 52, 27]
abbrev dktX3_sleeps_0 : List UInt8 := dkwX3_sleeps_0 ++ dktX3_sleeps_1
theorem dksX3_sleeps_0 : cX3_sleeps.data.toList.drop 0 = dktX3_sleeps_0 := by decide +kernel
theorem dksX3_sleeps_1 : cX3_sleeps.data.toList.drop 24 = dktX3_sleeps_1 := dk_seg dksX3_sleeps_0 24 rfl rfl
theorem dksX3_sleeps_2 : cX3_sleeps.data.toList.drop 46 = dktX3_sleeps_2 := dk_seg dksX3_sleeps_1 22 rfl rfl
theorem dksX3_sleeps_3 : cX3_sleeps.data.toList.drop 69 = dktX3_sleeps_3 := dk_seg dksX3_sleeps_2 23 rfl rfl
theorem dksX3_sleeps_4 : cX3_sleeps.data.toList.drop 93 = dktX3_sleeps_4 := dk_seg dksX3_sleeps_3 24 rfl rfl
theorem dksX3_sleeps_5 : cX3_sleeps.data.toList.drop 117 = dktX3_sleeps_5 := dk_seg dksX3_sleeps_4 24 rfl rfl
theorem dX3_sleeps_0 : decode cX3_sleeps 0 = .ok (.aload_n 0, 1) := dk_42 (dk_at dksX3_sleeps_0 0 rfl rfl)
theorem dX3_sleeps_1 : decode cX3_sleeps 1 = .ok (.iconst 0, 1) := dk_3 (dk_at dksX3_sleeps_0 1 rfl rfl)
theorem dX3_sleeps_2 : decode cX3_sleeps 2 = .ok (.putfield 232, 3) := dk_181 0 232 (dk_at dksX3_sleeps_0 2 rfl rfl)
theorem dX3_sleeps_5 : decode cX3_sleeps 5 = .ok (.aload_n 0, 1) := dk_42 (dk_at dksX3_sleeps_0 5 rfl rfl)
theorem dX3_sleeps_6 : decode cX3_sleeps 6 = .ok (.iconst 0, 1) := dk_3 (dk_at dksX3_sleeps_0 6 rfl rfl)
theorem dX3_sleeps_7 : decode cX3_sleeps 7 = .ok (.putfield 248, 3) := dk_181 0 248 (dk_at dksX3_sleeps_0 7 rfl rfl)
theorem dX3_sleeps_10 : decode cX3_sleeps 10 = .ok (.iconst 0, 1) := dk_3 (dk_at dksX3_sleeps_0 10 rfl rfl)
theorem dX3_sleeps_11 : decode cX3_sleeps 11 = .ok (.istore_n 1, 1) := dk_60 (dk_at dksX3_sleeps_0 11 rfl rfl)
theorem dX3_sleeps_12 : decode cX3_sleeps 12 = .ok (.iload_n 1, 1) := dk_27 (dk_at dksX3_sleeps_0 12 rfl rfl)
theorem dX3_sleeps_13 : decode cX3_sleeps 13 = .ok (.sipush 256, 3) := dk_17 1 0 (dk_at dksX3_sleeps_0 13 rfl rfl)
theorem dX3_sleeps_16 : decode cX3_sleeps 16 = .ok (.if_icmp .ge 16, 3) := dk_162 0 16 (dk_at dksX3_sleeps_0 16 rfl rfl)
theorem dX3_sleeps_19 : decode cX3_sleeps 19 = .ok (.aload_n 0, 1) := dk_42 (dk_at dksX3_sleeps_0 19 rfl rfl)
theorem dX3_sleeps_20 : decode cX3_sleeps 20 = .ok (.getfield 52, 3) := dk_180 0 52 (dk_at dksX3_sleeps_0 20 rfl rfl)
theorem dX3_sleeps_23 : decode cX3_sleeps 23 = .ok (.iload_n 1, 1) := dk_27 (dk_at dksX3_sleeps_0 23 rfl rfl)
theorem dX3_sleeps_24 : decode cX3_sleeps 24 = .ok (.iconst 0, 1) := dk_3 (dk_at dksX3_sleeps_1 0 rfl rfl)
theorem dX3_sleeps_25 : decode cX3_sleeps 25 = .ok (.iastore, 1) := dk_79 (dk_at dksX3_sleeps_1 1 rfl rfl)
theorem dX3_sleeps_26 : decode cX3_sleeps 26 = .ok (.iinc 1 1, 3) := dk_132 1 1 (dk_at dksX3_sleeps_1 2 rfl rfl)
theorem dX3_sleeps_29 : decode cX3_sleeps 29 = .ok (.goto (-17), 3) := dk_167 255 239 (dk_at dksX3_sleeps_1 5 rfl rfl)
theorem dX3_sleeps_32 : decode cX3_sleeps 32 = .ok (.iconst 0, 1) := dk_3 (dk_at dksX3_sleeps_1 8 rfl rfl)
theorem dX3_sleeps_33 : decode cX3_sleeps 33 = .ok (.istore_n 1, 1) := dk_60 (dk_at dksX3_sleeps_1 9 rfl rfl)
theorem dX3_sleeps_34 : decode cX3_sleeps 34 = .ok (.iload_n 1, 1) := dk_27 (dk_at dksX3_sleeps_1 10 rfl rfl)
theorem dX3_sleeps_35 : decode cX3_sleeps 35 = .ok (.iconst 4, 1) := dk_7 (dk_at dksX3_sleeps_1 11 rfl rfl)
theorem dX3_sleeps_36 : decode cX3_sleeps 36 = .ok (.if_icmp .ge 16, 3) := dk_162 0 16 (dk_at dksX3_sleeps_1 12 rfl rfl)
theorem dX3_sleeps_39 : decode cX3_sleeps 39 = .ok (.aload_n 0, 1) := dk_42 (dk_at dksX3_sleeps_1 15 rfl rfl)
theorem dX3_sleeps_40 : decode cX3_sleeps 40 = .ok (.getfield 55, 3) := dk_180 0 55 (dk_at dksX3_sleeps_1 16 rfl rfl)
theorem dX3_sleeps_43 : decode cX3_sleeps 43 = .ok (.iload_n 1, 1) := dk_27 (dk_at dksX3_sleeps_1 19 rfl rfl)
theorem dX3_sleeps_44 : decode cX3_sleeps 44 = .ok (.iconst 0, 1) := dk_3 (dk_at dksX3_sleeps_1 20 rfl rfl)
theorem dX3_sleeps_45 : decode cX3_sleeps 45 = .ok (.iastore, 1) := dk_79 (dk_at dksX3_sleeps_1 21 rfl rfl)
theorem dX3_sleeps_46 : decode cX3_sleeps 46 = .ok (.iinc 1 1, 3) := dk_132 1 1 (dk_at dksX3_sleeps_2 0 rfl rfl)
theorem dX3_sleeps_49 : decode cX3_sleeps 49 = .ok (.goto (-15), 3) := dk_167 255 241 (dk_at dksX3_sleeps_2 3 rfl rfl)
theorem dX3_sleeps_52 : decode cX3_sleeps 52 = .ok (.aload_n 0, 1) := dk_42 (dk_at dksX3_sleeps_2 6 rfl rfl)
theorem dX3_sleeps_53 : decode cX3_sleeps 53 = .ok (.iconst 0, 1) := dk_3 (dk_at dksX3_sleeps_2 7 rfl rfl)
theorem dX3_sleeps_54 : decode cX3_sleeps 54 = .ok (.putfield 254, 3) := dk_181 0 254 (dk_at dksX3_sleeps_2 8 rfl rfl)
theorem dX3_sleeps_57 : decode cX3_sleeps 57 = .ok (.aload_n 0, 1) := dk_42 (dk_at dksX3_sleeps_2 11 rfl rfl)
theorem dX3_sleeps_58 : decode cX3_sleeps 58 = .ok (.iconst 0, 1) := dk_3 (dk_at dksX3_sleeps_2 12 rfl rfl)
theorem dX3_sleeps_59 : decode cX3_sleeps 59 = .ok (.putfield 241, 3) := dk_181 0 241 (dk_at dksX3_sleeps_2 13 rfl rfl)
theorem dX3_sleeps_62 : decode cX3_sleeps 62 = .ok (.aload_n 0, 1) := dk_42 (dk_at dksX3_sleeps_2 16 rfl rfl)
theorem dX3_sleeps_63 : decode cX3_sleeps 63 = .ok (.iconst 0, 1) := dk_3 (dk_at dksX3_sleeps_2 17 rfl rfl)
theorem dX3_sleeps_64 : decode cX3_sleeps 64 = .ok (.putfield 257, 3) := dk_181 1 1 (dk_at dksX3_sleeps_2 18 rfl rfl)
theorem dX3_sleeps_67 : decode cX3_sleeps 67 = .ok (.aload_n 0, 1) := dk_42 (dk_at dksX3_sleeps_2 21 rfl rfl)
theorem dX3_sleeps_68 : decode cX3_sleeps 68 = .ok (.iconst 0, 1) := dk_3 (dk_at dksX3_sleeps_2 22 rfl rfl)
theorem dX3_sleeps_69 : decode cX3_sleeps 69 = .ok (.putfield 260, 3) := dk_181 1 4 (dk_at dksX3_sleeps_3 0 rfl rfl)
theorem dX3_sleeps_72 : decode cX3_sleeps 72 = .ok (.aload_n 0, 1) := dk_42 (dk_at dksX3_sleeps_3 3 rfl rfl)
theorem dX3_sleeps_73 : decode cX3_sleeps 73 = .ok (.iconst 0, 1) := dk_3 (dk_at dksX3_sleeps_3 4 rfl rfl)
theorem dX3_sleeps_74 : decode cX3_sleeps 74 = .ok (.putfield 263, 3) := dk_181 1 7 (dk_at dksX3_sleeps_3 5 rfl rfl)
theorem dX3_sleeps_77 : decode cX3_sleeps 77 = .ok (.aload_n 0, 1) := dk_42 (dk_at dksX3_sleeps_3 8 rfl rfl)
theorem dX3_sleeps_78 : decode cX3_sleeps 78 = .ok (.iconst 0, 1) := dk_3 (dk_at dksX3_sleeps_3 9 rfl rfl)
theorem dX3_sleeps_79 : decode cX3_sleeps 79 = .ok (.putfield 266, 3) := dk_181 1 10 (dk_at dksX3_sleeps_3 10 rfl rfl)
theorem dX3_sleeps_82 : decode cX3_sleeps 82 = .ok (.aload_n 0, 1) := dk_42 (dk_at dksX3_sleeps_3 13 rfl rfl)
theorem dX3_sleeps_83 : decode cX3_sleeps 83 = .ok (.iconst 0, 1) := dk_3 (dk_at dksX3_sleeps_3 14 rfl rfl)
theorem dX3_sleeps_84 : decode cX3_sleeps 84 = .ok (.putfield 269, 3) := dk_181 1 13 (dk_at dksX3_sleeps_3 15 rfl rfl)
theorem dX3_sleeps_87 : decode cX3_sleeps 87 = .ok (.aload_n 0, 1) := dk_42 (dk_at dksX3_sleeps_3 18 rfl rfl)
theorem dX3_sleeps_88 : decode cX3_sleeps 88 = .ok (.iconst 0, 1) := dk_3 (dk_at dksX3_sleeps_3 19 rfl rfl)
theorem dX3_sleeps_89 : decode cX3_sleeps 89 = .ok (.putfield 272, 3) := dk_181 1 16 (dk_at dksX3_sleeps_3 20 rfl rfl)
theorem dX3_sleeps_92 : decode cX3_sleeps 92 = .ok (.aload_n 0, 1) := dk_42 (dk_at dksX3_sleeps_3 23 rfl rfl)
theorem dX3_sleeps_93 : decode cX3_sleeps 93 = .ok (.iconst 0, 1) := dk_3 (dk_at dksX3_sleeps_4 0 rfl rfl)
theorem dX3_sleeps_94 : decode cX3_sleeps 94 = .ok (.putfield 275, 3) := dk_181 1 19 (dk_at dksX3_sleeps_4 1 rfl rfl)
theorem dX3_sleeps_97 : decode cX3_sleeps 97 = .ok (.aload_n 0, 1) := dk_42 (dk_at dksX3_sleeps_4 4 rfl rfl)
theorem dX3_sleeps_98 : decode cX3_sleeps 98 = .ok (.iconst 0, 1) := dk_3 (dk_at dksX3_sleeps_4 5 rfl rfl)
theorem dX3_sleeps_99 : decode cX3_sleeps 99 = .ok (.putfield 278, 3) := dk_181 1 22 (dk_at dksX3_sleeps_4 6 rfl rfl)
theorem dX3_sleeps_102 : decode cX3_sleeps 102 = .ok (.aload_n 0, 1) := dk_42 (dk_at dksX3_sleeps_4 9 rfl rfl)
theorem dX3_sleeps_103 : decode cX3_sleeps 103 = .ok (.iconst 0, 1) := dk_3 (dk_at dksX3_sleeps_4 10 rfl rfl)
theorem dX3_sleeps_104 : decode cX3_sleeps 104 = .ok (.putfield 235, 3) := dk_181 0 235 (dk_at dksX3_sleeps_4 11 rfl rfl)
theorem dX3_sleeps_107 : decode cX3_sleeps 107 = .ok (.aload_n 0, 1) := dk_42 (dk_at dksX3_sleeps_4 14 rfl rfl)
theorem dX3_sleeps_108 : decode cX3_sleeps 108 = .ok (.iconst 0, 1) := dk_3 (dk_at dksX3_sleeps_4 15 rfl rfl)
theorem dX3_sleeps_109 : decode cX3_sleeps 109 = .ok (.putfield 281, 3) := dk_181 1 25 (dk_at dksX3_sleeps_4 16 rfl rfl)
theorem dX3_sleeps_112 : decode cX3_sleeps 112 = .ok (.aload_n 0, 1) := dk_42 (dk_at dksX3_sleeps_4 19 rfl rfl)
theorem dX3_sleeps_113 : decode cX3_sleeps 113 = .ok (.iconst 0, 1) := dk_3 (dk_at dksX3_sleeps_4 20 rfl rfl)
theorem dX3_sleeps_114 : decode cX3_sleeps 114 = .ok (.putfield 284, 3) := dk_181 1 28 (dk_at dksX3_sleeps_4 21 rfl rfl)
theorem dX3_sleeps_117 : decode cX3_sleeps 117 = .ok (.return_, 1) := dk_177 (dk_at dksX3_sleeps_5 0 rfl rfl)
abbrev cX3_crash : ByteArray := prog_28_method_76_code
def yX3_crash : MethodName := ⟨RX3, "crash", "()I"⟩
def dkwX3_crash_1 : List UInt8 := [180, 0, 235, 60, 42, 3, 181, 1, 164, 42, 182, 0, 251, 27, 172]
abbrev dktX3_crash_1 : List UInt8 := dkwX3_crash_1 ++ []
def dkwX3_crash_0 : List UInt8 := [42, 42, 182, 1, 157, 153, 0, 7, 3, 167, 0, 4, 4, 182, 0, 152, 154, 0, 5, 3, 172, 42]
abbrev dktX3_crash_0 : List UInt8 := dkwX3_crash_0 ++ dktX3_crash_1
theorem dksX3_crash_0 : cX3_crash.data.toList.drop 0 = dktX3_crash_0 := by decide +kernel
theorem dksX3_crash_1 : cX3_crash.data.toList.drop 22 = dktX3_crash_1 := dk_seg dksX3_crash_0 22 rfl rfl
theorem dX3_crash_0 : decode cX3_crash 0 = .ok (.aload_n 0, 1) := dk_42 (dk_at dksX3_crash_0 0 rfl rfl)
theorem dX3_crash_1 : decode cX3_crash 1 = .ok (.aload_n 0, 1) := dk_42 (dk_at dksX3_crash_0 1 rfl rfl)
theorem dX3_crash_2 : decode cX3_crash 2 = .ok (.invokevirtual 413, 3) := dk_182 1 157 (dk_at dksX3_crash_0 2 rfl rfl)
theorem dX3_crash_5 : decode cX3_crash 5 = .ok (.ifCond .eq 7, 3) := dk_153 0 7 (dk_at dksX3_crash_0 5 rfl rfl)
theorem dX3_crash_8 : decode cX3_crash 8 = .ok (.iconst 0, 1) := dk_3 (dk_at dksX3_crash_0 8 rfl rfl)
theorem dX3_crash_9 : decode cX3_crash 9 = .ok (.goto 4, 3) := dk_167 0 4 (dk_at dksX3_crash_0 9 rfl rfl)
theorem dX3_crash_12 : decode cX3_crash 12 = .ok (.iconst 1, 1) := dk_4 (dk_at dksX3_crash_0 12 rfl rfl)
theorem dX3_crash_13 : decode cX3_crash 13 = .ok (.invokevirtual 152, 3) := dk_182 0 152 (dk_at dksX3_crash_0 13 rfl rfl)
theorem dX3_crash_16 : decode cX3_crash 16 = .ok (.ifCond .ne 5, 3) := dk_154 0 5 (dk_at dksX3_crash_0 16 rfl rfl)
theorem dX3_crash_19 : decode cX3_crash 19 = .ok (.iconst 0, 1) := dk_3 (dk_at dksX3_crash_0 19 rfl rfl)
theorem dX3_crash_20 : decode cX3_crash 20 = .ok (.ireturn, 1) := dk_172 (dk_at dksX3_crash_0 20 rfl rfl)
theorem dX3_crash_21 : decode cX3_crash 21 = .ok (.aload_n 0, 1) := dk_42 (dk_at dksX3_crash_0 21 rfl rfl)
theorem dX3_crash_22 : decode cX3_crash 22 = .ok (.getfield 235, 3) := dk_180 0 235 (dk_at dksX3_crash_1 0 rfl rfl)
theorem dX3_crash_25 : decode cX3_crash 25 = .ok (.istore_n 1, 1) := dk_60 (dk_at dksX3_crash_1 3 rfl rfl)
theorem dX3_crash_26 : decode cX3_crash 26 = .ok (.aload_n 0, 1) := dk_42 (dk_at dksX3_crash_1 4 rfl rfl)
theorem dX3_crash_27 : decode cX3_crash 27 = .ok (.iconst 0, 1) := dk_3 (dk_at dksX3_crash_1 5 rfl rfl)
theorem dX3_crash_28 : decode cX3_crash 28 = .ok (.putfield 420, 3) := dk_181 1 164 (dk_at dksX3_crash_1 6 rfl rfl)
theorem dX3_crash_31 : decode cX3_crash 31 = .ok (.aload_n 0, 1) := dk_42 (dk_at dksX3_crash_1 9 rfl rfl)
theorem dX3_crash_32 : decode cX3_crash 32 = .ok (.invokevirtual 251, 3) := dk_182 0 251 (dk_at dksX3_crash_1 10 rfl rfl)
theorem dX3_crash_35 : decode cX3_crash 35 = .ok (.iload_n 1, 1) := dk_27 (dk_at dksX3_crash_1 13 rfl rfl)
theorem dX3_crash_36 : decode cX3_crash 36 = .ok (.ireturn, 1) := dk_172 (dk_at dksX3_crash_1 14 rfl rfl)
abbrev cX3_format : ByteArray := prog_28_method_77_code
def yX3_format : MethodName := ⟨RX3, "format", "()I"⟩
def dkwX3_format_1 : List UInt8 := [182, 1, 167, 60, 42, 182, 0, 137, 27, 172]
abbrev dktX3_format_1 : List UInt8 := dkwX3_format_1 ++ []
def dkwX3_format_0 : List UInt8 := [42, 42, 182, 1, 157, 153, 0, 7, 4, 167, 0, 4, 3, 182, 0, 152, 154, 0, 5, 3, 172, 42]
abbrev dktX3_format_0 : List UInt8 := dkwX3_format_0 ++ dktX3_format_1
theorem dksX3_format_0 : cX3_format.data.toList.drop 0 = dktX3_format_0 := by decide +kernel
theorem dksX3_format_1 : cX3_format.data.toList.drop 22 = dktX3_format_1 := dk_seg dksX3_format_0 22 rfl rfl
theorem dX3_format_0 : decode cX3_format 0 = .ok (.aload_n 0, 1) := dk_42 (dk_at dksX3_format_0 0 rfl rfl)
theorem dX3_format_1 : decode cX3_format 1 = .ok (.aload_n 0, 1) := dk_42 (dk_at dksX3_format_0 1 rfl rfl)
theorem dX3_format_2 : decode cX3_format 2 = .ok (.invokevirtual 413, 3) := dk_182 1 157 (dk_at dksX3_format_0 2 rfl rfl)
theorem dX3_format_5 : decode cX3_format 5 = .ok (.ifCond .eq 7, 3) := dk_153 0 7 (dk_at dksX3_format_0 5 rfl rfl)
theorem dX3_format_8 : decode cX3_format 8 = .ok (.iconst 1, 1) := dk_4 (dk_at dksX3_format_0 8 rfl rfl)
theorem dX3_format_9 : decode cX3_format 9 = .ok (.goto 4, 3) := dk_167 0 4 (dk_at dksX3_format_0 9 rfl rfl)
theorem dX3_format_12 : decode cX3_format 12 = .ok (.iconst 0, 1) := dk_3 (dk_at dksX3_format_0 12 rfl rfl)
theorem dX3_format_13 : decode cX3_format 13 = .ok (.invokevirtual 152, 3) := dk_182 0 152 (dk_at dksX3_format_0 13 rfl rfl)
theorem dX3_format_16 : decode cX3_format 16 = .ok (.ifCond .ne 5, 3) := dk_154 0 5 (dk_at dksX3_format_0 16 rfl rfl)
theorem dX3_format_19 : decode cX3_format 19 = .ok (.iconst 0, 1) := dk_3 (dk_at dksX3_format_0 19 rfl rfl)
theorem dX3_format_20 : decode cX3_format 20 = .ok (.ireturn, 1) := dk_172 (dk_at dksX3_format_0 20 rfl rfl)
theorem dX3_format_21 : decode cX3_format 21 = .ok (.aload_n 0, 1) := dk_42 (dk_at dksX3_format_0 21 rfl rfl)
theorem dX3_format_22 : decode cX3_format 22 = .ok (.invokevirtual 423, 3) := dk_182 1 167 (dk_at dksX3_format_1 0 rfl rfl)
theorem dX3_format_25 : decode cX3_format 25 = .ok (.istore_n 1, 1) := dk_60 (dk_at dksX3_format_1 3 rfl rfl)
theorem dX3_format_26 : decode cX3_format 26 = .ok (.aload_n 0, 1) := dk_42 (dk_at dksX3_format_1 4 rfl rfl)
theorem dX3_format_27 : decode cX3_format 27 = .ok (.invokevirtual 137, 3) := dk_182 0 137 (dk_at dksX3_format_1 5 rfl rfl)
theorem dX3_format_30 : decode cX3_format 30 = .ok (.iload_n 1, 1) := dk_27 (dk_at dksX3_format_1 8 rfl rfl)
theorem dX3_format_31 : decode cX3_format 31 = .ok (.ireturn, 1) := dk_172 (dk_at dksX3_format_1 9 rfl rfl)
abbrev cX3_filesOf : ByteArray := prog_28_method_103_code
def yX3_filesOf : MethodName := ⟨RX3, "filesOf", "()I"⟩
def dkwX3_filesOf_1 : List UInt8 := [167, 0, 4, 4, 96, 60, 132, 2, 1, 167, 255, 227, 27, 172]
abbrev dktX3_filesOf_1 : List UInt8 := dkwX3_filesOf_1 ++ []
def dkwX3_filesOf_0 : List UInt8 := [3, 60, 3, 61, 28, 16, 6, 162, 0, 29, 27, 42, 180, 0, 79, 28, 184, 1, 84, 46, 154, 0, 7, 3]
abbrev dktX3_filesOf_0 : List UInt8 := dkwX3_filesOf_0 ++ dktX3_filesOf_1
theorem dksX3_filesOf_0 : cX3_filesOf.data.toList.drop 0 = dktX3_filesOf_0 := by decide +kernel
theorem dksX3_filesOf_1 : cX3_filesOf.data.toList.drop 24 = dktX3_filesOf_1 := dk_seg dksX3_filesOf_0 24 rfl rfl
theorem dX3_filesOf_0 : decode cX3_filesOf 0 = .ok (.iconst 0, 1) := dk_3 (dk_at dksX3_filesOf_0 0 rfl rfl)
theorem dX3_filesOf_1 : decode cX3_filesOf 1 = .ok (.istore_n 1, 1) := dk_60 (dk_at dksX3_filesOf_0 1 rfl rfl)
theorem dX3_filesOf_2 : decode cX3_filesOf 2 = .ok (.iconst 0, 1) := dk_3 (dk_at dksX3_filesOf_0 2 rfl rfl)
theorem dX3_filesOf_3 : decode cX3_filesOf 3 = .ok (.istore_n 2, 1) := dk_61 (dk_at dksX3_filesOf_0 3 rfl rfl)
theorem dX3_filesOf_4 : decode cX3_filesOf 4 = .ok (.iload_n 2, 1) := dk_28 (dk_at dksX3_filesOf_0 4 rfl rfl)
theorem dX3_filesOf_5 : decode cX3_filesOf 5 = .ok (.bipush 6, 2) := dk_16 6 (dk_at dksX3_filesOf_0 5 rfl rfl)
theorem dX3_filesOf_7 : decode cX3_filesOf 7 = .ok (.if_icmp .ge 29, 3) := dk_162 0 29 (dk_at dksX3_filesOf_0 7 rfl rfl)
theorem dX3_filesOf_10 : decode cX3_filesOf 10 = .ok (.iload_n 1, 1) := dk_27 (dk_at dksX3_filesOf_0 10 rfl rfl)
theorem dX3_filesOf_11 : decode cX3_filesOf 11 = .ok (.aload_n 0, 1) := dk_42 (dk_at dksX3_filesOf_0 11 rfl rfl)
theorem dX3_filesOf_12 : decode cX3_filesOf 12 = .ok (.getfield 79, 3) := dk_180 0 79 (dk_at dksX3_filesOf_0 12 rfl rfl)
theorem dX3_filesOf_15 : decode cX3_filesOf 15 = .ok (.iload_n 2, 1) := dk_28 (dk_at dksX3_filesOf_0 15 rfl rfl)
theorem dX3_filesOf_16 : decode cX3_filesOf 16 = .ok (.invokestatic 340, 3) := dk_184 1 84 (dk_at dksX3_filesOf_0 16 rfl rfl)
theorem dX3_filesOf_19 : decode cX3_filesOf 19 = .ok (.iaload, 1) := dk_46 (dk_at dksX3_filesOf_0 19 rfl rfl)
theorem dX3_filesOf_20 : decode cX3_filesOf 20 = .ok (.ifCond .ne 7, 3) := dk_154 0 7 (dk_at dksX3_filesOf_0 20 rfl rfl)
theorem dX3_filesOf_23 : decode cX3_filesOf 23 = .ok (.iconst 0, 1) := dk_3 (dk_at dksX3_filesOf_0 23 rfl rfl)
theorem dX3_filesOf_24 : decode cX3_filesOf 24 = .ok (.goto 4, 3) := dk_167 0 4 (dk_at dksX3_filesOf_1 0 rfl rfl)
theorem dX3_filesOf_27 : decode cX3_filesOf 27 = .ok (.iconst 1, 1) := dk_4 (dk_at dksX3_filesOf_1 3 rfl rfl)
theorem dX3_filesOf_28 : decode cX3_filesOf 28 = .ok (.iadd, 1) := dk_96 (dk_at dksX3_filesOf_1 4 rfl rfl)
theorem dX3_filesOf_29 : decode cX3_filesOf 29 = .ok (.istore_n 1, 1) := dk_60 (dk_at dksX3_filesOf_1 5 rfl rfl)
theorem dX3_filesOf_30 : decode cX3_filesOf 30 = .ok (.iinc 2 1, 3) := dk_132 2 1 (dk_at dksX3_filesOf_1 6 rfl rfl)
theorem dX3_filesOf_33 : decode cX3_filesOf 33 = .ok (.goto (-29), 3) := dk_167 255 227 (dk_at dksX3_filesOf_1 9 rfl rfl)
theorem dX3_filesOf_36 : decode cX3_filesOf 36 = .ok (.iload_n 1, 1) := dk_27 (dk_at dksX3_filesOf_1 12 rfl rfl)
theorem dX3_filesOf_37 : decode cX3_filesOf 37 = .ok (.ireturn, 1) := dk_172 (dk_at dksX3_filesOf_1 13 rfl rfl)
abbrev cX3_entry : ByteArray := prog_28_method_53_code
def yX3_entry : MethodName := ⟨RX3, "entry", "(I)I"⟩
def dkwX3_entry_0 : List UInt8 := [16, 40, 7, 26, 104, 96, 172]
abbrev dktX3_entry_0 : List UInt8 := dkwX3_entry_0 ++ []
theorem dksX3_entry_0 : cX3_entry.data.toList.drop 0 = dktX3_entry_0 := by decide +kernel
theorem dX3_entry_0 : decode cX3_entry 0 = .ok (.bipush 40, 2) := dk_16 40 (dk_at dksX3_entry_0 0 rfl rfl)
theorem dX3_entry_2 : decode cX3_entry 2 = .ok (.iconst 4, 1) := dk_7 (dk_at dksX3_entry_0 2 rfl rfl)
theorem dX3_entry_3 : decode cX3_entry 3 = .ok (.iload_n 0, 1) := dk_26 (dk_at dksX3_entry_0 3 rfl rfl)
theorem dX3_entry_4 : decode cX3_entry 4 = .ok (.imul, 1) := dk_104 (dk_at dksX3_entry_0 4 rfl rfl)
theorem dX3_entry_5 : decode cX3_entry 5 = .ok (.iadd, 1) := dk_96 (dk_at dksX3_entry_0 5 rfl rfl)
theorem dX3_entry_6 : decode cX3_entry 6 = .ok (.ireturn, 1) := dk_172 (dk_at dksX3_entry_0 6 rfl rfl)
abbrev cX3_step : ByteArray := prog_28_method_80_code
def yX3_step : MethodName := ⟨RX3, "step", "(I)I"⟩
def dkwX3_step_2 : List UInt8 := [153, 0, 13, 42, 182, 1, 173, 132, 2, 1, 167, 255, 237, 28, 172]
abbrev dktX3_step_2 : List UInt8 := dkwX3_step_2 ++ []
def dkwX3_step_1 : List UInt8 := [167, 0, 4, 5, 182, 0, 152, 154, 0, 5, 3, 172, 3, 61, 28, 27, 162, 0, 20, 42, 182, 1, 170]
abbrev dktX3_step_1 : List UInt8 := dkwX3_step_1 ++ dktX3_step_2
def dkwX3_step_0 : List UInt8 := [42, 27, 4, 16, 100, 184, 0, 147, 154, 0, 7, 4, 167, 0, 15, 42, 182, 1, 157, 153, 0, 7, 3]
abbrev dktX3_step_0 : List UInt8 := dkwX3_step_0 ++ dktX3_step_1
theorem dksX3_step_0 : cX3_step.data.toList.drop 0 = dktX3_step_0 := by decide +kernel
theorem dksX3_step_1 : cX3_step.data.toList.drop 23 = dktX3_step_1 := dk_seg dksX3_step_0 23 rfl rfl
theorem dksX3_step_2 : cX3_step.data.toList.drop 46 = dktX3_step_2 := dk_seg dksX3_step_1 23 rfl rfl
theorem dX3_step_0 : decode cX3_step 0 = .ok (.aload_n 0, 1) := dk_42 (dk_at dksX3_step_0 0 rfl rfl)
theorem dX3_step_1 : decode cX3_step 1 = .ok (.iload_n 1, 1) := dk_27 (dk_at dksX3_step_0 1 rfl rfl)
theorem dX3_step_2 : decode cX3_step 2 = .ok (.iconst 1, 1) := dk_4 (dk_at dksX3_step_0 2 rfl rfl)
theorem dX3_step_3 : decode cX3_step 3 = .ok (.bipush 100, 2) := dk_16 100 (dk_at dksX3_step_0 3 rfl rfl)
theorem dX3_step_5 : decode cX3_step 5 = .ok (.invokestatic 147, 3) := dk_184 0 147 (dk_at dksX3_step_0 5 rfl rfl)
theorem dX3_step_8 : decode cX3_step 8 = .ok (.ifCond .ne 7, 3) := dk_154 0 7 (dk_at dksX3_step_0 8 rfl rfl)
theorem dX3_step_11 : decode cX3_step 11 = .ok (.iconst 1, 1) := dk_4 (dk_at dksX3_step_0 11 rfl rfl)
theorem dX3_step_12 : decode cX3_step 12 = .ok (.goto 15, 3) := dk_167 0 15 (dk_at dksX3_step_0 12 rfl rfl)
theorem dX3_step_15 : decode cX3_step 15 = .ok (.aload_n 0, 1) := dk_42 (dk_at dksX3_step_0 15 rfl rfl)
theorem dX3_step_16 : decode cX3_step 16 = .ok (.invokevirtual 413, 3) := dk_182 1 157 (dk_at dksX3_step_0 16 rfl rfl)
theorem dX3_step_19 : decode cX3_step 19 = .ok (.ifCond .eq 7, 3) := dk_153 0 7 (dk_at dksX3_step_0 19 rfl rfl)
theorem dX3_step_22 : decode cX3_step 22 = .ok (.iconst 0, 1) := dk_3 (dk_at dksX3_step_0 22 rfl rfl)
theorem dX3_step_23 : decode cX3_step 23 = .ok (.goto 4, 3) := dk_167 0 4 (dk_at dksX3_step_1 0 rfl rfl)
theorem dX3_step_26 : decode cX3_step 26 = .ok (.iconst 2, 1) := dk_5 (dk_at dksX3_step_1 3 rfl rfl)
theorem dX3_step_27 : decode cX3_step 27 = .ok (.invokevirtual 152, 3) := dk_182 0 152 (dk_at dksX3_step_1 4 rfl rfl)
theorem dX3_step_30 : decode cX3_step 30 = .ok (.ifCond .ne 5, 3) := dk_154 0 5 (dk_at dksX3_step_1 7 rfl rfl)
theorem dX3_step_33 : decode cX3_step 33 = .ok (.iconst 0, 1) := dk_3 (dk_at dksX3_step_1 10 rfl rfl)
theorem dX3_step_34 : decode cX3_step 34 = .ok (.ireturn, 1) := dk_172 (dk_at dksX3_step_1 11 rfl rfl)
theorem dX3_step_35 : decode cX3_step 35 = .ok (.iconst 0, 1) := dk_3 (dk_at dksX3_step_1 12 rfl rfl)
theorem dX3_step_36 : decode cX3_step 36 = .ok (.istore_n 2, 1) := dk_61 (dk_at dksX3_step_1 13 rfl rfl)
theorem dX3_step_37 : decode cX3_step 37 = .ok (.iload_n 2, 1) := dk_28 (dk_at dksX3_step_1 14 rfl rfl)
theorem dX3_step_38 : decode cX3_step 38 = .ok (.iload_n 1, 1) := dk_27 (dk_at dksX3_step_1 15 rfl rfl)
theorem dX3_step_39 : decode cX3_step 39 = .ok (.if_icmp .ge 20, 3) := dk_162 0 20 (dk_at dksX3_step_1 16 rfl rfl)
theorem dX3_step_42 : decode cX3_step 42 = .ok (.aload_n 0, 1) := dk_42 (dk_at dksX3_step_1 19 rfl rfl)
theorem dX3_step_43 : decode cX3_step 43 = .ok (.invokevirtual 426, 3) := dk_182 1 170 (dk_at dksX3_step_1 20 rfl rfl)
theorem dX3_step_46 : decode cX3_step 46 = .ok (.ifCond .eq 13, 3) := dk_153 0 13 (dk_at dksX3_step_2 0 rfl rfl)
theorem dX3_step_49 : decode cX3_step 49 = .ok (.aload_n 0, 1) := dk_42 (dk_at dksX3_step_2 3 rfl rfl)
theorem dX3_step_50 : decode cX3_step 50 = .ok (.invokevirtual 429, 3) := dk_182 1 173 (dk_at dksX3_step_2 4 rfl rfl)
theorem dX3_step_53 : decode cX3_step 53 = .ok (.iinc 2 1, 3) := dk_132 2 1 (dk_at dksX3_step_2 7 rfl rfl)
theorem dX3_step_56 : decode cX3_step 56 = .ok (.goto (-19), 3) := dk_167 255 237 (dk_at dksX3_step_2 10 rfl rfl)
theorem dX3_step_59 : decode cX3_step 59 = .ok (.iload_n 2, 1) := dk_28 (dk_at dksX3_step_2 13 rfl rfl)
theorem dX3_step_60 : decode cX3_step 60 = .ok (.ireturn, 1) := dk_172 (dk_at dksX3_step_2 14 rfl rfl)
abbrev cX3_canStep : ByteArray := prog_28_method_78_code
def yX3_canStep : MethodName := ⟨RX3, "canStep", "()Z"⟩
def dkwX3_canStep_0 : List UInt8 := [42, 180, 0, 232, 4, 160, 0, 17, 42, 180, 0, 235, 17, 3, 232, 162, 0, 7, 4, 167, 0, 4, 3, 172]
abbrev dktX3_canStep_0 : List UInt8 := dkwX3_canStep_0 ++ []
theorem dksX3_canStep_0 : cX3_canStep.data.toList.drop 0 = dktX3_canStep_0 := by decide +kernel
theorem dX3_canStep_0 : decode cX3_canStep 0 = .ok (.aload_n 0, 1) := dk_42 (dk_at dksX3_canStep_0 0 rfl rfl)
theorem dX3_canStep_1 : decode cX3_canStep 1 = .ok (.getfield 232, 3) := dk_180 0 232 (dk_at dksX3_canStep_0 1 rfl rfl)
theorem dX3_canStep_4 : decode cX3_canStep 4 = .ok (.iconst 1, 1) := dk_4 (dk_at dksX3_canStep_0 4 rfl rfl)
theorem dX3_canStep_5 : decode cX3_canStep 5 = .ok (.if_icmp .ne 17, 3) := dk_160 0 17 (dk_at dksX3_canStep_0 5 rfl rfl)
theorem dX3_canStep_8 : decode cX3_canStep 8 = .ok (.aload_n 0, 1) := dk_42 (dk_at dksX3_canStep_0 8 rfl rfl)
theorem dX3_canStep_9 : decode cX3_canStep 9 = .ok (.getfield 235, 3) := dk_180 0 235 (dk_at dksX3_canStep_0 9 rfl rfl)
theorem dX3_canStep_12 : decode cX3_canStep 12 = .ok (.sipush 1000, 3) := dk_17 3 232 (dk_at dksX3_canStep_0 12 rfl rfl)
theorem dX3_canStep_15 : decode cX3_canStep 15 = .ok (.if_icmp .ge 7, 3) := dk_162 0 7 (dk_at dksX3_canStep_0 15 rfl rfl)
theorem dX3_canStep_18 : decode cX3_canStep 18 = .ok (.iconst 1, 1) := dk_4 (dk_at dksX3_canStep_0 18 rfl rfl)
theorem dX3_canStep_19 : decode cX3_canStep 19 = .ok (.goto 4, 3) := dk_167 0 4 (dk_at dksX3_canStep_0 19 rfl rfl)
theorem dX3_canStep_22 : decode cX3_canStep 22 = .ok (.iconst 0, 1) := dk_3 (dk_at dksX3_canStep_0 22 rfl rfl)
theorem dX3_canStep_23 : decode cX3_canStep 23 = .ok (.ireturn, 1) := dk_172 (dk_at dksX3_canStep_0 23 rfl rfl)
abbrev cX3_stepsAndKeeps : ByteArray := prog_28_method_79_code
def yX3_stepsAndKeeps : MethodName := ⟨RX3, "stepsAndKeeps", "()V"⟩
def dkwX3_stepsAndKeeps_1 : List UInt8 := [96, 181, 1, 164, 177]
abbrev dktX3_stepsAndKeeps_1 : List UInt8 := dkwX3_stepsAndKeeps_1 ++ []
def dkwX3_stepsAndKeeps_0 : List UInt8 := [42, 182, 1, 154, 42, 89, 180, 1, 164, 42, 180, 1, 164, 17, 0, 200, 162, 0, 7, 4, 167, 0, 4, 3]
abbrev dktX3_stepsAndKeeps_0 : List UInt8 := dkwX3_stepsAndKeeps_0 ++ dktX3_stepsAndKeeps_1
theorem dksX3_stepsAndKeeps_0 : cX3_stepsAndKeeps.data.toList.drop 0 = dktX3_stepsAndKeeps_0 := by decide +kernel
theorem dksX3_stepsAndKeeps_1 : cX3_stepsAndKeeps.data.toList.drop 24 = dktX3_stepsAndKeeps_1 := dk_seg dksX3_stepsAndKeeps_0 24 rfl rfl
theorem dX3_stepsAndKeeps_0 : decode cX3_stepsAndKeeps 0 = .ok (.aload_n 0, 1) := dk_42 (dk_at dksX3_stepsAndKeeps_0 0 rfl rfl)
theorem dX3_stepsAndKeeps_1 : decode cX3_stepsAndKeeps 1 = .ok (.invokevirtual 410, 3) := dk_182 1 154 (dk_at dksX3_stepsAndKeeps_0 1 rfl rfl)
theorem dX3_stepsAndKeeps_4 : decode cX3_stepsAndKeeps 4 = .ok (.aload_n 0, 1) := dk_42 (dk_at dksX3_stepsAndKeeps_0 4 rfl rfl)
theorem dX3_stepsAndKeeps_5 : decode cX3_stepsAndKeeps 5 = .ok (.dup, 1) := dk_89 (dk_at dksX3_stepsAndKeeps_0 5 rfl rfl)
theorem dX3_stepsAndKeeps_6 : decode cX3_stepsAndKeeps 6 = .ok (.getfield 420, 3) := dk_180 1 164 (dk_at dksX3_stepsAndKeeps_0 6 rfl rfl)
theorem dX3_stepsAndKeeps_9 : decode cX3_stepsAndKeeps 9 = .ok (.aload_n 0, 1) := dk_42 (dk_at dksX3_stepsAndKeeps_0 9 rfl rfl)
theorem dX3_stepsAndKeeps_10 : decode cX3_stepsAndKeeps 10 = .ok (.getfield 420, 3) := dk_180 1 164 (dk_at dksX3_stepsAndKeeps_0 10 rfl rfl)
theorem dX3_stepsAndKeeps_13 : decode cX3_stepsAndKeeps 13 = .ok (.sipush 200, 3) := dk_17 0 200 (dk_at dksX3_stepsAndKeeps_0 13 rfl rfl)
theorem dX3_stepsAndKeeps_16 : decode cX3_stepsAndKeeps 16 = .ok (.if_icmp .ge 7, 3) := dk_162 0 7 (dk_at dksX3_stepsAndKeeps_0 16 rfl rfl)
theorem dX3_stepsAndKeeps_19 : decode cX3_stepsAndKeeps 19 = .ok (.iconst 1, 1) := dk_4 (dk_at dksX3_stepsAndKeeps_0 19 rfl rfl)
theorem dX3_stepsAndKeeps_20 : decode cX3_stepsAndKeeps 20 = .ok (.goto 4, 3) := dk_167 0 4 (dk_at dksX3_stepsAndKeeps_0 20 rfl rfl)
theorem dX3_stepsAndKeeps_23 : decode cX3_stepsAndKeeps 23 = .ok (.iconst 0, 1) := dk_3 (dk_at dksX3_stepsAndKeeps_0 23 rfl rfl)
theorem dX3_stepsAndKeeps_24 : decode cX3_stepsAndKeeps 24 = .ok (.iadd, 1) := dk_96 (dk_at dksX3_stepsAndKeeps_1 0 rfl rfl)
theorem dX3_stepsAndKeeps_25 : decode cX3_stepsAndKeeps 25 = .ok (.putfield 420, 3) := dk_181 1 164 (dk_at dksX3_stepsAndKeeps_1 1 rfl rfl)
theorem dX3_stepsAndKeeps_28 : decode cX3_stepsAndKeeps 28 = .ok (.return_, 1) := dk_177 (dk_at dksX3_stepsAndKeeps_1 4 rfl rfl)
abbrev cX3_stepsOnce : ByteArray := prog_28_method_52_code
def yX3_stepsOnce : MethodName := ⟨RX3, "stepsOnce", "()V"⟩
def dkwX3_stepsOnce_6 : List UInt8 := [167, 0, 7, 42, 180, 1, 19, 181, 1, 19, 42, 182, 1, 81, 177]
abbrev dktX3_stepsOnce_6 : List UInt8 := dkwX3_stepsOnce_6 ++ []
def dkwX3_stepsOnce_5 : List UInt8 := [160, 0, 7, 4, 167, 0, 4, 3, 181, 1, 10, 42, 42, 180, 1, 19, 42, 180, 1, 16, 160, 0, 7, 3]
abbrev dktX3_stepsOnce_5 : List UInt8 := dkwX3_stepsOnce_5 ++ dktX3_stepsOnce_6
def dkwX3_stepsOnce_4 : List UInt8 := [180, 1, 19, 4, 96, 181, 1, 19, 42, 42, 180, 1, 10, 154, 0, 14, 42, 180, 1, 19, 42, 180, 1, 16]
abbrev dktX3_stepsOnce_4 : List UInt8 := dkwX3_stepsOnce_4 ++ dktX3_stepsOnce_5
def dkwX3_stepsOnce_3 : List UInt8 := [42, 182, 1, 78, 42, 89, 180, 0, 235, 4, 96, 181, 0, 235, 42, 180, 1, 16, 158, 0, 63, 42, 89]
abbrev dktX3_stepsOnce_3 : List UInt8 := dkwX3_stepsOnce_3 ++ dktX3_stepsOnce_4
def dkwX3_stepsOnce_2 : List UInt8 := [153, 0, 24, 42, 180, 1, 10, 154, 0, 10, 42, 180, 1, 13, 153, 0, 10, 42, 182, 1, 75, 167, 0, 7]
abbrev dktX3_stepsOnce_2 : List UInt8 := dkwX3_stepsOnce_2 ++ dktX3_stepsOnce_3
def dkwX3_stepsOnce_1 : List UInt8 := [42, 180, 0, 235, 2, 79, 42, 180, 1, 28, 158, 0, 10, 42, 182, 1, 72, 167, 0, 35, 42, 180, 1, 7]
abbrev dktX3_stepsOnce_1 : List UInt8 := dkwX3_stepsOnce_1 ++ dktX3_stepsOnce_2
def dkwX3_stepsOnce_0 : List UInt8 := [42, 180, 0, 235, 17, 3, 232, 162, 0, 23, 42, 180, 0, 67, 42, 180, 0, 235, 2, 79, 42, 180, 0, 70]
abbrev dktX3_stepsOnce_0 : List UInt8 := dkwX3_stepsOnce_0 ++ dktX3_stepsOnce_1
theorem dksX3_stepsOnce_0 : cX3_stepsOnce.data.toList.drop 0 = dktX3_stepsOnce_0 := by decide +kernel
theorem dksX3_stepsOnce_1 : cX3_stepsOnce.data.toList.drop 24 = dktX3_stepsOnce_1 := dk_seg dksX3_stepsOnce_0 24 rfl rfl
theorem dksX3_stepsOnce_2 : cX3_stepsOnce.data.toList.drop 48 = dktX3_stepsOnce_2 := dk_seg dksX3_stepsOnce_1 24 rfl rfl
theorem dksX3_stepsOnce_3 : cX3_stepsOnce.data.toList.drop 72 = dktX3_stepsOnce_3 := dk_seg dksX3_stepsOnce_2 24 rfl rfl
theorem dksX3_stepsOnce_4 : cX3_stepsOnce.data.toList.drop 95 = dktX3_stepsOnce_4 := dk_seg dksX3_stepsOnce_3 23 rfl rfl
theorem dksX3_stepsOnce_5 : cX3_stepsOnce.data.toList.drop 119 = dktX3_stepsOnce_5 := dk_seg dksX3_stepsOnce_4 24 rfl rfl
theorem dksX3_stepsOnce_6 : cX3_stepsOnce.data.toList.drop 143 = dktX3_stepsOnce_6 := dk_seg dksX3_stepsOnce_5 24 rfl rfl
theorem dX3_stepsOnce_0 : decode cX3_stepsOnce 0 = .ok (.aload_n 0, 1) := dk_42 (dk_at dksX3_stepsOnce_0 0 rfl rfl)
theorem dX3_stepsOnce_1 : decode cX3_stepsOnce 1 = .ok (.getfield 235, 3) := dk_180 0 235 (dk_at dksX3_stepsOnce_0 1 rfl rfl)
theorem dX3_stepsOnce_4 : decode cX3_stepsOnce 4 = .ok (.sipush 1000, 3) := dk_17 3 232 (dk_at dksX3_stepsOnce_0 4 rfl rfl)
theorem dX3_stepsOnce_7 : decode cX3_stepsOnce 7 = .ok (.if_icmp .ge 23, 3) := dk_162 0 23 (dk_at dksX3_stepsOnce_0 7 rfl rfl)
theorem dX3_stepsOnce_10 : decode cX3_stepsOnce 10 = .ok (.aload_n 0, 1) := dk_42 (dk_at dksX3_stepsOnce_0 10 rfl rfl)
theorem dX3_stepsOnce_11 : decode cX3_stepsOnce 11 = .ok (.getfield 67, 3) := dk_180 0 67 (dk_at dksX3_stepsOnce_0 11 rfl rfl)
theorem dX3_stepsOnce_14 : decode cX3_stepsOnce 14 = .ok (.aload_n 0, 1) := dk_42 (dk_at dksX3_stepsOnce_0 14 rfl rfl)
theorem dX3_stepsOnce_15 : decode cX3_stepsOnce 15 = .ok (.getfield 235, 3) := dk_180 0 235 (dk_at dksX3_stepsOnce_0 15 rfl rfl)
theorem dX3_stepsOnce_18 : decode cX3_stepsOnce 18 = .ok (.iconst (-1), 1) := dk_2 (dk_at dksX3_stepsOnce_0 18 rfl rfl)
theorem dX3_stepsOnce_19 : decode cX3_stepsOnce 19 = .ok (.iastore, 1) := dk_79 (dk_at dksX3_stepsOnce_0 19 rfl rfl)
theorem dX3_stepsOnce_20 : decode cX3_stepsOnce 20 = .ok (.aload_n 0, 1) := dk_42 (dk_at dksX3_stepsOnce_0 20 rfl rfl)
theorem dX3_stepsOnce_21 : decode cX3_stepsOnce 21 = .ok (.getfield 70, 3) := dk_180 0 70 (dk_at dksX3_stepsOnce_0 21 rfl rfl)
theorem dX3_stepsOnce_24 : decode cX3_stepsOnce 24 = .ok (.aload_n 0, 1) := dk_42 (dk_at dksX3_stepsOnce_1 0 rfl rfl)
theorem dX3_stepsOnce_25 : decode cX3_stepsOnce 25 = .ok (.getfield 235, 3) := dk_180 0 235 (dk_at dksX3_stepsOnce_1 1 rfl rfl)
theorem dX3_stepsOnce_28 : decode cX3_stepsOnce 28 = .ok (.iconst (-1), 1) := dk_2 (dk_at dksX3_stepsOnce_1 4 rfl rfl)
theorem dX3_stepsOnce_29 : decode cX3_stepsOnce 29 = .ok (.iastore, 1) := dk_79 (dk_at dksX3_stepsOnce_1 5 rfl rfl)
theorem dX3_stepsOnce_30 : decode cX3_stepsOnce 30 = .ok (.aload_n 0, 1) := dk_42 (dk_at dksX3_stepsOnce_1 6 rfl rfl)
theorem dX3_stepsOnce_31 : decode cX3_stepsOnce 31 = .ok (.getfield 284, 3) := dk_180 1 28 (dk_at dksX3_stepsOnce_1 7 rfl rfl)
theorem dX3_stepsOnce_34 : decode cX3_stepsOnce 34 = .ok (.ifCond .le 10, 3) := dk_158 0 10 (dk_at dksX3_stepsOnce_1 10 rfl rfl)
theorem dX3_stepsOnce_37 : decode cX3_stepsOnce 37 = .ok (.aload_n 0, 1) := dk_42 (dk_at dksX3_stepsOnce_1 13 rfl rfl)
theorem dX3_stepsOnce_38 : decode cX3_stepsOnce 38 = .ok (.invokevirtual 328, 3) := dk_182 1 72 (dk_at dksX3_stepsOnce_1 14 rfl rfl)
theorem dX3_stepsOnce_41 : decode cX3_stepsOnce 41 = .ok (.goto 35, 3) := dk_167 0 35 (dk_at dksX3_stepsOnce_1 17 rfl rfl)
theorem dX3_stepsOnce_44 : decode cX3_stepsOnce 44 = .ok (.aload_n 0, 1) := dk_42 (dk_at dksX3_stepsOnce_1 20 rfl rfl)
theorem dX3_stepsOnce_45 : decode cX3_stepsOnce 45 = .ok (.getfield 263, 3) := dk_180 1 7 (dk_at dksX3_stepsOnce_1 21 rfl rfl)
theorem dX3_stepsOnce_48 : decode cX3_stepsOnce 48 = .ok (.ifCond .eq 24, 3) := dk_153 0 24 (dk_at dksX3_stepsOnce_2 0 rfl rfl)
theorem dX3_stepsOnce_51 : decode cX3_stepsOnce 51 = .ok (.aload_n 0, 1) := dk_42 (dk_at dksX3_stepsOnce_2 3 rfl rfl)
theorem dX3_stepsOnce_52 : decode cX3_stepsOnce 52 = .ok (.getfield 266, 3) := dk_180 1 10 (dk_at dksX3_stepsOnce_2 4 rfl rfl)
theorem dX3_stepsOnce_55 : decode cX3_stepsOnce 55 = .ok (.ifCond .ne 10, 3) := dk_154 0 10 (dk_at dksX3_stepsOnce_2 7 rfl rfl)
theorem dX3_stepsOnce_58 : decode cX3_stepsOnce 58 = .ok (.aload_n 0, 1) := dk_42 (dk_at dksX3_stepsOnce_2 10 rfl rfl)
theorem dX3_stepsOnce_59 : decode cX3_stepsOnce 59 = .ok (.getfield 269, 3) := dk_180 1 13 (dk_at dksX3_stepsOnce_2 11 rfl rfl)
theorem dX3_stepsOnce_62 : decode cX3_stepsOnce 62 = .ok (.ifCond .eq 10, 3) := dk_153 0 10 (dk_at dksX3_stepsOnce_2 14 rfl rfl)
theorem dX3_stepsOnce_65 : decode cX3_stepsOnce 65 = .ok (.aload_n 0, 1) := dk_42 (dk_at dksX3_stepsOnce_2 17 rfl rfl)
theorem dX3_stepsOnce_66 : decode cX3_stepsOnce 66 = .ok (.invokevirtual 331, 3) := dk_182 1 75 (dk_at dksX3_stepsOnce_2 18 rfl rfl)
theorem dX3_stepsOnce_69 : decode cX3_stepsOnce 69 = .ok (.goto 7, 3) := dk_167 0 7 (dk_at dksX3_stepsOnce_2 21 rfl rfl)
theorem dX3_stepsOnce_72 : decode cX3_stepsOnce 72 = .ok (.aload_n 0, 1) := dk_42 (dk_at dksX3_stepsOnce_3 0 rfl rfl)
theorem dX3_stepsOnce_73 : decode cX3_stepsOnce 73 = .ok (.invokevirtual 334, 3) := dk_182 1 78 (dk_at dksX3_stepsOnce_3 1 rfl rfl)
theorem dX3_stepsOnce_76 : decode cX3_stepsOnce 76 = .ok (.aload_n 0, 1) := dk_42 (dk_at dksX3_stepsOnce_3 4 rfl rfl)
theorem dX3_stepsOnce_77 : decode cX3_stepsOnce 77 = .ok (.dup, 1) := dk_89 (dk_at dksX3_stepsOnce_3 5 rfl rfl)
theorem dX3_stepsOnce_78 : decode cX3_stepsOnce 78 = .ok (.getfield 235, 3) := dk_180 0 235 (dk_at dksX3_stepsOnce_3 6 rfl rfl)
theorem dX3_stepsOnce_81 : decode cX3_stepsOnce 81 = .ok (.iconst 1, 1) := dk_4 (dk_at dksX3_stepsOnce_3 9 rfl rfl)
theorem dX3_stepsOnce_82 : decode cX3_stepsOnce 82 = .ok (.iadd, 1) := dk_96 (dk_at dksX3_stepsOnce_3 10 rfl rfl)
theorem dX3_stepsOnce_83 : decode cX3_stepsOnce 83 = .ok (.putfield 235, 3) := dk_181 0 235 (dk_at dksX3_stepsOnce_3 11 rfl rfl)
theorem dX3_stepsOnce_86 : decode cX3_stepsOnce 86 = .ok (.aload_n 0, 1) := dk_42 (dk_at dksX3_stepsOnce_3 14 rfl rfl)
theorem dX3_stepsOnce_87 : decode cX3_stepsOnce 87 = .ok (.getfield 272, 3) := dk_180 1 16 (dk_at dksX3_stepsOnce_3 15 rfl rfl)
theorem dX3_stepsOnce_90 : decode cX3_stepsOnce 90 = .ok (.ifCond .le 63, 3) := dk_158 0 63 (dk_at dksX3_stepsOnce_3 18 rfl rfl)
theorem dX3_stepsOnce_93 : decode cX3_stepsOnce 93 = .ok (.aload_n 0, 1) := dk_42 (dk_at dksX3_stepsOnce_3 21 rfl rfl)
theorem dX3_stepsOnce_94 : decode cX3_stepsOnce 94 = .ok (.dup, 1) := dk_89 (dk_at dksX3_stepsOnce_3 22 rfl rfl)
theorem dX3_stepsOnce_95 : decode cX3_stepsOnce 95 = .ok (.getfield 275, 3) := dk_180 1 19 (dk_at dksX3_stepsOnce_4 0 rfl rfl)
theorem dX3_stepsOnce_98 : decode cX3_stepsOnce 98 = .ok (.iconst 1, 1) := dk_4 (dk_at dksX3_stepsOnce_4 3 rfl rfl)
theorem dX3_stepsOnce_99 : decode cX3_stepsOnce 99 = .ok (.iadd, 1) := dk_96 (dk_at dksX3_stepsOnce_4 4 rfl rfl)
theorem dX3_stepsOnce_100 : decode cX3_stepsOnce 100 = .ok (.putfield 275, 3) := dk_181 1 19 (dk_at dksX3_stepsOnce_4 5 rfl rfl)
theorem dX3_stepsOnce_103 : decode cX3_stepsOnce 103 = .ok (.aload_n 0, 1) := dk_42 (dk_at dksX3_stepsOnce_4 8 rfl rfl)
theorem dX3_stepsOnce_104 : decode cX3_stepsOnce 104 = .ok (.aload_n 0, 1) := dk_42 (dk_at dksX3_stepsOnce_4 9 rfl rfl)
theorem dX3_stepsOnce_105 : decode cX3_stepsOnce 105 = .ok (.getfield 266, 3) := dk_180 1 10 (dk_at dksX3_stepsOnce_4 10 rfl rfl)
theorem dX3_stepsOnce_108 : decode cX3_stepsOnce 108 = .ok (.ifCond .ne 14, 3) := dk_154 0 14 (dk_at dksX3_stepsOnce_4 13 rfl rfl)
theorem dX3_stepsOnce_111 : decode cX3_stepsOnce 111 = .ok (.aload_n 0, 1) := dk_42 (dk_at dksX3_stepsOnce_4 16 rfl rfl)
theorem dX3_stepsOnce_112 : decode cX3_stepsOnce 112 = .ok (.getfield 275, 3) := dk_180 1 19 (dk_at dksX3_stepsOnce_4 17 rfl rfl)
theorem dX3_stepsOnce_115 : decode cX3_stepsOnce 115 = .ok (.aload_n 0, 1) := dk_42 (dk_at dksX3_stepsOnce_4 20 rfl rfl)
theorem dX3_stepsOnce_116 : decode cX3_stepsOnce 116 = .ok (.getfield 272, 3) := dk_180 1 16 (dk_at dksX3_stepsOnce_4 21 rfl rfl)
theorem dX3_stepsOnce_119 : decode cX3_stepsOnce 119 = .ok (.if_icmp .ne 7, 3) := dk_160 0 7 (dk_at dksX3_stepsOnce_5 0 rfl rfl)
theorem dX3_stepsOnce_122 : decode cX3_stepsOnce 122 = .ok (.iconst 1, 1) := dk_4 (dk_at dksX3_stepsOnce_5 3 rfl rfl)
theorem dX3_stepsOnce_123 : decode cX3_stepsOnce 123 = .ok (.goto 4, 3) := dk_167 0 4 (dk_at dksX3_stepsOnce_5 4 rfl rfl)
theorem dX3_stepsOnce_126 : decode cX3_stepsOnce 126 = .ok (.iconst 0, 1) := dk_3 (dk_at dksX3_stepsOnce_5 7 rfl rfl)
theorem dX3_stepsOnce_127 : decode cX3_stepsOnce 127 = .ok (.putfield 266, 3) := dk_181 1 10 (dk_at dksX3_stepsOnce_5 8 rfl rfl)
theorem dX3_stepsOnce_130 : decode cX3_stepsOnce 130 = .ok (.aload_n 0, 1) := dk_42 (dk_at dksX3_stepsOnce_5 11 rfl rfl)
theorem dX3_stepsOnce_131 : decode cX3_stepsOnce 131 = .ok (.aload_n 0, 1) := dk_42 (dk_at dksX3_stepsOnce_5 12 rfl rfl)
theorem dX3_stepsOnce_132 : decode cX3_stepsOnce 132 = .ok (.getfield 275, 3) := dk_180 1 19 (dk_at dksX3_stepsOnce_5 13 rfl rfl)
theorem dX3_stepsOnce_135 : decode cX3_stepsOnce 135 = .ok (.aload_n 0, 1) := dk_42 (dk_at dksX3_stepsOnce_5 16 rfl rfl)
theorem dX3_stepsOnce_136 : decode cX3_stepsOnce 136 = .ok (.getfield 272, 3) := dk_180 1 16 (dk_at dksX3_stepsOnce_5 17 rfl rfl)
theorem dX3_stepsOnce_139 : decode cX3_stepsOnce 139 = .ok (.if_icmp .ne 7, 3) := dk_160 0 7 (dk_at dksX3_stepsOnce_5 20 rfl rfl)
theorem dX3_stepsOnce_142 : decode cX3_stepsOnce 142 = .ok (.iconst 0, 1) := dk_3 (dk_at dksX3_stepsOnce_5 23 rfl rfl)
theorem dX3_stepsOnce_143 : decode cX3_stepsOnce 143 = .ok (.goto 7, 3) := dk_167 0 7 (dk_at dksX3_stepsOnce_6 0 rfl rfl)
theorem dX3_stepsOnce_146 : decode cX3_stepsOnce 146 = .ok (.aload_n 0, 1) := dk_42 (dk_at dksX3_stepsOnce_6 3 rfl rfl)
theorem dX3_stepsOnce_147 : decode cX3_stepsOnce 147 = .ok (.getfield 275, 3) := dk_180 1 19 (dk_at dksX3_stepsOnce_6 4 rfl rfl)
theorem dX3_stepsOnce_150 : decode cX3_stepsOnce 150 = .ok (.putfield 275, 3) := dk_181 1 19 (dk_at dksX3_stepsOnce_6 7 rfl rfl)
theorem dX3_stepsOnce_153 : decode cX3_stepsOnce 153 = .ok (.aload_n 0, 1) := dk_42 (dk_at dksX3_stepsOnce_6 10 rfl rfl)
theorem dX3_stepsOnce_154 : decode cX3_stepsOnce 154 = .ok (.invokevirtual 337, 3) := dk_182 1 81 (dk_at dksX3_stepsOnce_6 11 rfl rfl)
theorem dX3_stepsOnce_157 : decode cX3_stepsOnce 157 = .ok (.return_, 1) := dk_177 (dk_at dksX3_stepsOnce_6 14 rfl rfl)
abbrev cX3_writesBlock : ByteArray := prog_28_method_68_code
def yX3_writesBlock : MethodName := ⟨RX3, "writesBlock", "()V"⟩
def dkwX3_writesBlock_7 : List UInt8 := [6, 3, 79, 42, 89, 180, 0, 254, 5, 96, 181, 0, 254, 177]
abbrev dktX3_writesBlock_7 : List UInt8 := dkwX3_writesBlock_7 ++ []
def dkwX3_writesBlock_6 : List UInt8 := [28, 104, 21, 4, 96, 46, 79, 132, 4, 1, 167, 255, 222, 42, 180, 1, 28, 154, 0, 20, 42, 180, 0, 55]
abbrev dktX3_writesBlock_6 : List UInt8 := dkwX3_writesBlock_6 ++ dktX3_writesBlock_7
def dkwX3_writesBlock_5 : List UInt8 := [21, 4, 16, 8, 162, 0, 33, 42, 180, 0, 79, 16, 8, 29, 104, 21, 4, 96, 42, 180, 0, 76, 16, 8]
abbrev dktX3_writesBlock_5 : List UInt8 := dkwX3_writesBlock_5 ++ dktX3_writesBlock_6
def dkwX3_writesBlock_4 : List UInt8 := [27, 42, 180, 1, 130, 162, 0, 9, 4, 27, 96, 167, 0, 9, 42, 180, 0, 73, 28, 46, 62, 3, 54, 4]
abbrev dktX3_writesBlock_4 : List UInt8 := dkwX3_writesBlock_4 ++ dktX3_writesBlock_5
def dkwX3_writesBlock_3 : List UInt8 := [167, 0, 85, 27, 42, 180, 1, 130, 162, 0, 7, 27, 167, 0, 11, 27, 42, 180, 1, 130, 100, 4, 100, 61]
abbrev dktX3_writesBlock_3 : List UInt8 := dkwX3_writesBlock_3 ++ dktX3_writesBlock_4
def dkwX3_writesBlock_2 : List UInt8 := [104, 4, 96, 160, 0, 23, 42, 27, 42, 180, 1, 130, 160, 0, 7, 4, 167, 0, 4, 3, 182, 1, 136]
abbrev dktX3_writesBlock_2 : List UInt8 := dkwX3_writesBlock_2 ++ dktX3_writesBlock_3
def dkwX3_writesBlock_1 : List UInt8 := [42, 89, 180, 1, 133, 4, 96, 181, 1, 133, 27, 42, 180, 1, 130, 159, 0, 15, 27, 5, 42, 180, 1, 130]
abbrev dktX3_writesBlock_1 : List UInt8 := dkwX3_writesBlock_1 ++ dktX3_writesBlock_2
def dkwX3_writesBlock_0 : List UInt8 := [5, 42, 180, 1, 130, 104, 5, 96, 42, 180, 1, 28, 100, 60, 42, 89, 180, 1, 28, 4, 100, 181, 1, 28]
abbrev dktX3_writesBlock_0 : List UInt8 := dkwX3_writesBlock_0 ++ dktX3_writesBlock_1
theorem dksX3_writesBlock_0 : cX3_writesBlock.data.toList.drop 0 = dktX3_writesBlock_0 := by decide +kernel
theorem dksX3_writesBlock_1 : cX3_writesBlock.data.toList.drop 24 = dktX3_writesBlock_1 := dk_seg dksX3_writesBlock_0 24 rfl rfl
theorem dksX3_writesBlock_2 : cX3_writesBlock.data.toList.drop 48 = dktX3_writesBlock_2 := dk_seg dksX3_writesBlock_1 24 rfl rfl
theorem dksX3_writesBlock_3 : cX3_writesBlock.data.toList.drop 71 = dktX3_writesBlock_3 := dk_seg dksX3_writesBlock_2 23 rfl rfl
theorem dksX3_writesBlock_4 : cX3_writesBlock.data.toList.drop 95 = dktX3_writesBlock_4 := dk_seg dksX3_writesBlock_3 24 rfl rfl
theorem dksX3_writesBlock_5 : cX3_writesBlock.data.toList.drop 119 = dktX3_writesBlock_5 := dk_seg dksX3_writesBlock_4 24 rfl rfl
theorem dksX3_writesBlock_6 : cX3_writesBlock.data.toList.drop 143 = dktX3_writesBlock_6 := dk_seg dksX3_writesBlock_5 24 rfl rfl
theorem dksX3_writesBlock_7 : cX3_writesBlock.data.toList.drop 167 = dktX3_writesBlock_7 := dk_seg dksX3_writesBlock_6 24 rfl rfl
theorem dX3_writesBlock_0 : decode cX3_writesBlock 0 = .ok (.iconst 2, 1) := dk_5 (dk_at dksX3_writesBlock_0 0 rfl rfl)
theorem dX3_writesBlock_1 : decode cX3_writesBlock 1 = .ok (.aload_n 0, 1) := dk_42 (dk_at dksX3_writesBlock_0 1 rfl rfl)
theorem dX3_writesBlock_2 : decode cX3_writesBlock 2 = .ok (.getfield 386, 3) := dk_180 1 130 (dk_at dksX3_writesBlock_0 2 rfl rfl)
theorem dX3_writesBlock_5 : decode cX3_writesBlock 5 = .ok (.imul, 1) := dk_104 (dk_at dksX3_writesBlock_0 5 rfl rfl)
theorem dX3_writesBlock_6 : decode cX3_writesBlock 6 = .ok (.iconst 2, 1) := dk_5 (dk_at dksX3_writesBlock_0 6 rfl rfl)
theorem dX3_writesBlock_7 : decode cX3_writesBlock 7 = .ok (.iadd, 1) := dk_96 (dk_at dksX3_writesBlock_0 7 rfl rfl)
theorem dX3_writesBlock_8 : decode cX3_writesBlock 8 = .ok (.aload_n 0, 1) := dk_42 (dk_at dksX3_writesBlock_0 8 rfl rfl)
theorem dX3_writesBlock_9 : decode cX3_writesBlock 9 = .ok (.getfield 284, 3) := dk_180 1 28 (dk_at dksX3_writesBlock_0 9 rfl rfl)
theorem dX3_writesBlock_12 : decode cX3_writesBlock 12 = .ok (.isub, 1) := dk_100 (dk_at dksX3_writesBlock_0 12 rfl rfl)
theorem dX3_writesBlock_13 : decode cX3_writesBlock 13 = .ok (.istore_n 1, 1) := dk_60 (dk_at dksX3_writesBlock_0 13 rfl rfl)
theorem dX3_writesBlock_14 : decode cX3_writesBlock 14 = .ok (.aload_n 0, 1) := dk_42 (dk_at dksX3_writesBlock_0 14 rfl rfl)
theorem dX3_writesBlock_15 : decode cX3_writesBlock 15 = .ok (.dup, 1) := dk_89 (dk_at dksX3_writesBlock_0 15 rfl rfl)
theorem dX3_writesBlock_16 : decode cX3_writesBlock 16 = .ok (.getfield 284, 3) := dk_180 1 28 (dk_at dksX3_writesBlock_0 16 rfl rfl)
theorem dX3_writesBlock_19 : decode cX3_writesBlock 19 = .ok (.iconst 1, 1) := dk_4 (dk_at dksX3_writesBlock_0 19 rfl rfl)
theorem dX3_writesBlock_20 : decode cX3_writesBlock 20 = .ok (.isub, 1) := dk_100 (dk_at dksX3_writesBlock_0 20 rfl rfl)
theorem dX3_writesBlock_21 : decode cX3_writesBlock 21 = .ok (.putfield 284, 3) := dk_181 1 28 (dk_at dksX3_writesBlock_0 21 rfl rfl)
theorem dX3_writesBlock_24 : decode cX3_writesBlock 24 = .ok (.aload_n 0, 1) := dk_42 (dk_at dksX3_writesBlock_1 0 rfl rfl)
theorem dX3_writesBlock_25 : decode cX3_writesBlock 25 = .ok (.dup, 1) := dk_89 (dk_at dksX3_writesBlock_1 1 rfl rfl)
theorem dX3_writesBlock_26 : decode cX3_writesBlock 26 = .ok (.getfield 389, 3) := dk_180 1 133 (dk_at dksX3_writesBlock_1 2 rfl rfl)
theorem dX3_writesBlock_29 : decode cX3_writesBlock 29 = .ok (.iconst 1, 1) := dk_4 (dk_at dksX3_writesBlock_1 5 rfl rfl)
theorem dX3_writesBlock_30 : decode cX3_writesBlock 30 = .ok (.iadd, 1) := dk_96 (dk_at dksX3_writesBlock_1 6 rfl rfl)
theorem dX3_writesBlock_31 : decode cX3_writesBlock 31 = .ok (.putfield 389, 3) := dk_181 1 133 (dk_at dksX3_writesBlock_1 7 rfl rfl)
theorem dX3_writesBlock_34 : decode cX3_writesBlock 34 = .ok (.iload_n 1, 1) := dk_27 (dk_at dksX3_writesBlock_1 10 rfl rfl)
theorem dX3_writesBlock_35 : decode cX3_writesBlock 35 = .ok (.aload_n 0, 1) := dk_42 (dk_at dksX3_writesBlock_1 11 rfl rfl)
theorem dX3_writesBlock_36 : decode cX3_writesBlock 36 = .ok (.getfield 386, 3) := dk_180 1 130 (dk_at dksX3_writesBlock_1 12 rfl rfl)
theorem dX3_writesBlock_39 : decode cX3_writesBlock 39 = .ok (.if_icmp .eq 15, 3) := dk_159 0 15 (dk_at dksX3_writesBlock_1 15 rfl rfl)
theorem dX3_writesBlock_42 : decode cX3_writesBlock 42 = .ok (.iload_n 1, 1) := dk_27 (dk_at dksX3_writesBlock_1 18 rfl rfl)
theorem dX3_writesBlock_43 : decode cX3_writesBlock 43 = .ok (.iconst 2, 1) := dk_5 (dk_at dksX3_writesBlock_1 19 rfl rfl)
theorem dX3_writesBlock_44 : decode cX3_writesBlock 44 = .ok (.aload_n 0, 1) := dk_42 (dk_at dksX3_writesBlock_1 20 rfl rfl)
theorem dX3_writesBlock_45 : decode cX3_writesBlock 45 = .ok (.getfield 386, 3) := dk_180 1 130 (dk_at dksX3_writesBlock_1 21 rfl rfl)
theorem dX3_writesBlock_48 : decode cX3_writesBlock 48 = .ok (.imul, 1) := dk_104 (dk_at dksX3_writesBlock_2 0 rfl rfl)
theorem dX3_writesBlock_49 : decode cX3_writesBlock 49 = .ok (.iconst 1, 1) := dk_4 (dk_at dksX3_writesBlock_2 1 rfl rfl)
theorem dX3_writesBlock_50 : decode cX3_writesBlock 50 = .ok (.iadd, 1) := dk_96 (dk_at dksX3_writesBlock_2 2 rfl rfl)
theorem dX3_writesBlock_51 : decode cX3_writesBlock 51 = .ok (.if_icmp .ne 23, 3) := dk_160 0 23 (dk_at dksX3_writesBlock_2 3 rfl rfl)
theorem dX3_writesBlock_54 : decode cX3_writesBlock 54 = .ok (.aload_n 0, 1) := dk_42 (dk_at dksX3_writesBlock_2 6 rfl rfl)
theorem dX3_writesBlock_55 : decode cX3_writesBlock 55 = .ok (.iload_n 1, 1) := dk_27 (dk_at dksX3_writesBlock_2 7 rfl rfl)
theorem dX3_writesBlock_56 : decode cX3_writesBlock 56 = .ok (.aload_n 0, 1) := dk_42 (dk_at dksX3_writesBlock_2 8 rfl rfl)
theorem dX3_writesBlock_57 : decode cX3_writesBlock 57 = .ok (.getfield 386, 3) := dk_180 1 130 (dk_at dksX3_writesBlock_2 9 rfl rfl)
theorem dX3_writesBlock_60 : decode cX3_writesBlock 60 = .ok (.if_icmp .ne 7, 3) := dk_160 0 7 (dk_at dksX3_writesBlock_2 12 rfl rfl)
theorem dX3_writesBlock_63 : decode cX3_writesBlock 63 = .ok (.iconst 1, 1) := dk_4 (dk_at dksX3_writesBlock_2 15 rfl rfl)
theorem dX3_writesBlock_64 : decode cX3_writesBlock 64 = .ok (.goto 4, 3) := dk_167 0 4 (dk_at dksX3_writesBlock_2 16 rfl rfl)
theorem dX3_writesBlock_67 : decode cX3_writesBlock 67 = .ok (.iconst 0, 1) := dk_3 (dk_at dksX3_writesBlock_2 19 rfl rfl)
theorem dX3_writesBlock_68 : decode cX3_writesBlock 68 = .ok (.invokevirtual 392, 3) := dk_182 1 136 (dk_at dksX3_writesBlock_2 20 rfl rfl)
theorem dX3_writesBlock_71 : decode cX3_writesBlock 71 = .ok (.goto 85, 3) := dk_167 0 85 (dk_at dksX3_writesBlock_3 0 rfl rfl)
theorem dX3_writesBlock_74 : decode cX3_writesBlock 74 = .ok (.iload_n 1, 1) := dk_27 (dk_at dksX3_writesBlock_3 3 rfl rfl)
theorem dX3_writesBlock_75 : decode cX3_writesBlock 75 = .ok (.aload_n 0, 1) := dk_42 (dk_at dksX3_writesBlock_3 4 rfl rfl)
theorem dX3_writesBlock_76 : decode cX3_writesBlock 76 = .ok (.getfield 386, 3) := dk_180 1 130 (dk_at dksX3_writesBlock_3 5 rfl rfl)
theorem dX3_writesBlock_79 : decode cX3_writesBlock 79 = .ok (.if_icmp .ge 7, 3) := dk_162 0 7 (dk_at dksX3_writesBlock_3 8 rfl rfl)
theorem dX3_writesBlock_82 : decode cX3_writesBlock 82 = .ok (.iload_n 1, 1) := dk_27 (dk_at dksX3_writesBlock_3 11 rfl rfl)
theorem dX3_writesBlock_83 : decode cX3_writesBlock 83 = .ok (.goto 11, 3) := dk_167 0 11 (dk_at dksX3_writesBlock_3 12 rfl rfl)
theorem dX3_writesBlock_86 : decode cX3_writesBlock 86 = .ok (.iload_n 1, 1) := dk_27 (dk_at dksX3_writesBlock_3 15 rfl rfl)
theorem dX3_writesBlock_87 : decode cX3_writesBlock 87 = .ok (.aload_n 0, 1) := dk_42 (dk_at dksX3_writesBlock_3 16 rfl rfl)
theorem dX3_writesBlock_88 : decode cX3_writesBlock 88 = .ok (.getfield 386, 3) := dk_180 1 130 (dk_at dksX3_writesBlock_3 17 rfl rfl)
theorem dX3_writesBlock_91 : decode cX3_writesBlock 91 = .ok (.isub, 1) := dk_100 (dk_at dksX3_writesBlock_3 20 rfl rfl)
theorem dX3_writesBlock_92 : decode cX3_writesBlock 92 = .ok (.iconst 1, 1) := dk_4 (dk_at dksX3_writesBlock_3 21 rfl rfl)
theorem dX3_writesBlock_93 : decode cX3_writesBlock 93 = .ok (.isub, 1) := dk_100 (dk_at dksX3_writesBlock_3 22 rfl rfl)
theorem dX3_writesBlock_94 : decode cX3_writesBlock 94 = .ok (.istore_n 2, 1) := dk_61 (dk_at dksX3_writesBlock_3 23 rfl rfl)
theorem dX3_writesBlock_95 : decode cX3_writesBlock 95 = .ok (.iload_n 1, 1) := dk_27 (dk_at dksX3_writesBlock_4 0 rfl rfl)
theorem dX3_writesBlock_96 : decode cX3_writesBlock 96 = .ok (.aload_n 0, 1) := dk_42 (dk_at dksX3_writesBlock_4 1 rfl rfl)
theorem dX3_writesBlock_97 : decode cX3_writesBlock 97 = .ok (.getfield 386, 3) := dk_180 1 130 (dk_at dksX3_writesBlock_4 2 rfl rfl)
theorem dX3_writesBlock_100 : decode cX3_writesBlock 100 = .ok (.if_icmp .ge 9, 3) := dk_162 0 9 (dk_at dksX3_writesBlock_4 5 rfl rfl)
theorem dX3_writesBlock_103 : decode cX3_writesBlock 103 = .ok (.iconst 1, 1) := dk_4 (dk_at dksX3_writesBlock_4 8 rfl rfl)
theorem dX3_writesBlock_104 : decode cX3_writesBlock 104 = .ok (.iload_n 1, 1) := dk_27 (dk_at dksX3_writesBlock_4 9 rfl rfl)
theorem dX3_writesBlock_105 : decode cX3_writesBlock 105 = .ok (.iadd, 1) := dk_96 (dk_at dksX3_writesBlock_4 10 rfl rfl)
theorem dX3_writesBlock_106 : decode cX3_writesBlock 106 = .ok (.goto 9, 3) := dk_167 0 9 (dk_at dksX3_writesBlock_4 11 rfl rfl)
theorem dX3_writesBlock_109 : decode cX3_writesBlock 109 = .ok (.aload_n 0, 1) := dk_42 (dk_at dksX3_writesBlock_4 14 rfl rfl)
theorem dX3_writesBlock_110 : decode cX3_writesBlock 110 = .ok (.getfield 73, 3) := dk_180 0 73 (dk_at dksX3_writesBlock_4 15 rfl rfl)
theorem dX3_writesBlock_113 : decode cX3_writesBlock 113 = .ok (.iload_n 2, 1) := dk_28 (dk_at dksX3_writesBlock_4 18 rfl rfl)
theorem dX3_writesBlock_114 : decode cX3_writesBlock 114 = .ok (.iaload, 1) := dk_46 (dk_at dksX3_writesBlock_4 19 rfl rfl)
theorem dX3_writesBlock_115 : decode cX3_writesBlock 115 = .ok (.istore_n 3, 1) := dk_62 (dk_at dksX3_writesBlock_4 20 rfl rfl)
theorem dX3_writesBlock_116 : decode cX3_writesBlock 116 = .ok (.iconst 0, 1) := dk_3 (dk_at dksX3_writesBlock_4 21 rfl rfl)
theorem dX3_writesBlock_117 : decode cX3_writesBlock 117 = .ok (.istore 4, 2) := dk_54 4 (dk_at dksX3_writesBlock_4 22 rfl rfl)
theorem dX3_writesBlock_119 : decode cX3_writesBlock 119 = .ok (.iload 4, 2) := dk_21 4 (dk_at dksX3_writesBlock_5 0 rfl rfl)
theorem dX3_writesBlock_121 : decode cX3_writesBlock 121 = .ok (.bipush 8, 2) := dk_16 8 (dk_at dksX3_writesBlock_5 2 rfl rfl)
theorem dX3_writesBlock_123 : decode cX3_writesBlock 123 = .ok (.if_icmp .ge 33, 3) := dk_162 0 33 (dk_at dksX3_writesBlock_5 4 rfl rfl)
theorem dX3_writesBlock_126 : decode cX3_writesBlock 126 = .ok (.aload_n 0, 1) := dk_42 (dk_at dksX3_writesBlock_5 7 rfl rfl)
theorem dX3_writesBlock_127 : decode cX3_writesBlock 127 = .ok (.getfield 79, 3) := dk_180 0 79 (dk_at dksX3_writesBlock_5 8 rfl rfl)
theorem dX3_writesBlock_130 : decode cX3_writesBlock 130 = .ok (.bipush 8, 2) := dk_16 8 (dk_at dksX3_writesBlock_5 11 rfl rfl)
theorem dX3_writesBlock_132 : decode cX3_writesBlock 132 = .ok (.iload_n 3, 1) := dk_29 (dk_at dksX3_writesBlock_5 13 rfl rfl)
theorem dX3_writesBlock_133 : decode cX3_writesBlock 133 = .ok (.imul, 1) := dk_104 (dk_at dksX3_writesBlock_5 14 rfl rfl)
theorem dX3_writesBlock_134 : decode cX3_writesBlock 134 = .ok (.iload 4, 2) := dk_21 4 (dk_at dksX3_writesBlock_5 15 rfl rfl)
theorem dX3_writesBlock_136 : decode cX3_writesBlock 136 = .ok (.iadd, 1) := dk_96 (dk_at dksX3_writesBlock_5 17 rfl rfl)
theorem dX3_writesBlock_137 : decode cX3_writesBlock 137 = .ok (.aload_n 0, 1) := dk_42 (dk_at dksX3_writesBlock_5 18 rfl rfl)
theorem dX3_writesBlock_138 : decode cX3_writesBlock 138 = .ok (.getfield 76, 3) := dk_180 0 76 (dk_at dksX3_writesBlock_5 19 rfl rfl)
theorem dX3_writesBlock_141 : decode cX3_writesBlock 141 = .ok (.bipush 8, 2) := dk_16 8 (dk_at dksX3_writesBlock_5 22 rfl rfl)
theorem dX3_writesBlock_143 : decode cX3_writesBlock 143 = .ok (.iload_n 2, 1) := dk_28 (dk_at dksX3_writesBlock_6 0 rfl rfl)
theorem dX3_writesBlock_144 : decode cX3_writesBlock 144 = .ok (.imul, 1) := dk_104 (dk_at dksX3_writesBlock_6 1 rfl rfl)
theorem dX3_writesBlock_145 : decode cX3_writesBlock 145 = .ok (.iload 4, 2) := dk_21 4 (dk_at dksX3_writesBlock_6 2 rfl rfl)
theorem dX3_writesBlock_147 : decode cX3_writesBlock 147 = .ok (.iadd, 1) := dk_96 (dk_at dksX3_writesBlock_6 4 rfl rfl)
theorem dX3_writesBlock_148 : decode cX3_writesBlock 148 = .ok (.iaload, 1) := dk_46 (dk_at dksX3_writesBlock_6 5 rfl rfl)
theorem dX3_writesBlock_149 : decode cX3_writesBlock 149 = .ok (.iastore, 1) := dk_79 (dk_at dksX3_writesBlock_6 6 rfl rfl)
theorem dX3_writesBlock_150 : decode cX3_writesBlock 150 = .ok (.iinc 4 1, 3) := dk_132 4 1 (dk_at dksX3_writesBlock_6 7 rfl rfl)
theorem dX3_writesBlock_153 : decode cX3_writesBlock 153 = .ok (.goto (-34), 3) := dk_167 255 222 (dk_at dksX3_writesBlock_6 10 rfl rfl)
theorem dX3_writesBlock_156 : decode cX3_writesBlock 156 = .ok (.aload_n 0, 1) := dk_42 (dk_at dksX3_writesBlock_6 13 rfl rfl)
theorem dX3_writesBlock_157 : decode cX3_writesBlock 157 = .ok (.getfield 284, 3) := dk_180 1 28 (dk_at dksX3_writesBlock_6 14 rfl rfl)
theorem dX3_writesBlock_160 : decode cX3_writesBlock 160 = .ok (.ifCond .ne 20, 3) := dk_154 0 20 (dk_at dksX3_writesBlock_6 17 rfl rfl)
theorem dX3_writesBlock_163 : decode cX3_writesBlock 163 = .ok (.aload_n 0, 1) := dk_42 (dk_at dksX3_writesBlock_6 20 rfl rfl)
theorem dX3_writesBlock_164 : decode cX3_writesBlock 164 = .ok (.getfield 55, 3) := dk_180 0 55 (dk_at dksX3_writesBlock_6 21 rfl rfl)
theorem dX3_writesBlock_167 : decode cX3_writesBlock 167 = .ok (.iconst 3, 1) := dk_6 (dk_at dksX3_writesBlock_7 0 rfl rfl)
theorem dX3_writesBlock_168 : decode cX3_writesBlock 168 = .ok (.iconst 0, 1) := dk_3 (dk_at dksX3_writesBlock_7 1 rfl rfl)
theorem dX3_writesBlock_169 : decode cX3_writesBlock 169 = .ok (.iastore, 1) := dk_79 (dk_at dksX3_writesBlock_7 2 rfl rfl)
theorem dX3_writesBlock_170 : decode cX3_writesBlock 170 = .ok (.aload_n 0, 1) := dk_42 (dk_at dksX3_writesBlock_7 3 rfl rfl)
theorem dX3_writesBlock_171 : decode cX3_writesBlock 171 = .ok (.dup, 1) := dk_89 (dk_at dksX3_writesBlock_7 4 rfl rfl)
theorem dX3_writesBlock_172 : decode cX3_writesBlock 172 = .ok (.getfield 254, 3) := dk_180 0 254 (dk_at dksX3_writesBlock_7 5 rfl rfl)
theorem dX3_writesBlock_175 : decode cX3_writesBlock 175 = .ok (.iconst 2, 1) := dk_5 (dk_at dksX3_writesBlock_7 8 rfl rfl)
theorem dX3_writesBlock_176 : decode cX3_writesBlock 176 = .ok (.iadd, 1) := dk_96 (dk_at dksX3_writesBlock_7 9 rfl rfl)
theorem dX3_writesBlock_177 : decode cX3_writesBlock 177 = .ok (.putfield 254, 3) := dk_181 0 254 (dk_at dksX3_writesBlock_7 10 rfl rfl)
theorem dX3_writesBlock_180 : decode cX3_writesBlock 180 = .ok (.return_, 1) := dk_177 (dk_at dksX3_writesBlock_7 13 rfl rfl)
abbrev cX3_interrupts : ByteArray := prog_28_method_44_code
def yX3_interrupts : MethodName := ⟨RX3, "interrupts", "()V"⟩
def dkwX3_interrupts_4 : List UInt8 := [42, 3, 181, 1, 7, 42, 42, 180, 0, 52, 27, 46, 181, 0, 254, 177]
abbrev dktX3_interrupts_4 : List UInt8 := dkwX3_interrupts_4 ++ []
def dkwX3_interrupts_3 : List UInt8 := [153, 0, 7, 4, 167, 0, 4, 3, 42, 180, 1, 4, 153, 0, 7, 5, 167, 0, 4, 3, 96, 182, 1, 37]
abbrev dktX3_interrupts_3 : List UInt8 := dkwX3_interrupts_3 ++ dktX3_interrupts_4
def dkwX3_interrupts_2 : List UInt8 := [3, 181, 1, 13, 42, 3, 181, 1, 10, 42, 42, 180, 0, 254, 182, 1, 37, 42, 42, 180, 1, 1]
abbrev dktX3_interrupts_2 : List UInt8 := dkwX3_interrupts_2 ++ dktX3_interrupts_3
def dkwX3_interrupts_1 : List UInt8 := [167, 0, 4, 4, 60, 42, 42, 180, 1, 10, 153, 0, 14, 42, 180, 1, 13, 153, 0, 7, 4, 167, 0, 4]
abbrev dktX3_interrupts_1 : List UInt8 := dkwX3_interrupts_1 ++ dktX3_interrupts_2
def dkwX3_interrupts_0 : List UInt8 := [42, 180, 0, 241, 5, 162, 0, 9, 42, 6, 182, 1, 34, 177, 42, 180, 1, 10, 153, 0, 7, 3]
abbrev dktX3_interrupts_0 : List UInt8 := dkwX3_interrupts_0 ++ dktX3_interrupts_1
theorem dksX3_interrupts_0 : cX3_interrupts.data.toList.drop 0 = dktX3_interrupts_0 := by decide +kernel
theorem dksX3_interrupts_1 : cX3_interrupts.data.toList.drop 22 = dktX3_interrupts_1 := dk_seg dksX3_interrupts_0 22 rfl rfl
theorem dksX3_interrupts_2 : cX3_interrupts.data.toList.drop 46 = dktX3_interrupts_2 := dk_seg dksX3_interrupts_1 24 rfl rfl
theorem dksX3_interrupts_3 : cX3_interrupts.data.toList.drop 68 = dktX3_interrupts_3 := dk_seg dksX3_interrupts_2 22 rfl rfl
theorem dksX3_interrupts_4 : cX3_interrupts.data.toList.drop 92 = dktX3_interrupts_4 := dk_seg dksX3_interrupts_3 24 rfl rfl
theorem dX3_interrupts_0 : decode cX3_interrupts 0 = .ok (.aload_n 0, 1) := dk_42 (dk_at dksX3_interrupts_0 0 rfl rfl)
theorem dX3_interrupts_1 : decode cX3_interrupts 1 = .ok (.getfield 241, 3) := dk_180 0 241 (dk_at dksX3_interrupts_0 1 rfl rfl)
theorem dX3_interrupts_4 : decode cX3_interrupts 4 = .ok (.iconst 2, 1) := dk_5 (dk_at dksX3_interrupts_0 4 rfl rfl)
theorem dX3_interrupts_5 : decode cX3_interrupts 5 = .ok (.if_icmp .ge 9, 3) := dk_162 0 9 (dk_at dksX3_interrupts_0 5 rfl rfl)
theorem dX3_interrupts_8 : decode cX3_interrupts 8 = .ok (.aload_n 0, 1) := dk_42 (dk_at dksX3_interrupts_0 8 rfl rfl)
theorem dX3_interrupts_9 : decode cX3_interrupts 9 = .ok (.iconst 3, 1) := dk_6 (dk_at dksX3_interrupts_0 9 rfl rfl)
theorem dX3_interrupts_10 : decode cX3_interrupts 10 = .ok (.invokevirtual 290, 3) := dk_182 1 34 (dk_at dksX3_interrupts_0 10 rfl rfl)
theorem dX3_interrupts_13 : decode cX3_interrupts 13 = .ok (.return_, 1) := dk_177 (dk_at dksX3_interrupts_0 13 rfl rfl)
theorem dX3_interrupts_14 : decode cX3_interrupts 14 = .ok (.aload_n 0, 1) := dk_42 (dk_at dksX3_interrupts_0 14 rfl rfl)
theorem dX3_interrupts_15 : decode cX3_interrupts 15 = .ok (.getfield 266, 3) := dk_180 1 10 (dk_at dksX3_interrupts_0 15 rfl rfl)
theorem dX3_interrupts_18 : decode cX3_interrupts 18 = .ok (.ifCond .eq 7, 3) := dk_153 0 7 (dk_at dksX3_interrupts_0 18 rfl rfl)
theorem dX3_interrupts_21 : decode cX3_interrupts 21 = .ok (.iconst 0, 1) := dk_3 (dk_at dksX3_interrupts_0 21 rfl rfl)
theorem dX3_interrupts_22 : decode cX3_interrupts 22 = .ok (.goto 4, 3) := dk_167 0 4 (dk_at dksX3_interrupts_1 0 rfl rfl)
theorem dX3_interrupts_25 : decode cX3_interrupts 25 = .ok (.iconst 1, 1) := dk_4 (dk_at dksX3_interrupts_1 3 rfl rfl)
theorem dX3_interrupts_26 : decode cX3_interrupts 26 = .ok (.istore_n 1, 1) := dk_60 (dk_at dksX3_interrupts_1 4 rfl rfl)
theorem dX3_interrupts_27 : decode cX3_interrupts 27 = .ok (.aload_n 0, 1) := dk_42 (dk_at dksX3_interrupts_1 5 rfl rfl)
theorem dX3_interrupts_28 : decode cX3_interrupts 28 = .ok (.aload_n 0, 1) := dk_42 (dk_at dksX3_interrupts_1 6 rfl rfl)
theorem dX3_interrupts_29 : decode cX3_interrupts 29 = .ok (.getfield 266, 3) := dk_180 1 10 (dk_at dksX3_interrupts_1 7 rfl rfl)
theorem dX3_interrupts_32 : decode cX3_interrupts 32 = .ok (.ifCond .eq 14, 3) := dk_153 0 14 (dk_at dksX3_interrupts_1 10 rfl rfl)
theorem dX3_interrupts_35 : decode cX3_interrupts 35 = .ok (.aload_n 0, 1) := dk_42 (dk_at dksX3_interrupts_1 13 rfl rfl)
theorem dX3_interrupts_36 : decode cX3_interrupts 36 = .ok (.getfield 269, 3) := dk_180 1 13 (dk_at dksX3_interrupts_1 14 rfl rfl)
theorem dX3_interrupts_39 : decode cX3_interrupts 39 = .ok (.ifCond .eq 7, 3) := dk_153 0 7 (dk_at dksX3_interrupts_1 17 rfl rfl)
theorem dX3_interrupts_42 : decode cX3_interrupts 42 = .ok (.iconst 1, 1) := dk_4 (dk_at dksX3_interrupts_1 20 rfl rfl)
theorem dX3_interrupts_43 : decode cX3_interrupts 43 = .ok (.goto 4, 3) := dk_167 0 4 (dk_at dksX3_interrupts_1 21 rfl rfl)
theorem dX3_interrupts_46 : decode cX3_interrupts 46 = .ok (.iconst 0, 1) := dk_3 (dk_at dksX3_interrupts_2 0 rfl rfl)
theorem dX3_interrupts_47 : decode cX3_interrupts 47 = .ok (.putfield 269, 3) := dk_181 1 13 (dk_at dksX3_interrupts_2 1 rfl rfl)
theorem dX3_interrupts_50 : decode cX3_interrupts 50 = .ok (.aload_n 0, 1) := dk_42 (dk_at dksX3_interrupts_2 4 rfl rfl)
theorem dX3_interrupts_51 : decode cX3_interrupts 51 = .ok (.iconst 0, 1) := dk_3 (dk_at dksX3_interrupts_2 5 rfl rfl)
theorem dX3_interrupts_52 : decode cX3_interrupts 52 = .ok (.putfield 266, 3) := dk_181 1 10 (dk_at dksX3_interrupts_2 6 rfl rfl)
theorem dX3_interrupts_55 : decode cX3_interrupts 55 = .ok (.aload_n 0, 1) := dk_42 (dk_at dksX3_interrupts_2 9 rfl rfl)
theorem dX3_interrupts_56 : decode cX3_interrupts 56 = .ok (.aload_n 0, 1) := dk_42 (dk_at dksX3_interrupts_2 10 rfl rfl)
theorem dX3_interrupts_57 : decode cX3_interrupts 57 = .ok (.getfield 254, 3) := dk_180 0 254 (dk_at dksX3_interrupts_2 11 rfl rfl)
theorem dX3_interrupts_60 : decode cX3_interrupts 60 = .ok (.invokevirtual 293, 3) := dk_182 1 37 (dk_at dksX3_interrupts_2 14 rfl rfl)
theorem dX3_interrupts_63 : decode cX3_interrupts 63 = .ok (.aload_n 0, 1) := dk_42 (dk_at dksX3_interrupts_2 17 rfl rfl)
theorem dX3_interrupts_64 : decode cX3_interrupts 64 = .ok (.aload_n 0, 1) := dk_42 (dk_at dksX3_interrupts_2 18 rfl rfl)
theorem dX3_interrupts_65 : decode cX3_interrupts 65 = .ok (.getfield 257, 3) := dk_180 1 1 (dk_at dksX3_interrupts_2 19 rfl rfl)
theorem dX3_interrupts_68 : decode cX3_interrupts 68 = .ok (.ifCond .eq 7, 3) := dk_153 0 7 (dk_at dksX3_interrupts_3 0 rfl rfl)
theorem dX3_interrupts_71 : decode cX3_interrupts 71 = .ok (.iconst 1, 1) := dk_4 (dk_at dksX3_interrupts_3 3 rfl rfl)
theorem dX3_interrupts_72 : decode cX3_interrupts 72 = .ok (.goto 4, 3) := dk_167 0 4 (dk_at dksX3_interrupts_3 4 rfl rfl)
theorem dX3_interrupts_75 : decode cX3_interrupts 75 = .ok (.iconst 0, 1) := dk_3 (dk_at dksX3_interrupts_3 7 rfl rfl)
theorem dX3_interrupts_76 : decode cX3_interrupts 76 = .ok (.aload_n 0, 1) := dk_42 (dk_at dksX3_interrupts_3 8 rfl rfl)
theorem dX3_interrupts_77 : decode cX3_interrupts 77 = .ok (.getfield 260, 3) := dk_180 1 4 (dk_at dksX3_interrupts_3 9 rfl rfl)
theorem dX3_interrupts_80 : decode cX3_interrupts 80 = .ok (.ifCond .eq 7, 3) := dk_153 0 7 (dk_at dksX3_interrupts_3 12 rfl rfl)
theorem dX3_interrupts_83 : decode cX3_interrupts 83 = .ok (.iconst 2, 1) := dk_5 (dk_at dksX3_interrupts_3 15 rfl rfl)
theorem dX3_interrupts_84 : decode cX3_interrupts 84 = .ok (.goto 4, 3) := dk_167 0 4 (dk_at dksX3_interrupts_3 16 rfl rfl)
theorem dX3_interrupts_87 : decode cX3_interrupts 87 = .ok (.iconst 0, 1) := dk_3 (dk_at dksX3_interrupts_3 19 rfl rfl)
theorem dX3_interrupts_88 : decode cX3_interrupts 88 = .ok (.iadd, 1) := dk_96 (dk_at dksX3_interrupts_3 20 rfl rfl)
theorem dX3_interrupts_89 : decode cX3_interrupts 89 = .ok (.invokevirtual 293, 3) := dk_182 1 37 (dk_at dksX3_interrupts_3 21 rfl rfl)
theorem dX3_interrupts_92 : decode cX3_interrupts 92 = .ok (.aload_n 0, 1) := dk_42 (dk_at dksX3_interrupts_4 0 rfl rfl)
theorem dX3_interrupts_93 : decode cX3_interrupts 93 = .ok (.iconst 0, 1) := dk_3 (dk_at dksX3_interrupts_4 1 rfl rfl)
theorem dX3_interrupts_94 : decode cX3_interrupts 94 = .ok (.putfield 263, 3) := dk_181 1 7 (dk_at dksX3_interrupts_4 2 rfl rfl)
theorem dX3_interrupts_97 : decode cX3_interrupts 97 = .ok (.aload_n 0, 1) := dk_42 (dk_at dksX3_interrupts_4 5 rfl rfl)
theorem dX3_interrupts_98 : decode cX3_interrupts 98 = .ok (.aload_n 0, 1) := dk_42 (dk_at dksX3_interrupts_4 6 rfl rfl)
theorem dX3_interrupts_99 : decode cX3_interrupts 99 = .ok (.getfield 52, 3) := dk_180 0 52 (dk_at dksX3_interrupts_4 7 rfl rfl)
theorem dX3_interrupts_102 : decode cX3_interrupts 102 = .ok (.iload_n 1, 1) := dk_27 (dk_at dksX3_interrupts_4 10 rfl rfl)
theorem dX3_interrupts_103 : decode cX3_interrupts 103 = .ok (.iaload, 1) := dk_46 (dk_at dksX3_interrupts_4 11 rfl rfl)
theorem dX3_interrupts_104 : decode cX3_interrupts 104 = .ok (.putfield 254, 3) := dk_181 0 254 (dk_at dksX3_interrupts_4 12 rfl rfl)
theorem dX3_interrupts_107 : decode cX3_interrupts 107 = .ok (.return_, 1) := dk_177 (dk_at dksX3_interrupts_4 15 rfl rfl)
abbrev cX3_faults : ByteArray := prog_28_method_39_code
def yX3_faults : MethodName := ⟨RX3, "faults", "(I)V"⟩
def dkwX3_faults_0 : List UInt8 := [42, 6, 181, 0, 232, 42, 27, 181, 0, 248, 177]
abbrev dktX3_faults_0 : List UInt8 := dkwX3_faults_0 ++ []
theorem dksX3_faults_0 : cX3_faults.data.toList.drop 0 = dktX3_faults_0 := by decide +kernel
theorem dX3_faults_0 : decode cX3_faults 0 = .ok (.aload_n 0, 1) := dk_42 (dk_at dksX3_faults_0 0 rfl rfl)
theorem dX3_faults_1 : decode cX3_faults 1 = .ok (.iconst 3, 1) := dk_6 (dk_at dksX3_faults_0 1 rfl rfl)
theorem dX3_faults_2 : decode cX3_faults 2 = .ok (.putfield 232, 3) := dk_181 0 232 (dk_at dksX3_faults_0 2 rfl rfl)
theorem dX3_faults_5 : decode cX3_faults 5 = .ok (.aload_n 0, 1) := dk_42 (dk_at dksX3_faults_0 5 rfl rfl)
theorem dX3_faults_6 : decode cX3_faults 6 = .ok (.iload_n 1, 1) := dk_27 (dk_at dksX3_faults_0 6 rfl rfl)
theorem dX3_faults_7 : decode cX3_faults 7 = .ok (.putfield 248, 3) := dk_181 0 248 (dk_at dksX3_faults_0 7 rfl rfl)
theorem dX3_faults_10 : decode cX3_faults 10 = .ok (.return_, 1) := dk_177 (dk_at dksX3_faults_0 10 rfl rfl)
abbrev cX3_pushes : ByteArray := prog_28_method_37_code
def yX3_pushes : MethodName := ⟨RX3, "pushes", "(I)V"⟩
def dkwX3_pushes_0 : List UInt8 := [42, 89, 180, 0, 241, 4, 100, 181, 0, 241, 42, 42, 180, 0, 241, 27, 182, 0, 244, 177]
abbrev dktX3_pushes_0 : List UInt8 := dkwX3_pushes_0 ++ []
theorem dksX3_pushes_0 : cX3_pushes.data.toList.drop 0 = dktX3_pushes_0 := by decide +kernel
theorem dX3_pushes_0 : decode cX3_pushes 0 = .ok (.aload_n 0, 1) := dk_42 (dk_at dksX3_pushes_0 0 rfl rfl)
theorem dX3_pushes_1 : decode cX3_pushes 1 = .ok (.dup, 1) := dk_89 (dk_at dksX3_pushes_0 1 rfl rfl)
theorem dX3_pushes_2 : decode cX3_pushes 2 = .ok (.getfield 241, 3) := dk_180 0 241 (dk_at dksX3_pushes_0 2 rfl rfl)
theorem dX3_pushes_5 : decode cX3_pushes 5 = .ok (.iconst 1, 1) := dk_4 (dk_at dksX3_pushes_0 5 rfl rfl)
theorem dX3_pushes_6 : decode cX3_pushes 6 = .ok (.isub, 1) := dk_100 (dk_at dksX3_pushes_0 6 rfl rfl)
theorem dX3_pushes_7 : decode cX3_pushes 7 = .ok (.putfield 241, 3) := dk_181 0 241 (dk_at dksX3_pushes_0 7 rfl rfl)
theorem dX3_pushes_10 : decode cX3_pushes 10 = .ok (.aload_n 0, 1) := dk_42 (dk_at dksX3_pushes_0 10 rfl rfl)
theorem dX3_pushes_11 : decode cX3_pushes 11 = .ok (.aload_n 0, 1) := dk_42 (dk_at dksX3_pushes_0 11 rfl rfl)
theorem dX3_pushes_12 : decode cX3_pushes 12 = .ok (.getfield 241, 3) := dk_180 0 241 (dk_at dksX3_pushes_0 12 rfl rfl)
theorem dX3_pushes_15 : decode cX3_pushes 15 = .ok (.iload_n 1, 1) := dk_27 (dk_at dksX3_pushes_0 15 rfl rfl)
theorem dX3_pushes_16 : decode cX3_pushes 16 = .ok (.invokevirtual 244, 3) := dk_182 0 244 (dk_at dksX3_pushes_0 16 rfl rfl)
theorem dX3_pushes_19 : decode cX3_pushes 19 = .ok (.return_, 1) := dk_177 (dk_at dksX3_pushes_0 19 rfl rfl)
abbrev cX3_writes : ByteArray := prog_28_method_36_code
def yX3_writes : MethodName := ⟨RX3, "writes", "(II)V"⟩
def dkwX3_writes_0 : List UInt8 := [42, 180, 0, 52, 27, 28, 79, 42, 27, 182, 0, 238, 177]
abbrev dktX3_writes_0 : List UInt8 := dkwX3_writes_0 ++ []
theorem dksX3_writes_0 : cX3_writes.data.toList.drop 0 = dktX3_writes_0 := by decide +kernel
theorem dX3_writes_0 : decode cX3_writes 0 = .ok (.aload_n 0, 1) := dk_42 (dk_at dksX3_writes_0 0 rfl rfl)
theorem dX3_writes_1 : decode cX3_writes 1 = .ok (.getfield 52, 3) := dk_180 0 52 (dk_at dksX3_writes_0 1 rfl rfl)
theorem dX3_writes_4 : decode cX3_writes 4 = .ok (.iload_n 1, 1) := dk_27 (dk_at dksX3_writes_0 4 rfl rfl)
theorem dX3_writes_5 : decode cX3_writes 5 = .ok (.iload_n 2, 1) := dk_28 (dk_at dksX3_writes_0 5 rfl rfl)
theorem dX3_writes_6 : decode cX3_writes 6 = .ok (.iastore, 1) := dk_79 (dk_at dksX3_writes_0 6 rfl rfl)
theorem dX3_writes_7 : decode cX3_writes 7 = .ok (.aload_n 0, 1) := dk_42 (dk_at dksX3_writes_0 7 rfl rfl)
theorem dX3_writes_8 : decode cX3_writes 8 = .ok (.iload_n 1, 1) := dk_27 (dk_at dksX3_writes_0 8 rfl rfl)
theorem dX3_writes_9 : decode cX3_writes 9 = .ok (.invokevirtual 238, 3) := dk_182 0 238 (dk_at dksX3_writes_0 9 rfl rfl)
theorem dX3_writes_12 : decode cX3_writes 12 = .ok (.return_, 1) := dk_177 (dk_at dksX3_writes_0 12 rfl rfl)
abbrev cX3_keepsWrite : ByteArray := prog_28_method_35_code
def yX3_keepsWrite : MethodName := ⟨RX3, "keepsWrite", "(I)V"⟩
def dkwX3_keepsWrite_3 : List UInt8 := [46, 79, 177]
abbrev dktX3_keepsWrite_3 : List UInt8 := dkwX3_keepsWrite_3 ++ []
def dkwX3_keepsWrite_2 : List UInt8 := [180, 0, 67, 42, 180, 0, 235, 46, 2, 160, 0, 7, 27, 167, 0, 12, 42, 180, 0, 67, 42, 180, 0, 235]
abbrev dktX3_keepsWrite_2 : List UInt8 := dkwX3_keepsWrite_2 ++ dktX3_keepsWrite_3
def dkwX3_keepsWrite_1 : List UInt8 := [180, 0, 235, 46, 2, 160, 0, 7, 2, 167, 0, 4, 27, 79, 42, 180, 0, 67, 42, 180, 0, 235, 42]
abbrev dktX3_keepsWrite_1 : List UInt8 := dkwX3_keepsWrite_1 ++ dktX3_keepsWrite_2
def dkwX3_keepsWrite_0 : List UInt8 := [42, 180, 0, 235, 17, 3, 232, 162, 0, 65, 42, 180, 0, 70, 42, 180, 0, 235, 42, 180, 0, 67, 42]
abbrev dktX3_keepsWrite_0 : List UInt8 := dkwX3_keepsWrite_0 ++ dktX3_keepsWrite_1
theorem dksX3_keepsWrite_0 : cX3_keepsWrite.data.toList.drop 0 = dktX3_keepsWrite_0 := by decide +kernel
theorem dksX3_keepsWrite_1 : cX3_keepsWrite.data.toList.drop 23 = dktX3_keepsWrite_1 := dk_seg dksX3_keepsWrite_0 23 rfl rfl
theorem dksX3_keepsWrite_2 : cX3_keepsWrite.data.toList.drop 46 = dktX3_keepsWrite_2 := dk_seg dksX3_keepsWrite_1 23 rfl rfl
theorem dksX3_keepsWrite_3 : cX3_keepsWrite.data.toList.drop 70 = dktX3_keepsWrite_3 := dk_seg dksX3_keepsWrite_2 24 rfl rfl
theorem dX3_keepsWrite_0 : decode cX3_keepsWrite 0 = .ok (.aload_n 0, 1) := dk_42 (dk_at dksX3_keepsWrite_0 0 rfl rfl)
theorem dX3_keepsWrite_1 : decode cX3_keepsWrite 1 = .ok (.getfield 235, 3) := dk_180 0 235 (dk_at dksX3_keepsWrite_0 1 rfl rfl)
theorem dX3_keepsWrite_4 : decode cX3_keepsWrite 4 = .ok (.sipush 1000, 3) := dk_17 3 232 (dk_at dksX3_keepsWrite_0 4 rfl rfl)
theorem dX3_keepsWrite_7 : decode cX3_keepsWrite 7 = .ok (.if_icmp .ge 65, 3) := dk_162 0 65 (dk_at dksX3_keepsWrite_0 7 rfl rfl)
theorem dX3_keepsWrite_10 : decode cX3_keepsWrite 10 = .ok (.aload_n 0, 1) := dk_42 (dk_at dksX3_keepsWrite_0 10 rfl rfl)
theorem dX3_keepsWrite_11 : decode cX3_keepsWrite 11 = .ok (.getfield 70, 3) := dk_180 0 70 (dk_at dksX3_keepsWrite_0 11 rfl rfl)
theorem dX3_keepsWrite_14 : decode cX3_keepsWrite 14 = .ok (.aload_n 0, 1) := dk_42 (dk_at dksX3_keepsWrite_0 14 rfl rfl)
theorem dX3_keepsWrite_15 : decode cX3_keepsWrite 15 = .ok (.getfield 235, 3) := dk_180 0 235 (dk_at dksX3_keepsWrite_0 15 rfl rfl)
theorem dX3_keepsWrite_18 : decode cX3_keepsWrite 18 = .ok (.aload_n 0, 1) := dk_42 (dk_at dksX3_keepsWrite_0 18 rfl rfl)
theorem dX3_keepsWrite_19 : decode cX3_keepsWrite 19 = .ok (.getfield 67, 3) := dk_180 0 67 (dk_at dksX3_keepsWrite_0 19 rfl rfl)
theorem dX3_keepsWrite_22 : decode cX3_keepsWrite 22 = .ok (.aload_n 0, 1) := dk_42 (dk_at dksX3_keepsWrite_0 22 rfl rfl)
theorem dX3_keepsWrite_23 : decode cX3_keepsWrite 23 = .ok (.getfield 235, 3) := dk_180 0 235 (dk_at dksX3_keepsWrite_1 0 rfl rfl)
theorem dX3_keepsWrite_26 : decode cX3_keepsWrite 26 = .ok (.iaload, 1) := dk_46 (dk_at dksX3_keepsWrite_1 3 rfl rfl)
theorem dX3_keepsWrite_27 : decode cX3_keepsWrite 27 = .ok (.iconst (-1), 1) := dk_2 (dk_at dksX3_keepsWrite_1 4 rfl rfl)
theorem dX3_keepsWrite_28 : decode cX3_keepsWrite 28 = .ok (.if_icmp .ne 7, 3) := dk_160 0 7 (dk_at dksX3_keepsWrite_1 5 rfl rfl)
theorem dX3_keepsWrite_31 : decode cX3_keepsWrite 31 = .ok (.iconst (-1), 1) := dk_2 (dk_at dksX3_keepsWrite_1 8 rfl rfl)
theorem dX3_keepsWrite_32 : decode cX3_keepsWrite 32 = .ok (.goto 4, 3) := dk_167 0 4 (dk_at dksX3_keepsWrite_1 9 rfl rfl)
theorem dX3_keepsWrite_35 : decode cX3_keepsWrite 35 = .ok (.iload_n 1, 1) := dk_27 (dk_at dksX3_keepsWrite_1 12 rfl rfl)
theorem dX3_keepsWrite_36 : decode cX3_keepsWrite 36 = .ok (.iastore, 1) := dk_79 (dk_at dksX3_keepsWrite_1 13 rfl rfl)
theorem dX3_keepsWrite_37 : decode cX3_keepsWrite 37 = .ok (.aload_n 0, 1) := dk_42 (dk_at dksX3_keepsWrite_1 14 rfl rfl)
theorem dX3_keepsWrite_38 : decode cX3_keepsWrite 38 = .ok (.getfield 67, 3) := dk_180 0 67 (dk_at dksX3_keepsWrite_1 15 rfl rfl)
theorem dX3_keepsWrite_41 : decode cX3_keepsWrite 41 = .ok (.aload_n 0, 1) := dk_42 (dk_at dksX3_keepsWrite_1 18 rfl rfl)
theorem dX3_keepsWrite_42 : decode cX3_keepsWrite 42 = .ok (.getfield 235, 3) := dk_180 0 235 (dk_at dksX3_keepsWrite_1 19 rfl rfl)
theorem dX3_keepsWrite_45 : decode cX3_keepsWrite 45 = .ok (.aload_n 0, 1) := dk_42 (dk_at dksX3_keepsWrite_1 22 rfl rfl)
theorem dX3_keepsWrite_46 : decode cX3_keepsWrite 46 = .ok (.getfield 67, 3) := dk_180 0 67 (dk_at dksX3_keepsWrite_2 0 rfl rfl)
theorem dX3_keepsWrite_49 : decode cX3_keepsWrite 49 = .ok (.aload_n 0, 1) := dk_42 (dk_at dksX3_keepsWrite_2 3 rfl rfl)
theorem dX3_keepsWrite_50 : decode cX3_keepsWrite 50 = .ok (.getfield 235, 3) := dk_180 0 235 (dk_at dksX3_keepsWrite_2 4 rfl rfl)
theorem dX3_keepsWrite_53 : decode cX3_keepsWrite 53 = .ok (.iaload, 1) := dk_46 (dk_at dksX3_keepsWrite_2 7 rfl rfl)
theorem dX3_keepsWrite_54 : decode cX3_keepsWrite 54 = .ok (.iconst (-1), 1) := dk_2 (dk_at dksX3_keepsWrite_2 8 rfl rfl)
theorem dX3_keepsWrite_55 : decode cX3_keepsWrite 55 = .ok (.if_icmp .ne 7, 3) := dk_160 0 7 (dk_at dksX3_keepsWrite_2 9 rfl rfl)
theorem dX3_keepsWrite_58 : decode cX3_keepsWrite 58 = .ok (.iload_n 1, 1) := dk_27 (dk_at dksX3_keepsWrite_2 12 rfl rfl)
theorem dX3_keepsWrite_59 : decode cX3_keepsWrite 59 = .ok (.goto 12, 3) := dk_167 0 12 (dk_at dksX3_keepsWrite_2 13 rfl rfl)
theorem dX3_keepsWrite_62 : decode cX3_keepsWrite 62 = .ok (.aload_n 0, 1) := dk_42 (dk_at dksX3_keepsWrite_2 16 rfl rfl)
theorem dX3_keepsWrite_63 : decode cX3_keepsWrite 63 = .ok (.getfield 67, 3) := dk_180 0 67 (dk_at dksX3_keepsWrite_2 17 rfl rfl)
theorem dX3_keepsWrite_66 : decode cX3_keepsWrite 66 = .ok (.aload_n 0, 1) := dk_42 (dk_at dksX3_keepsWrite_2 20 rfl rfl)
theorem dX3_keepsWrite_67 : decode cX3_keepsWrite 67 = .ok (.getfield 235, 3) := dk_180 0 235 (dk_at dksX3_keepsWrite_2 21 rfl rfl)
theorem dX3_keepsWrite_70 : decode cX3_keepsWrite 70 = .ok (.iaload, 1) := dk_46 (dk_at dksX3_keepsWrite_3 0 rfl rfl)
theorem dX3_keepsWrite_71 : decode cX3_keepsWrite 71 = .ok (.iastore, 1) := dk_79 (dk_at dksX3_keepsWrite_3 1 rfl rfl)
theorem dX3_keepsWrite_72 : decode cX3_keepsWrite 72 = .ok (.return_, 1) := dk_177 (dk_at dksX3_keepsWrite_3 2 rfl rfl)
abbrev cX3_instructs : ByteArray := prog_28_method_46_code
def yX3_instructs : MethodName := ⟨RX3, "instructs", "()V"⟩
def dkwX3_instructs_6 : List UInt8 := [16, 16, 108, 28, 21, 4, 182, 1, 47, 167, 0, 14, 42, 27, 16, 16, 108, 28, 21, 4, 182, 1, 50, 177]
abbrev dktX3_instructs_6 : List UInt8 := dkwX3_instructs_6 ++ []
def dkwX3_instructs_5 : List UInt8 := [16, 16, 108, 28, 21, 4, 182, 1, 43, 167, 0, 37, 27, 16, 16, 108, 16, 19, 162, 0, 17, 42, 27]
abbrev dktX3_instructs_5 : List UInt8 := dkwX3_instructs_5 ++ dktX3_instructs_6
def dkwX3_instructs_4 : List UInt8 := [153, 0, 12, 42, 21, 5, 182, 1, 34, 167, 0, 60, 27, 16, 16, 108, 16, 12, 162, 0, 17, 42, 27]
abbrev dktX3_instructs_4 : List UInt8 := dkwX3_instructs_4 ++ dktX3_instructs_5
def dkwX3_instructs_3 : List UInt8 := [96, 46, 96, 18, 180, 112, 54, 4, 42, 27, 16, 16, 108, 21, 4, 182, 1, 40, 54, 5, 21, 5]
abbrev dktX3_instructs_3 : List UInt8 := dkwX3_instructs_3 ++ dktX3_instructs_4
def dkwX3_instructs_2 : List UInt8 := [180, 0, 254, 4, 96, 46, 167, 0, 24, 42, 180, 0, 55, 29, 46, 42, 180, 0, 52, 42, 180, 0, 254, 4]
abbrev dktX3_instructs_2 : List UInt8 := dkwX3_instructs_2 ++ dktX3_instructs_3
def dkwX3_instructs_1 : List UInt8 := [46, 60, 27, 7, 108, 7, 112, 61, 27, 7, 112, 62, 28, 29, 160, 0, 17, 42, 180, 0, 52, 42]
abbrev dktX3_instructs_1 : List UInt8 := dkwX3_instructs_1 ++ dktX3_instructs_2
def dkwX3_instructs_0 : List UInt8 := [42, 180, 0, 254, 17, 0, 254, 164, 0, 9, 42, 4, 182, 1, 34, 177, 42, 180, 0, 52, 42, 180, 0, 254]
abbrev dktX3_instructs_0 : List UInt8 := dkwX3_instructs_0 ++ dktX3_instructs_1
theorem dksX3_instructs_0 : cX3_instructs.data.toList.drop 0 = dktX3_instructs_0 := by decide +kernel
theorem dksX3_instructs_1 : cX3_instructs.data.toList.drop 24 = dktX3_instructs_1 := dk_seg dksX3_instructs_0 24 rfl rfl
theorem dksX3_instructs_2 : cX3_instructs.data.toList.drop 46 = dktX3_instructs_2 := dk_seg dksX3_instructs_1 22 rfl rfl
theorem dksX3_instructs_3 : cX3_instructs.data.toList.drop 70 = dktX3_instructs_3 := dk_seg dksX3_instructs_2 24 rfl rfl
theorem dksX3_instructs_4 : cX3_instructs.data.toList.drop 92 = dktX3_instructs_4 := dk_seg dksX3_instructs_3 22 rfl rfl
theorem dksX3_instructs_5 : cX3_instructs.data.toList.drop 115 = dktX3_instructs_5 := dk_seg dksX3_instructs_4 23 rfl rfl
theorem dksX3_instructs_6 : cX3_instructs.data.toList.drop 138 = dktX3_instructs_6 := dk_seg dksX3_instructs_5 23 rfl rfl
theorem dX3_instructs_0 : decode cX3_instructs 0 = .ok (.aload_n 0, 1) := dk_42 (dk_at dksX3_instructs_0 0 rfl rfl)
theorem dX3_instructs_1 : decode cX3_instructs 1 = .ok (.getfield 254, 3) := dk_180 0 254 (dk_at dksX3_instructs_0 1 rfl rfl)
theorem dX3_instructs_4 : decode cX3_instructs 4 = .ok (.sipush 254, 3) := dk_17 0 254 (dk_at dksX3_instructs_0 4 rfl rfl)
theorem dX3_instructs_7 : decode cX3_instructs 7 = .ok (.if_icmp .le 9, 3) := dk_164 0 9 (dk_at dksX3_instructs_0 7 rfl rfl)
theorem dX3_instructs_10 : decode cX3_instructs 10 = .ok (.aload_n 0, 1) := dk_42 (dk_at dksX3_instructs_0 10 rfl rfl)
theorem dX3_instructs_11 : decode cX3_instructs 11 = .ok (.iconst 1, 1) := dk_4 (dk_at dksX3_instructs_0 11 rfl rfl)
theorem dX3_instructs_12 : decode cX3_instructs 12 = .ok (.invokevirtual 290, 3) := dk_182 1 34 (dk_at dksX3_instructs_0 12 rfl rfl)
theorem dX3_instructs_15 : decode cX3_instructs 15 = .ok (.return_, 1) := dk_177 (dk_at dksX3_instructs_0 15 rfl rfl)
theorem dX3_instructs_16 : decode cX3_instructs 16 = .ok (.aload_n 0, 1) := dk_42 (dk_at dksX3_instructs_0 16 rfl rfl)
theorem dX3_instructs_17 : decode cX3_instructs 17 = .ok (.getfield 52, 3) := dk_180 0 52 (dk_at dksX3_instructs_0 17 rfl rfl)
theorem dX3_instructs_20 : decode cX3_instructs 20 = .ok (.aload_n 0, 1) := dk_42 (dk_at dksX3_instructs_0 20 rfl rfl)
theorem dX3_instructs_21 : decode cX3_instructs 21 = .ok (.getfield 254, 3) := dk_180 0 254 (dk_at dksX3_instructs_0 21 rfl rfl)
theorem dX3_instructs_24 : decode cX3_instructs 24 = .ok (.iaload, 1) := dk_46 (dk_at dksX3_instructs_1 0 rfl rfl)
theorem dX3_instructs_25 : decode cX3_instructs 25 = .ok (.istore_n 1, 1) := dk_60 (dk_at dksX3_instructs_1 1 rfl rfl)
theorem dX3_instructs_26 : decode cX3_instructs 26 = .ok (.iload_n 1, 1) := dk_27 (dk_at dksX3_instructs_1 2 rfl rfl)
theorem dX3_instructs_27 : decode cX3_instructs 27 = .ok (.iconst 4, 1) := dk_7 (dk_at dksX3_instructs_1 3 rfl rfl)
theorem dX3_instructs_28 : decode cX3_instructs 28 = .ok (.idiv, 1) := dk_108 (dk_at dksX3_instructs_1 4 rfl rfl)
theorem dX3_instructs_29 : decode cX3_instructs 29 = .ok (.iconst 4, 1) := dk_7 (dk_at dksX3_instructs_1 5 rfl rfl)
theorem dX3_instructs_30 : decode cX3_instructs 30 = .ok (.irem, 1) := dk_112 (dk_at dksX3_instructs_1 6 rfl rfl)
theorem dX3_instructs_31 : decode cX3_instructs 31 = .ok (.istore_n 2, 1) := dk_61 (dk_at dksX3_instructs_1 7 rfl rfl)
theorem dX3_instructs_32 : decode cX3_instructs 32 = .ok (.iload_n 1, 1) := dk_27 (dk_at dksX3_instructs_1 8 rfl rfl)
theorem dX3_instructs_33 : decode cX3_instructs 33 = .ok (.iconst 4, 1) := dk_7 (dk_at dksX3_instructs_1 9 rfl rfl)
theorem dX3_instructs_34 : decode cX3_instructs 34 = .ok (.irem, 1) := dk_112 (dk_at dksX3_instructs_1 10 rfl rfl)
theorem dX3_instructs_35 : decode cX3_instructs 35 = .ok (.istore_n 3, 1) := dk_62 (dk_at dksX3_instructs_1 11 rfl rfl)
theorem dX3_instructs_36 : decode cX3_instructs 36 = .ok (.iload_n 2, 1) := dk_28 (dk_at dksX3_instructs_1 12 rfl rfl)
theorem dX3_instructs_37 : decode cX3_instructs 37 = .ok (.iload_n 3, 1) := dk_29 (dk_at dksX3_instructs_1 13 rfl rfl)
theorem dX3_instructs_38 : decode cX3_instructs 38 = .ok (.if_icmp .ne 17, 3) := dk_160 0 17 (dk_at dksX3_instructs_1 14 rfl rfl)
theorem dX3_instructs_41 : decode cX3_instructs 41 = .ok (.aload_n 0, 1) := dk_42 (dk_at dksX3_instructs_1 17 rfl rfl)
theorem dX3_instructs_42 : decode cX3_instructs 42 = .ok (.getfield 52, 3) := dk_180 0 52 (dk_at dksX3_instructs_1 18 rfl rfl)
theorem dX3_instructs_45 : decode cX3_instructs 45 = .ok (.aload_n 0, 1) := dk_42 (dk_at dksX3_instructs_1 21 rfl rfl)
theorem dX3_instructs_46 : decode cX3_instructs 46 = .ok (.getfield 254, 3) := dk_180 0 254 (dk_at dksX3_instructs_2 0 rfl rfl)
theorem dX3_instructs_49 : decode cX3_instructs 49 = .ok (.iconst 1, 1) := dk_4 (dk_at dksX3_instructs_2 3 rfl rfl)
theorem dX3_instructs_50 : decode cX3_instructs 50 = .ok (.iadd, 1) := dk_96 (dk_at dksX3_instructs_2 4 rfl rfl)
theorem dX3_instructs_51 : decode cX3_instructs 51 = .ok (.iaload, 1) := dk_46 (dk_at dksX3_instructs_2 5 rfl rfl)
theorem dX3_instructs_52 : decode cX3_instructs 52 = .ok (.goto 24, 3) := dk_167 0 24 (dk_at dksX3_instructs_2 6 rfl rfl)
theorem dX3_instructs_55 : decode cX3_instructs 55 = .ok (.aload_n 0, 1) := dk_42 (dk_at dksX3_instructs_2 9 rfl rfl)
theorem dX3_instructs_56 : decode cX3_instructs 56 = .ok (.getfield 55, 3) := dk_180 0 55 (dk_at dksX3_instructs_2 10 rfl rfl)
theorem dX3_instructs_59 : decode cX3_instructs 59 = .ok (.iload_n 3, 1) := dk_29 (dk_at dksX3_instructs_2 13 rfl rfl)
theorem dX3_instructs_60 : decode cX3_instructs 60 = .ok (.iaload, 1) := dk_46 (dk_at dksX3_instructs_2 14 rfl rfl)
theorem dX3_instructs_61 : decode cX3_instructs 61 = .ok (.aload_n 0, 1) := dk_42 (dk_at dksX3_instructs_2 15 rfl rfl)
theorem dX3_instructs_62 : decode cX3_instructs 62 = .ok (.getfield 52, 3) := dk_180 0 52 (dk_at dksX3_instructs_2 16 rfl rfl)
theorem dX3_instructs_65 : decode cX3_instructs 65 = .ok (.aload_n 0, 1) := dk_42 (dk_at dksX3_instructs_2 19 rfl rfl)
theorem dX3_instructs_66 : decode cX3_instructs 66 = .ok (.getfield 254, 3) := dk_180 0 254 (dk_at dksX3_instructs_2 20 rfl rfl)
theorem dX3_instructs_69 : decode cX3_instructs 69 = .ok (.iconst 1, 1) := dk_4 (dk_at dksX3_instructs_2 23 rfl rfl)
theorem dX3_instructs_70 : decode cX3_instructs 70 = .ok (.iadd, 1) := dk_96 (dk_at dksX3_instructs_3 0 rfl rfl)
theorem dX3_instructs_71 : decode cX3_instructs 71 = .ok (.iaload, 1) := dk_46 (dk_at dksX3_instructs_3 1 rfl rfl)
theorem dX3_instructs_72 : decode cX3_instructs 72 = .ok (.iadd, 1) := dk_96 (dk_at dksX3_instructs_3 2 rfl rfl)
theorem dX3_instructs_73 : decode cX3_instructs 73 = .ok (.ldc 180, 2) := dk_18 180 (dk_at dksX3_instructs_3 3 rfl rfl)
theorem dX3_instructs_75 : decode cX3_instructs 75 = .ok (.irem, 1) := dk_112 (dk_at dksX3_instructs_3 5 rfl rfl)
theorem dX3_instructs_76 : decode cX3_instructs 76 = .ok (.istore 4, 2) := dk_54 4 (dk_at dksX3_instructs_3 6 rfl rfl)
theorem dX3_instructs_78 : decode cX3_instructs 78 = .ok (.aload_n 0, 1) := dk_42 (dk_at dksX3_instructs_3 8 rfl rfl)
theorem dX3_instructs_79 : decode cX3_instructs 79 = .ok (.iload_n 1, 1) := dk_27 (dk_at dksX3_instructs_3 9 rfl rfl)
theorem dX3_instructs_80 : decode cX3_instructs 80 = .ok (.bipush 16, 2) := dk_16 16 (dk_at dksX3_instructs_3 10 rfl rfl)
theorem dX3_instructs_82 : decode cX3_instructs 82 = .ok (.idiv, 1) := dk_108 (dk_at dksX3_instructs_3 12 rfl rfl)
theorem dX3_instructs_83 : decode cX3_instructs 83 = .ok (.iload 4, 2) := dk_21 4 (dk_at dksX3_instructs_3 13 rfl rfl)
theorem dX3_instructs_85 : decode cX3_instructs 85 = .ok (.invokevirtual 296, 3) := dk_182 1 40 (dk_at dksX3_instructs_3 15 rfl rfl)
theorem dX3_instructs_88 : decode cX3_instructs 88 = .ok (.istore 5, 2) := dk_54 5 (dk_at dksX3_instructs_3 18 rfl rfl)
theorem dX3_instructs_90 : decode cX3_instructs 90 = .ok (.iload 5, 2) := dk_21 5 (dk_at dksX3_instructs_3 20 rfl rfl)
theorem dX3_instructs_92 : decode cX3_instructs 92 = .ok (.ifCond .eq 12, 3) := dk_153 0 12 (dk_at dksX3_instructs_4 0 rfl rfl)
theorem dX3_instructs_95 : decode cX3_instructs 95 = .ok (.aload_n 0, 1) := dk_42 (dk_at dksX3_instructs_4 3 rfl rfl)
theorem dX3_instructs_96 : decode cX3_instructs 96 = .ok (.iload 5, 2) := dk_21 5 (dk_at dksX3_instructs_4 4 rfl rfl)
theorem dX3_instructs_98 : decode cX3_instructs 98 = .ok (.invokevirtual 290, 3) := dk_182 1 34 (dk_at dksX3_instructs_4 6 rfl rfl)
theorem dX3_instructs_101 : decode cX3_instructs 101 = .ok (.goto 60, 3) := dk_167 0 60 (dk_at dksX3_instructs_4 9 rfl rfl)
theorem dX3_instructs_104 : decode cX3_instructs 104 = .ok (.iload_n 1, 1) := dk_27 (dk_at dksX3_instructs_4 12 rfl rfl)
theorem dX3_instructs_105 : decode cX3_instructs 105 = .ok (.bipush 16, 2) := dk_16 16 (dk_at dksX3_instructs_4 13 rfl rfl)
theorem dX3_instructs_107 : decode cX3_instructs 107 = .ok (.idiv, 1) := dk_108 (dk_at dksX3_instructs_4 15 rfl rfl)
theorem dX3_instructs_108 : decode cX3_instructs 108 = .ok (.bipush 12, 2) := dk_16 12 (dk_at dksX3_instructs_4 16 rfl rfl)
theorem dX3_instructs_110 : decode cX3_instructs 110 = .ok (.if_icmp .ge 17, 3) := dk_162 0 17 (dk_at dksX3_instructs_4 18 rfl rfl)
theorem dX3_instructs_113 : decode cX3_instructs 113 = .ok (.aload_n 0, 1) := dk_42 (dk_at dksX3_instructs_4 21 rfl rfl)
theorem dX3_instructs_114 : decode cX3_instructs 114 = .ok (.iload_n 1, 1) := dk_27 (dk_at dksX3_instructs_4 22 rfl rfl)
theorem dX3_instructs_115 : decode cX3_instructs 115 = .ok (.bipush 16, 2) := dk_16 16 (dk_at dksX3_instructs_5 0 rfl rfl)
theorem dX3_instructs_117 : decode cX3_instructs 117 = .ok (.idiv, 1) := dk_108 (dk_at dksX3_instructs_5 2 rfl rfl)
theorem dX3_instructs_118 : decode cX3_instructs 118 = .ok (.iload_n 2, 1) := dk_28 (dk_at dksX3_instructs_5 3 rfl rfl)
theorem dX3_instructs_119 : decode cX3_instructs 119 = .ok (.iload 4, 2) := dk_21 4 (dk_at dksX3_instructs_5 4 rfl rfl)
theorem dX3_instructs_121 : decode cX3_instructs 121 = .ok (.invokevirtual 299, 3) := dk_182 1 43 (dk_at dksX3_instructs_5 6 rfl rfl)
theorem dX3_instructs_124 : decode cX3_instructs 124 = .ok (.goto 37, 3) := dk_167 0 37 (dk_at dksX3_instructs_5 9 rfl rfl)
theorem dX3_instructs_127 : decode cX3_instructs 127 = .ok (.iload_n 1, 1) := dk_27 (dk_at dksX3_instructs_5 12 rfl rfl)
theorem dX3_instructs_128 : decode cX3_instructs 128 = .ok (.bipush 16, 2) := dk_16 16 (dk_at dksX3_instructs_5 13 rfl rfl)
theorem dX3_instructs_130 : decode cX3_instructs 130 = .ok (.idiv, 1) := dk_108 (dk_at dksX3_instructs_5 15 rfl rfl)
theorem dX3_instructs_131 : decode cX3_instructs 131 = .ok (.bipush 19, 2) := dk_16 19 (dk_at dksX3_instructs_5 16 rfl rfl)
theorem dX3_instructs_133 : decode cX3_instructs 133 = .ok (.if_icmp .ge 17, 3) := dk_162 0 17 (dk_at dksX3_instructs_5 18 rfl rfl)
theorem dX3_instructs_136 : decode cX3_instructs 136 = .ok (.aload_n 0, 1) := dk_42 (dk_at dksX3_instructs_5 21 rfl rfl)
theorem dX3_instructs_137 : decode cX3_instructs 137 = .ok (.iload_n 1, 1) := dk_27 (dk_at dksX3_instructs_5 22 rfl rfl)
theorem dX3_instructs_138 : decode cX3_instructs 138 = .ok (.bipush 16, 2) := dk_16 16 (dk_at dksX3_instructs_6 0 rfl rfl)
theorem dX3_instructs_140 : decode cX3_instructs 140 = .ok (.idiv, 1) := dk_108 (dk_at dksX3_instructs_6 2 rfl rfl)
theorem dX3_instructs_141 : decode cX3_instructs 141 = .ok (.iload_n 2, 1) := dk_28 (dk_at dksX3_instructs_6 3 rfl rfl)
theorem dX3_instructs_142 : decode cX3_instructs 142 = .ok (.iload 4, 2) := dk_21 4 (dk_at dksX3_instructs_6 4 rfl rfl)
theorem dX3_instructs_144 : decode cX3_instructs 144 = .ok (.invokevirtual 303, 3) := dk_182 1 47 (dk_at dksX3_instructs_6 6 rfl rfl)
theorem dX3_instructs_147 : decode cX3_instructs 147 = .ok (.goto 14, 3) := dk_167 0 14 (dk_at dksX3_instructs_6 9 rfl rfl)
theorem dX3_instructs_150 : decode cX3_instructs 150 = .ok (.aload_n 0, 1) := dk_42 (dk_at dksX3_instructs_6 12 rfl rfl)
theorem dX3_instructs_151 : decode cX3_instructs 151 = .ok (.iload_n 1, 1) := dk_27 (dk_at dksX3_instructs_6 13 rfl rfl)
theorem dX3_instructs_152 : decode cX3_instructs 152 = .ok (.bipush 16, 2) := dk_16 16 (dk_at dksX3_instructs_6 14 rfl rfl)
theorem dX3_instructs_154 : decode cX3_instructs 154 = .ok (.idiv, 1) := dk_108 (dk_at dksX3_instructs_6 16 rfl rfl)
theorem dX3_instructs_155 : decode cX3_instructs 155 = .ok (.iload_n 2, 1) := dk_28 (dk_at dksX3_instructs_6 17 rfl rfl)
theorem dX3_instructs_156 : decode cX3_instructs 156 = .ok (.iload 4, 2) := dk_21 4 (dk_at dksX3_instructs_6 18 rfl rfl)
theorem dX3_instructs_158 : decode cX3_instructs 158 = .ok (.invokevirtual 306, 3) := dk_182 1 50 (dk_at dksX3_instructs_6 20 rfl rfl)
theorem dX3_instructs_161 : decode cX3_instructs 161 = .ok (.return_, 1) := dk_177 (dk_at dksX3_instructs_6 23 rfl rfl)
abbrev cX3_faultOf : ByteArray := prog_28_method_45_code
def yX3_faultOf : MethodName := ⟨RX3, "faultOf", "(II)I"⟩
def dkwX3_faultOf_5 : List UInt8 := [7, 167, 0, 4, 3, 172]
abbrev dktX3_faultOf_5 : List UInt8 := dkwX3_faultOf_5 ++ []
def dkwX3_faultOf_4 : List UInt8 := [96, 17, 1, 0, 164, 0, 5, 6, 172, 27, 16, 25, 160, 0, 16, 42, 180, 1, 22, 16, 60, 160, 0, 7]
abbrev dktX3_faultOf_4 : List UInt8 := dkwX3_faultOf_4 ++ dktX3_faultOf_5
def dkwX3_faultOf_3 : List UInt8 := [167, 0, 4, 3, 54, 4, 29, 153, 0, 11, 42, 180, 0, 241, 4, 161, 0, 16, 42, 180, 0, 241, 21, 4]
abbrev dktX3_faultOf_3 : List UInt8 := dkwX3_faultOf_3 ++ dktX3_faultOf_4
def dkwX3_faultOf_2 : List UInt8 := [16, 16, 159, 0, 9, 27, 16, 18, 160, 0, 7, 4, 167, 0, 14, 27, 16, 21, 160, 0, 7, 5]
abbrev dktX3_faultOf_2 : List UInt8 := dkwX3_faultOf_2 ++ dktX3_faultOf_3
def dkwX3_faultOf_1 : List UInt8 := [161, 0, 5, 4, 172, 27, 16, 15, 159, 0, 9, 27, 16, 17, 160, 0, 7, 4, 167, 0, 4, 3, 62, 27]
abbrev dktX3_faultOf_1 : List UInt8 := dkwX3_faultOf_1 ++ dktX3_faultOf_2
def dkwX3_faultOf_0 : List UInt8 := [27, 16, 26, 164, 0, 5, 5, 172, 27, 5, 159, 0, 8, 27, 6, 160, 0, 12, 28, 17, 1, 0]
abbrev dktX3_faultOf_0 : List UInt8 := dkwX3_faultOf_0 ++ dktX3_faultOf_1
theorem dksX3_faultOf_0 : cX3_faultOf.data.toList.drop 0 = dktX3_faultOf_0 := by decide +kernel
theorem dksX3_faultOf_1 : cX3_faultOf.data.toList.drop 22 = dktX3_faultOf_1 := dk_seg dksX3_faultOf_0 22 rfl rfl
theorem dksX3_faultOf_2 : cX3_faultOf.data.toList.drop 46 = dktX3_faultOf_2 := dk_seg dksX3_faultOf_1 24 rfl rfl
theorem dksX3_faultOf_3 : cX3_faultOf.data.toList.drop 68 = dktX3_faultOf_3 := dk_seg dksX3_faultOf_2 22 rfl rfl
theorem dksX3_faultOf_4 : cX3_faultOf.data.toList.drop 92 = dktX3_faultOf_4 := dk_seg dksX3_faultOf_3 24 rfl rfl
theorem dksX3_faultOf_5 : cX3_faultOf.data.toList.drop 116 = dktX3_faultOf_5 := dk_seg dksX3_faultOf_4 24 rfl rfl
theorem dX3_faultOf_0 : decode cX3_faultOf 0 = .ok (.iload_n 1, 1) := dk_27 (dk_at dksX3_faultOf_0 0 rfl rfl)
theorem dX3_faultOf_1 : decode cX3_faultOf 1 = .ok (.bipush 26, 2) := dk_16 26 (dk_at dksX3_faultOf_0 1 rfl rfl)
theorem dX3_faultOf_3 : decode cX3_faultOf 3 = .ok (.if_icmp .le 5, 3) := dk_164 0 5 (dk_at dksX3_faultOf_0 3 rfl rfl)
theorem dX3_faultOf_6 : decode cX3_faultOf 6 = .ok (.iconst 2, 1) := dk_5 (dk_at dksX3_faultOf_0 6 rfl rfl)
theorem dX3_faultOf_7 : decode cX3_faultOf 7 = .ok (.ireturn, 1) := dk_172 (dk_at dksX3_faultOf_0 7 rfl rfl)
theorem dX3_faultOf_8 : decode cX3_faultOf 8 = .ok (.iload_n 1, 1) := dk_27 (dk_at dksX3_faultOf_0 8 rfl rfl)
theorem dX3_faultOf_9 : decode cX3_faultOf 9 = .ok (.iconst 2, 1) := dk_5 (dk_at dksX3_faultOf_0 9 rfl rfl)
theorem dX3_faultOf_10 : decode cX3_faultOf 10 = .ok (.if_icmp .eq 8, 3) := dk_159 0 8 (dk_at dksX3_faultOf_0 10 rfl rfl)
theorem dX3_faultOf_13 : decode cX3_faultOf 13 = .ok (.iload_n 1, 1) := dk_27 (dk_at dksX3_faultOf_0 13 rfl rfl)
theorem dX3_faultOf_14 : decode cX3_faultOf 14 = .ok (.iconst 3, 1) := dk_6 (dk_at dksX3_faultOf_0 14 rfl rfl)
theorem dX3_faultOf_15 : decode cX3_faultOf 15 = .ok (.if_icmp .ne 12, 3) := dk_160 0 12 (dk_at dksX3_faultOf_0 15 rfl rfl)
theorem dX3_faultOf_18 : decode cX3_faultOf 18 = .ok (.iload_n 2, 1) := dk_28 (dk_at dksX3_faultOf_0 18 rfl rfl)
theorem dX3_faultOf_19 : decode cX3_faultOf 19 = .ok (.sipush 256, 3) := dk_17 1 0 (dk_at dksX3_faultOf_0 19 rfl rfl)
theorem dX3_faultOf_22 : decode cX3_faultOf 22 = .ok (.if_icmp .lt 5, 3) := dk_161 0 5 (dk_at dksX3_faultOf_1 0 rfl rfl)
theorem dX3_faultOf_25 : decode cX3_faultOf 25 = .ok (.iconst 1, 1) := dk_4 (dk_at dksX3_faultOf_1 3 rfl rfl)
theorem dX3_faultOf_26 : decode cX3_faultOf 26 = .ok (.ireturn, 1) := dk_172 (dk_at dksX3_faultOf_1 4 rfl rfl)
theorem dX3_faultOf_27 : decode cX3_faultOf 27 = .ok (.iload_n 1, 1) := dk_27 (dk_at dksX3_faultOf_1 5 rfl rfl)
theorem dX3_faultOf_28 : decode cX3_faultOf 28 = .ok (.bipush 15, 2) := dk_16 15 (dk_at dksX3_faultOf_1 6 rfl rfl)
theorem dX3_faultOf_30 : decode cX3_faultOf 30 = .ok (.if_icmp .eq 9, 3) := dk_159 0 9 (dk_at dksX3_faultOf_1 8 rfl rfl)
theorem dX3_faultOf_33 : decode cX3_faultOf 33 = .ok (.iload_n 1, 1) := dk_27 (dk_at dksX3_faultOf_1 11 rfl rfl)
theorem dX3_faultOf_34 : decode cX3_faultOf 34 = .ok (.bipush 17, 2) := dk_16 17 (dk_at dksX3_faultOf_1 12 rfl rfl)
theorem dX3_faultOf_36 : decode cX3_faultOf 36 = .ok (.if_icmp .ne 7, 3) := dk_160 0 7 (dk_at dksX3_faultOf_1 14 rfl rfl)
theorem dX3_faultOf_39 : decode cX3_faultOf 39 = .ok (.iconst 1, 1) := dk_4 (dk_at dksX3_faultOf_1 17 rfl rfl)
theorem dX3_faultOf_40 : decode cX3_faultOf 40 = .ok (.goto 4, 3) := dk_167 0 4 (dk_at dksX3_faultOf_1 18 rfl rfl)
theorem dX3_faultOf_43 : decode cX3_faultOf 43 = .ok (.iconst 0, 1) := dk_3 (dk_at dksX3_faultOf_1 21 rfl rfl)
theorem dX3_faultOf_44 : decode cX3_faultOf 44 = .ok (.istore_n 3, 1) := dk_62 (dk_at dksX3_faultOf_1 22 rfl rfl)
theorem dX3_faultOf_45 : decode cX3_faultOf 45 = .ok (.iload_n 1, 1) := dk_27 (dk_at dksX3_faultOf_1 23 rfl rfl)
theorem dX3_faultOf_46 : decode cX3_faultOf 46 = .ok (.bipush 16, 2) := dk_16 16 (dk_at dksX3_faultOf_2 0 rfl rfl)
theorem dX3_faultOf_48 : decode cX3_faultOf 48 = .ok (.if_icmp .eq 9, 3) := dk_159 0 9 (dk_at dksX3_faultOf_2 2 rfl rfl)
theorem dX3_faultOf_51 : decode cX3_faultOf 51 = .ok (.iload_n 1, 1) := dk_27 (dk_at dksX3_faultOf_2 5 rfl rfl)
theorem dX3_faultOf_52 : decode cX3_faultOf 52 = .ok (.bipush 18, 2) := dk_16 18 (dk_at dksX3_faultOf_2 6 rfl rfl)
theorem dX3_faultOf_54 : decode cX3_faultOf 54 = .ok (.if_icmp .ne 7, 3) := dk_160 0 7 (dk_at dksX3_faultOf_2 8 rfl rfl)
theorem dX3_faultOf_57 : decode cX3_faultOf 57 = .ok (.iconst 1, 1) := dk_4 (dk_at dksX3_faultOf_2 11 rfl rfl)
theorem dX3_faultOf_58 : decode cX3_faultOf 58 = .ok (.goto 14, 3) := dk_167 0 14 (dk_at dksX3_faultOf_2 12 rfl rfl)
theorem dX3_faultOf_61 : decode cX3_faultOf 61 = .ok (.iload_n 1, 1) := dk_27 (dk_at dksX3_faultOf_2 15 rfl rfl)
theorem dX3_faultOf_62 : decode cX3_faultOf 62 = .ok (.bipush 21, 2) := dk_16 21 (dk_at dksX3_faultOf_2 16 rfl rfl)
theorem dX3_faultOf_64 : decode cX3_faultOf 64 = .ok (.if_icmp .ne 7, 3) := dk_160 0 7 (dk_at dksX3_faultOf_2 18 rfl rfl)
theorem dX3_faultOf_67 : decode cX3_faultOf 67 = .ok (.iconst 2, 1) := dk_5 (dk_at dksX3_faultOf_2 21 rfl rfl)
theorem dX3_faultOf_68 : decode cX3_faultOf 68 = .ok (.goto 4, 3) := dk_167 0 4 (dk_at dksX3_faultOf_3 0 rfl rfl)
theorem dX3_faultOf_71 : decode cX3_faultOf 71 = .ok (.iconst 0, 1) := dk_3 (dk_at dksX3_faultOf_3 3 rfl rfl)
theorem dX3_faultOf_72 : decode cX3_faultOf 72 = .ok (.istore 4, 2) := dk_54 4 (dk_at dksX3_faultOf_3 4 rfl rfl)
theorem dX3_faultOf_74 : decode cX3_faultOf 74 = .ok (.iload_n 3, 1) := dk_29 (dk_at dksX3_faultOf_3 6 rfl rfl)
theorem dX3_faultOf_75 : decode cX3_faultOf 75 = .ok (.ifCond .eq 11, 3) := dk_153 0 11 (dk_at dksX3_faultOf_3 7 rfl rfl)
theorem dX3_faultOf_78 : decode cX3_faultOf 78 = .ok (.aload_n 0, 1) := dk_42 (dk_at dksX3_faultOf_3 10 rfl rfl)
theorem dX3_faultOf_79 : decode cX3_faultOf 79 = .ok (.getfield 241, 3) := dk_180 0 241 (dk_at dksX3_faultOf_3 11 rfl rfl)
theorem dX3_faultOf_82 : decode cX3_faultOf 82 = .ok (.iconst 1, 1) := dk_4 (dk_at dksX3_faultOf_3 14 rfl rfl)
theorem dX3_faultOf_83 : decode cX3_faultOf 83 = .ok (.if_icmp .lt 16, 3) := dk_161 0 16 (dk_at dksX3_faultOf_3 15 rfl rfl)
theorem dX3_faultOf_86 : decode cX3_faultOf 86 = .ok (.aload_n 0, 1) := dk_42 (dk_at dksX3_faultOf_3 18 rfl rfl)
theorem dX3_faultOf_87 : decode cX3_faultOf 87 = .ok (.getfield 241, 3) := dk_180 0 241 (dk_at dksX3_faultOf_3 19 rfl rfl)
theorem dX3_faultOf_90 : decode cX3_faultOf 90 = .ok (.iload 4, 2) := dk_21 4 (dk_at dksX3_faultOf_3 22 rfl rfl)
theorem dX3_faultOf_92 : decode cX3_faultOf 92 = .ok (.iadd, 1) := dk_96 (dk_at dksX3_faultOf_4 0 rfl rfl)
theorem dX3_faultOf_93 : decode cX3_faultOf 93 = .ok (.sipush 256, 3) := dk_17 1 0 (dk_at dksX3_faultOf_4 1 rfl rfl)
theorem dX3_faultOf_96 : decode cX3_faultOf 96 = .ok (.if_icmp .le 5, 3) := dk_164 0 5 (dk_at dksX3_faultOf_4 4 rfl rfl)
theorem dX3_faultOf_99 : decode cX3_faultOf 99 = .ok (.iconst 3, 1) := dk_6 (dk_at dksX3_faultOf_4 7 rfl rfl)
theorem dX3_faultOf_100 : decode cX3_faultOf 100 = .ok (.ireturn, 1) := dk_172 (dk_at dksX3_faultOf_4 8 rfl rfl)
theorem dX3_faultOf_101 : decode cX3_faultOf 101 = .ok (.iload_n 1, 1) := dk_27 (dk_at dksX3_faultOf_4 9 rfl rfl)
theorem dX3_faultOf_102 : decode cX3_faultOf 102 = .ok (.bipush 25, 2) := dk_16 25 (dk_at dksX3_faultOf_4 10 rfl rfl)
theorem dX3_faultOf_104 : decode cX3_faultOf 104 = .ok (.if_icmp .ne 16, 3) := dk_160 0 16 (dk_at dksX3_faultOf_4 12 rfl rfl)
theorem dX3_faultOf_107 : decode cX3_faultOf 107 = .ok (.aload_n 0, 1) := dk_42 (dk_at dksX3_faultOf_4 15 rfl rfl)
theorem dX3_faultOf_108 : decode cX3_faultOf 108 = .ok (.getfield 278, 3) := dk_180 1 22 (dk_at dksX3_faultOf_4 16 rfl rfl)
theorem dX3_faultOf_111 : decode cX3_faultOf 111 = .ok (.bipush 60, 2) := dk_16 60 (dk_at dksX3_faultOf_4 19 rfl rfl)
theorem dX3_faultOf_113 : decode cX3_faultOf 113 = .ok (.if_icmp .ne 7, 3) := dk_160 0 7 (dk_at dksX3_faultOf_4 21 rfl rfl)
theorem dX3_faultOf_116 : decode cX3_faultOf 116 = .ok (.iconst 4, 1) := dk_7 (dk_at dksX3_faultOf_5 0 rfl rfl)
theorem dX3_faultOf_117 : decode cX3_faultOf 117 = .ok (.goto 4, 3) := dk_167 0 4 (dk_at dksX3_faultOf_5 1 rfl rfl)
theorem dX3_faultOf_120 : decode cX3_faultOf 120 = .ok (.iconst 0, 1) := dk_3 (dk_at dksX3_faultOf_5 4 rfl rfl)
theorem dX3_faultOf_121 : decode cX3_faultOf 121 = .ok (.ireturn, 1) := dk_172 (dk_at dksX3_faultOf_5 5 rfl rfl)
abbrev cX3_reckons : ByteArray := prog_28_method_49_code
def yX3_reckons : MethodName := ⟨RX3, "reckons", "(III)V"⟩
def dkwX3_reckons_7 : List UInt8 := [21, 6, 79, 177]
abbrev dktX3_reckons_7 : List UInt8 := dkwX3_reckons_7 ++ []
def dkwX3_reckons_6 : List UInt8 := [181, 1, 1, 42, 180, 0, 55, 28, 27, 16, 11, 160, 0, 12, 42, 180, 0, 55, 28, 46, 167, 0, 5]
abbrev dktX3_reckons_6 : List UInt8 := dkwX3_reckons_6 ++ dktX3_reckons_7
def dkwX3_reckons_5 : List UInt8 := [155, 0, 7, 4, 167, 0, 4, 3, 181, 1, 4, 42, 21, 6, 154, 0, 7, 4, 167, 0, 4, 3]
abbrev dktX3_reckons_5 : List UInt8 := dkwX3_reckons_5 ++ dktX3_reckons_6
def dkwX3_reckons_4 : List UInt8 := [97, 20, 1, 61, 113, 136, 54, 6, 42, 22, 4, 9, 148, 155, 0, 12, 22, 4, 20, 1, 61, 148]
abbrev dktX3_reckons_4 : List UInt8 := dkwX3_reckons_4 ++ dktX3_reckons_5
def dkwX3_reckons_3 : List UInt8 := [182, 0, 244, 167, 0, 91, 27, 42, 180, 0, 55, 28, 46, 29, 184, 1, 57, 55, 4, 22, 4, 20, 1, 61]
abbrev dktX3_reckons_3 : List UInt8 := dkwX3_reckons_3 ++ dktX3_reckons_4
def dkwX3_reckons_2 : List UInt8 := [180, 0, 52, 29, 46, 79, 167, 0, 110, 27, 6, 160, 0, 17, 42, 29, 42, 180, 0, 55, 28, 46]
abbrev dktX3_reckons_2 : List UInt8 := dkwX3_reckons_2 ++ dktX3_reckons_3
def dkwX3_reckons_1 : List UInt8 := [160, 0, 13, 42, 180, 0, 55, 28, 29, 79, 167, 0, 130, 27, 5, 160, 0, 18, 42, 180, 0, 55, 28, 42]
abbrev dktX3_reckons_1 : List UInt8 := dkwX3_reckons_1 ++ dktX3_reckons_2
def dkwX3_reckons_0 : List UInt8 := [27, 154, 0, 9, 42, 5, 181, 0, 232, 177, 42, 89, 180, 0, 254, 5, 96, 181, 0, 254, 27, 4]
abbrev dktX3_reckons_0 : List UInt8 := dkwX3_reckons_0 ++ dktX3_reckons_1
theorem dksX3_reckons_0 : cX3_reckons.data.toList.drop 0 = dktX3_reckons_0 := by decide +kernel
theorem dksX3_reckons_1 : cX3_reckons.data.toList.drop 22 = dktX3_reckons_1 := dk_seg dksX3_reckons_0 22 rfl rfl
theorem dksX3_reckons_2 : cX3_reckons.data.toList.drop 46 = dktX3_reckons_2 := dk_seg dksX3_reckons_1 24 rfl rfl
theorem dksX3_reckons_3 : cX3_reckons.data.toList.drop 68 = dktX3_reckons_3 := dk_seg dksX3_reckons_2 22 rfl rfl
theorem dksX3_reckons_4 : cX3_reckons.data.toList.drop 92 = dktX3_reckons_4 := dk_seg dksX3_reckons_3 24 rfl rfl
theorem dksX3_reckons_5 : cX3_reckons.data.toList.drop 114 = dktX3_reckons_5 := dk_seg dksX3_reckons_4 22 rfl rfl
theorem dksX3_reckons_6 : cX3_reckons.data.toList.drop 136 = dktX3_reckons_6 := dk_seg dksX3_reckons_5 22 rfl rfl
theorem dksX3_reckons_7 : cX3_reckons.data.toList.drop 159 = dktX3_reckons_7 := dk_seg dksX3_reckons_6 23 rfl rfl
theorem dX3_reckons_0 : decode cX3_reckons 0 = .ok (.iload_n 1, 1) := dk_27 (dk_at dksX3_reckons_0 0 rfl rfl)
theorem dX3_reckons_1 : decode cX3_reckons 1 = .ok (.ifCond .ne 9, 3) := dk_154 0 9 (dk_at dksX3_reckons_0 1 rfl rfl)
theorem dX3_reckons_4 : decode cX3_reckons 4 = .ok (.aload_n 0, 1) := dk_42 (dk_at dksX3_reckons_0 4 rfl rfl)
theorem dX3_reckons_5 : decode cX3_reckons 5 = .ok (.iconst 2, 1) := dk_5 (dk_at dksX3_reckons_0 5 rfl rfl)
theorem dX3_reckons_6 : decode cX3_reckons 6 = .ok (.putfield 232, 3) := dk_181 0 232 (dk_at dksX3_reckons_0 6 rfl rfl)
theorem dX3_reckons_9 : decode cX3_reckons 9 = .ok (.return_, 1) := dk_177 (dk_at dksX3_reckons_0 9 rfl rfl)
theorem dX3_reckons_10 : decode cX3_reckons 10 = .ok (.aload_n 0, 1) := dk_42 (dk_at dksX3_reckons_0 10 rfl rfl)
theorem dX3_reckons_11 : decode cX3_reckons 11 = .ok (.dup, 1) := dk_89 (dk_at dksX3_reckons_0 11 rfl rfl)
theorem dX3_reckons_12 : decode cX3_reckons 12 = .ok (.getfield 254, 3) := dk_180 0 254 (dk_at dksX3_reckons_0 12 rfl rfl)
theorem dX3_reckons_15 : decode cX3_reckons 15 = .ok (.iconst 2, 1) := dk_5 (dk_at dksX3_reckons_0 15 rfl rfl)
theorem dX3_reckons_16 : decode cX3_reckons 16 = .ok (.iadd, 1) := dk_96 (dk_at dksX3_reckons_0 16 rfl rfl)
theorem dX3_reckons_17 : decode cX3_reckons 17 = .ok (.putfield 254, 3) := dk_181 0 254 (dk_at dksX3_reckons_0 17 rfl rfl)
theorem dX3_reckons_20 : decode cX3_reckons 20 = .ok (.iload_n 1, 1) := dk_27 (dk_at dksX3_reckons_0 20 rfl rfl)
theorem dX3_reckons_21 : decode cX3_reckons 21 = .ok (.iconst 1, 1) := dk_4 (dk_at dksX3_reckons_0 21 rfl rfl)
theorem dX3_reckons_22 : decode cX3_reckons 22 = .ok (.if_icmp .ne 13, 3) := dk_160 0 13 (dk_at dksX3_reckons_1 0 rfl rfl)
theorem dX3_reckons_25 : decode cX3_reckons 25 = .ok (.aload_n 0, 1) := dk_42 (dk_at dksX3_reckons_1 3 rfl rfl)
theorem dX3_reckons_26 : decode cX3_reckons 26 = .ok (.getfield 55, 3) := dk_180 0 55 (dk_at dksX3_reckons_1 4 rfl rfl)
theorem dX3_reckons_29 : decode cX3_reckons 29 = .ok (.iload_n 2, 1) := dk_28 (dk_at dksX3_reckons_1 7 rfl rfl)
theorem dX3_reckons_30 : decode cX3_reckons 30 = .ok (.iload_n 3, 1) := dk_29 (dk_at dksX3_reckons_1 8 rfl rfl)
theorem dX3_reckons_31 : decode cX3_reckons 31 = .ok (.iastore, 1) := dk_79 (dk_at dksX3_reckons_1 9 rfl rfl)
theorem dX3_reckons_32 : decode cX3_reckons 32 = .ok (.goto 130, 3) := dk_167 0 130 (dk_at dksX3_reckons_1 10 rfl rfl)
theorem dX3_reckons_35 : decode cX3_reckons 35 = .ok (.iload_n 1, 1) := dk_27 (dk_at dksX3_reckons_1 13 rfl rfl)
theorem dX3_reckons_36 : decode cX3_reckons 36 = .ok (.iconst 2, 1) := dk_5 (dk_at dksX3_reckons_1 14 rfl rfl)
theorem dX3_reckons_37 : decode cX3_reckons 37 = .ok (.if_icmp .ne 18, 3) := dk_160 0 18 (dk_at dksX3_reckons_1 15 rfl rfl)
theorem dX3_reckons_40 : decode cX3_reckons 40 = .ok (.aload_n 0, 1) := dk_42 (dk_at dksX3_reckons_1 18 rfl rfl)
theorem dX3_reckons_41 : decode cX3_reckons 41 = .ok (.getfield 55, 3) := dk_180 0 55 (dk_at dksX3_reckons_1 19 rfl rfl)
theorem dX3_reckons_44 : decode cX3_reckons 44 = .ok (.iload_n 2, 1) := dk_28 (dk_at dksX3_reckons_1 22 rfl rfl)
theorem dX3_reckons_45 : decode cX3_reckons 45 = .ok (.aload_n 0, 1) := dk_42 (dk_at dksX3_reckons_1 23 rfl rfl)
theorem dX3_reckons_46 : decode cX3_reckons 46 = .ok (.getfield 52, 3) := dk_180 0 52 (dk_at dksX3_reckons_2 0 rfl rfl)
theorem dX3_reckons_49 : decode cX3_reckons 49 = .ok (.iload_n 3, 1) := dk_29 (dk_at dksX3_reckons_2 3 rfl rfl)
theorem dX3_reckons_50 : decode cX3_reckons 50 = .ok (.iaload, 1) := dk_46 (dk_at dksX3_reckons_2 4 rfl rfl)
theorem dX3_reckons_51 : decode cX3_reckons 51 = .ok (.iastore, 1) := dk_79 (dk_at dksX3_reckons_2 5 rfl rfl)
theorem dX3_reckons_52 : decode cX3_reckons 52 = .ok (.goto 110, 3) := dk_167 0 110 (dk_at dksX3_reckons_2 6 rfl rfl)
theorem dX3_reckons_55 : decode cX3_reckons 55 = .ok (.iload_n 1, 1) := dk_27 (dk_at dksX3_reckons_2 9 rfl rfl)
theorem dX3_reckons_56 : decode cX3_reckons 56 = .ok (.iconst 3, 1) := dk_6 (dk_at dksX3_reckons_2 10 rfl rfl)
theorem dX3_reckons_57 : decode cX3_reckons 57 = .ok (.if_icmp .ne 17, 3) := dk_160 0 17 (dk_at dksX3_reckons_2 11 rfl rfl)
theorem dX3_reckons_60 : decode cX3_reckons 60 = .ok (.aload_n 0, 1) := dk_42 (dk_at dksX3_reckons_2 14 rfl rfl)
theorem dX3_reckons_61 : decode cX3_reckons 61 = .ok (.iload_n 3, 1) := dk_29 (dk_at dksX3_reckons_2 15 rfl rfl)
theorem dX3_reckons_62 : decode cX3_reckons 62 = .ok (.aload_n 0, 1) := dk_42 (dk_at dksX3_reckons_2 16 rfl rfl)
theorem dX3_reckons_63 : decode cX3_reckons 63 = .ok (.getfield 55, 3) := dk_180 0 55 (dk_at dksX3_reckons_2 17 rfl rfl)
theorem dX3_reckons_66 : decode cX3_reckons 66 = .ok (.iload_n 2, 1) := dk_28 (dk_at dksX3_reckons_2 20 rfl rfl)
theorem dX3_reckons_67 : decode cX3_reckons 67 = .ok (.iaload, 1) := dk_46 (dk_at dksX3_reckons_2 21 rfl rfl)
theorem dX3_reckons_68 : decode cX3_reckons 68 = .ok (.invokevirtual 244, 3) := dk_182 0 244 (dk_at dksX3_reckons_3 0 rfl rfl)
theorem dX3_reckons_71 : decode cX3_reckons 71 = .ok (.goto 91, 3) := dk_167 0 91 (dk_at dksX3_reckons_3 3 rfl rfl)
theorem dX3_reckons_74 : decode cX3_reckons 74 = .ok (.iload_n 1, 1) := dk_27 (dk_at dksX3_reckons_3 6 rfl rfl)
theorem dX3_reckons_75 : decode cX3_reckons 75 = .ok (.aload_n 0, 1) := dk_42 (dk_at dksX3_reckons_3 7 rfl rfl)
theorem dX3_reckons_76 : decode cX3_reckons 76 = .ok (.getfield 55, 3) := dk_180 0 55 (dk_at dksX3_reckons_3 8 rfl rfl)
theorem dX3_reckons_79 : decode cX3_reckons 79 = .ok (.iload_n 2, 1) := dk_28 (dk_at dksX3_reckons_3 11 rfl rfl)
theorem dX3_reckons_80 : decode cX3_reckons 80 = .ok (.iaload, 1) := dk_46 (dk_at dksX3_reckons_3 12 rfl rfl)
theorem dX3_reckons_81 : decode cX3_reckons 81 = .ok (.iload_n 3, 1) := dk_29 (dk_at dksX3_reckons_3 13 rfl rfl)
theorem dX3_reckons_82 : decode cX3_reckons 82 = .ok (.invokestatic 313, 3) := dk_184 1 57 (dk_at dksX3_reckons_3 14 rfl rfl)
theorem dX3_reckons_85 : decode cX3_reckons 85 = .ok (.lstore 4, 2) := dk_55 4 (dk_at dksX3_reckons_3 17 rfl rfl)
theorem dX3_reckons_87 : decode cX3_reckons 87 = .ok (.lload 4, 2) := dk_22 4 (dk_at dksX3_reckons_3 19 rfl rfl)
theorem dX3_reckons_89 : decode cX3_reckons 89 = .ok (.ldc2_w 317, 3) := dk_20 1 61 (dk_at dksX3_reckons_3 21 rfl rfl)
theorem dX3_reckons_92 : decode cX3_reckons 92 = .ok (.ladd, 1) := dk_97 (dk_at dksX3_reckons_4 0 rfl rfl)
theorem dX3_reckons_93 : decode cX3_reckons 93 = .ok (.ldc2_w 317, 3) := dk_20 1 61 (dk_at dksX3_reckons_4 1 rfl rfl)
theorem dX3_reckons_96 : decode cX3_reckons 96 = .ok (.lrem, 1) := dk_113 (dk_at dksX3_reckons_4 4 rfl rfl)
theorem dX3_reckons_97 : decode cX3_reckons 97 = .ok (.l2i, 1) := dk_136 (dk_at dksX3_reckons_4 5 rfl rfl)
theorem dX3_reckons_98 : decode cX3_reckons 98 = .ok (.istore 6, 2) := dk_54 6 (dk_at dksX3_reckons_4 6 rfl rfl)
theorem dX3_reckons_100 : decode cX3_reckons 100 = .ok (.aload_n 0, 1) := dk_42 (dk_at dksX3_reckons_4 8 rfl rfl)
theorem dX3_reckons_101 : decode cX3_reckons 101 = .ok (.lload 4, 2) := dk_22 4 (dk_at dksX3_reckons_4 9 rfl rfl)
theorem dX3_reckons_103 : decode cX3_reckons 103 = .ok (.lconst 0, 1) := dk_9 (dk_at dksX3_reckons_4 11 rfl rfl)
theorem dX3_reckons_104 : decode cX3_reckons 104 = .ok (.lcmp, 1) := dk_148 (dk_at dksX3_reckons_4 12 rfl rfl)
theorem dX3_reckons_105 : decode cX3_reckons 105 = .ok (.ifCond .lt 12, 3) := dk_155 0 12 (dk_at dksX3_reckons_4 13 rfl rfl)
theorem dX3_reckons_108 : decode cX3_reckons 108 = .ok (.lload 4, 2) := dk_22 4 (dk_at dksX3_reckons_4 16 rfl rfl)
theorem dX3_reckons_110 : decode cX3_reckons 110 = .ok (.ldc2_w 317, 3) := dk_20 1 61 (dk_at dksX3_reckons_4 18 rfl rfl)
theorem dX3_reckons_113 : decode cX3_reckons 113 = .ok (.lcmp, 1) := dk_148 (dk_at dksX3_reckons_4 21 rfl rfl)
theorem dX3_reckons_114 : decode cX3_reckons 114 = .ok (.ifCond .lt 7, 3) := dk_155 0 7 (dk_at dksX3_reckons_5 0 rfl rfl)
theorem dX3_reckons_117 : decode cX3_reckons 117 = .ok (.iconst 1, 1) := dk_4 (dk_at dksX3_reckons_5 3 rfl rfl)
theorem dX3_reckons_118 : decode cX3_reckons 118 = .ok (.goto 4, 3) := dk_167 0 4 (dk_at dksX3_reckons_5 4 rfl rfl)
theorem dX3_reckons_121 : decode cX3_reckons 121 = .ok (.iconst 0, 1) := dk_3 (dk_at dksX3_reckons_5 7 rfl rfl)
theorem dX3_reckons_122 : decode cX3_reckons 122 = .ok (.putfield 260, 3) := dk_181 1 4 (dk_at dksX3_reckons_5 8 rfl rfl)
theorem dX3_reckons_125 : decode cX3_reckons 125 = .ok (.aload_n 0, 1) := dk_42 (dk_at dksX3_reckons_5 11 rfl rfl)
theorem dX3_reckons_126 : decode cX3_reckons 126 = .ok (.iload 6, 2) := dk_21 6 (dk_at dksX3_reckons_5 12 rfl rfl)
theorem dX3_reckons_128 : decode cX3_reckons 128 = .ok (.ifCond .ne 7, 3) := dk_154 0 7 (dk_at dksX3_reckons_5 14 rfl rfl)
theorem dX3_reckons_131 : decode cX3_reckons 131 = .ok (.iconst 1, 1) := dk_4 (dk_at dksX3_reckons_5 17 rfl rfl)
theorem dX3_reckons_132 : decode cX3_reckons 132 = .ok (.goto 4, 3) := dk_167 0 4 (dk_at dksX3_reckons_5 18 rfl rfl)
theorem dX3_reckons_135 : decode cX3_reckons 135 = .ok (.iconst 0, 1) := dk_3 (dk_at dksX3_reckons_5 21 rfl rfl)
theorem dX3_reckons_136 : decode cX3_reckons 136 = .ok (.putfield 257, 3) := dk_181 1 1 (dk_at dksX3_reckons_6 0 rfl rfl)
theorem dX3_reckons_139 : decode cX3_reckons 139 = .ok (.aload_n 0, 1) := dk_42 (dk_at dksX3_reckons_6 3 rfl rfl)
theorem dX3_reckons_140 : decode cX3_reckons 140 = .ok (.getfield 55, 3) := dk_180 0 55 (dk_at dksX3_reckons_6 4 rfl rfl)
theorem dX3_reckons_143 : decode cX3_reckons 143 = .ok (.iload_n 2, 1) := dk_28 (dk_at dksX3_reckons_6 7 rfl rfl)
theorem dX3_reckons_144 : decode cX3_reckons 144 = .ok (.iload_n 1, 1) := dk_27 (dk_at dksX3_reckons_6 8 rfl rfl)
theorem dX3_reckons_145 : decode cX3_reckons 145 = .ok (.bipush 11, 2) := dk_16 11 (dk_at dksX3_reckons_6 9 rfl rfl)
theorem dX3_reckons_147 : decode cX3_reckons 147 = .ok (.if_icmp .ne 12, 3) := dk_160 0 12 (dk_at dksX3_reckons_6 11 rfl rfl)
theorem dX3_reckons_150 : decode cX3_reckons 150 = .ok (.aload_n 0, 1) := dk_42 (dk_at dksX3_reckons_6 14 rfl rfl)
theorem dX3_reckons_151 : decode cX3_reckons 151 = .ok (.getfield 55, 3) := dk_180 0 55 (dk_at dksX3_reckons_6 15 rfl rfl)
theorem dX3_reckons_154 : decode cX3_reckons 154 = .ok (.iload_n 2, 1) := dk_28 (dk_at dksX3_reckons_6 18 rfl rfl)
theorem dX3_reckons_155 : decode cX3_reckons 155 = .ok (.iaload, 1) := dk_46 (dk_at dksX3_reckons_6 19 rfl rfl)
theorem dX3_reckons_156 : decode cX3_reckons 156 = .ok (.goto 5, 3) := dk_167 0 5 (dk_at dksX3_reckons_6 20 rfl rfl)
theorem dX3_reckons_159 : decode cX3_reckons 159 = .ok (.iload 6, 2) := dk_21 6 (dk_at dksX3_reckons_7 0 rfl rfl)
theorem dX3_reckons_161 : decode cX3_reckons 161 = .ok (.iastore, 1) := dk_79 (dk_at dksX3_reckons_7 2 rfl rfl)
theorem dX3_reckons_162 : decode cX3_reckons 162 = .ok (.return_, 1) := dk_177 (dk_at dksX3_reckons_7 3 rfl rfl)
abbrev cX3_made : ByteArray := prog_28_method_48_code
def yX3_made : MethodName := ⟨RX3, "made", "(III)J"⟩
def dkwX3_made_3 : List UInt8 := [167, 0, 23, 27, 28, 16, 16, 112, 26, 16, 9, 160, 0, 7, 4, 167, 0, 4, 3, 184, 1, 53, 133, 173]
abbrev dktX3_made_3 : List UInt8 := dkwX3_made_3 ++ []
def dkwX3_made_2 : List UInt8 := [16, 7, 160, 0, 10, 27, 28, 126, 133, 167, 0, 36, 26, 16, 8, 160, 0, 10, 27, 28, 130, 133]
abbrev dktX3_made_2 : List UInt8 := dkwX3_made_2 ++ dktX3_made_3
def dkwX3_made_1 : List UInt8 := [27, 133, 28, 133, 101, 167, 0, 63, 26, 16, 6, 160, 0, 11, 27, 133, 28, 133, 105, 167, 0, 49, 26]
abbrev dktX3_made_1 : List UInt8 := dkwX3_made_1 ++ dktX3_made_2
def dkwX3_made_0 : List UInt8 := [26, 7, 160, 0, 11, 27, 133, 28, 133, 97, 167, 0, 82, 26, 8, 159, 0, 9, 26, 16, 11, 160, 0, 11]
abbrev dktX3_made_0 : List UInt8 := dkwX3_made_0 ++ dktX3_made_1
theorem dksX3_made_0 : cX3_made.data.toList.drop 0 = dktX3_made_0 := by decide +kernel
theorem dksX3_made_1 : cX3_made.data.toList.drop 24 = dktX3_made_1 := dk_seg dksX3_made_0 24 rfl rfl
theorem dksX3_made_2 : cX3_made.data.toList.drop 47 = dktX3_made_2 := dk_seg dksX3_made_1 23 rfl rfl
theorem dksX3_made_3 : cX3_made.data.toList.drop 69 = dktX3_made_3 := dk_seg dksX3_made_2 22 rfl rfl
theorem dX3_made_0 : decode cX3_made 0 = .ok (.iload_n 0, 1) := dk_26 (dk_at dksX3_made_0 0 rfl rfl)
theorem dX3_made_1 : decode cX3_made 1 = .ok (.iconst 4, 1) := dk_7 (dk_at dksX3_made_0 1 rfl rfl)
theorem dX3_made_2 : decode cX3_made 2 = .ok (.if_icmp .ne 11, 3) := dk_160 0 11 (dk_at dksX3_made_0 2 rfl rfl)
theorem dX3_made_5 : decode cX3_made 5 = .ok (.iload_n 1, 1) := dk_27 (dk_at dksX3_made_0 5 rfl rfl)
theorem dX3_made_6 : decode cX3_made 6 = .ok (.i2l, 1) := dk_133 (dk_at dksX3_made_0 6 rfl rfl)
theorem dX3_made_7 : decode cX3_made 7 = .ok (.iload_n 2, 1) := dk_28 (dk_at dksX3_made_0 7 rfl rfl)
theorem dX3_made_8 : decode cX3_made 8 = .ok (.i2l, 1) := dk_133 (dk_at dksX3_made_0 8 rfl rfl)
theorem dX3_made_9 : decode cX3_made 9 = .ok (.ladd, 1) := dk_97 (dk_at dksX3_made_0 9 rfl rfl)
theorem dX3_made_10 : decode cX3_made 10 = .ok (.goto 82, 3) := dk_167 0 82 (dk_at dksX3_made_0 10 rfl rfl)
theorem dX3_made_13 : decode cX3_made 13 = .ok (.iload_n 0, 1) := dk_26 (dk_at dksX3_made_0 13 rfl rfl)
theorem dX3_made_14 : decode cX3_made 14 = .ok (.iconst 5, 1) := dk_8 (dk_at dksX3_made_0 14 rfl rfl)
theorem dX3_made_15 : decode cX3_made 15 = .ok (.if_icmp .eq 9, 3) := dk_159 0 9 (dk_at dksX3_made_0 15 rfl rfl)
theorem dX3_made_18 : decode cX3_made 18 = .ok (.iload_n 0, 1) := dk_26 (dk_at dksX3_made_0 18 rfl rfl)
theorem dX3_made_19 : decode cX3_made 19 = .ok (.bipush 11, 2) := dk_16 11 (dk_at dksX3_made_0 19 rfl rfl)
theorem dX3_made_21 : decode cX3_made 21 = .ok (.if_icmp .ne 11, 3) := dk_160 0 11 (dk_at dksX3_made_0 21 rfl rfl)
theorem dX3_made_24 : decode cX3_made 24 = .ok (.iload_n 1, 1) := dk_27 (dk_at dksX3_made_1 0 rfl rfl)
theorem dX3_made_25 : decode cX3_made 25 = .ok (.i2l, 1) := dk_133 (dk_at dksX3_made_1 1 rfl rfl)
theorem dX3_made_26 : decode cX3_made 26 = .ok (.iload_n 2, 1) := dk_28 (dk_at dksX3_made_1 2 rfl rfl)
theorem dX3_made_27 : decode cX3_made 27 = .ok (.i2l, 1) := dk_133 (dk_at dksX3_made_1 3 rfl rfl)
theorem dX3_made_28 : decode cX3_made 28 = .ok (.lsub, 1) := dk_101 (dk_at dksX3_made_1 4 rfl rfl)
theorem dX3_made_29 : decode cX3_made 29 = .ok (.goto 63, 3) := dk_167 0 63 (dk_at dksX3_made_1 5 rfl rfl)
theorem dX3_made_32 : decode cX3_made 32 = .ok (.iload_n 0, 1) := dk_26 (dk_at dksX3_made_1 8 rfl rfl)
theorem dX3_made_33 : decode cX3_made 33 = .ok (.bipush 6, 2) := dk_16 6 (dk_at dksX3_made_1 9 rfl rfl)
theorem dX3_made_35 : decode cX3_made 35 = .ok (.if_icmp .ne 11, 3) := dk_160 0 11 (dk_at dksX3_made_1 11 rfl rfl)
theorem dX3_made_38 : decode cX3_made 38 = .ok (.iload_n 1, 1) := dk_27 (dk_at dksX3_made_1 14 rfl rfl)
theorem dX3_made_39 : decode cX3_made 39 = .ok (.i2l, 1) := dk_133 (dk_at dksX3_made_1 15 rfl rfl)
theorem dX3_made_40 : decode cX3_made 40 = .ok (.iload_n 2, 1) := dk_28 (dk_at dksX3_made_1 16 rfl rfl)
theorem dX3_made_41 : decode cX3_made 41 = .ok (.i2l, 1) := dk_133 (dk_at dksX3_made_1 17 rfl rfl)
theorem dX3_made_42 : decode cX3_made 42 = .ok (.lmul, 1) := dk_105 (dk_at dksX3_made_1 18 rfl rfl)
theorem dX3_made_43 : decode cX3_made 43 = .ok (.goto 49, 3) := dk_167 0 49 (dk_at dksX3_made_1 19 rfl rfl)
theorem dX3_made_46 : decode cX3_made 46 = .ok (.iload_n 0, 1) := dk_26 (dk_at dksX3_made_1 22 rfl rfl)
theorem dX3_made_47 : decode cX3_made 47 = .ok (.bipush 7, 2) := dk_16 7 (dk_at dksX3_made_2 0 rfl rfl)
theorem dX3_made_49 : decode cX3_made 49 = .ok (.if_icmp .ne 10, 3) := dk_160 0 10 (dk_at dksX3_made_2 2 rfl rfl)
theorem dX3_made_52 : decode cX3_made 52 = .ok (.iload_n 1, 1) := dk_27 (dk_at dksX3_made_2 5 rfl rfl)
theorem dX3_made_53 : decode cX3_made 53 = .ok (.iload_n 2, 1) := dk_28 (dk_at dksX3_made_2 6 rfl rfl)
theorem dX3_made_54 : decode cX3_made 54 = .ok (.iand, 1) := dk_126 (dk_at dksX3_made_2 7 rfl rfl)
theorem dX3_made_55 : decode cX3_made 55 = .ok (.i2l, 1) := dk_133 (dk_at dksX3_made_2 8 rfl rfl)
theorem dX3_made_56 : decode cX3_made 56 = .ok (.goto 36, 3) := dk_167 0 36 (dk_at dksX3_made_2 9 rfl rfl)
theorem dX3_made_59 : decode cX3_made 59 = .ok (.iload_n 0, 1) := dk_26 (dk_at dksX3_made_2 12 rfl rfl)
theorem dX3_made_60 : decode cX3_made 60 = .ok (.bipush 8, 2) := dk_16 8 (dk_at dksX3_made_2 13 rfl rfl)
theorem dX3_made_62 : decode cX3_made 62 = .ok (.if_icmp .ne 10, 3) := dk_160 0 10 (dk_at dksX3_made_2 15 rfl rfl)
theorem dX3_made_65 : decode cX3_made 65 = .ok (.iload_n 1, 1) := dk_27 (dk_at dksX3_made_2 18 rfl rfl)
theorem dX3_made_66 : decode cX3_made 66 = .ok (.iload_n 2, 1) := dk_28 (dk_at dksX3_made_2 19 rfl rfl)
theorem dX3_made_67 : decode cX3_made 67 = .ok (.ixor, 1) := dk_130 (dk_at dksX3_made_2 20 rfl rfl)
theorem dX3_made_68 : decode cX3_made 68 = .ok (.i2l, 1) := dk_133 (dk_at dksX3_made_2 21 rfl rfl)
theorem dX3_made_69 : decode cX3_made 69 = .ok (.goto 23, 3) := dk_167 0 23 (dk_at dksX3_made_3 0 rfl rfl)
theorem dX3_made_72 : decode cX3_made 72 = .ok (.iload_n 1, 1) := dk_27 (dk_at dksX3_made_3 3 rfl rfl)
theorem dX3_made_73 : decode cX3_made 73 = .ok (.iload_n 2, 1) := dk_28 (dk_at dksX3_made_3 4 rfl rfl)
theorem dX3_made_74 : decode cX3_made 74 = .ok (.bipush 16, 2) := dk_16 16 (dk_at dksX3_made_3 5 rfl rfl)
theorem dX3_made_76 : decode cX3_made 76 = .ok (.irem, 1) := dk_112 (dk_at dksX3_made_3 7 rfl rfl)
theorem dX3_made_77 : decode cX3_made 77 = .ok (.iload_n 0, 1) := dk_26 (dk_at dksX3_made_3 8 rfl rfl)
theorem dX3_made_78 : decode cX3_made 78 = .ok (.bipush 9, 2) := dk_16 9 (dk_at dksX3_made_3 9 rfl rfl)
theorem dX3_made_80 : decode cX3_made 80 = .ok (.if_icmp .ne 7, 3) := dk_160 0 7 (dk_at dksX3_made_3 11 rfl rfl)
theorem dX3_made_83 : decode cX3_made 83 = .ok (.iconst 1, 1) := dk_4 (dk_at dksX3_made_3 14 rfl rfl)
theorem dX3_made_84 : decode cX3_made 84 = .ok (.goto 4, 3) := dk_167 0 4 (dk_at dksX3_made_3 15 rfl rfl)
theorem dX3_made_87 : decode cX3_made 87 = .ok (.iconst 0, 1) := dk_3 (dk_at dksX3_made_3 18 rfl rfl)
theorem dX3_made_88 : decode cX3_made 88 = .ok (.invokestatic 309, 3) := dk_184 1 53 (dk_at dksX3_made_3 19 rfl rfl)
theorem dX3_made_91 : decode cX3_made 91 = .ok (.i2l, 1) := dk_133 (dk_at dksX3_made_3 22 rfl rfl)
theorem dX3_made_92 : decode cX3_made 92 = .ok (.lreturn, 1) := dk_173 (dk_at dksX3_made_3 23 rfl rfl)
abbrev cX3_shifted : ByteArray := prog_28_method_47_code
def yX3_shifted : MethodName := ⟨RX3, "shifted", "(IIZ)I"⟩
def dkwX3_shifted_0 : List UInt8 := [28, 153, 0, 12, 26, 27, 120, 18, 180, 112, 167, 0, 6, 26, 27, 122, 172]
abbrev dktX3_shifted_0 : List UInt8 := dkwX3_shifted_0 ++ []
theorem dksX3_shifted_0 : cX3_shifted.data.toList.drop 0 = dktX3_shifted_0 := by decide +kernel
theorem dX3_shifted_0 : decode cX3_shifted 0 = .ok (.iload_n 2, 1) := dk_28 (dk_at dksX3_shifted_0 0 rfl rfl)
theorem dX3_shifted_1 : decode cX3_shifted 1 = .ok (.ifCond .eq 12, 3) := dk_153 0 12 (dk_at dksX3_shifted_0 1 rfl rfl)
theorem dX3_shifted_4 : decode cX3_shifted 4 = .ok (.iload_n 0, 1) := dk_26 (dk_at dksX3_shifted_0 4 rfl rfl)
theorem dX3_shifted_5 : decode cX3_shifted 5 = .ok (.iload_n 1, 1) := dk_27 (dk_at dksX3_shifted_0 5 rfl rfl)
theorem dX3_shifted_6 : decode cX3_shifted 6 = .ok (.ishl, 1) := dk_120 (dk_at dksX3_shifted_0 6 rfl rfl)
theorem dX3_shifted_7 : decode cX3_shifted 7 = .ok (.ldc 180, 2) := dk_18 180 (dk_at dksX3_shifted_0 7 rfl rfl)
theorem dX3_shifted_9 : decode cX3_shifted 9 = .ok (.irem, 1) := dk_112 (dk_at dksX3_shifted_0 9 rfl rfl)
theorem dX3_shifted_10 : decode cX3_shifted 10 = .ok (.goto 6, 3) := dk_167 0 6 (dk_at dksX3_shifted_0 10 rfl rfl)
theorem dX3_shifted_13 : decode cX3_shifted 13 = .ok (.iload_n 0, 1) := dk_26 (dk_at dksX3_shifted_0 13 rfl rfl)
theorem dX3_shifted_14 : decode cX3_shifted 14 = .ok (.iload_n 1, 1) := dk_27 (dk_at dksX3_shifted_0 14 rfl rfl)
theorem dX3_shifted_15 : decode cX3_shifted 15 = .ok (.ishr, 1) := dk_122 (dk_at dksX3_shifted_0 15 rfl rfl)
theorem dX3_shifted_16 : decode cX3_shifted 16 = .ok (.ireturn, 1) := dk_172 (dk_at dksX3_shifted_0 16 rfl rfl)
abbrev cX3_jumps : ByteArray := prog_28_method_50_code
def yX3_jumps : MethodName := ⟨RX3, "jumps", "(III)V"⟩
def dkwX3_jumps_5 : List UInt8 := [182, 1, 63, 79, 177]
abbrev dktX3_jumps_5 : List UInt8 := dkwX3_jumps_5 ++ []
def dkwX3_jumps_4 : List UInt8 := [153, 0, 7, 29, 167, 0, 5, 21, 4, 181, 0, 254, 27, 16, 18, 160, 0, 13, 42, 180, 0, 55, 28, 42]
abbrev dktX3_jumps_4 : List UInt8 := dkwX3_jumps_4 ++ dktX3_jumps_5
def dkwX3_jumps_3 : List UInt8 := [167, 0, 4, 3, 54, 5, 42, 27, 16, 16, 160, 0, 10, 42, 182, 1, 63, 167, 0, 14, 21, 5]
abbrev dktX3_jumps_3 : List UInt8 := dkwX3_jumps_3 ++ dktX3_jumps_4
def dkwX3_jumps_2 : List UInt8 := [160, 0, 10, 42, 180, 1, 1, 154, 0, 16, 27, 16, 14, 160, 0, 14, 42, 180, 1, 4, 153, 0, 7, 4]
abbrev dktX3_jumps_2 : List UInt8 := dkwX3_jumps_2 ++ dktX3_jumps_3
def dkwX3_jumps_1 : List UInt8 := [160, 0, 8, 42, 29, 182, 1, 37, 27, 16, 12, 159, 0, 35, 27, 16, 15, 159, 0, 29, 27, 16, 13]
abbrev dktX3_jumps_1 : List UInt8 := dkwX3_jumps_1 ++ dktX3_jumps_2
def dkwX3_jumps_0 : List UInt8 := [42, 180, 0, 254, 5, 96, 54, 4, 27, 16, 15, 160, 0, 9, 42, 21, 4, 182, 1, 37, 27, 16, 17]
abbrev dktX3_jumps_0 : List UInt8 := dkwX3_jumps_0 ++ dktX3_jumps_1
theorem dksX3_jumps_0 : cX3_jumps.data.toList.drop 0 = dktX3_jumps_0 := by decide +kernel
theorem dksX3_jumps_1 : cX3_jumps.data.toList.drop 23 = dktX3_jumps_1 := dk_seg dksX3_jumps_0 23 rfl rfl
theorem dksX3_jumps_2 : cX3_jumps.data.toList.drop 46 = dktX3_jumps_2 := dk_seg dksX3_jumps_1 23 rfl rfl
theorem dksX3_jumps_3 : cX3_jumps.data.toList.drop 70 = dktX3_jumps_3 := dk_seg dksX3_jumps_2 24 rfl rfl
theorem dksX3_jumps_4 : cX3_jumps.data.toList.drop 92 = dktX3_jumps_4 := dk_seg dksX3_jumps_3 22 rfl rfl
theorem dksX3_jumps_5 : cX3_jumps.data.toList.drop 116 = dktX3_jumps_5 := dk_seg dksX3_jumps_4 24 rfl rfl
theorem dX3_jumps_0 : decode cX3_jumps 0 = .ok (.aload_n 0, 1) := dk_42 (dk_at dksX3_jumps_0 0 rfl rfl)
theorem dX3_jumps_1 : decode cX3_jumps 1 = .ok (.getfield 254, 3) := dk_180 0 254 (dk_at dksX3_jumps_0 1 rfl rfl)
theorem dX3_jumps_4 : decode cX3_jumps 4 = .ok (.iconst 2, 1) := dk_5 (dk_at dksX3_jumps_0 4 rfl rfl)
theorem dX3_jumps_5 : decode cX3_jumps 5 = .ok (.iadd, 1) := dk_96 (dk_at dksX3_jumps_0 5 rfl rfl)
theorem dX3_jumps_6 : decode cX3_jumps 6 = .ok (.istore 4, 2) := dk_54 4 (dk_at dksX3_jumps_0 6 rfl rfl)
theorem dX3_jumps_8 : decode cX3_jumps 8 = .ok (.iload_n 1, 1) := dk_27 (dk_at dksX3_jumps_0 8 rfl rfl)
theorem dX3_jumps_9 : decode cX3_jumps 9 = .ok (.bipush 15, 2) := dk_16 15 (dk_at dksX3_jumps_0 9 rfl rfl)
theorem dX3_jumps_11 : decode cX3_jumps 11 = .ok (.if_icmp .ne 9, 3) := dk_160 0 9 (dk_at dksX3_jumps_0 11 rfl rfl)
theorem dX3_jumps_14 : decode cX3_jumps 14 = .ok (.aload_n 0, 1) := dk_42 (dk_at dksX3_jumps_0 14 rfl rfl)
theorem dX3_jumps_15 : decode cX3_jumps 15 = .ok (.iload 4, 2) := dk_21 4 (dk_at dksX3_jumps_0 15 rfl rfl)
theorem dX3_jumps_17 : decode cX3_jumps 17 = .ok (.invokevirtual 293, 3) := dk_182 1 37 (dk_at dksX3_jumps_0 17 rfl rfl)
theorem dX3_jumps_20 : decode cX3_jumps 20 = .ok (.iload_n 1, 1) := dk_27 (dk_at dksX3_jumps_0 20 rfl rfl)
theorem dX3_jumps_21 : decode cX3_jumps 21 = .ok (.bipush 17, 2) := dk_16 17 (dk_at dksX3_jumps_0 21 rfl rfl)
theorem dX3_jumps_23 : decode cX3_jumps 23 = .ok (.if_icmp .ne 8, 3) := dk_160 0 8 (dk_at dksX3_jumps_1 0 rfl rfl)
theorem dX3_jumps_26 : decode cX3_jumps 26 = .ok (.aload_n 0, 1) := dk_42 (dk_at dksX3_jumps_1 3 rfl rfl)
theorem dX3_jumps_27 : decode cX3_jumps 27 = .ok (.iload_n 3, 1) := dk_29 (dk_at dksX3_jumps_1 4 rfl rfl)
theorem dX3_jumps_28 : decode cX3_jumps 28 = .ok (.invokevirtual 293, 3) := dk_182 1 37 (dk_at dksX3_jumps_1 5 rfl rfl)
theorem dX3_jumps_31 : decode cX3_jumps 31 = .ok (.iload_n 1, 1) := dk_27 (dk_at dksX3_jumps_1 8 rfl rfl)
theorem dX3_jumps_32 : decode cX3_jumps 32 = .ok (.bipush 12, 2) := dk_16 12 (dk_at dksX3_jumps_1 9 rfl rfl)
theorem dX3_jumps_34 : decode cX3_jumps 34 = .ok (.if_icmp .eq 35, 3) := dk_159 0 35 (dk_at dksX3_jumps_1 11 rfl rfl)
theorem dX3_jumps_37 : decode cX3_jumps 37 = .ok (.iload_n 1, 1) := dk_27 (dk_at dksX3_jumps_1 14 rfl rfl)
theorem dX3_jumps_38 : decode cX3_jumps 38 = .ok (.bipush 15, 2) := dk_16 15 (dk_at dksX3_jumps_1 15 rfl rfl)
theorem dX3_jumps_40 : decode cX3_jumps 40 = .ok (.if_icmp .eq 29, 3) := dk_159 0 29 (dk_at dksX3_jumps_1 17 rfl rfl)
theorem dX3_jumps_43 : decode cX3_jumps 43 = .ok (.iload_n 1, 1) := dk_27 (dk_at dksX3_jumps_1 20 rfl rfl)
theorem dX3_jumps_44 : decode cX3_jumps 44 = .ok (.bipush 13, 2) := dk_16 13 (dk_at dksX3_jumps_1 21 rfl rfl)
theorem dX3_jumps_46 : decode cX3_jumps 46 = .ok (.if_icmp .ne 10, 3) := dk_160 0 10 (dk_at dksX3_jumps_2 0 rfl rfl)
theorem dX3_jumps_49 : decode cX3_jumps 49 = .ok (.aload_n 0, 1) := dk_42 (dk_at dksX3_jumps_2 3 rfl rfl)
theorem dX3_jumps_50 : decode cX3_jumps 50 = .ok (.getfield 257, 3) := dk_180 1 1 (dk_at dksX3_jumps_2 4 rfl rfl)
theorem dX3_jumps_53 : decode cX3_jumps 53 = .ok (.ifCond .ne 16, 3) := dk_154 0 16 (dk_at dksX3_jumps_2 7 rfl rfl)
theorem dX3_jumps_56 : decode cX3_jumps 56 = .ok (.iload_n 1, 1) := dk_27 (dk_at dksX3_jumps_2 10 rfl rfl)
theorem dX3_jumps_57 : decode cX3_jumps 57 = .ok (.bipush 14, 2) := dk_16 14 (dk_at dksX3_jumps_2 11 rfl rfl)
theorem dX3_jumps_59 : decode cX3_jumps 59 = .ok (.if_icmp .ne 14, 3) := dk_160 0 14 (dk_at dksX3_jumps_2 13 rfl rfl)
theorem dX3_jumps_62 : decode cX3_jumps 62 = .ok (.aload_n 0, 1) := dk_42 (dk_at dksX3_jumps_2 16 rfl rfl)
theorem dX3_jumps_63 : decode cX3_jumps 63 = .ok (.getfield 260, 3) := dk_180 1 4 (dk_at dksX3_jumps_2 17 rfl rfl)
theorem dX3_jumps_66 : decode cX3_jumps 66 = .ok (.ifCond .eq 7, 3) := dk_153 0 7 (dk_at dksX3_jumps_2 20 rfl rfl)
theorem dX3_jumps_69 : decode cX3_jumps 69 = .ok (.iconst 1, 1) := dk_4 (dk_at dksX3_jumps_2 23 rfl rfl)
theorem dX3_jumps_70 : decode cX3_jumps 70 = .ok (.goto 4, 3) := dk_167 0 4 (dk_at dksX3_jumps_3 0 rfl rfl)
theorem dX3_jumps_73 : decode cX3_jumps 73 = .ok (.iconst 0, 1) := dk_3 (dk_at dksX3_jumps_3 3 rfl rfl)
theorem dX3_jumps_74 : decode cX3_jumps 74 = .ok (.istore 5, 2) := dk_54 5 (dk_at dksX3_jumps_3 4 rfl rfl)
theorem dX3_jumps_76 : decode cX3_jumps 76 = .ok (.aload_n 0, 1) := dk_42 (dk_at dksX3_jumps_3 6 rfl rfl)
theorem dX3_jumps_77 : decode cX3_jumps 77 = .ok (.iload_n 1, 1) := dk_27 (dk_at dksX3_jumps_3 7 rfl rfl)
theorem dX3_jumps_78 : decode cX3_jumps 78 = .ok (.bipush 16, 2) := dk_16 16 (dk_at dksX3_jumps_3 8 rfl rfl)
theorem dX3_jumps_80 : decode cX3_jumps 80 = .ok (.if_icmp .ne 10, 3) := dk_160 0 10 (dk_at dksX3_jumps_3 10 rfl rfl)
theorem dX3_jumps_83 : decode cX3_jumps 83 = .ok (.aload_n 0, 1) := dk_42 (dk_at dksX3_jumps_3 13 rfl rfl)
theorem dX3_jumps_84 : decode cX3_jumps 84 = .ok (.invokevirtual 319, 3) := dk_182 1 63 (dk_at dksX3_jumps_3 14 rfl rfl)
theorem dX3_jumps_87 : decode cX3_jumps 87 = .ok (.goto 14, 3) := dk_167 0 14 (dk_at dksX3_jumps_3 17 rfl rfl)
theorem dX3_jumps_90 : decode cX3_jumps 90 = .ok (.iload 5, 2) := dk_21 5 (dk_at dksX3_jumps_3 20 rfl rfl)
theorem dX3_jumps_92 : decode cX3_jumps 92 = .ok (.ifCond .eq 7, 3) := dk_153 0 7 (dk_at dksX3_jumps_4 0 rfl rfl)
theorem dX3_jumps_95 : decode cX3_jumps 95 = .ok (.iload_n 3, 1) := dk_29 (dk_at dksX3_jumps_4 3 rfl rfl)
theorem dX3_jumps_96 : decode cX3_jumps 96 = .ok (.goto 5, 3) := dk_167 0 5 (dk_at dksX3_jumps_4 4 rfl rfl)
theorem dX3_jumps_99 : decode cX3_jumps 99 = .ok (.iload 4, 2) := dk_21 4 (dk_at dksX3_jumps_4 7 rfl rfl)
theorem dX3_jumps_101 : decode cX3_jumps 101 = .ok (.putfield 254, 3) := dk_181 0 254 (dk_at dksX3_jumps_4 9 rfl rfl)
theorem dX3_jumps_104 : decode cX3_jumps 104 = .ok (.iload_n 1, 1) := dk_27 (dk_at dksX3_jumps_4 12 rfl rfl)
theorem dX3_jumps_105 : decode cX3_jumps 105 = .ok (.bipush 18, 2) := dk_16 18 (dk_at dksX3_jumps_4 13 rfl rfl)
theorem dX3_jumps_107 : decode cX3_jumps 107 = .ok (.if_icmp .ne 13, 3) := dk_160 0 13 (dk_at dksX3_jumps_4 15 rfl rfl)
theorem dX3_jumps_110 : decode cX3_jumps 110 = .ok (.aload_n 0, 1) := dk_42 (dk_at dksX3_jumps_4 18 rfl rfl)
theorem dX3_jumps_111 : decode cX3_jumps 111 = .ok (.getfield 55, 3) := dk_180 0 55 (dk_at dksX3_jumps_4 19 rfl rfl)
theorem dX3_jumps_114 : decode cX3_jumps 114 = .ok (.iload_n 2, 1) := dk_28 (dk_at dksX3_jumps_4 22 rfl rfl)
theorem dX3_jumps_115 : decode cX3_jumps 115 = .ok (.aload_n 0, 1) := dk_42 (dk_at dksX3_jumps_4 23 rfl rfl)
theorem dX3_jumps_116 : decode cX3_jumps 116 = .ok (.invokevirtual 319, 3) := dk_182 1 63 (dk_at dksX3_jumps_5 0 rfl rfl)
theorem dX3_jumps_119 : decode cX3_jumps 119 = .ok (.iastore, 1) := dk_79 (dk_at dksX3_jumps_5 3 rfl rfl)
theorem dX3_jumps_120 : decode cX3_jumps 120 = .ok (.return_, 1) := dk_177 (dk_at dksX3_jumps_5 4 rfl rfl)
abbrev cX3_pulls : ByteArray := prog_28_method_38_code
def yX3_pulls : MethodName := ⟨RX3, "pulls", "()I"⟩
def dkwX3_pulls_0 : List UInt8 := [42, 89, 180, 0, 241, 4, 96, 181, 0, 241, 42, 180, 0, 52, 42, 180, 0, 241, 4, 100, 46, 172]
abbrev dktX3_pulls_0 : List UInt8 := dkwX3_pulls_0 ++ []
theorem dksX3_pulls_0 : cX3_pulls.data.toList.drop 0 = dktX3_pulls_0 := by decide +kernel
theorem dX3_pulls_0 : decode cX3_pulls 0 = .ok (.aload_n 0, 1) := dk_42 (dk_at dksX3_pulls_0 0 rfl rfl)
theorem dX3_pulls_1 : decode cX3_pulls 1 = .ok (.dup, 1) := dk_89 (dk_at dksX3_pulls_0 1 rfl rfl)
theorem dX3_pulls_2 : decode cX3_pulls 2 = .ok (.getfield 241, 3) := dk_180 0 241 (dk_at dksX3_pulls_0 2 rfl rfl)
theorem dX3_pulls_5 : decode cX3_pulls 5 = .ok (.iconst 1, 1) := dk_4 (dk_at dksX3_pulls_0 5 rfl rfl)
theorem dX3_pulls_6 : decode cX3_pulls 6 = .ok (.iadd, 1) := dk_96 (dk_at dksX3_pulls_0 6 rfl rfl)
theorem dX3_pulls_7 : decode cX3_pulls 7 = .ok (.putfield 241, 3) := dk_181 0 241 (dk_at dksX3_pulls_0 7 rfl rfl)
theorem dX3_pulls_10 : decode cX3_pulls 10 = .ok (.aload_n 0, 1) := dk_42 (dk_at dksX3_pulls_0 10 rfl rfl)
theorem dX3_pulls_11 : decode cX3_pulls 11 = .ok (.getfield 52, 3) := dk_180 0 52 (dk_at dksX3_pulls_0 11 rfl rfl)
theorem dX3_pulls_14 : decode cX3_pulls 14 = .ok (.aload_n 0, 1) := dk_42 (dk_at dksX3_pulls_0 14 rfl rfl)
theorem dX3_pulls_15 : decode cX3_pulls 15 = .ok (.getfield 241, 3) := dk_180 0 241 (dk_at dksX3_pulls_0 15 rfl rfl)
theorem dX3_pulls_18 : decode cX3_pulls 18 = .ok (.iconst 1, 1) := dk_4 (dk_at dksX3_pulls_0 18 rfl rfl)
theorem dX3_pulls_19 : decode cX3_pulls 19 = .ok (.isub, 1) := dk_100 (dk_at dksX3_pulls_0 19 rfl rfl)
theorem dX3_pulls_20 : decode cX3_pulls 20 = .ok (.iaload, 1) := dk_46 (dk_at dksX3_pulls_0 20 rfl rfl)
theorem dX3_pulls_21 : decode cX3_pulls 21 = .ok (.ireturn, 1) := dk_172 (dk_at dksX3_pulls_0 21 rfl rfl)
abbrev cX3_others : ByteArray := prog_28_method_51_code
def yX3_others : MethodName := ⟨RX3, "others", "(III)V"⟩
def dkwX3_others_10 : List UInt8 := [79, 42, 89, 180, 1, 22, 4, 96, 181, 1, 22, 177]
abbrev dktX3_others_10 : List UInt8 := dkwX3_others_10 ++ []
def dkwX3_others_9 : List UInt8 := [4, 167, 0, 4, 3, 96, 181, 1, 25, 27, 16, 25, 160, 0, 23, 42, 180, 0, 58, 42, 180, 1, 22, 29]
abbrev dktX3_others_9 : List UInt8 := dkwX3_others_9 ++ dktX3_others_10
def dkwX3_others_8 : List UInt8 := [180, 0, 64, 42, 180, 1, 25, 46, 167, 0, 5, 18, 151, 79, 42, 89, 180, 1, 25, 21, 4, 153, 0, 7]
abbrev dktX3_others_8 : List UInt8 := dkwX3_others_8 ++ dktX3_others_9
def dkwX3_others_7 : List UInt8 := [182, 1, 69, 162, 0, 7, 4, 167, 0, 4, 3, 54, 4, 42, 180, 0, 55, 28, 21, 4, 153, 0, 15, 42]
abbrev dktX3_others_7 : List UInt8 := dkwX3_others_7 ++ dktX3_others_8
def dkwX3_others_6 : List UInt8 := [160, 0, 13, 42, 29, 181, 1, 16, 42, 3, 181, 1, 19, 27, 16, 24, 160, 0, 65, 42, 180, 1, 25, 42]
abbrev dktX3_others_6 : List UInt8 := dkwX3_others_6 ++ dktX3_others_7
def dkwX3_others_5 : List UInt8 := [16, 20, 159, 0, 14, 42, 180, 1, 7, 153, 0, 7, 4, 167, 0, 4, 3, 181, 1, 7, 27, 16, 23]
abbrev dktX3_others_5 : List UInt8 := dkwX3_others_5 ++ dktX3_others_6
def dkwX3_others_4 : List UInt8 := [180, 1, 13, 154, 0, 7, 3, 167, 0, 4, 5, 96, 181, 0, 254, 42, 27, 16, 19, 159, 0, 16, 27]
abbrev dktX3_others_4 : List UInt8 := dkwX3_others_4 ++ dktX3_others_5
def dkwX3_others_3 : List UInt8 := [29, 182, 1, 66, 177, 42, 89, 180, 0, 254, 27, 16, 22, 160, 0, 21, 42, 180, 1, 10, 154, 0, 14, 42]
abbrev dktX3_others_3 : List UInt8 := dkwX3_others_3 ++ dktX3_others_4
def dkwX3_others_2 : List UInt8 := [181, 1, 4, 42, 42, 182, 1, 63, 181, 0, 254, 42, 4, 181, 1, 7, 177, 27, 16, 26, 160, 0, 9, 42]
abbrev dktX3_others_2 : List UInt8 := dkwX3_others_2 ++ dktX3_others_3
def dkwX3_others_1 : List UInt8 := [167, 0, 4, 3, 181, 1, 1, 42, 21, 4, 5, 108, 5, 112, 4, 160, 0, 7, 4, 167, 0, 4, 3]
abbrev dktX3_others_1 : List UInt8 := dkwX3_others_1 ++ dktX3_others_2
def dkwX3_others_0 : List UInt8 := [27, 16, 21, 160, 0, 59, 42, 182, 1, 63, 54, 4, 42, 21, 4, 5, 112, 4, 160, 0, 7, 4]
abbrev dktX3_others_0 : List UInt8 := dkwX3_others_0 ++ dktX3_others_1
theorem dksX3_others_0 : cX3_others.data.toList.drop 0 = dktX3_others_0 := by decide +kernel
theorem dksX3_others_1 : cX3_others.data.toList.drop 22 = dktX3_others_1 := dk_seg dksX3_others_0 22 rfl rfl
theorem dksX3_others_2 : cX3_others.data.toList.drop 45 = dktX3_others_2 := dk_seg dksX3_others_1 23 rfl rfl
theorem dksX3_others_3 : cX3_others.data.toList.drop 69 = dktX3_others_3 := dk_seg dksX3_others_2 24 rfl rfl
theorem dksX3_others_4 : cX3_others.data.toList.drop 93 = dktX3_others_4 := dk_seg dksX3_others_3 24 rfl rfl
theorem dksX3_others_5 : cX3_others.data.toList.drop 116 = dktX3_others_5 := dk_seg dksX3_others_4 23 rfl rfl
theorem dksX3_others_6 : cX3_others.data.toList.drop 139 = dktX3_others_6 := dk_seg dksX3_others_5 23 rfl rfl
theorem dksX3_others_7 : cX3_others.data.toList.drop 163 = dktX3_others_7 := dk_seg dksX3_others_6 24 rfl rfl
theorem dksX3_others_8 : cX3_others.data.toList.drop 187 = dktX3_others_8 := dk_seg dksX3_others_7 24 rfl rfl
theorem dksX3_others_9 : cX3_others.data.toList.drop 211 = dktX3_others_9 := dk_seg dksX3_others_8 24 rfl rfl
theorem dksX3_others_10 : cX3_others.data.toList.drop 235 = dktX3_others_10 := dk_seg dksX3_others_9 24 rfl rfl
theorem dX3_others_0 : decode cX3_others 0 = .ok (.iload_n 1, 1) := dk_27 (dk_at dksX3_others_0 0 rfl rfl)
theorem dX3_others_1 : decode cX3_others 1 = .ok (.bipush 21, 2) := dk_16 21 (dk_at dksX3_others_0 1 rfl rfl)
theorem dX3_others_3 : decode cX3_others 3 = .ok (.if_icmp .ne 59, 3) := dk_160 0 59 (dk_at dksX3_others_0 3 rfl rfl)
theorem dX3_others_6 : decode cX3_others 6 = .ok (.aload_n 0, 1) := dk_42 (dk_at dksX3_others_0 6 rfl rfl)
theorem dX3_others_7 : decode cX3_others 7 = .ok (.invokevirtual 319, 3) := dk_182 1 63 (dk_at dksX3_others_0 7 rfl rfl)
theorem dX3_others_10 : decode cX3_others 10 = .ok (.istore 4, 2) := dk_54 4 (dk_at dksX3_others_0 10 rfl rfl)
theorem dX3_others_12 : decode cX3_others 12 = .ok (.aload_n 0, 1) := dk_42 (dk_at dksX3_others_0 12 rfl rfl)
theorem dX3_others_13 : decode cX3_others 13 = .ok (.iload 4, 2) := dk_21 4 (dk_at dksX3_others_0 13 rfl rfl)
theorem dX3_others_15 : decode cX3_others 15 = .ok (.iconst 2, 1) := dk_5 (dk_at dksX3_others_0 15 rfl rfl)
theorem dX3_others_16 : decode cX3_others 16 = .ok (.irem, 1) := dk_112 (dk_at dksX3_others_0 16 rfl rfl)
theorem dX3_others_17 : decode cX3_others 17 = .ok (.iconst 1, 1) := dk_4 (dk_at dksX3_others_0 17 rfl rfl)
theorem dX3_others_18 : decode cX3_others 18 = .ok (.if_icmp .ne 7, 3) := dk_160 0 7 (dk_at dksX3_others_0 18 rfl rfl)
theorem dX3_others_21 : decode cX3_others 21 = .ok (.iconst 1, 1) := dk_4 (dk_at dksX3_others_0 21 rfl rfl)
theorem dX3_others_22 : decode cX3_others 22 = .ok (.goto 4, 3) := dk_167 0 4 (dk_at dksX3_others_1 0 rfl rfl)
theorem dX3_others_25 : decode cX3_others 25 = .ok (.iconst 0, 1) := dk_3 (dk_at dksX3_others_1 3 rfl rfl)
theorem dX3_others_26 : decode cX3_others 26 = .ok (.putfield 257, 3) := dk_181 1 1 (dk_at dksX3_others_1 4 rfl rfl)
theorem dX3_others_29 : decode cX3_others 29 = .ok (.aload_n 0, 1) := dk_42 (dk_at dksX3_others_1 7 rfl rfl)
theorem dX3_others_30 : decode cX3_others 30 = .ok (.iload 4, 2) := dk_21 4 (dk_at dksX3_others_1 8 rfl rfl)
theorem dX3_others_32 : decode cX3_others 32 = .ok (.iconst 2, 1) := dk_5 (dk_at dksX3_others_1 10 rfl rfl)
theorem dX3_others_33 : decode cX3_others 33 = .ok (.idiv, 1) := dk_108 (dk_at dksX3_others_1 11 rfl rfl)
theorem dX3_others_34 : decode cX3_others 34 = .ok (.iconst 2, 1) := dk_5 (dk_at dksX3_others_1 12 rfl rfl)
theorem dX3_others_35 : decode cX3_others 35 = .ok (.irem, 1) := dk_112 (dk_at dksX3_others_1 13 rfl rfl)
theorem dX3_others_36 : decode cX3_others 36 = .ok (.iconst 1, 1) := dk_4 (dk_at dksX3_others_1 14 rfl rfl)
theorem dX3_others_37 : decode cX3_others 37 = .ok (.if_icmp .ne 7, 3) := dk_160 0 7 (dk_at dksX3_others_1 15 rfl rfl)
theorem dX3_others_40 : decode cX3_others 40 = .ok (.iconst 1, 1) := dk_4 (dk_at dksX3_others_1 18 rfl rfl)
theorem dX3_others_41 : decode cX3_others 41 = .ok (.goto 4, 3) := dk_167 0 4 (dk_at dksX3_others_1 19 rfl rfl)
theorem dX3_others_44 : decode cX3_others 44 = .ok (.iconst 0, 1) := dk_3 (dk_at dksX3_others_1 22 rfl rfl)
theorem dX3_others_45 : decode cX3_others 45 = .ok (.putfield 260, 3) := dk_181 1 4 (dk_at dksX3_others_2 0 rfl rfl)
theorem dX3_others_48 : decode cX3_others 48 = .ok (.aload_n 0, 1) := dk_42 (dk_at dksX3_others_2 3 rfl rfl)
theorem dX3_others_49 : decode cX3_others 49 = .ok (.aload_n 0, 1) := dk_42 (dk_at dksX3_others_2 4 rfl rfl)
theorem dX3_others_50 : decode cX3_others 50 = .ok (.invokevirtual 319, 3) := dk_182 1 63 (dk_at dksX3_others_2 5 rfl rfl)
theorem dX3_others_53 : decode cX3_others 53 = .ok (.putfield 254, 3) := dk_181 0 254 (dk_at dksX3_others_2 8 rfl rfl)
theorem dX3_others_56 : decode cX3_others 56 = .ok (.aload_n 0, 1) := dk_42 (dk_at dksX3_others_2 11 rfl rfl)
theorem dX3_others_57 : decode cX3_others 57 = .ok (.iconst 1, 1) := dk_4 (dk_at dksX3_others_2 12 rfl rfl)
theorem dX3_others_58 : decode cX3_others 58 = .ok (.putfield 263, 3) := dk_181 1 7 (dk_at dksX3_others_2 13 rfl rfl)
theorem dX3_others_61 : decode cX3_others 61 = .ok (.return_, 1) := dk_177 (dk_at dksX3_others_2 16 rfl rfl)
theorem dX3_others_62 : decode cX3_others 62 = .ok (.iload_n 1, 1) := dk_27 (dk_at dksX3_others_2 17 rfl rfl)
theorem dX3_others_63 : decode cX3_others 63 = .ok (.bipush 26, 2) := dk_16 26 (dk_at dksX3_others_2 18 rfl rfl)
theorem dX3_others_65 : decode cX3_others 65 = .ok (.if_icmp .ne 9, 3) := dk_160 0 9 (dk_at dksX3_others_2 20 rfl rfl)
theorem dX3_others_68 : decode cX3_others 68 = .ok (.aload_n 0, 1) := dk_42 (dk_at dksX3_others_2 23 rfl rfl)
theorem dX3_others_69 : decode cX3_others 69 = .ok (.iload_n 3, 1) := dk_29 (dk_at dksX3_others_3 0 rfl rfl)
theorem dX3_others_70 : decode cX3_others 70 = .ok (.invokevirtual 322, 3) := dk_182 1 66 (dk_at dksX3_others_3 1 rfl rfl)
theorem dX3_others_73 : decode cX3_others 73 = .ok (.return_, 1) := dk_177 (dk_at dksX3_others_3 4 rfl rfl)
theorem dX3_others_74 : decode cX3_others 74 = .ok (.aload_n 0, 1) := dk_42 (dk_at dksX3_others_3 5 rfl rfl)
theorem dX3_others_75 : decode cX3_others 75 = .ok (.dup, 1) := dk_89 (dk_at dksX3_others_3 6 rfl rfl)
theorem dX3_others_76 : decode cX3_others 76 = .ok (.getfield 254, 3) := dk_180 0 254 (dk_at dksX3_others_3 7 rfl rfl)
theorem dX3_others_79 : decode cX3_others 79 = .ok (.iload_n 1, 1) := dk_27 (dk_at dksX3_others_3 10 rfl rfl)
theorem dX3_others_80 : decode cX3_others 80 = .ok (.bipush 22, 2) := dk_16 22 (dk_at dksX3_others_3 11 rfl rfl)
theorem dX3_others_82 : decode cX3_others 82 = .ok (.if_icmp .ne 21, 3) := dk_160 0 21 (dk_at dksX3_others_3 13 rfl rfl)
theorem dX3_others_85 : decode cX3_others 85 = .ok (.aload_n 0, 1) := dk_42 (dk_at dksX3_others_3 16 rfl rfl)
theorem dX3_others_86 : decode cX3_others 86 = .ok (.getfield 266, 3) := dk_180 1 10 (dk_at dksX3_others_3 17 rfl rfl)
theorem dX3_others_89 : decode cX3_others 89 = .ok (.ifCond .ne 14, 3) := dk_154 0 14 (dk_at dksX3_others_3 20 rfl rfl)
theorem dX3_others_92 : decode cX3_others 92 = .ok (.aload_n 0, 1) := dk_42 (dk_at dksX3_others_3 23 rfl rfl)
theorem dX3_others_93 : decode cX3_others 93 = .ok (.getfield 269, 3) := dk_180 1 13 (dk_at dksX3_others_4 0 rfl rfl)
theorem dX3_others_96 : decode cX3_others 96 = .ok (.ifCond .ne 7, 3) := dk_154 0 7 (dk_at dksX3_others_4 3 rfl rfl)
theorem dX3_others_99 : decode cX3_others 99 = .ok (.iconst 0, 1) := dk_3 (dk_at dksX3_others_4 6 rfl rfl)
theorem dX3_others_100 : decode cX3_others 100 = .ok (.goto 4, 3) := dk_167 0 4 (dk_at dksX3_others_4 7 rfl rfl)
theorem dX3_others_103 : decode cX3_others 103 = .ok (.iconst 2, 1) := dk_5 (dk_at dksX3_others_4 10 rfl rfl)
theorem dX3_others_104 : decode cX3_others 104 = .ok (.iadd, 1) := dk_96 (dk_at dksX3_others_4 11 rfl rfl)
theorem dX3_others_105 : decode cX3_others 105 = .ok (.putfield 254, 3) := dk_181 0 254 (dk_at dksX3_others_4 12 rfl rfl)
theorem dX3_others_108 : decode cX3_others 108 = .ok (.aload_n 0, 1) := dk_42 (dk_at dksX3_others_4 15 rfl rfl)
theorem dX3_others_109 : decode cX3_others 109 = .ok (.iload_n 1, 1) := dk_27 (dk_at dksX3_others_4 16 rfl rfl)
theorem dX3_others_110 : decode cX3_others 110 = .ok (.bipush 19, 2) := dk_16 19 (dk_at dksX3_others_4 17 rfl rfl)
theorem dX3_others_112 : decode cX3_others 112 = .ok (.if_icmp .eq 16, 3) := dk_159 0 16 (dk_at dksX3_others_4 19 rfl rfl)
theorem dX3_others_115 : decode cX3_others 115 = .ok (.iload_n 1, 1) := dk_27 (dk_at dksX3_others_4 22 rfl rfl)
theorem dX3_others_116 : decode cX3_others 116 = .ok (.bipush 20, 2) := dk_16 20 (dk_at dksX3_others_5 0 rfl rfl)
theorem dX3_others_118 : decode cX3_others 118 = .ok (.if_icmp .eq 14, 3) := dk_159 0 14 (dk_at dksX3_others_5 2 rfl rfl)
theorem dX3_others_121 : decode cX3_others 121 = .ok (.aload_n 0, 1) := dk_42 (dk_at dksX3_others_5 5 rfl rfl)
theorem dX3_others_122 : decode cX3_others 122 = .ok (.getfield 263, 3) := dk_180 1 7 (dk_at dksX3_others_5 6 rfl rfl)
theorem dX3_others_125 : decode cX3_others 125 = .ok (.ifCond .eq 7, 3) := dk_153 0 7 (dk_at dksX3_others_5 9 rfl rfl)
theorem dX3_others_128 : decode cX3_others 128 = .ok (.iconst 1, 1) := dk_4 (dk_at dksX3_others_5 12 rfl rfl)
theorem dX3_others_129 : decode cX3_others 129 = .ok (.goto 4, 3) := dk_167 0 4 (dk_at dksX3_others_5 13 rfl rfl)
theorem dX3_others_132 : decode cX3_others 132 = .ok (.iconst 0, 1) := dk_3 (dk_at dksX3_others_5 16 rfl rfl)
theorem dX3_others_133 : decode cX3_others 133 = .ok (.putfield 263, 3) := dk_181 1 7 (dk_at dksX3_others_5 17 rfl rfl)
theorem dX3_others_136 : decode cX3_others 136 = .ok (.iload_n 1, 1) := dk_27 (dk_at dksX3_others_5 20 rfl rfl)
theorem dX3_others_137 : decode cX3_others 137 = .ok (.bipush 23, 2) := dk_16 23 (dk_at dksX3_others_5 21 rfl rfl)
theorem dX3_others_139 : decode cX3_others 139 = .ok (.if_icmp .ne 13, 3) := dk_160 0 13 (dk_at dksX3_others_6 0 rfl rfl)
theorem dX3_others_142 : decode cX3_others 142 = .ok (.aload_n 0, 1) := dk_42 (dk_at dksX3_others_6 3 rfl rfl)
theorem dX3_others_143 : decode cX3_others 143 = .ok (.iload_n 3, 1) := dk_29 (dk_at dksX3_others_6 4 rfl rfl)
theorem dX3_others_144 : decode cX3_others 144 = .ok (.putfield 272, 3) := dk_181 1 16 (dk_at dksX3_others_6 5 rfl rfl)
theorem dX3_others_147 : decode cX3_others 147 = .ok (.aload_n 0, 1) := dk_42 (dk_at dksX3_others_6 8 rfl rfl)
theorem dX3_others_148 : decode cX3_others 148 = .ok (.iconst 0, 1) := dk_3 (dk_at dksX3_others_6 9 rfl rfl)
theorem dX3_others_149 : decode cX3_others 149 = .ok (.putfield 275, 3) := dk_181 1 19 (dk_at dksX3_others_6 10 rfl rfl)
theorem dX3_others_152 : decode cX3_others 152 = .ok (.iload_n 1, 1) := dk_27 (dk_at dksX3_others_6 13 rfl rfl)
theorem dX3_others_153 : decode cX3_others 153 = .ok (.bipush 24, 2) := dk_16 24 (dk_at dksX3_others_6 14 rfl rfl)
theorem dX3_others_155 : decode cX3_others 155 = .ok (.if_icmp .ne 65, 3) := dk_160 0 65 (dk_at dksX3_others_6 16 rfl rfl)
theorem dX3_others_158 : decode cX3_others 158 = .ok (.aload_n 0, 1) := dk_42 (dk_at dksX3_others_6 19 rfl rfl)
theorem dX3_others_159 : decode cX3_others 159 = .ok (.getfield 281, 3) := dk_180 1 25 (dk_at dksX3_others_6 20 rfl rfl)
theorem dX3_others_162 : decode cX3_others 162 = .ok (.aload_n 0, 1) := dk_42 (dk_at dksX3_others_6 23 rfl rfl)
theorem dX3_others_163 : decode cX3_others 163 = .ok (.invokevirtual 325, 3) := dk_182 1 69 (dk_at dksX3_others_7 0 rfl rfl)
theorem dX3_others_166 : decode cX3_others 166 = .ok (.if_icmp .ge 7, 3) := dk_162 0 7 (dk_at dksX3_others_7 3 rfl rfl)
theorem dX3_others_169 : decode cX3_others 169 = .ok (.iconst 1, 1) := dk_4 (dk_at dksX3_others_7 6 rfl rfl)
theorem dX3_others_170 : decode cX3_others 170 = .ok (.goto 4, 3) := dk_167 0 4 (dk_at dksX3_others_7 7 rfl rfl)
theorem dX3_others_173 : decode cX3_others 173 = .ok (.iconst 0, 1) := dk_3 (dk_at dksX3_others_7 10 rfl rfl)
theorem dX3_others_174 : decode cX3_others 174 = .ok (.istore 4, 2) := dk_54 4 (dk_at dksX3_others_7 11 rfl rfl)
theorem dX3_others_176 : decode cX3_others 176 = .ok (.aload_n 0, 1) := dk_42 (dk_at dksX3_others_7 13 rfl rfl)
theorem dX3_others_177 : decode cX3_others 177 = .ok (.getfield 55, 3) := dk_180 0 55 (dk_at dksX3_others_7 14 rfl rfl)
theorem dX3_others_180 : decode cX3_others 180 = .ok (.iload_n 2, 1) := dk_28 (dk_at dksX3_others_7 17 rfl rfl)
theorem dX3_others_181 : decode cX3_others 181 = .ok (.iload 4, 2) := dk_21 4 (dk_at dksX3_others_7 18 rfl rfl)
theorem dX3_others_183 : decode cX3_others 183 = .ok (.ifCond .eq 15, 3) := dk_153 0 15 (dk_at dksX3_others_7 20 rfl rfl)
theorem dX3_others_186 : decode cX3_others 186 = .ok (.aload_n 0, 1) := dk_42 (dk_at dksX3_others_7 23 rfl rfl)
theorem dX3_others_187 : decode cX3_others 187 = .ok (.getfield 64, 3) := dk_180 0 64 (dk_at dksX3_others_8 0 rfl rfl)
theorem dX3_others_190 : decode cX3_others 190 = .ok (.aload_n 0, 1) := dk_42 (dk_at dksX3_others_8 3 rfl rfl)
theorem dX3_others_191 : decode cX3_others 191 = .ok (.getfield 281, 3) := dk_180 1 25 (dk_at dksX3_others_8 4 rfl rfl)
theorem dX3_others_194 : decode cX3_others 194 = .ok (.iaload, 1) := dk_46 (dk_at dksX3_others_8 7 rfl rfl)
theorem dX3_others_195 : decode cX3_others 195 = .ok (.goto 5, 3) := dk_167 0 5 (dk_at dksX3_others_8 8 rfl rfl)
theorem dX3_others_198 : decode cX3_others 198 = .ok (.ldc 151, 2) := dk_18 151 (dk_at dksX3_others_8 11 rfl rfl)
theorem dX3_others_200 : decode cX3_others 200 = .ok (.iastore, 1) := dk_79 (dk_at dksX3_others_8 13 rfl rfl)
theorem dX3_others_201 : decode cX3_others 201 = .ok (.aload_n 0, 1) := dk_42 (dk_at dksX3_others_8 14 rfl rfl)
theorem dX3_others_202 : decode cX3_others 202 = .ok (.dup, 1) := dk_89 (dk_at dksX3_others_8 15 rfl rfl)
theorem dX3_others_203 : decode cX3_others 203 = .ok (.getfield 281, 3) := dk_180 1 25 (dk_at dksX3_others_8 16 rfl rfl)
theorem dX3_others_206 : decode cX3_others 206 = .ok (.iload 4, 2) := dk_21 4 (dk_at dksX3_others_8 19 rfl rfl)
theorem dX3_others_208 : decode cX3_others 208 = .ok (.ifCond .eq 7, 3) := dk_153 0 7 (dk_at dksX3_others_8 21 rfl rfl)
theorem dX3_others_211 : decode cX3_others 211 = .ok (.iconst 1, 1) := dk_4 (dk_at dksX3_others_9 0 rfl rfl)
theorem dX3_others_212 : decode cX3_others 212 = .ok (.goto 4, 3) := dk_167 0 4 (dk_at dksX3_others_9 1 rfl rfl)
theorem dX3_others_215 : decode cX3_others 215 = .ok (.iconst 0, 1) := dk_3 (dk_at dksX3_others_9 4 rfl rfl)
theorem dX3_others_216 : decode cX3_others 216 = .ok (.iadd, 1) := dk_96 (dk_at dksX3_others_9 5 rfl rfl)
theorem dX3_others_217 : decode cX3_others 217 = .ok (.putfield 281, 3) := dk_181 1 25 (dk_at dksX3_others_9 6 rfl rfl)
theorem dX3_others_220 : decode cX3_others 220 = .ok (.iload_n 1, 1) := dk_27 (dk_at dksX3_others_9 9 rfl rfl)
theorem dX3_others_221 : decode cX3_others 221 = .ok (.bipush 25, 2) := dk_16 25 (dk_at dksX3_others_9 10 rfl rfl)
theorem dX3_others_223 : decode cX3_others 223 = .ok (.if_icmp .ne 23, 3) := dk_160 0 23 (dk_at dksX3_others_9 12 rfl rfl)
theorem dX3_others_226 : decode cX3_others 226 = .ok (.aload_n 0, 1) := dk_42 (dk_at dksX3_others_9 15 rfl rfl)
theorem dX3_others_227 : decode cX3_others 227 = .ok (.getfield 58, 3) := dk_180 0 58 (dk_at dksX3_others_9 16 rfl rfl)
theorem dX3_others_230 : decode cX3_others 230 = .ok (.aload_n 0, 1) := dk_42 (dk_at dksX3_others_9 19 rfl rfl)
theorem dX3_others_231 : decode cX3_others 231 = .ok (.getfield 278, 3) := dk_180 1 22 (dk_at dksX3_others_9 20 rfl rfl)
theorem dX3_others_234 : decode cX3_others 234 = .ok (.iload_n 3, 1) := dk_29 (dk_at dksX3_others_9 23 rfl rfl)
theorem dX3_others_235 : decode cX3_others 235 = .ok (.iastore, 1) := dk_79 (dk_at dksX3_others_10 0 rfl rfl)
theorem dX3_others_236 : decode cX3_others 236 = .ok (.aload_n 0, 1) := dk_42 (dk_at dksX3_others_10 1 rfl rfl)
theorem dX3_others_237 : decode cX3_others 237 = .ok (.dup, 1) := dk_89 (dk_at dksX3_others_10 2 rfl rfl)
theorem dX3_others_238 : decode cX3_others 238 = .ok (.getfield 278, 3) := dk_180 1 22 (dk_at dksX3_others_10 3 rfl rfl)
theorem dX3_others_241 : decode cX3_others 241 = .ok (.iconst 1, 1) := dk_4 (dk_at dksX3_others_10 6 rfl rfl)
theorem dX3_others_242 : decode cX3_others 242 = .ok (.iadd, 1) := dk_96 (dk_at dksX3_others_10 7 rfl rfl)
theorem dX3_others_243 : decode cX3_others 243 = .ok (.putfield 278, 3) := dk_181 1 22 (dk_at dksX3_others_10 8 rfl rfl)
theorem dX3_others_246 : decode cX3_others 246 = .ok (.return_, 1) := dk_177 (dk_at dksX3_others_10 11 rfl rfl)
abbrev cX3_calls : ByteArray := prog_28_method_60_code
def yX3_calls : MethodName := ⟨RX3, "calls", "(I)V"⟩
def dkwX3_calls_10 : List UInt8 := [182, 1, 114, 167, 0, 8, 42, 28, 182, 1, 117, 54, 5, 42, 21, 5, 182, 1, 120, 177]
abbrev dktX3_calls_10 : List UInt8 := dkwX3_calls_10 ++ []
def dkwX3_calls_9 : List UInt8 := [167, 0, 34, 27, 5, 160, 0, 11, 42, 28, 182, 1, 111, 167, 0, 21, 27, 8, 160, 0, 11, 42, 28]
abbrev dktX3_calls_9 : List UInt8 := dkwX3_calls_9 ++ dktX3_calls_10
def dkwX3_calls_8 : List UInt8 := [167, 255, 231, 27, 154, 0, 10, 42, 182, 1, 105, 167, 0, 47, 27, 4, 160, 0, 11, 42, 28, 182, 1, 108]
abbrev dktX3_calls_8 : List UInt8 := dkwX3_calls_8 ++ dktX3_calls_9
def dkwX3_calls_7 : List UInt8 := [17, 1, 0, 162, 0, 23, 42, 180, 0, 82, 21, 5, 42, 180, 0, 79, 21, 5, 46, 79, 132, 5, 1]
abbrev dktX3_calls_7 : List UInt8 := dkwX3_calls_7 ++ dktX3_calls_8
def dkwX3_calls_6 : List UInt8 := [79, 42, 180, 0, 55, 6, 29, 79, 42, 89, 180, 0, 254, 5, 96, 181, 0, 254, 177, 3, 54, 5, 21, 5]
abbrev dktX3_calls_6 : List UInt8 := dkwX3_calls_6 ++ dktX3_calls_7
def dkwX3_calls_5 : List UInt8 := [154, 0, 25, 27, 7, 160, 0, 20, 42, 180, 0, 55, 4, 42, 180, 0, 79, 28, 184, 1, 84, 4, 96, 46]
abbrev dktX3_calls_5 : List UInt8 := dkwX3_calls_5 ++ dktX3_calls_6
def dkwX3_calls_4 : List UInt8 := [28, 42, 180, 0, 55, 4, 46, 182, 1, 101, 104, 42, 180, 0, 55, 4, 46, 16, 8, 112, 96, 46, 79, 29]
abbrev dktX3_calls_4 : List UInt8 := dkwX3_calls_4 ++ dktX3_calls_5
def dkwX3_calls_3 : List UInt8 := [154, 0, 47, 27, 6, 160, 0, 42, 42, 180, 0, 55, 5, 42, 180, 0, 79, 16, 8, 42, 42, 180, 0, 79]
abbrev dktX3_calls_3 : List UInt8 := dkwX3_calls_3 ++ dktX3_calls_4
def dkwX3_calls_2 : List UInt8 := [46, 42, 180, 0, 55, 4, 46, 160, 0, 7, 4, 167, 0, 4, 3, 54, 4, 21, 4, 153, 0, 95, 29]
abbrev dktX3_calls_2 : List UInt8 := dkwX3_calls_2 ++ dktX3_calls_3
def dkwX3_calls_1 : List UInt8 := [154, 0, 34, 27, 6, 159, 0, 29, 27, 7, 159, 0, 24, 27, 16, 6, 160, 0, 22, 42, 180, 0, 55, 3]
abbrev dktX3_calls_1 : List UInt8 := dkwX3_calls_1 ++ dktX3_calls_2
def dkwX3_calls_0 : List UInt8 := [42, 180, 0, 79, 42, 180, 0, 55, 3, 46, 184, 1, 91, 61, 42, 27, 28, 182, 1, 98, 62, 29]
abbrev dktX3_calls_0 : List UInt8 := dkwX3_calls_0 ++ dktX3_calls_1
theorem dksX3_calls_0 : cX3_calls.data.toList.drop 0 = dktX3_calls_0 := by decide +kernel
theorem dksX3_calls_1 : cX3_calls.data.toList.drop 22 = dktX3_calls_1 := dk_seg dksX3_calls_0 22 rfl rfl
theorem dksX3_calls_2 : cX3_calls.data.toList.drop 46 = dktX3_calls_2 := dk_seg dksX3_calls_1 24 rfl rfl
theorem dksX3_calls_3 : cX3_calls.data.toList.drop 69 = dktX3_calls_3 := dk_seg dksX3_calls_2 23 rfl rfl
theorem dksX3_calls_4 : cX3_calls.data.toList.drop 93 = dktX3_calls_4 := dk_seg dksX3_calls_3 24 rfl rfl
theorem dksX3_calls_5 : cX3_calls.data.toList.drop 117 = dktX3_calls_5 := dk_seg dksX3_calls_4 24 rfl rfl
theorem dksX3_calls_6 : cX3_calls.data.toList.drop 141 = dktX3_calls_6 := dk_seg dksX3_calls_5 24 rfl rfl
theorem dksX3_calls_7 : cX3_calls.data.toList.drop 165 = dktX3_calls_7 := dk_seg dksX3_calls_6 24 rfl rfl
theorem dksX3_calls_8 : cX3_calls.data.toList.drop 188 = dktX3_calls_8 := dk_seg dksX3_calls_7 23 rfl rfl
theorem dksX3_calls_9 : cX3_calls.data.toList.drop 212 = dktX3_calls_9 := dk_seg dksX3_calls_8 24 rfl rfl
theorem dksX3_calls_10 : cX3_calls.data.toList.drop 235 = dktX3_calls_10 := dk_seg dksX3_calls_9 23 rfl rfl
theorem dX3_calls_0 : decode cX3_calls 0 = .ok (.aload_n 0, 1) := dk_42 (dk_at dksX3_calls_0 0 rfl rfl)
theorem dX3_calls_1 : decode cX3_calls 1 = .ok (.getfield 79, 3) := dk_180 0 79 (dk_at dksX3_calls_0 1 rfl rfl)
theorem dX3_calls_4 : decode cX3_calls 4 = .ok (.aload_n 0, 1) := dk_42 (dk_at dksX3_calls_0 4 rfl rfl)
theorem dX3_calls_5 : decode cX3_calls 5 = .ok (.getfield 55, 3) := dk_180 0 55 (dk_at dksX3_calls_0 5 rfl rfl)
theorem dX3_calls_8 : decode cX3_calls 8 = .ok (.iconst 0, 1) := dk_3 (dk_at dksX3_calls_0 8 rfl rfl)
theorem dX3_calls_9 : decode cX3_calls 9 = .ok (.iaload, 1) := dk_46 (dk_at dksX3_calls_0 9 rfl rfl)
theorem dX3_calls_10 : decode cX3_calls 10 = .ok (.invokestatic 347, 3) := dk_184 1 91 (dk_at dksX3_calls_0 10 rfl rfl)
theorem dX3_calls_13 : decode cX3_calls 13 = .ok (.istore_n 2, 1) := dk_61 (dk_at dksX3_calls_0 13 rfl rfl)
theorem dX3_calls_14 : decode cX3_calls 14 = .ok (.aload_n 0, 1) := dk_42 (dk_at dksX3_calls_0 14 rfl rfl)
theorem dX3_calls_15 : decode cX3_calls 15 = .ok (.iload_n 1, 1) := dk_27 (dk_at dksX3_calls_0 15 rfl rfl)
theorem dX3_calls_16 : decode cX3_calls 16 = .ok (.iload_n 2, 1) := dk_28 (dk_at dksX3_calls_0 16 rfl rfl)
theorem dX3_calls_17 : decode cX3_calls 17 = .ok (.invokevirtual 354, 3) := dk_182 1 98 (dk_at dksX3_calls_0 17 rfl rfl)
theorem dX3_calls_20 : decode cX3_calls 20 = .ok (.istore_n 3, 1) := dk_62 (dk_at dksX3_calls_0 20 rfl rfl)
theorem dX3_calls_21 : decode cX3_calls 21 = .ok (.iload_n 3, 1) := dk_29 (dk_at dksX3_calls_0 21 rfl rfl)
theorem dX3_calls_22 : decode cX3_calls 22 = .ok (.ifCond .ne 34, 3) := dk_154 0 34 (dk_at dksX3_calls_1 0 rfl rfl)
theorem dX3_calls_25 : decode cX3_calls 25 = .ok (.iload_n 1, 1) := dk_27 (dk_at dksX3_calls_1 3 rfl rfl)
theorem dX3_calls_26 : decode cX3_calls 26 = .ok (.iconst 3, 1) := dk_6 (dk_at dksX3_calls_1 4 rfl rfl)
theorem dX3_calls_27 : decode cX3_calls 27 = .ok (.if_icmp .eq 29, 3) := dk_159 0 29 (dk_at dksX3_calls_1 5 rfl rfl)
theorem dX3_calls_30 : decode cX3_calls 30 = .ok (.iload_n 1, 1) := dk_27 (dk_at dksX3_calls_1 8 rfl rfl)
theorem dX3_calls_31 : decode cX3_calls 31 = .ok (.iconst 4, 1) := dk_7 (dk_at dksX3_calls_1 9 rfl rfl)
theorem dX3_calls_32 : decode cX3_calls 32 = .ok (.if_icmp .eq 24, 3) := dk_159 0 24 (dk_at dksX3_calls_1 10 rfl rfl)
theorem dX3_calls_35 : decode cX3_calls 35 = .ok (.iload_n 1, 1) := dk_27 (dk_at dksX3_calls_1 13 rfl rfl)
theorem dX3_calls_36 : decode cX3_calls 36 = .ok (.bipush 6, 2) := dk_16 6 (dk_at dksX3_calls_1 14 rfl rfl)
theorem dX3_calls_38 : decode cX3_calls 38 = .ok (.if_icmp .ne 22, 3) := dk_160 0 22 (dk_at dksX3_calls_1 16 rfl rfl)
theorem dX3_calls_41 : decode cX3_calls 41 = .ok (.aload_n 0, 1) := dk_42 (dk_at dksX3_calls_1 19 rfl rfl)
theorem dX3_calls_42 : decode cX3_calls 42 = .ok (.getfield 55, 3) := dk_180 0 55 (dk_at dksX3_calls_1 20 rfl rfl)
theorem dX3_calls_45 : decode cX3_calls 45 = .ok (.iconst 0, 1) := dk_3 (dk_at dksX3_calls_1 23 rfl rfl)
theorem dX3_calls_46 : decode cX3_calls 46 = .ok (.iaload, 1) := dk_46 (dk_at dksX3_calls_2 0 rfl rfl)
theorem dX3_calls_47 : decode cX3_calls 47 = .ok (.aload_n 0, 1) := dk_42 (dk_at dksX3_calls_2 1 rfl rfl)
theorem dX3_calls_48 : decode cX3_calls 48 = .ok (.getfield 55, 3) := dk_180 0 55 (dk_at dksX3_calls_2 2 rfl rfl)
theorem dX3_calls_51 : decode cX3_calls 51 = .ok (.iconst 1, 1) := dk_4 (dk_at dksX3_calls_2 5 rfl rfl)
theorem dX3_calls_52 : decode cX3_calls 52 = .ok (.iaload, 1) := dk_46 (dk_at dksX3_calls_2 6 rfl rfl)
theorem dX3_calls_53 : decode cX3_calls 53 = .ok (.if_icmp .ne 7, 3) := dk_160 0 7 (dk_at dksX3_calls_2 7 rfl rfl)
theorem dX3_calls_56 : decode cX3_calls 56 = .ok (.iconst 1, 1) := dk_4 (dk_at dksX3_calls_2 10 rfl rfl)
theorem dX3_calls_57 : decode cX3_calls 57 = .ok (.goto 4, 3) := dk_167 0 4 (dk_at dksX3_calls_2 11 rfl rfl)
theorem dX3_calls_60 : decode cX3_calls 60 = .ok (.iconst 0, 1) := dk_3 (dk_at dksX3_calls_2 14 rfl rfl)
theorem dX3_calls_61 : decode cX3_calls 61 = .ok (.istore 4, 2) := dk_54 4 (dk_at dksX3_calls_2 15 rfl rfl)
theorem dX3_calls_63 : decode cX3_calls 63 = .ok (.iload 4, 2) := dk_21 4 (dk_at dksX3_calls_2 17 rfl rfl)
theorem dX3_calls_65 : decode cX3_calls 65 = .ok (.ifCond .eq 95, 3) := dk_153 0 95 (dk_at dksX3_calls_2 19 rfl rfl)
theorem dX3_calls_68 : decode cX3_calls 68 = .ok (.iload_n 3, 1) := dk_29 (dk_at dksX3_calls_2 22 rfl rfl)
theorem dX3_calls_69 : decode cX3_calls 69 = .ok (.ifCond .ne 47, 3) := dk_154 0 47 (dk_at dksX3_calls_3 0 rfl rfl)
theorem dX3_calls_72 : decode cX3_calls 72 = .ok (.iload_n 1, 1) := dk_27 (dk_at dksX3_calls_3 3 rfl rfl)
theorem dX3_calls_73 : decode cX3_calls 73 = .ok (.iconst 3, 1) := dk_6 (dk_at dksX3_calls_3 4 rfl rfl)
theorem dX3_calls_74 : decode cX3_calls 74 = .ok (.if_icmp .ne 42, 3) := dk_160 0 42 (dk_at dksX3_calls_3 5 rfl rfl)
theorem dX3_calls_77 : decode cX3_calls 77 = .ok (.aload_n 0, 1) := dk_42 (dk_at dksX3_calls_3 8 rfl rfl)
theorem dX3_calls_78 : decode cX3_calls 78 = .ok (.getfield 55, 3) := dk_180 0 55 (dk_at dksX3_calls_3 9 rfl rfl)
theorem dX3_calls_81 : decode cX3_calls 81 = .ok (.iconst 2, 1) := dk_5 (dk_at dksX3_calls_3 12 rfl rfl)
theorem dX3_calls_82 : decode cX3_calls 82 = .ok (.aload_n 0, 1) := dk_42 (dk_at dksX3_calls_3 13 rfl rfl)
theorem dX3_calls_83 : decode cX3_calls 83 = .ok (.getfield 79, 3) := dk_180 0 79 (dk_at dksX3_calls_3 14 rfl rfl)
theorem dX3_calls_86 : decode cX3_calls 86 = .ok (.bipush 8, 2) := dk_16 8 (dk_at dksX3_calls_3 17 rfl rfl)
theorem dX3_calls_88 : decode cX3_calls 88 = .ok (.aload_n 0, 1) := dk_42 (dk_at dksX3_calls_3 19 rfl rfl)
theorem dX3_calls_89 : decode cX3_calls 89 = .ok (.aload_n 0, 1) := dk_42 (dk_at dksX3_calls_3 20 rfl rfl)
theorem dX3_calls_90 : decode cX3_calls 90 = .ok (.getfield 79, 3) := dk_180 0 79 (dk_at dksX3_calls_3 21 rfl rfl)
theorem dX3_calls_93 : decode cX3_calls 93 = .ok (.iload_n 2, 1) := dk_28 (dk_at dksX3_calls_4 0 rfl rfl)
theorem dX3_calls_94 : decode cX3_calls 94 = .ok (.aload_n 0, 1) := dk_42 (dk_at dksX3_calls_4 1 rfl rfl)
theorem dX3_calls_95 : decode cX3_calls 95 = .ok (.getfield 55, 3) := dk_180 0 55 (dk_at dksX3_calls_4 2 rfl rfl)
theorem dX3_calls_98 : decode cX3_calls 98 = .ok (.iconst 1, 1) := dk_4 (dk_at dksX3_calls_4 5 rfl rfl)
theorem dX3_calls_99 : decode cX3_calls 99 = .ok (.iaload, 1) := dk_46 (dk_at dksX3_calls_4 6 rfl rfl)
theorem dX3_calls_100 : decode cX3_calls 100 = .ok (.invokevirtual 357, 3) := dk_182 1 101 (dk_at dksX3_calls_4 7 rfl rfl)
theorem dX3_calls_103 : decode cX3_calls 103 = .ok (.imul, 1) := dk_104 (dk_at dksX3_calls_4 10 rfl rfl)
theorem dX3_calls_104 : decode cX3_calls 104 = .ok (.aload_n 0, 1) := dk_42 (dk_at dksX3_calls_4 11 rfl rfl)
theorem dX3_calls_105 : decode cX3_calls 105 = .ok (.getfield 55, 3) := dk_180 0 55 (dk_at dksX3_calls_4 12 rfl rfl)
theorem dX3_calls_108 : decode cX3_calls 108 = .ok (.iconst 1, 1) := dk_4 (dk_at dksX3_calls_4 15 rfl rfl)
theorem dX3_calls_109 : decode cX3_calls 109 = .ok (.iaload, 1) := dk_46 (dk_at dksX3_calls_4 16 rfl rfl)
theorem dX3_calls_110 : decode cX3_calls 110 = .ok (.bipush 8, 2) := dk_16 8 (dk_at dksX3_calls_4 17 rfl rfl)
theorem dX3_calls_112 : decode cX3_calls 112 = .ok (.irem, 1) := dk_112 (dk_at dksX3_calls_4 19 rfl rfl)
theorem dX3_calls_113 : decode cX3_calls 113 = .ok (.iadd, 1) := dk_96 (dk_at dksX3_calls_4 20 rfl rfl)
theorem dX3_calls_114 : decode cX3_calls 114 = .ok (.iaload, 1) := dk_46 (dk_at dksX3_calls_4 21 rfl rfl)
theorem dX3_calls_115 : decode cX3_calls 115 = .ok (.iastore, 1) := dk_79 (dk_at dksX3_calls_4 22 rfl rfl)
theorem dX3_calls_116 : decode cX3_calls 116 = .ok (.iload_n 3, 1) := dk_29 (dk_at dksX3_calls_4 23 rfl rfl)
theorem dX3_calls_117 : decode cX3_calls 117 = .ok (.ifCond .ne 25, 3) := dk_154 0 25 (dk_at dksX3_calls_5 0 rfl rfl)
theorem dX3_calls_120 : decode cX3_calls 120 = .ok (.iload_n 1, 1) := dk_27 (dk_at dksX3_calls_5 3 rfl rfl)
theorem dX3_calls_121 : decode cX3_calls 121 = .ok (.iconst 4, 1) := dk_7 (dk_at dksX3_calls_5 4 rfl rfl)
theorem dX3_calls_122 : decode cX3_calls 122 = .ok (.if_icmp .ne 20, 3) := dk_160 0 20 (dk_at dksX3_calls_5 5 rfl rfl)
theorem dX3_calls_125 : decode cX3_calls 125 = .ok (.aload_n 0, 1) := dk_42 (dk_at dksX3_calls_5 8 rfl rfl)
theorem dX3_calls_126 : decode cX3_calls 126 = .ok (.getfield 55, 3) := dk_180 0 55 (dk_at dksX3_calls_5 9 rfl rfl)
theorem dX3_calls_129 : decode cX3_calls 129 = .ok (.iconst 1, 1) := dk_4 (dk_at dksX3_calls_5 12 rfl rfl)
theorem dX3_calls_130 : decode cX3_calls 130 = .ok (.aload_n 0, 1) := dk_42 (dk_at dksX3_calls_5 13 rfl rfl)
theorem dX3_calls_131 : decode cX3_calls 131 = .ok (.getfield 79, 3) := dk_180 0 79 (dk_at dksX3_calls_5 14 rfl rfl)
theorem dX3_calls_134 : decode cX3_calls 134 = .ok (.iload_n 2, 1) := dk_28 (dk_at dksX3_calls_5 17 rfl rfl)
theorem dX3_calls_135 : decode cX3_calls 135 = .ok (.invokestatic 340, 3) := dk_184 1 84 (dk_at dksX3_calls_5 18 rfl rfl)
theorem dX3_calls_138 : decode cX3_calls 138 = .ok (.iconst 1, 1) := dk_4 (dk_at dksX3_calls_5 21 rfl rfl)
theorem dX3_calls_139 : decode cX3_calls 139 = .ok (.iadd, 1) := dk_96 (dk_at dksX3_calls_5 22 rfl rfl)
theorem dX3_calls_140 : decode cX3_calls 140 = .ok (.iaload, 1) := dk_46 (dk_at dksX3_calls_5 23 rfl rfl)
theorem dX3_calls_141 : decode cX3_calls 141 = .ok (.iastore, 1) := dk_79 (dk_at dksX3_calls_6 0 rfl rfl)
theorem dX3_calls_142 : decode cX3_calls 142 = .ok (.aload_n 0, 1) := dk_42 (dk_at dksX3_calls_6 1 rfl rfl)
theorem dX3_calls_143 : decode cX3_calls 143 = .ok (.getfield 55, 3) := dk_180 0 55 (dk_at dksX3_calls_6 2 rfl rfl)
theorem dX3_calls_146 : decode cX3_calls 146 = .ok (.iconst 3, 1) := dk_6 (dk_at dksX3_calls_6 5 rfl rfl)
theorem dX3_calls_147 : decode cX3_calls 147 = .ok (.iload_n 3, 1) := dk_29 (dk_at dksX3_calls_6 6 rfl rfl)
theorem dX3_calls_148 : decode cX3_calls 148 = .ok (.iastore, 1) := dk_79 (dk_at dksX3_calls_6 7 rfl rfl)
theorem dX3_calls_149 : decode cX3_calls 149 = .ok (.aload_n 0, 1) := dk_42 (dk_at dksX3_calls_6 8 rfl rfl)
theorem dX3_calls_150 : decode cX3_calls 150 = .ok (.dup, 1) := dk_89 (dk_at dksX3_calls_6 9 rfl rfl)
theorem dX3_calls_151 : decode cX3_calls 151 = .ok (.getfield 254, 3) := dk_180 0 254 (dk_at dksX3_calls_6 10 rfl rfl)
theorem dX3_calls_154 : decode cX3_calls 154 = .ok (.iconst 2, 1) := dk_5 (dk_at dksX3_calls_6 13 rfl rfl)
theorem dX3_calls_155 : decode cX3_calls 155 = .ok (.iadd, 1) := dk_96 (dk_at dksX3_calls_6 14 rfl rfl)
theorem dX3_calls_156 : decode cX3_calls 156 = .ok (.putfield 254, 3) := dk_181 0 254 (dk_at dksX3_calls_6 15 rfl rfl)
theorem dX3_calls_159 : decode cX3_calls 159 = .ok (.return_, 1) := dk_177 (dk_at dksX3_calls_6 18 rfl rfl)
theorem dX3_calls_160 : decode cX3_calls 160 = .ok (.iconst 0, 1) := dk_3 (dk_at dksX3_calls_6 19 rfl rfl)
theorem dX3_calls_161 : decode cX3_calls 161 = .ok (.istore 5, 2) := dk_54 5 (dk_at dksX3_calls_6 20 rfl rfl)
theorem dX3_calls_163 : decode cX3_calls 163 = .ok (.iload 5, 2) := dk_21 5 (dk_at dksX3_calls_6 22 rfl rfl)
theorem dX3_calls_165 : decode cX3_calls 165 = .ok (.sipush 256, 3) := dk_17 1 0 (dk_at dksX3_calls_7 0 rfl rfl)
theorem dX3_calls_168 : decode cX3_calls 168 = .ok (.if_icmp .ge 23, 3) := dk_162 0 23 (dk_at dksX3_calls_7 3 rfl rfl)
theorem dX3_calls_171 : decode cX3_calls 171 = .ok (.aload_n 0, 1) := dk_42 (dk_at dksX3_calls_7 6 rfl rfl)
theorem dX3_calls_172 : decode cX3_calls 172 = .ok (.getfield 82, 3) := dk_180 0 82 (dk_at dksX3_calls_7 7 rfl rfl)
theorem dX3_calls_175 : decode cX3_calls 175 = .ok (.iload 5, 2) := dk_21 5 (dk_at dksX3_calls_7 10 rfl rfl)
theorem dX3_calls_177 : decode cX3_calls 177 = .ok (.aload_n 0, 1) := dk_42 (dk_at dksX3_calls_7 12 rfl rfl)
theorem dX3_calls_178 : decode cX3_calls 178 = .ok (.getfield 79, 3) := dk_180 0 79 (dk_at dksX3_calls_7 13 rfl rfl)
theorem dX3_calls_181 : decode cX3_calls 181 = .ok (.iload 5, 2) := dk_21 5 (dk_at dksX3_calls_7 16 rfl rfl)
theorem dX3_calls_183 : decode cX3_calls 183 = .ok (.iaload, 1) := dk_46 (dk_at dksX3_calls_7 18 rfl rfl)
theorem dX3_calls_184 : decode cX3_calls 184 = .ok (.iastore, 1) := dk_79 (dk_at dksX3_calls_7 19 rfl rfl)
theorem dX3_calls_185 : decode cX3_calls 185 = .ok (.iinc 5 1, 3) := dk_132 5 1 (dk_at dksX3_calls_7 20 rfl rfl)
theorem dX3_calls_188 : decode cX3_calls 188 = .ok (.goto (-25), 3) := dk_167 255 231 (dk_at dksX3_calls_8 0 rfl rfl)
theorem dX3_calls_191 : decode cX3_calls 191 = .ok (.iload_n 1, 1) := dk_27 (dk_at dksX3_calls_8 3 rfl rfl)
theorem dX3_calls_192 : decode cX3_calls 192 = .ok (.ifCond .ne 10, 3) := dk_154 0 10 (dk_at dksX3_calls_8 4 rfl rfl)
theorem dX3_calls_195 : decode cX3_calls 195 = .ok (.aload_n 0, 1) := dk_42 (dk_at dksX3_calls_8 7 rfl rfl)
theorem dX3_calls_196 : decode cX3_calls 196 = .ok (.invokevirtual 361, 3) := dk_182 1 105 (dk_at dksX3_calls_8 8 rfl rfl)
theorem dX3_calls_199 : decode cX3_calls 199 = .ok (.goto 47, 3) := dk_167 0 47 (dk_at dksX3_calls_8 11 rfl rfl)
theorem dX3_calls_202 : decode cX3_calls 202 = .ok (.iload_n 1, 1) := dk_27 (dk_at dksX3_calls_8 14 rfl rfl)
theorem dX3_calls_203 : decode cX3_calls 203 = .ok (.iconst 1, 1) := dk_4 (dk_at dksX3_calls_8 15 rfl rfl)
theorem dX3_calls_204 : decode cX3_calls 204 = .ok (.if_icmp .ne 11, 3) := dk_160 0 11 (dk_at dksX3_calls_8 16 rfl rfl)
theorem dX3_calls_207 : decode cX3_calls 207 = .ok (.aload_n 0, 1) := dk_42 (dk_at dksX3_calls_8 19 rfl rfl)
theorem dX3_calls_208 : decode cX3_calls 208 = .ok (.iload_n 2, 1) := dk_28 (dk_at dksX3_calls_8 20 rfl rfl)
theorem dX3_calls_209 : decode cX3_calls 209 = .ok (.invokevirtual 364, 3) := dk_182 1 108 (dk_at dksX3_calls_8 21 rfl rfl)
theorem dX3_calls_212 : decode cX3_calls 212 = .ok (.goto 34, 3) := dk_167 0 34 (dk_at dksX3_calls_9 0 rfl rfl)
theorem dX3_calls_215 : decode cX3_calls 215 = .ok (.iload_n 1, 1) := dk_27 (dk_at dksX3_calls_9 3 rfl rfl)
theorem dX3_calls_216 : decode cX3_calls 216 = .ok (.iconst 2, 1) := dk_5 (dk_at dksX3_calls_9 4 rfl rfl)
theorem dX3_calls_217 : decode cX3_calls 217 = .ok (.if_icmp .ne 11, 3) := dk_160 0 11 (dk_at dksX3_calls_9 5 rfl rfl)
theorem dX3_calls_220 : decode cX3_calls 220 = .ok (.aload_n 0, 1) := dk_42 (dk_at dksX3_calls_9 8 rfl rfl)
theorem dX3_calls_221 : decode cX3_calls 221 = .ok (.iload_n 2, 1) := dk_28 (dk_at dksX3_calls_9 9 rfl rfl)
theorem dX3_calls_222 : decode cX3_calls 222 = .ok (.invokevirtual 367, 3) := dk_182 1 111 (dk_at dksX3_calls_9 10 rfl rfl)
theorem dX3_calls_225 : decode cX3_calls 225 = .ok (.goto 21, 3) := dk_167 0 21 (dk_at dksX3_calls_9 13 rfl rfl)
theorem dX3_calls_228 : decode cX3_calls 228 = .ok (.iload_n 1, 1) := dk_27 (dk_at dksX3_calls_9 16 rfl rfl)
theorem dX3_calls_229 : decode cX3_calls 229 = .ok (.iconst 5, 1) := dk_8 (dk_at dksX3_calls_9 17 rfl rfl)
theorem dX3_calls_230 : decode cX3_calls 230 = .ok (.if_icmp .ne 11, 3) := dk_160 0 11 (dk_at dksX3_calls_9 18 rfl rfl)
theorem dX3_calls_233 : decode cX3_calls 233 = .ok (.aload_n 0, 1) := dk_42 (dk_at dksX3_calls_9 21 rfl rfl)
theorem dX3_calls_234 : decode cX3_calls 234 = .ok (.iload_n 2, 1) := dk_28 (dk_at dksX3_calls_9 22 rfl rfl)
theorem dX3_calls_235 : decode cX3_calls 235 = .ok (.invokevirtual 370, 3) := dk_182 1 114 (dk_at dksX3_calls_10 0 rfl rfl)
theorem dX3_calls_238 : decode cX3_calls 238 = .ok (.goto 8, 3) := dk_167 0 8 (dk_at dksX3_calls_10 3 rfl rfl)
theorem dX3_calls_241 : decode cX3_calls 241 = .ok (.aload_n 0, 1) := dk_42 (dk_at dksX3_calls_10 6 rfl rfl)
theorem dX3_calls_242 : decode cX3_calls 242 = .ok (.iload_n 2, 1) := dk_28 (dk_at dksX3_calls_10 7 rfl rfl)
theorem dX3_calls_243 : decode cX3_calls 243 = .ok (.invokevirtual 373, 3) := dk_182 1 117 (dk_at dksX3_calls_10 8 rfl rfl)
theorem dX3_calls_246 : decode cX3_calls 246 = .ok (.istore 5, 2) := dk_54 5 (dk_at dksX3_calls_10 11 rfl rfl)
theorem dX3_calls_248 : decode cX3_calls 248 = .ok (.aload_n 0, 1) := dk_42 (dk_at dksX3_calls_10 13 rfl rfl)
theorem dX3_calls_249 : decode cX3_calls 249 = .ok (.iload 5, 2) := dk_21 5 (dk_at dksX3_calls_10 14 rfl rfl)
theorem dX3_calls_251 : decode cX3_calls 251 = .ok (.invokevirtual 376, 3) := dk_182 1 120 (dk_at dksX3_calls_10 16 rfl rfl)
theorem dX3_calls_254 : decode cX3_calls 254 = .ok (.return_, 1) := dk_177 (dk_at dksX3_calls_10 19 rfl rfl)
abbrev cX3_find : ByteArray := prog_28_method_54_code
def yX3_find : MethodName := ⟨RX3, "find", "([II)I"⟩
def dkwX3_find_1 : List UInt8 := [167, 255, 235, 2, 172]
abbrev dktX3_find_1 : List UInt8 := dkwX3_find_1 ++ []
def dkwX3_find_0 : List UInt8 := [3, 61, 28, 16, 6, 162, 0, 21, 42, 28, 184, 1, 84, 46, 27, 160, 0, 5, 28, 172, 132, 2, 1]
abbrev dktX3_find_0 : List UInt8 := dkwX3_find_0 ++ dktX3_find_1
theorem dksX3_find_0 : cX3_find.data.toList.drop 0 = dktX3_find_0 := by decide +kernel
theorem dksX3_find_1 : cX3_find.data.toList.drop 23 = dktX3_find_1 := dk_seg dksX3_find_0 23 rfl rfl
theorem dX3_find_0 : decode cX3_find 0 = .ok (.iconst 0, 1) := dk_3 (dk_at dksX3_find_0 0 rfl rfl)
theorem dX3_find_1 : decode cX3_find 1 = .ok (.istore_n 2, 1) := dk_61 (dk_at dksX3_find_0 1 rfl rfl)
theorem dX3_find_2 : decode cX3_find 2 = .ok (.iload_n 2, 1) := dk_28 (dk_at dksX3_find_0 2 rfl rfl)
theorem dX3_find_3 : decode cX3_find 3 = .ok (.bipush 6, 2) := dk_16 6 (dk_at dksX3_find_0 3 rfl rfl)
theorem dX3_find_5 : decode cX3_find 5 = .ok (.if_icmp .ge 21, 3) := dk_162 0 21 (dk_at dksX3_find_0 5 rfl rfl)
theorem dX3_find_8 : decode cX3_find 8 = .ok (.aload_n 0, 1) := dk_42 (dk_at dksX3_find_0 8 rfl rfl)
theorem dX3_find_9 : decode cX3_find 9 = .ok (.iload_n 2, 1) := dk_28 (dk_at dksX3_find_0 9 rfl rfl)
theorem dX3_find_10 : decode cX3_find 10 = .ok (.invokestatic 340, 3) := dk_184 1 84 (dk_at dksX3_find_0 10 rfl rfl)
theorem dX3_find_13 : decode cX3_find 13 = .ok (.iaload, 1) := dk_46 (dk_at dksX3_find_0 13 rfl rfl)
theorem dX3_find_14 : decode cX3_find 14 = .ok (.iload_n 1, 1) := dk_27 (dk_at dksX3_find_0 14 rfl rfl)
theorem dX3_find_15 : decode cX3_find 15 = .ok (.if_icmp .ne 5, 3) := dk_160 0 5 (dk_at dksX3_find_0 15 rfl rfl)
theorem dX3_find_18 : decode cX3_find 18 = .ok (.iload_n 2, 1) := dk_28 (dk_at dksX3_find_0 18 rfl rfl)
theorem dX3_find_19 : decode cX3_find 19 = .ok (.ireturn, 1) := dk_172 (dk_at dksX3_find_0 19 rfl rfl)
theorem dX3_find_20 : decode cX3_find 20 = .ok (.iinc 2 1, 3) := dk_132 2 1 (dk_at dksX3_find_0 20 rfl rfl)
theorem dX3_find_23 : decode cX3_find 23 = .ok (.goto (-21), 3) := dk_167 255 235 (dk_at dksX3_find_1 0 rfl rfl)
theorem dX3_find_26 : decode cX3_find 26 = .ok (.iconst (-1), 1) := dk_2 (dk_at dksX3_find_1 3 rfl rfl)
theorem dX3_find_27 : decode cX3_find 27 = .ok (.ireturn, 1) := dk_172 (dk_at dksX3_find_1 4 rfl rfl)
abbrev cX3_resultOf : ByteArray := prog_28_method_58_code
def yX3_resultOf : MethodName := ⟨RX3, "resultOf", "(II)I"⟩
def dkwX3_resultOf_7 : List UInt8 := [167, 0, 4, 3, 172]
abbrev dktX3_resultOf_7 : List UInt8 := dkwX3_resultOf_7 ++ []
def dkwX3_resultOf_6 : List UInt8 := [172, 27, 5, 159, 0, 8, 27, 6, 160, 0, 18, 42, 180, 0, 55, 4, 46, 21, 4, 161, 0, 7, 5]
abbrev dktX3_resultOf_6 : List UInt8 := dkwX3_resultOf_6 ++ dktX3_resultOf_7
def dkwX3_resultOf_5 : List UInt8 := [167, 0, 24, 21, 4, 16, 8, 112, 154, 0, 15, 42, 182, 1, 95, 2, 160, 0, 7, 6, 167, 0, 4, 3]
abbrev dktX3_resultOf_5 : List UInt8 := dkwX3_resultOf_5 ++ dktX3_resultOf_6
def dkwX3_resultOf_4 : List UInt8 := [28, 184, 1, 84, 4, 96, 46, 54, 4, 27, 4, 160, 0, 36, 21, 4, 16, 16, 160, 0, 7, 5]
abbrev dktX3_resultOf_4 : List UInt8 := dkwX3_resultOf_4 ++ dktX3_resultOf_5
def dkwX3_resultOf_3 : List UInt8 := [154, 0, 18, 27, 16, 6, 160, 0, 14, 42, 180, 0, 55, 4, 46, 154, 0, 5, 4, 172, 42, 180, 0, 79]
abbrev dktX3_resultOf_3 : List UInt8 := dkwX3_resultOf_3 ++ dktX3_resultOf_4
def dkwX3_resultOf_2 : List UInt8 := [184, 1, 91, 2, 160, 0, 7, 5, 167, 0, 4, 3, 172, 27, 16, 6, 164, 0, 6, 16, 9, 172, 29]
abbrev dktX3_resultOf_2 : List UInt8 := dkwX3_resultOf_2 ++ dktX3_resultOf_3
def dkwX3_resultOf_1 : List UInt8 := [42, 180, 0, 55, 3, 46, 153, 0, 8, 28, 2, 159, 0, 7, 4, 167, 0, 20, 42, 180, 0, 79, 3]
abbrev dktX3_resultOf_1 : List UInt8 := dkwX3_resultOf_1 ++ dktX3_resultOf_2
def dkwX3_resultOf_0 : List UInt8 := [42, 180, 0, 55, 3, 46, 153, 0, 8, 28, 2, 160, 0, 7, 4, 167, 0, 4, 3, 62, 27, 154, 0, 39]
abbrev dktX3_resultOf_0 : List UInt8 := dkwX3_resultOf_0 ++ dktX3_resultOf_1
theorem dksX3_resultOf_0 : cX3_resultOf.data.toList.drop 0 = dktX3_resultOf_0 := by decide +kernel
theorem dksX3_resultOf_1 : cX3_resultOf.data.toList.drop 24 = dktX3_resultOf_1 := dk_seg dksX3_resultOf_0 24 rfl rfl
theorem dksX3_resultOf_2 : cX3_resultOf.data.toList.drop 47 = dktX3_resultOf_2 := dk_seg dksX3_resultOf_1 23 rfl rfl
theorem dksX3_resultOf_3 : cX3_resultOf.data.toList.drop 70 = dktX3_resultOf_3 := dk_seg dksX3_resultOf_2 23 rfl rfl
theorem dksX3_resultOf_4 : cX3_resultOf.data.toList.drop 94 = dktX3_resultOf_4 := dk_seg dksX3_resultOf_3 24 rfl rfl
theorem dksX3_resultOf_5 : cX3_resultOf.data.toList.drop 116 = dktX3_resultOf_5 := dk_seg dksX3_resultOf_4 22 rfl rfl
theorem dksX3_resultOf_6 : cX3_resultOf.data.toList.drop 140 = dktX3_resultOf_6 := dk_seg dksX3_resultOf_5 24 rfl rfl
theorem dksX3_resultOf_7 : cX3_resultOf.data.toList.drop 163 = dktX3_resultOf_7 := dk_seg dksX3_resultOf_6 23 rfl rfl
theorem dX3_resultOf_0 : decode cX3_resultOf 0 = .ok (.aload_n 0, 1) := dk_42 (dk_at dksX3_resultOf_0 0 rfl rfl)
theorem dX3_resultOf_1 : decode cX3_resultOf 1 = .ok (.getfield 55, 3) := dk_180 0 55 (dk_at dksX3_resultOf_0 1 rfl rfl)
theorem dX3_resultOf_4 : decode cX3_resultOf 4 = .ok (.iconst 0, 1) := dk_3 (dk_at dksX3_resultOf_0 4 rfl rfl)
theorem dX3_resultOf_5 : decode cX3_resultOf 5 = .ok (.iaload, 1) := dk_46 (dk_at dksX3_resultOf_0 5 rfl rfl)
theorem dX3_resultOf_6 : decode cX3_resultOf 6 = .ok (.ifCond .eq 8, 3) := dk_153 0 8 (dk_at dksX3_resultOf_0 6 rfl rfl)
theorem dX3_resultOf_9 : decode cX3_resultOf 9 = .ok (.iload_n 2, 1) := dk_28 (dk_at dksX3_resultOf_0 9 rfl rfl)
theorem dX3_resultOf_10 : decode cX3_resultOf 10 = .ok (.iconst (-1), 1) := dk_2 (dk_at dksX3_resultOf_0 10 rfl rfl)
theorem dX3_resultOf_11 : decode cX3_resultOf 11 = .ok (.if_icmp .ne 7, 3) := dk_160 0 7 (dk_at dksX3_resultOf_0 11 rfl rfl)
theorem dX3_resultOf_14 : decode cX3_resultOf 14 = .ok (.iconst 1, 1) := dk_4 (dk_at dksX3_resultOf_0 14 rfl rfl)
theorem dX3_resultOf_15 : decode cX3_resultOf 15 = .ok (.goto 4, 3) := dk_167 0 4 (dk_at dksX3_resultOf_0 15 rfl rfl)
theorem dX3_resultOf_18 : decode cX3_resultOf 18 = .ok (.iconst 0, 1) := dk_3 (dk_at dksX3_resultOf_0 18 rfl rfl)
theorem dX3_resultOf_19 : decode cX3_resultOf 19 = .ok (.istore_n 3, 1) := dk_62 (dk_at dksX3_resultOf_0 19 rfl rfl)
theorem dX3_resultOf_20 : decode cX3_resultOf 20 = .ok (.iload_n 1, 1) := dk_27 (dk_at dksX3_resultOf_0 20 rfl rfl)
theorem dX3_resultOf_21 : decode cX3_resultOf 21 = .ok (.ifCond .ne 39, 3) := dk_154 0 39 (dk_at dksX3_resultOf_0 21 rfl rfl)
theorem dX3_resultOf_24 : decode cX3_resultOf 24 = .ok (.aload_n 0, 1) := dk_42 (dk_at dksX3_resultOf_1 0 rfl rfl)
theorem dX3_resultOf_25 : decode cX3_resultOf 25 = .ok (.getfield 55, 3) := dk_180 0 55 (dk_at dksX3_resultOf_1 1 rfl rfl)
theorem dX3_resultOf_28 : decode cX3_resultOf 28 = .ok (.iconst 0, 1) := dk_3 (dk_at dksX3_resultOf_1 4 rfl rfl)
theorem dX3_resultOf_29 : decode cX3_resultOf 29 = .ok (.iaload, 1) := dk_46 (dk_at dksX3_resultOf_1 5 rfl rfl)
theorem dX3_resultOf_30 : decode cX3_resultOf 30 = .ok (.ifCond .eq 8, 3) := dk_153 0 8 (dk_at dksX3_resultOf_1 6 rfl rfl)
theorem dX3_resultOf_33 : decode cX3_resultOf 33 = .ok (.iload_n 2, 1) := dk_28 (dk_at dksX3_resultOf_1 9 rfl rfl)
theorem dX3_resultOf_34 : decode cX3_resultOf 34 = .ok (.iconst (-1), 1) := dk_2 (dk_at dksX3_resultOf_1 10 rfl rfl)
theorem dX3_resultOf_35 : decode cX3_resultOf 35 = .ok (.if_icmp .eq 7, 3) := dk_159 0 7 (dk_at dksX3_resultOf_1 11 rfl rfl)
theorem dX3_resultOf_38 : decode cX3_resultOf 38 = .ok (.iconst 1, 1) := dk_4 (dk_at dksX3_resultOf_1 14 rfl rfl)
theorem dX3_resultOf_39 : decode cX3_resultOf 39 = .ok (.goto 20, 3) := dk_167 0 20 (dk_at dksX3_resultOf_1 15 rfl rfl)
theorem dX3_resultOf_42 : decode cX3_resultOf 42 = .ok (.aload_n 0, 1) := dk_42 (dk_at dksX3_resultOf_1 18 rfl rfl)
theorem dX3_resultOf_43 : decode cX3_resultOf 43 = .ok (.getfield 79, 3) := dk_180 0 79 (dk_at dksX3_resultOf_1 19 rfl rfl)
theorem dX3_resultOf_46 : decode cX3_resultOf 46 = .ok (.iconst 0, 1) := dk_3 (dk_at dksX3_resultOf_1 22 rfl rfl)
theorem dX3_resultOf_47 : decode cX3_resultOf 47 = .ok (.invokestatic 347, 3) := dk_184 1 91 (dk_at dksX3_resultOf_2 0 rfl rfl)
theorem dX3_resultOf_50 : decode cX3_resultOf 50 = .ok (.iconst (-1), 1) := dk_2 (dk_at dksX3_resultOf_2 3 rfl rfl)
theorem dX3_resultOf_51 : decode cX3_resultOf 51 = .ok (.if_icmp .ne 7, 3) := dk_160 0 7 (dk_at dksX3_resultOf_2 4 rfl rfl)
theorem dX3_resultOf_54 : decode cX3_resultOf 54 = .ok (.iconst 2, 1) := dk_5 (dk_at dksX3_resultOf_2 7 rfl rfl)
theorem dX3_resultOf_55 : decode cX3_resultOf 55 = .ok (.goto 4, 3) := dk_167 0 4 (dk_at dksX3_resultOf_2 8 rfl rfl)
theorem dX3_resultOf_58 : decode cX3_resultOf 58 = .ok (.iconst 0, 1) := dk_3 (dk_at dksX3_resultOf_2 11 rfl rfl)
theorem dX3_resultOf_59 : decode cX3_resultOf 59 = .ok (.ireturn, 1) := dk_172 (dk_at dksX3_resultOf_2 12 rfl rfl)
theorem dX3_resultOf_60 : decode cX3_resultOf 60 = .ok (.iload_n 1, 1) := dk_27 (dk_at dksX3_resultOf_2 13 rfl rfl)
theorem dX3_resultOf_61 : decode cX3_resultOf 61 = .ok (.bipush 6, 2) := dk_16 6 (dk_at dksX3_resultOf_2 14 rfl rfl)
theorem dX3_resultOf_63 : decode cX3_resultOf 63 = .ok (.if_icmp .le 6, 3) := dk_164 0 6 (dk_at dksX3_resultOf_2 16 rfl rfl)
theorem dX3_resultOf_66 : decode cX3_resultOf 66 = .ok (.bipush 9, 2) := dk_16 9 (dk_at dksX3_resultOf_2 19 rfl rfl)
theorem dX3_resultOf_68 : decode cX3_resultOf 68 = .ok (.ireturn, 1) := dk_172 (dk_at dksX3_resultOf_2 21 rfl rfl)
theorem dX3_resultOf_69 : decode cX3_resultOf 69 = .ok (.iload_n 3, 1) := dk_29 (dk_at dksX3_resultOf_2 22 rfl rfl)
theorem dX3_resultOf_70 : decode cX3_resultOf 70 = .ok (.ifCond .ne 18, 3) := dk_154 0 18 (dk_at dksX3_resultOf_3 0 rfl rfl)
theorem dX3_resultOf_73 : decode cX3_resultOf 73 = .ok (.iload_n 1, 1) := dk_27 (dk_at dksX3_resultOf_3 3 rfl rfl)
theorem dX3_resultOf_74 : decode cX3_resultOf 74 = .ok (.bipush 6, 2) := dk_16 6 (dk_at dksX3_resultOf_3 4 rfl rfl)
theorem dX3_resultOf_76 : decode cX3_resultOf 76 = .ok (.if_icmp .ne 14, 3) := dk_160 0 14 (dk_at dksX3_resultOf_3 6 rfl rfl)
theorem dX3_resultOf_79 : decode cX3_resultOf 79 = .ok (.aload_n 0, 1) := dk_42 (dk_at dksX3_resultOf_3 9 rfl rfl)
theorem dX3_resultOf_80 : decode cX3_resultOf 80 = .ok (.getfield 55, 3) := dk_180 0 55 (dk_at dksX3_resultOf_3 10 rfl rfl)
theorem dX3_resultOf_83 : decode cX3_resultOf 83 = .ok (.iconst 1, 1) := dk_4 (dk_at dksX3_resultOf_3 13 rfl rfl)
theorem dX3_resultOf_84 : decode cX3_resultOf 84 = .ok (.iaload, 1) := dk_46 (dk_at dksX3_resultOf_3 14 rfl rfl)
theorem dX3_resultOf_85 : decode cX3_resultOf 85 = .ok (.ifCond .ne 5, 3) := dk_154 0 5 (dk_at dksX3_resultOf_3 15 rfl rfl)
theorem dX3_resultOf_88 : decode cX3_resultOf 88 = .ok (.iconst 1, 1) := dk_4 (dk_at dksX3_resultOf_3 18 rfl rfl)
theorem dX3_resultOf_89 : decode cX3_resultOf 89 = .ok (.ireturn, 1) := dk_172 (dk_at dksX3_resultOf_3 19 rfl rfl)
theorem dX3_resultOf_90 : decode cX3_resultOf 90 = .ok (.aload_n 0, 1) := dk_42 (dk_at dksX3_resultOf_3 20 rfl rfl)
theorem dX3_resultOf_91 : decode cX3_resultOf 91 = .ok (.getfield 79, 3) := dk_180 0 79 (dk_at dksX3_resultOf_3 21 rfl rfl)
theorem dX3_resultOf_94 : decode cX3_resultOf 94 = .ok (.iload_n 2, 1) := dk_28 (dk_at dksX3_resultOf_4 0 rfl rfl)
theorem dX3_resultOf_95 : decode cX3_resultOf 95 = .ok (.invokestatic 340, 3) := dk_184 1 84 (dk_at dksX3_resultOf_4 1 rfl rfl)
theorem dX3_resultOf_98 : decode cX3_resultOf 98 = .ok (.iconst 1, 1) := dk_4 (dk_at dksX3_resultOf_4 4 rfl rfl)
theorem dX3_resultOf_99 : decode cX3_resultOf 99 = .ok (.iadd, 1) := dk_96 (dk_at dksX3_resultOf_4 5 rfl rfl)
theorem dX3_resultOf_100 : decode cX3_resultOf 100 = .ok (.iaload, 1) := dk_46 (dk_at dksX3_resultOf_4 6 rfl rfl)
theorem dX3_resultOf_101 : decode cX3_resultOf 101 = .ok (.istore 4, 2) := dk_54 4 (dk_at dksX3_resultOf_4 7 rfl rfl)
theorem dX3_resultOf_103 : decode cX3_resultOf 103 = .ok (.iload_n 1, 1) := dk_27 (dk_at dksX3_resultOf_4 9 rfl rfl)
theorem dX3_resultOf_104 : decode cX3_resultOf 104 = .ok (.iconst 1, 1) := dk_4 (dk_at dksX3_resultOf_4 10 rfl rfl)
theorem dX3_resultOf_105 : decode cX3_resultOf 105 = .ok (.if_icmp .ne 36, 3) := dk_160 0 36 (dk_at dksX3_resultOf_4 11 rfl rfl)
theorem dX3_resultOf_108 : decode cX3_resultOf 108 = .ok (.iload 4, 2) := dk_21 4 (dk_at dksX3_resultOf_4 14 rfl rfl)
theorem dX3_resultOf_110 : decode cX3_resultOf 110 = .ok (.bipush 16, 2) := dk_16 16 (dk_at dksX3_resultOf_4 16 rfl rfl)
theorem dX3_resultOf_112 : decode cX3_resultOf 112 = .ok (.if_icmp .ne 7, 3) := dk_160 0 7 (dk_at dksX3_resultOf_4 18 rfl rfl)
theorem dX3_resultOf_115 : decode cX3_resultOf 115 = .ok (.iconst 2, 1) := dk_5 (dk_at dksX3_resultOf_4 21 rfl rfl)
theorem dX3_resultOf_116 : decode cX3_resultOf 116 = .ok (.goto 24, 3) := dk_167 0 24 (dk_at dksX3_resultOf_5 0 rfl rfl)
theorem dX3_resultOf_119 : decode cX3_resultOf 119 = .ok (.iload 4, 2) := dk_21 4 (dk_at dksX3_resultOf_5 3 rfl rfl)
theorem dX3_resultOf_121 : decode cX3_resultOf 121 = .ok (.bipush 8, 2) := dk_16 8 (dk_at dksX3_resultOf_5 5 rfl rfl)
theorem dX3_resultOf_123 : decode cX3_resultOf 123 = .ok (.irem, 1) := dk_112 (dk_at dksX3_resultOf_5 7 rfl rfl)
theorem dX3_resultOf_124 : decode cX3_resultOf 124 = .ok (.ifCond .ne 15, 3) := dk_154 0 15 (dk_at dksX3_resultOf_5 8 rfl rfl)
theorem dX3_resultOf_127 : decode cX3_resultOf 127 = .ok (.aload_n 0, 1) := dk_42 (dk_at dksX3_resultOf_5 11 rfl rfl)
theorem dX3_resultOf_128 : decode cX3_resultOf 128 = .ok (.invokevirtual 351, 3) := dk_182 1 95 (dk_at dksX3_resultOf_5 12 rfl rfl)
theorem dX3_resultOf_131 : decode cX3_resultOf 131 = .ok (.iconst (-1), 1) := dk_2 (dk_at dksX3_resultOf_5 15 rfl rfl)
theorem dX3_resultOf_132 : decode cX3_resultOf 132 = .ok (.if_icmp .ne 7, 3) := dk_160 0 7 (dk_at dksX3_resultOf_5 16 rfl rfl)
theorem dX3_resultOf_135 : decode cX3_resultOf 135 = .ok (.iconst 3, 1) := dk_6 (dk_at dksX3_resultOf_5 19 rfl rfl)
theorem dX3_resultOf_136 : decode cX3_resultOf 136 = .ok (.goto 4, 3) := dk_167 0 4 (dk_at dksX3_resultOf_5 20 rfl rfl)
theorem dX3_resultOf_139 : decode cX3_resultOf 139 = .ok (.iconst 0, 1) := dk_3 (dk_at dksX3_resultOf_5 23 rfl rfl)
theorem dX3_resultOf_140 : decode cX3_resultOf 140 = .ok (.ireturn, 1) := dk_172 (dk_at dksX3_resultOf_6 0 rfl rfl)
theorem dX3_resultOf_141 : decode cX3_resultOf 141 = .ok (.iload_n 1, 1) := dk_27 (dk_at dksX3_resultOf_6 1 rfl rfl)
theorem dX3_resultOf_142 : decode cX3_resultOf 142 = .ok (.iconst 2, 1) := dk_5 (dk_at dksX3_resultOf_6 2 rfl rfl)
theorem dX3_resultOf_143 : decode cX3_resultOf 143 = .ok (.if_icmp .eq 8, 3) := dk_159 0 8 (dk_at dksX3_resultOf_6 3 rfl rfl)
theorem dX3_resultOf_146 : decode cX3_resultOf 146 = .ok (.iload_n 1, 1) := dk_27 (dk_at dksX3_resultOf_6 6 rfl rfl)
theorem dX3_resultOf_147 : decode cX3_resultOf 147 = .ok (.iconst 3, 1) := dk_6 (dk_at dksX3_resultOf_6 7 rfl rfl)
theorem dX3_resultOf_148 : decode cX3_resultOf 148 = .ok (.if_icmp .ne 18, 3) := dk_160 0 18 (dk_at dksX3_resultOf_6 8 rfl rfl)
theorem dX3_resultOf_151 : decode cX3_resultOf 151 = .ok (.aload_n 0, 1) := dk_42 (dk_at dksX3_resultOf_6 11 rfl rfl)
theorem dX3_resultOf_152 : decode cX3_resultOf 152 = .ok (.getfield 55, 3) := dk_180 0 55 (dk_at dksX3_resultOf_6 12 rfl rfl)
theorem dX3_resultOf_155 : decode cX3_resultOf 155 = .ok (.iconst 1, 1) := dk_4 (dk_at dksX3_resultOf_6 15 rfl rfl)
theorem dX3_resultOf_156 : decode cX3_resultOf 156 = .ok (.iaload, 1) := dk_46 (dk_at dksX3_resultOf_6 16 rfl rfl)
theorem dX3_resultOf_157 : decode cX3_resultOf 157 = .ok (.iload 4, 2) := dk_21 4 (dk_at dksX3_resultOf_6 17 rfl rfl)
theorem dX3_resultOf_159 : decode cX3_resultOf 159 = .ok (.if_icmp .lt 7, 3) := dk_161 0 7 (dk_at dksX3_resultOf_6 19 rfl rfl)
theorem dX3_resultOf_162 : decode cX3_resultOf 162 = .ok (.iconst 2, 1) := dk_5 (dk_at dksX3_resultOf_6 22 rfl rfl)
theorem dX3_resultOf_163 : decode cX3_resultOf 163 = .ok (.goto 4, 3) := dk_167 0 4 (dk_at dksX3_resultOf_7 0 rfl rfl)
theorem dX3_resultOf_166 : decode cX3_resultOf 166 = .ok (.iconst 0, 1) := dk_3 (dk_at dksX3_resultOf_7 3 rfl rfl)
theorem dX3_resultOf_167 : decode cX3_resultOf 167 = .ok (.ireturn, 1) := dk_172 (dk_at dksX3_resultOf_7 4 rfl rfl)
abbrev cX3_freeBlock : ByteArray := prog_28_method_57_code
def yX3_freeBlock : MethodName := ⟨RX3, "freeBlock", "()I"⟩
def dkwX3_freeBlock_1 : List UInt8 := [132, 1, 1, 167, 255, 234, 2, 172]
abbrev dktX3_freeBlock_1 : List UInt8 := dkwX3_freeBlock_1 ++ []
def dkwX3_freeBlock_0 : List UInt8 := [16, 8, 60, 27, 16, 32, 162, 0, 22, 42, 180, 0, 79, 27, 184, 1, 87, 154, 0, 5, 27, 172]
abbrev dktX3_freeBlock_0 : List UInt8 := dkwX3_freeBlock_0 ++ dktX3_freeBlock_1
theorem dksX3_freeBlock_0 : cX3_freeBlock.data.toList.drop 0 = dktX3_freeBlock_0 := by decide +kernel
theorem dksX3_freeBlock_1 : cX3_freeBlock.data.toList.drop 22 = dktX3_freeBlock_1 := dk_seg dksX3_freeBlock_0 22 rfl rfl
theorem dX3_freeBlock_0 : decode cX3_freeBlock 0 = .ok (.bipush 8, 2) := dk_16 8 (dk_at dksX3_freeBlock_0 0 rfl rfl)
theorem dX3_freeBlock_2 : decode cX3_freeBlock 2 = .ok (.istore_n 1, 1) := dk_60 (dk_at dksX3_freeBlock_0 2 rfl rfl)
theorem dX3_freeBlock_3 : decode cX3_freeBlock 3 = .ok (.iload_n 1, 1) := dk_27 (dk_at dksX3_freeBlock_0 3 rfl rfl)
theorem dX3_freeBlock_4 : decode cX3_freeBlock 4 = .ok (.bipush 32, 2) := dk_16 32 (dk_at dksX3_freeBlock_0 4 rfl rfl)
theorem dX3_freeBlock_6 : decode cX3_freeBlock 6 = .ok (.if_icmp .ge 22, 3) := dk_162 0 22 (dk_at dksX3_freeBlock_0 6 rfl rfl)
theorem dX3_freeBlock_9 : decode cX3_freeBlock 9 = .ok (.aload_n 0, 1) := dk_42 (dk_at dksX3_freeBlock_0 9 rfl rfl)
theorem dX3_freeBlock_10 : decode cX3_freeBlock 10 = .ok (.getfield 79, 3) := dk_180 0 79 (dk_at dksX3_freeBlock_0 10 rfl rfl)
theorem dX3_freeBlock_13 : decode cX3_freeBlock 13 = .ok (.iload_n 1, 1) := dk_27 (dk_at dksX3_freeBlock_0 13 rfl rfl)
theorem dX3_freeBlock_14 : decode cX3_freeBlock 14 = .ok (.invokestatic 343, 3) := dk_184 1 87 (dk_at dksX3_freeBlock_0 14 rfl rfl)
theorem dX3_freeBlock_17 : decode cX3_freeBlock 17 = .ok (.ifCond .ne 5, 3) := dk_154 0 5 (dk_at dksX3_freeBlock_0 17 rfl rfl)
theorem dX3_freeBlock_20 : decode cX3_freeBlock 20 = .ok (.iload_n 1, 1) := dk_27 (dk_at dksX3_freeBlock_0 20 rfl rfl)
theorem dX3_freeBlock_21 : decode cX3_freeBlock 21 = .ok (.ireturn, 1) := dk_172 (dk_at dksX3_freeBlock_0 21 rfl rfl)
theorem dX3_freeBlock_22 : decode cX3_freeBlock 22 = .ok (.iinc 1 1, 3) := dk_132 1 1 (dk_at dksX3_freeBlock_1 0 rfl rfl)
theorem dX3_freeBlock_25 : decode cX3_freeBlock 25 = .ok (.goto (-22), 3) := dk_167 255 234 (dk_at dksX3_freeBlock_1 3 rfl rfl)
theorem dX3_freeBlock_28 : decode cX3_freeBlock 28 = .ok (.iconst (-1), 1) := dk_2 (dk_at dksX3_freeBlock_1 6 rfl rfl)
theorem dX3_freeBlock_29 : decode cX3_freeBlock 29 = .ok (.ireturn, 1) := dk_172 (dk_at dksX3_freeBlock_1 7 rfl rfl)
abbrev cX3_isUsed : ByteArray := prog_28_method_55_code
def yX3_isUsed : MethodName := ⟨RX3, "isUsed", "([II)Z"⟩
def dkwX3_isUsed_1 : List UInt8 := [3, 172]
abbrev dktX3_isUsed_1 : List UInt8 := dkwX3_isUsed_1 ++ []
def dkwX3_isUsed_0 : List UInt8 := [42, 16, 32, 27, 16, 16, 108, 96, 46, 27, 16, 16, 112, 122, 4, 126, 4, 160, 0, 7, 4, 167, 0, 4]
abbrev dktX3_isUsed_0 : List UInt8 := dkwX3_isUsed_0 ++ dktX3_isUsed_1
theorem dksX3_isUsed_0 : cX3_isUsed.data.toList.drop 0 = dktX3_isUsed_0 := by decide +kernel
theorem dksX3_isUsed_1 : cX3_isUsed.data.toList.drop 24 = dktX3_isUsed_1 := dk_seg dksX3_isUsed_0 24 rfl rfl
theorem dX3_isUsed_0 : decode cX3_isUsed 0 = .ok (.aload_n 0, 1) := dk_42 (dk_at dksX3_isUsed_0 0 rfl rfl)
theorem dX3_isUsed_1 : decode cX3_isUsed 1 = .ok (.bipush 32, 2) := dk_16 32 (dk_at dksX3_isUsed_0 1 rfl rfl)
theorem dX3_isUsed_3 : decode cX3_isUsed 3 = .ok (.iload_n 1, 1) := dk_27 (dk_at dksX3_isUsed_0 3 rfl rfl)
theorem dX3_isUsed_4 : decode cX3_isUsed 4 = .ok (.bipush 16, 2) := dk_16 16 (dk_at dksX3_isUsed_0 4 rfl rfl)
theorem dX3_isUsed_6 : decode cX3_isUsed 6 = .ok (.idiv, 1) := dk_108 (dk_at dksX3_isUsed_0 6 rfl rfl)
theorem dX3_isUsed_7 : decode cX3_isUsed 7 = .ok (.iadd, 1) := dk_96 (dk_at dksX3_isUsed_0 7 rfl rfl)
theorem dX3_isUsed_8 : decode cX3_isUsed 8 = .ok (.iaload, 1) := dk_46 (dk_at dksX3_isUsed_0 8 rfl rfl)
theorem dX3_isUsed_9 : decode cX3_isUsed 9 = .ok (.iload_n 1, 1) := dk_27 (dk_at dksX3_isUsed_0 9 rfl rfl)
theorem dX3_isUsed_10 : decode cX3_isUsed 10 = .ok (.bipush 16, 2) := dk_16 16 (dk_at dksX3_isUsed_0 10 rfl rfl)
theorem dX3_isUsed_12 : decode cX3_isUsed 12 = .ok (.irem, 1) := dk_112 (dk_at dksX3_isUsed_0 12 rfl rfl)
theorem dX3_isUsed_13 : decode cX3_isUsed 13 = .ok (.ishr, 1) := dk_122 (dk_at dksX3_isUsed_0 13 rfl rfl)
theorem dX3_isUsed_14 : decode cX3_isUsed 14 = .ok (.iconst 1, 1) := dk_4 (dk_at dksX3_isUsed_0 14 rfl rfl)
theorem dX3_isUsed_15 : decode cX3_isUsed 15 = .ok (.iand, 1) := dk_126 (dk_at dksX3_isUsed_0 15 rfl rfl)
theorem dX3_isUsed_16 : decode cX3_isUsed 16 = .ok (.iconst 1, 1) := dk_4 (dk_at dksX3_isUsed_0 16 rfl rfl)
theorem dX3_isUsed_17 : decode cX3_isUsed 17 = .ok (.if_icmp .ne 7, 3) := dk_160 0 7 (dk_at dksX3_isUsed_0 17 rfl rfl)
theorem dX3_isUsed_20 : decode cX3_isUsed 20 = .ok (.iconst 1, 1) := dk_4 (dk_at dksX3_isUsed_0 20 rfl rfl)
theorem dX3_isUsed_21 : decode cX3_isUsed 21 = .ok (.goto 4, 3) := dk_167 0 4 (dk_at dksX3_isUsed_0 21 rfl rfl)
theorem dX3_isUsed_24 : decode cX3_isUsed 24 = .ok (.iconst 0, 1) := dk_3 (dk_at dksX3_isUsed_1 0 rfl rfl)
theorem dX3_isUsed_25 : decode cX3_isUsed 25 = .ok (.ireturn, 1) := dk_172 (dk_at dksX3_isUsed_1 1 rfl rfl)
abbrev cX3_blockOf : ByteArray := prog_28_method_59_code
def yX3_blockOf : MethodName := ⟨RX3, "blockOf", "([III)I"⟩
def dkwX3_blockOf_0 : List UInt8 := [43, 28, 184, 1, 84, 5, 96, 29, 16, 8, 108, 96, 46, 172]
abbrev dktX3_blockOf_0 : List UInt8 := dkwX3_blockOf_0 ++ []
theorem dksX3_blockOf_0 : cX3_blockOf.data.toList.drop 0 = dktX3_blockOf_0 := by decide +kernel
theorem dX3_blockOf_0 : decode cX3_blockOf 0 = .ok (.aload_n 1, 1) := dk_43 (dk_at dksX3_blockOf_0 0 rfl rfl)
theorem dX3_blockOf_1 : decode cX3_blockOf 1 = .ok (.iload_n 2, 1) := dk_28 (dk_at dksX3_blockOf_0 1 rfl rfl)
theorem dX3_blockOf_2 : decode cX3_blockOf 2 = .ok (.invokestatic 340, 3) := dk_184 1 84 (dk_at dksX3_blockOf_0 2 rfl rfl)
theorem dX3_blockOf_5 : decode cX3_blockOf 5 = .ok (.iconst 2, 1) := dk_5 (dk_at dksX3_blockOf_0 5 rfl rfl)
theorem dX3_blockOf_6 : decode cX3_blockOf 6 = .ok (.iadd, 1) := dk_96 (dk_at dksX3_blockOf_0 6 rfl rfl)
theorem dX3_blockOf_7 : decode cX3_blockOf 7 = .ok (.iload_n 3, 1) := dk_29 (dk_at dksX3_blockOf_0 7 rfl rfl)
theorem dX3_blockOf_8 : decode cX3_blockOf 8 = .ok (.bipush 8, 2) := dk_16 8 (dk_at dksX3_blockOf_0 8 rfl rfl)
theorem dX3_blockOf_10 : decode cX3_blockOf 10 = .ok (.idiv, 1) := dk_108 (dk_at dksX3_blockOf_0 10 rfl rfl)
theorem dX3_blockOf_11 : decode cX3_blockOf 11 = .ok (.iadd, 1) := dk_96 (dk_at dksX3_blockOf_0 11 rfl rfl)
theorem dX3_blockOf_12 : decode cX3_blockOf 12 = .ok (.iaload, 1) := dk_46 (dk_at dksX3_blockOf_0 12 rfl rfl)
theorem dX3_blockOf_13 : decode cX3_blockOf 13 = .ok (.ireturn, 1) := dk_172 (dk_at dksX3_blockOf_0 13 rfl rfl)
abbrev cX3_makesFile : ByteArray := prog_28_method_62_code
def yX3_makesFile : MethodName := ⟨RX3, "makesFile", "()I"⟩
def dkwX3_makesFile_2 : List UInt8 := [42, 180, 0, 82, 27, 184, 1, 84, 6, 96, 3, 79, 27, 184, 1, 123, 172]
abbrev dktX3_makesFile_2 : List UInt8 := dkwX3_makesFile_2 ++ []
def dkwX3_makesFile_1 : List UInt8 := [42, 180, 0, 82, 27, 184, 1, 84, 4, 96, 3, 79, 42, 180, 0, 82, 27, 184, 1, 84, 5, 96, 3, 79]
abbrev dktX3_makesFile_1 : List UInt8 := dkwX3_makesFile_1 ++ dktX3_makesFile_2
def dkwX3_makesFile_0 : List UInt8 := [42, 180, 0, 79, 3, 184, 1, 91, 60, 42, 180, 0, 82, 27, 184, 1, 84, 42, 180, 0, 55, 3, 46, 79]
abbrev dktX3_makesFile_0 : List UInt8 := dkwX3_makesFile_0 ++ dktX3_makesFile_1
theorem dksX3_makesFile_0 : cX3_makesFile.data.toList.drop 0 = dktX3_makesFile_0 := by decide +kernel
theorem dksX3_makesFile_1 : cX3_makesFile.data.toList.drop 24 = dktX3_makesFile_1 := dk_seg dksX3_makesFile_0 24 rfl rfl
theorem dksX3_makesFile_2 : cX3_makesFile.data.toList.drop 48 = dktX3_makesFile_2 := dk_seg dksX3_makesFile_1 24 rfl rfl
theorem dX3_makesFile_0 : decode cX3_makesFile 0 = .ok (.aload_n 0, 1) := dk_42 (dk_at dksX3_makesFile_0 0 rfl rfl)
theorem dX3_makesFile_1 : decode cX3_makesFile 1 = .ok (.getfield 79, 3) := dk_180 0 79 (dk_at dksX3_makesFile_0 1 rfl rfl)
theorem dX3_makesFile_4 : decode cX3_makesFile 4 = .ok (.iconst 0, 1) := dk_3 (dk_at dksX3_makesFile_0 4 rfl rfl)
theorem dX3_makesFile_5 : decode cX3_makesFile 5 = .ok (.invokestatic 347, 3) := dk_184 1 91 (dk_at dksX3_makesFile_0 5 rfl rfl)
theorem dX3_makesFile_8 : decode cX3_makesFile 8 = .ok (.istore_n 1, 1) := dk_60 (dk_at dksX3_makesFile_0 8 rfl rfl)
theorem dX3_makesFile_9 : decode cX3_makesFile 9 = .ok (.aload_n 0, 1) := dk_42 (dk_at dksX3_makesFile_0 9 rfl rfl)
theorem dX3_makesFile_10 : decode cX3_makesFile 10 = .ok (.getfield 82, 3) := dk_180 0 82 (dk_at dksX3_makesFile_0 10 rfl rfl)
theorem dX3_makesFile_13 : decode cX3_makesFile 13 = .ok (.iload_n 1, 1) := dk_27 (dk_at dksX3_makesFile_0 13 rfl rfl)
theorem dX3_makesFile_14 : decode cX3_makesFile 14 = .ok (.invokestatic 340, 3) := dk_184 1 84 (dk_at dksX3_makesFile_0 14 rfl rfl)
theorem dX3_makesFile_17 : decode cX3_makesFile 17 = .ok (.aload_n 0, 1) := dk_42 (dk_at dksX3_makesFile_0 17 rfl rfl)
theorem dX3_makesFile_18 : decode cX3_makesFile 18 = .ok (.getfield 55, 3) := dk_180 0 55 (dk_at dksX3_makesFile_0 18 rfl rfl)
theorem dX3_makesFile_21 : decode cX3_makesFile 21 = .ok (.iconst 0, 1) := dk_3 (dk_at dksX3_makesFile_0 21 rfl rfl)
theorem dX3_makesFile_22 : decode cX3_makesFile 22 = .ok (.iaload, 1) := dk_46 (dk_at dksX3_makesFile_0 22 rfl rfl)
theorem dX3_makesFile_23 : decode cX3_makesFile 23 = .ok (.iastore, 1) := dk_79 (dk_at dksX3_makesFile_0 23 rfl rfl)
theorem dX3_makesFile_24 : decode cX3_makesFile 24 = .ok (.aload_n 0, 1) := dk_42 (dk_at dksX3_makesFile_1 0 rfl rfl)
theorem dX3_makesFile_25 : decode cX3_makesFile 25 = .ok (.getfield 82, 3) := dk_180 0 82 (dk_at dksX3_makesFile_1 1 rfl rfl)
theorem dX3_makesFile_28 : decode cX3_makesFile 28 = .ok (.iload_n 1, 1) := dk_27 (dk_at dksX3_makesFile_1 4 rfl rfl)
theorem dX3_makesFile_29 : decode cX3_makesFile 29 = .ok (.invokestatic 340, 3) := dk_184 1 84 (dk_at dksX3_makesFile_1 5 rfl rfl)
theorem dX3_makesFile_32 : decode cX3_makesFile 32 = .ok (.iconst 1, 1) := dk_4 (dk_at dksX3_makesFile_1 8 rfl rfl)
theorem dX3_makesFile_33 : decode cX3_makesFile 33 = .ok (.iadd, 1) := dk_96 (dk_at dksX3_makesFile_1 9 rfl rfl)
theorem dX3_makesFile_34 : decode cX3_makesFile 34 = .ok (.iconst 0, 1) := dk_3 (dk_at dksX3_makesFile_1 10 rfl rfl)
theorem dX3_makesFile_35 : decode cX3_makesFile 35 = .ok (.iastore, 1) := dk_79 (dk_at dksX3_makesFile_1 11 rfl rfl)
theorem dX3_makesFile_36 : decode cX3_makesFile 36 = .ok (.aload_n 0, 1) := dk_42 (dk_at dksX3_makesFile_1 12 rfl rfl)
theorem dX3_makesFile_37 : decode cX3_makesFile 37 = .ok (.getfield 82, 3) := dk_180 0 82 (dk_at dksX3_makesFile_1 13 rfl rfl)
theorem dX3_makesFile_40 : decode cX3_makesFile 40 = .ok (.iload_n 1, 1) := dk_27 (dk_at dksX3_makesFile_1 16 rfl rfl)
theorem dX3_makesFile_41 : decode cX3_makesFile 41 = .ok (.invokestatic 340, 3) := dk_184 1 84 (dk_at dksX3_makesFile_1 17 rfl rfl)
theorem dX3_makesFile_44 : decode cX3_makesFile 44 = .ok (.iconst 2, 1) := dk_5 (dk_at dksX3_makesFile_1 20 rfl rfl)
theorem dX3_makesFile_45 : decode cX3_makesFile 45 = .ok (.iadd, 1) := dk_96 (dk_at dksX3_makesFile_1 21 rfl rfl)
theorem dX3_makesFile_46 : decode cX3_makesFile 46 = .ok (.iconst 0, 1) := dk_3 (dk_at dksX3_makesFile_1 22 rfl rfl)
theorem dX3_makesFile_47 : decode cX3_makesFile 47 = .ok (.iastore, 1) := dk_79 (dk_at dksX3_makesFile_1 23 rfl rfl)
theorem dX3_makesFile_48 : decode cX3_makesFile 48 = .ok (.aload_n 0, 1) := dk_42 (dk_at dksX3_makesFile_2 0 rfl rfl)
theorem dX3_makesFile_49 : decode cX3_makesFile 49 = .ok (.getfield 82, 3) := dk_180 0 82 (dk_at dksX3_makesFile_2 1 rfl rfl)
theorem dX3_makesFile_52 : decode cX3_makesFile 52 = .ok (.iload_n 1, 1) := dk_27 (dk_at dksX3_makesFile_2 4 rfl rfl)
theorem dX3_makesFile_53 : decode cX3_makesFile 53 = .ok (.invokestatic 340, 3) := dk_184 1 84 (dk_at dksX3_makesFile_2 5 rfl rfl)
theorem dX3_makesFile_56 : decode cX3_makesFile 56 = .ok (.iconst 3, 1) := dk_6 (dk_at dksX3_makesFile_2 8 rfl rfl)
theorem dX3_makesFile_57 : decode cX3_makesFile 57 = .ok (.iadd, 1) := dk_96 (dk_at dksX3_makesFile_2 9 rfl rfl)
theorem dX3_makesFile_58 : decode cX3_makesFile 58 = .ok (.iconst 0, 1) := dk_3 (dk_at dksX3_makesFile_2 10 rfl rfl)
theorem dX3_makesFile_59 : decode cX3_makesFile 59 = .ok (.iastore, 1) := dk_79 (dk_at dksX3_makesFile_2 11 rfl rfl)
theorem dX3_makesFile_60 : decode cX3_makesFile 60 = .ok (.iload_n 1, 1) := dk_27 (dk_at dksX3_makesFile_2 12 rfl rfl)
theorem dX3_makesFile_61 : decode cX3_makesFile 61 = .ok (.invokestatic 379, 3) := dk_184 1 123 (dk_at dksX3_makesFile_2 13 rfl rfl)
theorem dX3_makesFile_64 : decode cX3_makesFile 64 = .ok (.ireturn, 1) := dk_172 (dk_at dksX3_makesFile_2 16 rfl rfl)
abbrev cX3_blockOfEntry : ByteArray := prog_28_method_61_code
def yX3_blockOfEntry : MethodName := ⟨RX3, "blockOfEntry", "(I)I"⟩
def dkwX3_blockOfEntry_0 : List UInt8 := [4, 8, 26, 5, 108, 96, 120, 172]
abbrev dktX3_blockOfEntry_0 : List UInt8 := dkwX3_blockOfEntry_0 ++ []
theorem dksX3_blockOfEntry_0 : cX3_blockOfEntry.data.toList.drop 0 = dktX3_blockOfEntry_0 := by decide +kernel
theorem dX3_blockOfEntry_0 : decode cX3_blockOfEntry 0 = .ok (.iconst 1, 1) := dk_4 (dk_at dksX3_blockOfEntry_0 0 rfl rfl)
theorem dX3_blockOfEntry_1 : decode cX3_blockOfEntry 1 = .ok (.iconst 5, 1) := dk_8 (dk_at dksX3_blockOfEntry_0 1 rfl rfl)
theorem dX3_blockOfEntry_2 : decode cX3_blockOfEntry 2 = .ok (.iload_n 0, 1) := dk_26 (dk_at dksX3_blockOfEntry_0 2 rfl rfl)
theorem dX3_blockOfEntry_3 : decode cX3_blockOfEntry 3 = .ok (.iconst 2, 1) := dk_5 (dk_at dksX3_blockOfEntry_0 3 rfl rfl)
theorem dX3_blockOfEntry_4 : decode cX3_blockOfEntry 4 = .ok (.idiv, 1) := dk_108 (dk_at dksX3_blockOfEntry_0 4 rfl rfl)
theorem dX3_blockOfEntry_5 : decode cX3_blockOfEntry 5 = .ok (.iadd, 1) := dk_96 (dk_at dksX3_blockOfEntry_0 5 rfl rfl)
theorem dX3_blockOfEntry_6 : decode cX3_blockOfEntry 6 = .ok (.ishl, 1) := dk_120 (dk_at dksX3_blockOfEntry_0 6 rfl rfl)
theorem dX3_blockOfEntry_7 : decode cX3_blockOfEntry 7 = .ok (.ireturn, 1) := dk_172 (dk_at dksX3_blockOfEntry_0 7 rfl rfl)
abbrev cX3_appends : ByteArray := prog_28_method_63_code
def yX3_appends : MethodName := ⟨RX3, "appends", "(I)I"⟩
def dkwX3_appends_6 : List UInt8 := [21, 4, 120, 128, 172]
abbrev dktX3_appends_6 : List UInt8 := dkwX3_appends_6 ++ []
def dkwX3_appends_5 : List UInt8 := [42, 180, 0, 55, 4, 46, 79, 42, 180, 0, 82, 27, 184, 1, 84, 4, 96, 28, 4, 96, 79, 29, 4]
abbrev dktX3_appends_5 : List UInt8 := dkwX3_appends_5 ++ dktX3_appends_6
def dkwX3_appends_4 : List UInt8 := [180, 0, 82, 27, 28, 182, 1, 101, 54, 4, 42, 180, 0, 82, 16, 8, 21, 4, 104, 28, 16, 8, 112, 96]
abbrev dktX3_appends_4 : List UInt8 := dkwX3_appends_4 ++ dktX3_appends_5
def dkwX3_appends_3 : List UInt8 := [16, 8, 21, 4, 104, 21, 5, 96, 3, 79, 132, 5, 1, 167, 255, 232, 29, 16, 16, 128, 62, 42, 42]
abbrev dktX3_appends_3 : List UInt8 := dkwX3_appends_3 ++ dktX3_appends_4
def dkwX3_appends_2 : List UInt8 := [96, 28, 16, 8, 108, 96, 21, 4, 79, 3, 54, 5, 21, 5, 16, 8, 162, 0, 23, 42, 180, 0, 82]
abbrev dktX3_appends_2 : List UInt8 := dkwX3_appends_2 ++ dktX3_appends_3
def dkwX3_appends_1 : List UInt8 := [42, 182, 1, 95, 54, 4, 42, 180, 0, 82, 21, 4, 184, 1, 126, 42, 180, 0, 82, 27, 184, 1, 84, 5]
abbrev dktX3_appends_1 : List UInt8 := dkwX3_appends_1 ++ dktX3_appends_2
def dkwX3_appends_0 : List UInt8 := [42, 180, 0, 82, 27, 184, 1, 84, 4, 96, 46, 61, 27, 184, 1, 123, 62, 28, 16, 8, 112, 154, 0, 71]
abbrev dktX3_appends_0 : List UInt8 := dkwX3_appends_0 ++ dktX3_appends_1
theorem dksX3_appends_0 : cX3_appends.data.toList.drop 0 = dktX3_appends_0 := by decide +kernel
theorem dksX3_appends_1 : cX3_appends.data.toList.drop 24 = dktX3_appends_1 := dk_seg dksX3_appends_0 24 rfl rfl
theorem dksX3_appends_2 : cX3_appends.data.toList.drop 48 = dktX3_appends_2 := dk_seg dksX3_appends_1 24 rfl rfl
theorem dksX3_appends_3 : cX3_appends.data.toList.drop 71 = dktX3_appends_3 := dk_seg dksX3_appends_2 23 rfl rfl
theorem dksX3_appends_4 : cX3_appends.data.toList.drop 94 = dktX3_appends_4 := dk_seg dksX3_appends_3 23 rfl rfl
theorem dksX3_appends_5 : cX3_appends.data.toList.drop 118 = dktX3_appends_5 := dk_seg dksX3_appends_4 24 rfl rfl
theorem dksX3_appends_6 : cX3_appends.data.toList.drop 141 = dktX3_appends_6 := dk_seg dksX3_appends_5 23 rfl rfl
theorem dX3_appends_0 : decode cX3_appends 0 = .ok (.aload_n 0, 1) := dk_42 (dk_at dksX3_appends_0 0 rfl rfl)
theorem dX3_appends_1 : decode cX3_appends 1 = .ok (.getfield 82, 3) := dk_180 0 82 (dk_at dksX3_appends_0 1 rfl rfl)
theorem dX3_appends_4 : decode cX3_appends 4 = .ok (.iload_n 1, 1) := dk_27 (dk_at dksX3_appends_0 4 rfl rfl)
theorem dX3_appends_5 : decode cX3_appends 5 = .ok (.invokestatic 340, 3) := dk_184 1 84 (dk_at dksX3_appends_0 5 rfl rfl)
theorem dX3_appends_8 : decode cX3_appends 8 = .ok (.iconst 1, 1) := dk_4 (dk_at dksX3_appends_0 8 rfl rfl)
theorem dX3_appends_9 : decode cX3_appends 9 = .ok (.iadd, 1) := dk_96 (dk_at dksX3_appends_0 9 rfl rfl)
theorem dX3_appends_10 : decode cX3_appends 10 = .ok (.iaload, 1) := dk_46 (dk_at dksX3_appends_0 10 rfl rfl)
theorem dX3_appends_11 : decode cX3_appends 11 = .ok (.istore_n 2, 1) := dk_61 (dk_at dksX3_appends_0 11 rfl rfl)
theorem dX3_appends_12 : decode cX3_appends 12 = .ok (.iload_n 1, 1) := dk_27 (dk_at dksX3_appends_0 12 rfl rfl)
theorem dX3_appends_13 : decode cX3_appends 13 = .ok (.invokestatic 379, 3) := dk_184 1 123 (dk_at dksX3_appends_0 13 rfl rfl)
theorem dX3_appends_16 : decode cX3_appends 16 = .ok (.istore_n 3, 1) := dk_62 (dk_at dksX3_appends_0 16 rfl rfl)
theorem dX3_appends_17 : decode cX3_appends 17 = .ok (.iload_n 2, 1) := dk_28 (dk_at dksX3_appends_0 17 rfl rfl)
theorem dX3_appends_18 : decode cX3_appends 18 = .ok (.bipush 8, 2) := dk_16 8 (dk_at dksX3_appends_0 18 rfl rfl)
theorem dX3_appends_20 : decode cX3_appends 20 = .ok (.irem, 1) := dk_112 (dk_at dksX3_appends_0 20 rfl rfl)
theorem dX3_appends_21 : decode cX3_appends 21 = .ok (.ifCond .ne 71, 3) := dk_154 0 71 (dk_at dksX3_appends_0 21 rfl rfl)
theorem dX3_appends_24 : decode cX3_appends 24 = .ok (.aload_n 0, 1) := dk_42 (dk_at dksX3_appends_1 0 rfl rfl)
theorem dX3_appends_25 : decode cX3_appends 25 = .ok (.invokevirtual 351, 3) := dk_182 1 95 (dk_at dksX3_appends_1 1 rfl rfl)
theorem dX3_appends_28 : decode cX3_appends 28 = .ok (.istore 4, 2) := dk_54 4 (dk_at dksX3_appends_1 4 rfl rfl)
theorem dX3_appends_30 : decode cX3_appends 30 = .ok (.aload_n 0, 1) := dk_42 (dk_at dksX3_appends_1 6 rfl rfl)
theorem dX3_appends_31 : decode cX3_appends 31 = .ok (.getfield 82, 3) := dk_180 0 82 (dk_at dksX3_appends_1 7 rfl rfl)
theorem dX3_appends_34 : decode cX3_appends 34 = .ok (.iload 4, 2) := dk_21 4 (dk_at dksX3_appends_1 10 rfl rfl)
theorem dX3_appends_36 : decode cX3_appends 36 = .ok (.invokestatic 382, 3) := dk_184 1 126 (dk_at dksX3_appends_1 12 rfl rfl)
theorem dX3_appends_39 : decode cX3_appends 39 = .ok (.aload_n 0, 1) := dk_42 (dk_at dksX3_appends_1 15 rfl rfl)
theorem dX3_appends_40 : decode cX3_appends 40 = .ok (.getfield 82, 3) := dk_180 0 82 (dk_at dksX3_appends_1 16 rfl rfl)
theorem dX3_appends_43 : decode cX3_appends 43 = .ok (.iload_n 1, 1) := dk_27 (dk_at dksX3_appends_1 19 rfl rfl)
theorem dX3_appends_44 : decode cX3_appends 44 = .ok (.invokestatic 340, 3) := dk_184 1 84 (dk_at dksX3_appends_1 20 rfl rfl)
theorem dX3_appends_47 : decode cX3_appends 47 = .ok (.iconst 2, 1) := dk_5 (dk_at dksX3_appends_1 23 rfl rfl)
theorem dX3_appends_48 : decode cX3_appends 48 = .ok (.iadd, 1) := dk_96 (dk_at dksX3_appends_2 0 rfl rfl)
theorem dX3_appends_49 : decode cX3_appends 49 = .ok (.iload_n 2, 1) := dk_28 (dk_at dksX3_appends_2 1 rfl rfl)
theorem dX3_appends_50 : decode cX3_appends 50 = .ok (.bipush 8, 2) := dk_16 8 (dk_at dksX3_appends_2 2 rfl rfl)
theorem dX3_appends_52 : decode cX3_appends 52 = .ok (.idiv, 1) := dk_108 (dk_at dksX3_appends_2 4 rfl rfl)
theorem dX3_appends_53 : decode cX3_appends 53 = .ok (.iadd, 1) := dk_96 (dk_at dksX3_appends_2 5 rfl rfl)
theorem dX3_appends_54 : decode cX3_appends 54 = .ok (.iload 4, 2) := dk_21 4 (dk_at dksX3_appends_2 6 rfl rfl)
theorem dX3_appends_56 : decode cX3_appends 56 = .ok (.iastore, 1) := dk_79 (dk_at dksX3_appends_2 8 rfl rfl)
theorem dX3_appends_57 : decode cX3_appends 57 = .ok (.iconst 0, 1) := dk_3 (dk_at dksX3_appends_2 9 rfl rfl)
theorem dX3_appends_58 : decode cX3_appends 58 = .ok (.istore 5, 2) := dk_54 5 (dk_at dksX3_appends_2 10 rfl rfl)
theorem dX3_appends_60 : decode cX3_appends 60 = .ok (.iload 5, 2) := dk_21 5 (dk_at dksX3_appends_2 12 rfl rfl)
theorem dX3_appends_62 : decode cX3_appends 62 = .ok (.bipush 8, 2) := dk_16 8 (dk_at dksX3_appends_2 14 rfl rfl)
theorem dX3_appends_64 : decode cX3_appends 64 = .ok (.if_icmp .ge 23, 3) := dk_162 0 23 (dk_at dksX3_appends_2 16 rfl rfl)
theorem dX3_appends_67 : decode cX3_appends 67 = .ok (.aload_n 0, 1) := dk_42 (dk_at dksX3_appends_2 19 rfl rfl)
theorem dX3_appends_68 : decode cX3_appends 68 = .ok (.getfield 82, 3) := dk_180 0 82 (dk_at dksX3_appends_2 20 rfl rfl)
theorem dX3_appends_71 : decode cX3_appends 71 = .ok (.bipush 8, 2) := dk_16 8 (dk_at dksX3_appends_3 0 rfl rfl)
theorem dX3_appends_73 : decode cX3_appends 73 = .ok (.iload 4, 2) := dk_21 4 (dk_at dksX3_appends_3 2 rfl rfl)
theorem dX3_appends_75 : decode cX3_appends 75 = .ok (.imul, 1) := dk_104 (dk_at dksX3_appends_3 4 rfl rfl)
theorem dX3_appends_76 : decode cX3_appends 76 = .ok (.iload 5, 2) := dk_21 5 (dk_at dksX3_appends_3 5 rfl rfl)
theorem dX3_appends_78 : decode cX3_appends 78 = .ok (.iadd, 1) := dk_96 (dk_at dksX3_appends_3 7 rfl rfl)
theorem dX3_appends_79 : decode cX3_appends 79 = .ok (.iconst 0, 1) := dk_3 (dk_at dksX3_appends_3 8 rfl rfl)
theorem dX3_appends_80 : decode cX3_appends 80 = .ok (.iastore, 1) := dk_79 (dk_at dksX3_appends_3 9 rfl rfl)
theorem dX3_appends_81 : decode cX3_appends 81 = .ok (.iinc 5 1, 3) := dk_132 5 1 (dk_at dksX3_appends_3 10 rfl rfl)
theorem dX3_appends_84 : decode cX3_appends 84 = .ok (.goto (-24), 3) := dk_167 255 232 (dk_at dksX3_appends_3 13 rfl rfl)
theorem dX3_appends_87 : decode cX3_appends 87 = .ok (.iload_n 3, 1) := dk_29 (dk_at dksX3_appends_3 16 rfl rfl)
theorem dX3_appends_88 : decode cX3_appends 88 = .ok (.bipush 16, 2) := dk_16 16 (dk_at dksX3_appends_3 17 rfl rfl)
theorem dX3_appends_90 : decode cX3_appends 90 = .ok (.ior, 1) := dk_128 (dk_at dksX3_appends_3 19 rfl rfl)
theorem dX3_appends_91 : decode cX3_appends 91 = .ok (.istore_n 3, 1) := dk_62 (dk_at dksX3_appends_3 20 rfl rfl)
theorem dX3_appends_92 : decode cX3_appends 92 = .ok (.aload_n 0, 1) := dk_42 (dk_at dksX3_appends_3 21 rfl rfl)
theorem dX3_appends_93 : decode cX3_appends 93 = .ok (.aload_n 0, 1) := dk_42 (dk_at dksX3_appends_3 22 rfl rfl)
theorem dX3_appends_94 : decode cX3_appends 94 = .ok (.getfield 82, 3) := dk_180 0 82 (dk_at dksX3_appends_4 0 rfl rfl)
theorem dX3_appends_97 : decode cX3_appends 97 = .ok (.iload_n 1, 1) := dk_27 (dk_at dksX3_appends_4 3 rfl rfl)
theorem dX3_appends_98 : decode cX3_appends 98 = .ok (.iload_n 2, 1) := dk_28 (dk_at dksX3_appends_4 4 rfl rfl)
theorem dX3_appends_99 : decode cX3_appends 99 = .ok (.invokevirtual 357, 3) := dk_182 1 101 (dk_at dksX3_appends_4 5 rfl rfl)
theorem dX3_appends_102 : decode cX3_appends 102 = .ok (.istore 4, 2) := dk_54 4 (dk_at dksX3_appends_4 8 rfl rfl)
theorem dX3_appends_104 : decode cX3_appends 104 = .ok (.aload_n 0, 1) := dk_42 (dk_at dksX3_appends_4 10 rfl rfl)
theorem dX3_appends_105 : decode cX3_appends 105 = .ok (.getfield 82, 3) := dk_180 0 82 (dk_at dksX3_appends_4 11 rfl rfl)
theorem dX3_appends_108 : decode cX3_appends 108 = .ok (.bipush 8, 2) := dk_16 8 (dk_at dksX3_appends_4 14 rfl rfl)
theorem dX3_appends_110 : decode cX3_appends 110 = .ok (.iload 4, 2) := dk_21 4 (dk_at dksX3_appends_4 16 rfl rfl)
theorem dX3_appends_112 : decode cX3_appends 112 = .ok (.imul, 1) := dk_104 (dk_at dksX3_appends_4 18 rfl rfl)
theorem dX3_appends_113 : decode cX3_appends 113 = .ok (.iload_n 2, 1) := dk_28 (dk_at dksX3_appends_4 19 rfl rfl)
theorem dX3_appends_114 : decode cX3_appends 114 = .ok (.bipush 8, 2) := dk_16 8 (dk_at dksX3_appends_4 20 rfl rfl)
theorem dX3_appends_116 : decode cX3_appends 116 = .ok (.irem, 1) := dk_112 (dk_at dksX3_appends_4 22 rfl rfl)
theorem dX3_appends_117 : decode cX3_appends 117 = .ok (.iadd, 1) := dk_96 (dk_at dksX3_appends_4 23 rfl rfl)
theorem dX3_appends_118 : decode cX3_appends 118 = .ok (.aload_n 0, 1) := dk_42 (dk_at dksX3_appends_5 0 rfl rfl)
theorem dX3_appends_119 : decode cX3_appends 119 = .ok (.getfield 55, 3) := dk_180 0 55 (dk_at dksX3_appends_5 1 rfl rfl)
theorem dX3_appends_122 : decode cX3_appends 122 = .ok (.iconst 1, 1) := dk_4 (dk_at dksX3_appends_5 4 rfl rfl)
theorem dX3_appends_123 : decode cX3_appends 123 = .ok (.iaload, 1) := dk_46 (dk_at dksX3_appends_5 5 rfl rfl)
theorem dX3_appends_124 : decode cX3_appends 124 = .ok (.iastore, 1) := dk_79 (dk_at dksX3_appends_5 6 rfl rfl)
theorem dX3_appends_125 : decode cX3_appends 125 = .ok (.aload_n 0, 1) := dk_42 (dk_at dksX3_appends_5 7 rfl rfl)
theorem dX3_appends_126 : decode cX3_appends 126 = .ok (.getfield 82, 3) := dk_180 0 82 (dk_at dksX3_appends_5 8 rfl rfl)
theorem dX3_appends_129 : decode cX3_appends 129 = .ok (.iload_n 1, 1) := dk_27 (dk_at dksX3_appends_5 11 rfl rfl)
theorem dX3_appends_130 : decode cX3_appends 130 = .ok (.invokestatic 340, 3) := dk_184 1 84 (dk_at dksX3_appends_5 12 rfl rfl)
theorem dX3_appends_133 : decode cX3_appends 133 = .ok (.iconst 1, 1) := dk_4 (dk_at dksX3_appends_5 15 rfl rfl)
theorem dX3_appends_134 : decode cX3_appends 134 = .ok (.iadd, 1) := dk_96 (dk_at dksX3_appends_5 16 rfl rfl)
theorem dX3_appends_135 : decode cX3_appends 135 = .ok (.iload_n 2, 1) := dk_28 (dk_at dksX3_appends_5 17 rfl rfl)
theorem dX3_appends_136 : decode cX3_appends 136 = .ok (.iconst 1, 1) := dk_4 (dk_at dksX3_appends_5 18 rfl rfl)
theorem dX3_appends_137 : decode cX3_appends 137 = .ok (.iadd, 1) := dk_96 (dk_at dksX3_appends_5 19 rfl rfl)
theorem dX3_appends_138 : decode cX3_appends 138 = .ok (.iastore, 1) := dk_79 (dk_at dksX3_appends_5 20 rfl rfl)
theorem dX3_appends_139 : decode cX3_appends 139 = .ok (.iload_n 3, 1) := dk_29 (dk_at dksX3_appends_5 21 rfl rfl)
theorem dX3_appends_140 : decode cX3_appends 140 = .ok (.iconst 1, 1) := dk_4 (dk_at dksX3_appends_5 22 rfl rfl)
theorem dX3_appends_141 : decode cX3_appends 141 = .ok (.iload 4, 2) := dk_21 4 (dk_at dksX3_appends_6 0 rfl rfl)
theorem dX3_appends_143 : decode cX3_appends 143 = .ok (.ishl, 1) := dk_120 (dk_at dksX3_appends_6 2 rfl rfl)
theorem dX3_appends_144 : decode cX3_appends 144 = .ok (.ior, 1) := dk_128 (dk_at dksX3_appends_6 3 rfl rfl)
theorem dX3_appends_145 : decode cX3_appends 145 = .ok (.ireturn, 1) := dk_172 (dk_at dksX3_appends_6 4 rfl rfl)
abbrev cX3_turns : ByteArray := prog_28_method_56_code
def yX3_turns : MethodName := ⟨RX3, "turns", "([II)V"⟩
def dkwX3_turns_0 : List UInt8 := [42, 16, 32, 27, 16, 16, 108, 96, 92, 46, 4, 27, 16, 16, 112, 120, 130, 79, 177]
abbrev dktX3_turns_0 : List UInt8 := dkwX3_turns_0 ++ []
theorem dksX3_turns_0 : cX3_turns.data.toList.drop 0 = dktX3_turns_0 := by decide +kernel
theorem dX3_turns_0 : decode cX3_turns 0 = .ok (.aload_n 0, 1) := dk_42 (dk_at dksX3_turns_0 0 rfl rfl)
theorem dX3_turns_1 : decode cX3_turns 1 = .ok (.bipush 32, 2) := dk_16 32 (dk_at dksX3_turns_0 1 rfl rfl)
theorem dX3_turns_3 : decode cX3_turns 3 = .ok (.iload_n 1, 1) := dk_27 (dk_at dksX3_turns_0 3 rfl rfl)
theorem dX3_turns_4 : decode cX3_turns 4 = .ok (.bipush 16, 2) := dk_16 16 (dk_at dksX3_turns_0 4 rfl rfl)
theorem dX3_turns_6 : decode cX3_turns 6 = .ok (.idiv, 1) := dk_108 (dk_at dksX3_turns_0 6 rfl rfl)
theorem dX3_turns_7 : decode cX3_turns 7 = .ok (.iadd, 1) := dk_96 (dk_at dksX3_turns_0 7 rfl rfl)
theorem dX3_turns_8 : decode cX3_turns 8 = .ok (.dup2, 1) := dk_92 (dk_at dksX3_turns_0 8 rfl rfl)
theorem dX3_turns_9 : decode cX3_turns 9 = .ok (.iaload, 1) := dk_46 (dk_at dksX3_turns_0 9 rfl rfl)
theorem dX3_turns_10 : decode cX3_turns 10 = .ok (.iconst 1, 1) := dk_4 (dk_at dksX3_turns_0 10 rfl rfl)
theorem dX3_turns_11 : decode cX3_turns 11 = .ok (.iload_n 1, 1) := dk_27 (dk_at dksX3_turns_0 11 rfl rfl)
theorem dX3_turns_12 : decode cX3_turns 12 = .ok (.bipush 16, 2) := dk_16 16 (dk_at dksX3_turns_0 12 rfl rfl)
theorem dX3_turns_14 : decode cX3_turns 14 = .ok (.irem, 1) := dk_112 (dk_at dksX3_turns_0 14 rfl rfl)
theorem dX3_turns_15 : decode cX3_turns 15 = .ok (.ishl, 1) := dk_120 (dk_at dksX3_turns_0 15 rfl rfl)
theorem dX3_turns_16 : decode cX3_turns 16 = .ok (.ixor, 1) := dk_130 (dk_at dksX3_turns_0 16 rfl rfl)
theorem dX3_turns_17 : decode cX3_turns 17 = .ok (.iastore, 1) := dk_79 (dk_at dksX3_turns_0 17 rfl rfl)
theorem dX3_turns_18 : decode cX3_turns 18 = .ok (.return_, 1) := dk_177 (dk_at dksX3_turns_0 18 rfl rfl)
abbrev cX3_replaces : ByteArray := prog_28_method_64_code
def yX3_replaces : MethodName := ⟨RX3, "replaces", "(I)I"⟩
def dkwX3_replaces_1 : List UInt8 := [42, 180, 0, 55, 4, 46, 16, 8, 112, 96, 42, 180, 0, 55, 5, 46, 79, 4, 28, 120, 172]
abbrev dktX3_replaces_1 : List UInt8 := dkwX3_replaces_1 ++ []
def dkwX3_replaces_0 : List UInt8 := [42, 42, 180, 0, 82, 27, 42, 180, 0, 55, 4, 46, 182, 1, 101, 61, 42, 180, 0, 82, 16, 8, 28, 104]
abbrev dktX3_replaces_0 : List UInt8 := dkwX3_replaces_0 ++ dktX3_replaces_1
theorem dksX3_replaces_0 : cX3_replaces.data.toList.drop 0 = dktX3_replaces_0 := by decide +kernel
theorem dksX3_replaces_1 : cX3_replaces.data.toList.drop 24 = dktX3_replaces_1 := dk_seg dksX3_replaces_0 24 rfl rfl
theorem dX3_replaces_0 : decode cX3_replaces 0 = .ok (.aload_n 0, 1) := dk_42 (dk_at dksX3_replaces_0 0 rfl rfl)
theorem dX3_replaces_1 : decode cX3_replaces 1 = .ok (.aload_n 0, 1) := dk_42 (dk_at dksX3_replaces_0 1 rfl rfl)
theorem dX3_replaces_2 : decode cX3_replaces 2 = .ok (.getfield 82, 3) := dk_180 0 82 (dk_at dksX3_replaces_0 2 rfl rfl)
theorem dX3_replaces_5 : decode cX3_replaces 5 = .ok (.iload_n 1, 1) := dk_27 (dk_at dksX3_replaces_0 5 rfl rfl)
theorem dX3_replaces_6 : decode cX3_replaces 6 = .ok (.aload_n 0, 1) := dk_42 (dk_at dksX3_replaces_0 6 rfl rfl)
theorem dX3_replaces_7 : decode cX3_replaces 7 = .ok (.getfield 55, 3) := dk_180 0 55 (dk_at dksX3_replaces_0 7 rfl rfl)
theorem dX3_replaces_10 : decode cX3_replaces 10 = .ok (.iconst 1, 1) := dk_4 (dk_at dksX3_replaces_0 10 rfl rfl)
theorem dX3_replaces_11 : decode cX3_replaces 11 = .ok (.iaload, 1) := dk_46 (dk_at dksX3_replaces_0 11 rfl rfl)
theorem dX3_replaces_12 : decode cX3_replaces 12 = .ok (.invokevirtual 357, 3) := dk_182 1 101 (dk_at dksX3_replaces_0 12 rfl rfl)
theorem dX3_replaces_15 : decode cX3_replaces 15 = .ok (.istore_n 2, 1) := dk_61 (dk_at dksX3_replaces_0 15 rfl rfl)
theorem dX3_replaces_16 : decode cX3_replaces 16 = .ok (.aload_n 0, 1) := dk_42 (dk_at dksX3_replaces_0 16 rfl rfl)
theorem dX3_replaces_17 : decode cX3_replaces 17 = .ok (.getfield 82, 3) := dk_180 0 82 (dk_at dksX3_replaces_0 17 rfl rfl)
theorem dX3_replaces_20 : decode cX3_replaces 20 = .ok (.bipush 8, 2) := dk_16 8 (dk_at dksX3_replaces_0 20 rfl rfl)
theorem dX3_replaces_22 : decode cX3_replaces 22 = .ok (.iload_n 2, 1) := dk_28 (dk_at dksX3_replaces_0 22 rfl rfl)
theorem dX3_replaces_23 : decode cX3_replaces 23 = .ok (.imul, 1) := dk_104 (dk_at dksX3_replaces_0 23 rfl rfl)
theorem dX3_replaces_24 : decode cX3_replaces 24 = .ok (.aload_n 0, 1) := dk_42 (dk_at dksX3_replaces_1 0 rfl rfl)
theorem dX3_replaces_25 : decode cX3_replaces 25 = .ok (.getfield 55, 3) := dk_180 0 55 (dk_at dksX3_replaces_1 1 rfl rfl)
theorem dX3_replaces_28 : decode cX3_replaces 28 = .ok (.iconst 1, 1) := dk_4 (dk_at dksX3_replaces_1 4 rfl rfl)
theorem dX3_replaces_29 : decode cX3_replaces 29 = .ok (.iaload, 1) := dk_46 (dk_at dksX3_replaces_1 5 rfl rfl)
theorem dX3_replaces_30 : decode cX3_replaces 30 = .ok (.bipush 8, 2) := dk_16 8 (dk_at dksX3_replaces_1 6 rfl rfl)
theorem dX3_replaces_32 : decode cX3_replaces 32 = .ok (.irem, 1) := dk_112 (dk_at dksX3_replaces_1 8 rfl rfl)
theorem dX3_replaces_33 : decode cX3_replaces 33 = .ok (.iadd, 1) := dk_96 (dk_at dksX3_replaces_1 9 rfl rfl)
theorem dX3_replaces_34 : decode cX3_replaces 34 = .ok (.aload_n 0, 1) := dk_42 (dk_at dksX3_replaces_1 10 rfl rfl)
theorem dX3_replaces_35 : decode cX3_replaces 35 = .ok (.getfield 55, 3) := dk_180 0 55 (dk_at dksX3_replaces_1 11 rfl rfl)
theorem dX3_replaces_38 : decode cX3_replaces 38 = .ok (.iconst 2, 1) := dk_5 (dk_at dksX3_replaces_1 14 rfl rfl)
theorem dX3_replaces_39 : decode cX3_replaces 39 = .ok (.iaload, 1) := dk_46 (dk_at dksX3_replaces_1 15 rfl rfl)
theorem dX3_replaces_40 : decode cX3_replaces 40 = .ok (.iastore, 1) := dk_79 (dk_at dksX3_replaces_1 16 rfl rfl)
theorem dX3_replaces_41 : decode cX3_replaces 41 = .ok (.iconst 1, 1) := dk_4 (dk_at dksX3_replaces_1 17 rfl rfl)
theorem dX3_replaces_42 : decode cX3_replaces 42 = .ok (.iload_n 2, 1) := dk_28 (dk_at dksX3_replaces_1 18 rfl rfl)
theorem dX3_replaces_43 : decode cX3_replaces 43 = .ok (.ishl, 1) := dk_120 (dk_at dksX3_replaces_1 19 rfl rfl)
theorem dX3_replaces_44 : decode cX3_replaces 44 = .ok (.ireturn, 1) := dk_172 (dk_at dksX3_replaces_1 20 rfl rfl)
abbrev cX3_removes : ByteArray := prog_28_method_65_code
def yX3_removes : MethodName := ⟨RX3, "removes", "(I)I"⟩
def dkwX3_removes_3 : List UInt8 := [132, 3, 1, 167, 255, 236, 28, 172]
abbrev dktX3_removes_3 : List UInt8 := dkwX3_removes_3 ++ []
def dkwX3_removes_2 : List UInt8 := [167, 255, 216, 3, 62, 29, 7, 162, 0, 21, 42, 180, 0, 82, 27, 184, 1, 84, 29, 96, 3, 79]
abbrev dktX3_removes_2 : List UInt8 := dkwX3_removes_2 ++ dktX3_removes_3
def dkwX3_removes_1 : List UInt8 := [54, 4, 21, 4, 153, 0, 17, 42, 180, 0, 82, 21, 4, 184, 1, 126, 28, 16, 16, 128, 61, 132, 3, 1]
abbrev dktX3_removes_1 : List UInt8 := dkwX3_removes_1 ++ dktX3_removes_2
def dkwX3_removes_0 : List UInt8 := [27, 184, 1, 123, 61, 5, 62, 29, 7, 162, 0, 41, 42, 180, 0, 82, 27, 184, 1, 84, 29, 96, 46]
abbrev dktX3_removes_0 : List UInt8 := dkwX3_removes_0 ++ dktX3_removes_1
theorem dksX3_removes_0 : cX3_removes.data.toList.drop 0 = dktX3_removes_0 := by decide +kernel
theorem dksX3_removes_1 : cX3_removes.data.toList.drop 23 = dktX3_removes_1 := dk_seg dksX3_removes_0 23 rfl rfl
theorem dksX3_removes_2 : cX3_removes.data.toList.drop 47 = dktX3_removes_2 := dk_seg dksX3_removes_1 24 rfl rfl
theorem dksX3_removes_3 : cX3_removes.data.toList.drop 69 = dktX3_removes_3 := dk_seg dksX3_removes_2 22 rfl rfl
theorem dX3_removes_0 : decode cX3_removes 0 = .ok (.iload_n 1, 1) := dk_27 (dk_at dksX3_removes_0 0 rfl rfl)
theorem dX3_removes_1 : decode cX3_removes 1 = .ok (.invokestatic 379, 3) := dk_184 1 123 (dk_at dksX3_removes_0 1 rfl rfl)
theorem dX3_removes_4 : decode cX3_removes 4 = .ok (.istore_n 2, 1) := dk_61 (dk_at dksX3_removes_0 4 rfl rfl)
theorem dX3_removes_5 : decode cX3_removes 5 = .ok (.iconst 2, 1) := dk_5 (dk_at dksX3_removes_0 5 rfl rfl)
theorem dX3_removes_6 : decode cX3_removes 6 = .ok (.istore_n 3, 1) := dk_62 (dk_at dksX3_removes_0 6 rfl rfl)
theorem dX3_removes_7 : decode cX3_removes 7 = .ok (.iload_n 3, 1) := dk_29 (dk_at dksX3_removes_0 7 rfl rfl)
theorem dX3_removes_8 : decode cX3_removes 8 = .ok (.iconst 4, 1) := dk_7 (dk_at dksX3_removes_0 8 rfl rfl)
theorem dX3_removes_9 : decode cX3_removes 9 = .ok (.if_icmp .ge 41, 3) := dk_162 0 41 (dk_at dksX3_removes_0 9 rfl rfl)
theorem dX3_removes_12 : decode cX3_removes 12 = .ok (.aload_n 0, 1) := dk_42 (dk_at dksX3_removes_0 12 rfl rfl)
theorem dX3_removes_13 : decode cX3_removes 13 = .ok (.getfield 82, 3) := dk_180 0 82 (dk_at dksX3_removes_0 13 rfl rfl)
theorem dX3_removes_16 : decode cX3_removes 16 = .ok (.iload_n 1, 1) := dk_27 (dk_at dksX3_removes_0 16 rfl rfl)
theorem dX3_removes_17 : decode cX3_removes 17 = .ok (.invokestatic 340, 3) := dk_184 1 84 (dk_at dksX3_removes_0 17 rfl rfl)
theorem dX3_removes_20 : decode cX3_removes 20 = .ok (.iload_n 3, 1) := dk_29 (dk_at dksX3_removes_0 20 rfl rfl)
theorem dX3_removes_21 : decode cX3_removes 21 = .ok (.iadd, 1) := dk_96 (dk_at dksX3_removes_0 21 rfl rfl)
theorem dX3_removes_22 : decode cX3_removes 22 = .ok (.iaload, 1) := dk_46 (dk_at dksX3_removes_0 22 rfl rfl)
theorem dX3_removes_23 : decode cX3_removes 23 = .ok (.istore 4, 2) := dk_54 4 (dk_at dksX3_removes_1 0 rfl rfl)
theorem dX3_removes_25 : decode cX3_removes 25 = .ok (.iload 4, 2) := dk_21 4 (dk_at dksX3_removes_1 2 rfl rfl)
theorem dX3_removes_27 : decode cX3_removes 27 = .ok (.ifCond .eq 17, 3) := dk_153 0 17 (dk_at dksX3_removes_1 4 rfl rfl)
theorem dX3_removes_30 : decode cX3_removes 30 = .ok (.aload_n 0, 1) := dk_42 (dk_at dksX3_removes_1 7 rfl rfl)
theorem dX3_removes_31 : decode cX3_removes 31 = .ok (.getfield 82, 3) := dk_180 0 82 (dk_at dksX3_removes_1 8 rfl rfl)
theorem dX3_removes_34 : decode cX3_removes 34 = .ok (.iload 4, 2) := dk_21 4 (dk_at dksX3_removes_1 11 rfl rfl)
theorem dX3_removes_36 : decode cX3_removes 36 = .ok (.invokestatic 382, 3) := dk_184 1 126 (dk_at dksX3_removes_1 13 rfl rfl)
theorem dX3_removes_39 : decode cX3_removes 39 = .ok (.iload_n 2, 1) := dk_28 (dk_at dksX3_removes_1 16 rfl rfl)
theorem dX3_removes_40 : decode cX3_removes 40 = .ok (.bipush 16, 2) := dk_16 16 (dk_at dksX3_removes_1 17 rfl rfl)
theorem dX3_removes_42 : decode cX3_removes 42 = .ok (.ior, 1) := dk_128 (dk_at dksX3_removes_1 19 rfl rfl)
theorem dX3_removes_43 : decode cX3_removes 43 = .ok (.istore_n 2, 1) := dk_61 (dk_at dksX3_removes_1 20 rfl rfl)
theorem dX3_removes_44 : decode cX3_removes 44 = .ok (.iinc 3 1, 3) := dk_132 3 1 (dk_at dksX3_removes_1 21 rfl rfl)
theorem dX3_removes_47 : decode cX3_removes 47 = .ok (.goto (-40), 3) := dk_167 255 216 (dk_at dksX3_removes_2 0 rfl rfl)
theorem dX3_removes_50 : decode cX3_removes 50 = .ok (.iconst 0, 1) := dk_3 (dk_at dksX3_removes_2 3 rfl rfl)
theorem dX3_removes_51 : decode cX3_removes 51 = .ok (.istore_n 3, 1) := dk_62 (dk_at dksX3_removes_2 4 rfl rfl)
theorem dX3_removes_52 : decode cX3_removes 52 = .ok (.iload_n 3, 1) := dk_29 (dk_at dksX3_removes_2 5 rfl rfl)
theorem dX3_removes_53 : decode cX3_removes 53 = .ok (.iconst 4, 1) := dk_7 (dk_at dksX3_removes_2 6 rfl rfl)
theorem dX3_removes_54 : decode cX3_removes 54 = .ok (.if_icmp .ge 21, 3) := dk_162 0 21 (dk_at dksX3_removes_2 7 rfl rfl)
theorem dX3_removes_57 : decode cX3_removes 57 = .ok (.aload_n 0, 1) := dk_42 (dk_at dksX3_removes_2 10 rfl rfl)
theorem dX3_removes_58 : decode cX3_removes 58 = .ok (.getfield 82, 3) := dk_180 0 82 (dk_at dksX3_removes_2 11 rfl rfl)
theorem dX3_removes_61 : decode cX3_removes 61 = .ok (.iload_n 1, 1) := dk_27 (dk_at dksX3_removes_2 14 rfl rfl)
theorem dX3_removes_62 : decode cX3_removes 62 = .ok (.invokestatic 340, 3) := dk_184 1 84 (dk_at dksX3_removes_2 15 rfl rfl)
theorem dX3_removes_65 : decode cX3_removes 65 = .ok (.iload_n 3, 1) := dk_29 (dk_at dksX3_removes_2 18 rfl rfl)
theorem dX3_removes_66 : decode cX3_removes 66 = .ok (.iadd, 1) := dk_96 (dk_at dksX3_removes_2 19 rfl rfl)
theorem dX3_removes_67 : decode cX3_removes 67 = .ok (.iconst 0, 1) := dk_3 (dk_at dksX3_removes_2 20 rfl rfl)
theorem dX3_removes_68 : decode cX3_removes 68 = .ok (.iastore, 1) := dk_79 (dk_at dksX3_removes_2 21 rfl rfl)
theorem dX3_removes_69 : decode cX3_removes 69 = .ok (.iinc 3 1, 3) := dk_132 3 1 (dk_at dksX3_removes_3 0 rfl rfl)
theorem dX3_removes_72 : decode cX3_removes 72 = .ok (.goto (-20), 3) := dk_167 255 236 (dk_at dksX3_removes_3 3 rfl rfl)
theorem dX3_removes_75 : decode cX3_removes 75 = .ok (.iload_n 2, 1) := dk_28 (dk_at dksX3_removes_3 6 rfl rfl)
theorem dX3_removes_76 : decode cX3_removes 76 = .ok (.ireturn, 1) := dk_172 (dk_at dksX3_removes_3 7 rfl rfl)
abbrev cX3_renames : ByteArray := prog_28_method_66_code
def yX3_renames : MethodName := ⟨RX3, "renames", "(I)I"⟩
def dkwX3_renames_2 : List UInt8 := [184, 1, 123, 128, 172]
abbrev dktX3_renames_2 : List UInt8 := dkwX3_renames_2 ++ []
def dkwX3_renames_1 : List UInt8 := [28, 182, 1, 114, 62, 42, 180, 0, 82, 27, 184, 1, 84, 42, 180, 0, 55, 4, 46, 79, 29, 27]
abbrev dktX3_renames_1 : List UInt8 := dkwX3_renames_1 ++ dktX3_renames_2
def dkwX3_renames_0 : List UInt8 := [42, 180, 0, 79, 42, 180, 0, 55, 4, 46, 184, 1, 91, 61, 28, 2, 160, 0, 7, 3, 167, 0, 8, 42]
abbrev dktX3_renames_0 : List UInt8 := dkwX3_renames_0 ++ dktX3_renames_1
theorem dksX3_renames_0 : cX3_renames.data.toList.drop 0 = dktX3_renames_0 := by decide +kernel
theorem dksX3_renames_1 : cX3_renames.data.toList.drop 24 = dktX3_renames_1 := dk_seg dksX3_renames_0 24 rfl rfl
theorem dksX3_renames_2 : cX3_renames.data.toList.drop 46 = dktX3_renames_2 := dk_seg dksX3_renames_1 22 rfl rfl
theorem dX3_renames_0 : decode cX3_renames 0 = .ok (.aload_n 0, 1) := dk_42 (dk_at dksX3_renames_0 0 rfl rfl)
theorem dX3_renames_1 : decode cX3_renames 1 = .ok (.getfield 79, 3) := dk_180 0 79 (dk_at dksX3_renames_0 1 rfl rfl)
theorem dX3_renames_4 : decode cX3_renames 4 = .ok (.aload_n 0, 1) := dk_42 (dk_at dksX3_renames_0 4 rfl rfl)
theorem dX3_renames_5 : decode cX3_renames 5 = .ok (.getfield 55, 3) := dk_180 0 55 (dk_at dksX3_renames_0 5 rfl rfl)
theorem dX3_renames_8 : decode cX3_renames 8 = .ok (.iconst 1, 1) := dk_4 (dk_at dksX3_renames_0 8 rfl rfl)
theorem dX3_renames_9 : decode cX3_renames 9 = .ok (.iaload, 1) := dk_46 (dk_at dksX3_renames_0 9 rfl rfl)
theorem dX3_renames_10 : decode cX3_renames 10 = .ok (.invokestatic 347, 3) := dk_184 1 91 (dk_at dksX3_renames_0 10 rfl rfl)
theorem dX3_renames_13 : decode cX3_renames 13 = .ok (.istore_n 2, 1) := dk_61 (dk_at dksX3_renames_0 13 rfl rfl)
theorem dX3_renames_14 : decode cX3_renames 14 = .ok (.iload_n 2, 1) := dk_28 (dk_at dksX3_renames_0 14 rfl rfl)
theorem dX3_renames_15 : decode cX3_renames 15 = .ok (.iconst (-1), 1) := dk_2 (dk_at dksX3_renames_0 15 rfl rfl)
theorem dX3_renames_16 : decode cX3_renames 16 = .ok (.if_icmp .ne 7, 3) := dk_160 0 7 (dk_at dksX3_renames_0 16 rfl rfl)
theorem dX3_renames_19 : decode cX3_renames 19 = .ok (.iconst 0, 1) := dk_3 (dk_at dksX3_renames_0 19 rfl rfl)
theorem dX3_renames_20 : decode cX3_renames 20 = .ok (.goto 8, 3) := dk_167 0 8 (dk_at dksX3_renames_0 20 rfl rfl)
theorem dX3_renames_23 : decode cX3_renames 23 = .ok (.aload_n 0, 1) := dk_42 (dk_at dksX3_renames_0 23 rfl rfl)
theorem dX3_renames_24 : decode cX3_renames 24 = .ok (.iload_n 2, 1) := dk_28 (dk_at dksX3_renames_1 0 rfl rfl)
theorem dX3_renames_25 : decode cX3_renames 25 = .ok (.invokevirtual 370, 3) := dk_182 1 114 (dk_at dksX3_renames_1 1 rfl rfl)
theorem dX3_renames_28 : decode cX3_renames 28 = .ok (.istore_n 3, 1) := dk_62 (dk_at dksX3_renames_1 4 rfl rfl)
theorem dX3_renames_29 : decode cX3_renames 29 = .ok (.aload_n 0, 1) := dk_42 (dk_at dksX3_renames_1 5 rfl rfl)
theorem dX3_renames_30 : decode cX3_renames 30 = .ok (.getfield 82, 3) := dk_180 0 82 (dk_at dksX3_renames_1 6 rfl rfl)
theorem dX3_renames_33 : decode cX3_renames 33 = .ok (.iload_n 1, 1) := dk_27 (dk_at dksX3_renames_1 9 rfl rfl)
theorem dX3_renames_34 : decode cX3_renames 34 = .ok (.invokestatic 340, 3) := dk_184 1 84 (dk_at dksX3_renames_1 10 rfl rfl)
theorem dX3_renames_37 : decode cX3_renames 37 = .ok (.aload_n 0, 1) := dk_42 (dk_at dksX3_renames_1 13 rfl rfl)
theorem dX3_renames_38 : decode cX3_renames 38 = .ok (.getfield 55, 3) := dk_180 0 55 (dk_at dksX3_renames_1 14 rfl rfl)
theorem dX3_renames_41 : decode cX3_renames 41 = .ok (.iconst 1, 1) := dk_4 (dk_at dksX3_renames_1 17 rfl rfl)
theorem dX3_renames_42 : decode cX3_renames 42 = .ok (.iaload, 1) := dk_46 (dk_at dksX3_renames_1 18 rfl rfl)
theorem dX3_renames_43 : decode cX3_renames 43 = .ok (.iastore, 1) := dk_79 (dk_at dksX3_renames_1 19 rfl rfl)
theorem dX3_renames_44 : decode cX3_renames 44 = .ok (.iload_n 3, 1) := dk_29 (dk_at dksX3_renames_1 20 rfl rfl)
theorem dX3_renames_45 : decode cX3_renames 45 = .ok (.iload_n 1, 1) := dk_27 (dk_at dksX3_renames_1 21 rfl rfl)
theorem dX3_renames_46 : decode cX3_renames 46 = .ok (.invokestatic 379, 3) := dk_184 1 123 (dk_at dksX3_renames_2 0 rfl rfl)
theorem dX3_renames_49 : decode cX3_renames 49 = .ok (.ior, 1) := dk_128 (dk_at dksX3_renames_2 3 rfl rfl)
theorem dX3_renames_50 : decode cX3_renames 50 = .ok (.ireturn, 1) := dk_172 (dk_at dksX3_renames_2 4 rfl rfl)
abbrev cX3_prepares : ByteArray := prog_28_method_67_code
def yX3_prepares : MethodName := ⟨RX3, "prepares", "(I)V"⟩
def dkwX3_prepares_4 : List UInt8 := [96, 181, 1, 28, 177]
abbrev dktX3_prepares_4 : List UInt8 := dkwX3_prepares_4 ++ []
def dkwX3_prepares_3 : List UInt8 := [42, 89, 180, 1, 130, 4, 96, 181, 1, 130, 132, 2, 1, 167, 255, 179, 42, 5, 42, 180, 1, 130, 104, 5]
abbrev dktX3_prepares_3 : List UInt8 := dkwX3_prepares_3 ++ dktX3_prepares_4
def dkwX3_prepares_2 : List UInt8 := [180, 1, 130, 104, 29, 96, 42, 180, 0, 82, 16, 8, 28, 104, 29, 96, 46, 79, 132, 3, 1, 167, 255, 222]
abbrev dktX3_prepares_2 : List UInt8 := dkwX3_prepares_2 ++ dktX3_prepares_3
def dkwX3_prepares_1 : List UInt8 := [180, 0, 73, 42, 180, 1, 130, 28, 79, 3, 62, 29, 16, 8, 162, 0, 34, 42, 180, 0, 76, 16, 8, 42]
abbrev dktX3_prepares_1 : List UInt8 := dkwX3_prepares_1 ++ dktX3_prepares_2
def dkwX3_prepares_0 : List UInt8 := [42, 3, 181, 1, 130, 3, 61, 28, 16, 32, 162, 0, 77, 27, 28, 122, 4, 126, 4, 160, 0, 62, 42]
abbrev dktX3_prepares_0 : List UInt8 := dkwX3_prepares_0 ++ dktX3_prepares_1
theorem dksX3_prepares_0 : cX3_prepares.data.toList.drop 0 = dktX3_prepares_0 := by decide +kernel
theorem dksX3_prepares_1 : cX3_prepares.data.toList.drop 23 = dktX3_prepares_1 := dk_seg dksX3_prepares_0 23 rfl rfl
theorem dksX3_prepares_2 : cX3_prepares.data.toList.drop 47 = dktX3_prepares_2 := dk_seg dksX3_prepares_1 24 rfl rfl
theorem dksX3_prepares_3 : cX3_prepares.data.toList.drop 71 = dktX3_prepares_3 := dk_seg dksX3_prepares_2 24 rfl rfl
theorem dksX3_prepares_4 : cX3_prepares.data.toList.drop 95 = dktX3_prepares_4 := dk_seg dksX3_prepares_3 24 rfl rfl
theorem dX3_prepares_0 : decode cX3_prepares 0 = .ok (.aload_n 0, 1) := dk_42 (dk_at dksX3_prepares_0 0 rfl rfl)
theorem dX3_prepares_1 : decode cX3_prepares 1 = .ok (.iconst 0, 1) := dk_3 (dk_at dksX3_prepares_0 1 rfl rfl)
theorem dX3_prepares_2 : decode cX3_prepares 2 = .ok (.putfield 386, 3) := dk_181 1 130 (dk_at dksX3_prepares_0 2 rfl rfl)
theorem dX3_prepares_5 : decode cX3_prepares 5 = .ok (.iconst 0, 1) := dk_3 (dk_at dksX3_prepares_0 5 rfl rfl)
theorem dX3_prepares_6 : decode cX3_prepares 6 = .ok (.istore_n 2, 1) := dk_61 (dk_at dksX3_prepares_0 6 rfl rfl)
theorem dX3_prepares_7 : decode cX3_prepares 7 = .ok (.iload_n 2, 1) := dk_28 (dk_at dksX3_prepares_0 7 rfl rfl)
theorem dX3_prepares_8 : decode cX3_prepares 8 = .ok (.bipush 32, 2) := dk_16 32 (dk_at dksX3_prepares_0 8 rfl rfl)
theorem dX3_prepares_10 : decode cX3_prepares 10 = .ok (.if_icmp .ge 77, 3) := dk_162 0 77 (dk_at dksX3_prepares_0 10 rfl rfl)
theorem dX3_prepares_13 : decode cX3_prepares 13 = .ok (.iload_n 1, 1) := dk_27 (dk_at dksX3_prepares_0 13 rfl rfl)
theorem dX3_prepares_14 : decode cX3_prepares 14 = .ok (.iload_n 2, 1) := dk_28 (dk_at dksX3_prepares_0 14 rfl rfl)
theorem dX3_prepares_15 : decode cX3_prepares 15 = .ok (.ishr, 1) := dk_122 (dk_at dksX3_prepares_0 15 rfl rfl)
theorem dX3_prepares_16 : decode cX3_prepares 16 = .ok (.iconst 1, 1) := dk_4 (dk_at dksX3_prepares_0 16 rfl rfl)
theorem dX3_prepares_17 : decode cX3_prepares 17 = .ok (.iand, 1) := dk_126 (dk_at dksX3_prepares_0 17 rfl rfl)
theorem dX3_prepares_18 : decode cX3_prepares 18 = .ok (.iconst 1, 1) := dk_4 (dk_at dksX3_prepares_0 18 rfl rfl)
theorem dX3_prepares_19 : decode cX3_prepares 19 = .ok (.if_icmp .ne 62, 3) := dk_160 0 62 (dk_at dksX3_prepares_0 19 rfl rfl)
theorem dX3_prepares_22 : decode cX3_prepares 22 = .ok (.aload_n 0, 1) := dk_42 (dk_at dksX3_prepares_0 22 rfl rfl)
theorem dX3_prepares_23 : decode cX3_prepares 23 = .ok (.getfield 73, 3) := dk_180 0 73 (dk_at dksX3_prepares_1 0 rfl rfl)
theorem dX3_prepares_26 : decode cX3_prepares 26 = .ok (.aload_n 0, 1) := dk_42 (dk_at dksX3_prepares_1 3 rfl rfl)
theorem dX3_prepares_27 : decode cX3_prepares 27 = .ok (.getfield 386, 3) := dk_180 1 130 (dk_at dksX3_prepares_1 4 rfl rfl)
theorem dX3_prepares_30 : decode cX3_prepares 30 = .ok (.iload_n 2, 1) := dk_28 (dk_at dksX3_prepares_1 7 rfl rfl)
theorem dX3_prepares_31 : decode cX3_prepares 31 = .ok (.iastore, 1) := dk_79 (dk_at dksX3_prepares_1 8 rfl rfl)
theorem dX3_prepares_32 : decode cX3_prepares 32 = .ok (.iconst 0, 1) := dk_3 (dk_at dksX3_prepares_1 9 rfl rfl)
theorem dX3_prepares_33 : decode cX3_prepares 33 = .ok (.istore_n 3, 1) := dk_62 (dk_at dksX3_prepares_1 10 rfl rfl)
theorem dX3_prepares_34 : decode cX3_prepares 34 = .ok (.iload_n 3, 1) := dk_29 (dk_at dksX3_prepares_1 11 rfl rfl)
theorem dX3_prepares_35 : decode cX3_prepares 35 = .ok (.bipush 8, 2) := dk_16 8 (dk_at dksX3_prepares_1 12 rfl rfl)
theorem dX3_prepares_37 : decode cX3_prepares 37 = .ok (.if_icmp .ge 34, 3) := dk_162 0 34 (dk_at dksX3_prepares_1 14 rfl rfl)
theorem dX3_prepares_40 : decode cX3_prepares 40 = .ok (.aload_n 0, 1) := dk_42 (dk_at dksX3_prepares_1 17 rfl rfl)
theorem dX3_prepares_41 : decode cX3_prepares 41 = .ok (.getfield 76, 3) := dk_180 0 76 (dk_at dksX3_prepares_1 18 rfl rfl)
theorem dX3_prepares_44 : decode cX3_prepares 44 = .ok (.bipush 8, 2) := dk_16 8 (dk_at dksX3_prepares_1 21 rfl rfl)
theorem dX3_prepares_46 : decode cX3_prepares 46 = .ok (.aload_n 0, 1) := dk_42 (dk_at dksX3_prepares_1 23 rfl rfl)
theorem dX3_prepares_47 : decode cX3_prepares 47 = .ok (.getfield 386, 3) := dk_180 1 130 (dk_at dksX3_prepares_2 0 rfl rfl)
theorem dX3_prepares_50 : decode cX3_prepares 50 = .ok (.imul, 1) := dk_104 (dk_at dksX3_prepares_2 3 rfl rfl)
theorem dX3_prepares_51 : decode cX3_prepares 51 = .ok (.iload_n 3, 1) := dk_29 (dk_at dksX3_prepares_2 4 rfl rfl)
theorem dX3_prepares_52 : decode cX3_prepares 52 = .ok (.iadd, 1) := dk_96 (dk_at dksX3_prepares_2 5 rfl rfl)
theorem dX3_prepares_53 : decode cX3_prepares 53 = .ok (.aload_n 0, 1) := dk_42 (dk_at dksX3_prepares_2 6 rfl rfl)
theorem dX3_prepares_54 : decode cX3_prepares 54 = .ok (.getfield 82, 3) := dk_180 0 82 (dk_at dksX3_prepares_2 7 rfl rfl)
theorem dX3_prepares_57 : decode cX3_prepares 57 = .ok (.bipush 8, 2) := dk_16 8 (dk_at dksX3_prepares_2 10 rfl rfl)
theorem dX3_prepares_59 : decode cX3_prepares 59 = .ok (.iload_n 2, 1) := dk_28 (dk_at dksX3_prepares_2 12 rfl rfl)
theorem dX3_prepares_60 : decode cX3_prepares 60 = .ok (.imul, 1) := dk_104 (dk_at dksX3_prepares_2 13 rfl rfl)
theorem dX3_prepares_61 : decode cX3_prepares 61 = .ok (.iload_n 3, 1) := dk_29 (dk_at dksX3_prepares_2 14 rfl rfl)
theorem dX3_prepares_62 : decode cX3_prepares 62 = .ok (.iadd, 1) := dk_96 (dk_at dksX3_prepares_2 15 rfl rfl)
theorem dX3_prepares_63 : decode cX3_prepares 63 = .ok (.iaload, 1) := dk_46 (dk_at dksX3_prepares_2 16 rfl rfl)
theorem dX3_prepares_64 : decode cX3_prepares 64 = .ok (.iastore, 1) := dk_79 (dk_at dksX3_prepares_2 17 rfl rfl)
theorem dX3_prepares_65 : decode cX3_prepares 65 = .ok (.iinc 3 1, 3) := dk_132 3 1 (dk_at dksX3_prepares_2 18 rfl rfl)
theorem dX3_prepares_68 : decode cX3_prepares 68 = .ok (.goto (-34), 3) := dk_167 255 222 (dk_at dksX3_prepares_2 21 rfl rfl)
theorem dX3_prepares_71 : decode cX3_prepares 71 = .ok (.aload_n 0, 1) := dk_42 (dk_at dksX3_prepares_3 0 rfl rfl)
theorem dX3_prepares_72 : decode cX3_prepares 72 = .ok (.dup, 1) := dk_89 (dk_at dksX3_prepares_3 1 rfl rfl)
theorem dX3_prepares_73 : decode cX3_prepares 73 = .ok (.getfield 386, 3) := dk_180 1 130 (dk_at dksX3_prepares_3 2 rfl rfl)
theorem dX3_prepares_76 : decode cX3_prepares 76 = .ok (.iconst 1, 1) := dk_4 (dk_at dksX3_prepares_3 5 rfl rfl)
theorem dX3_prepares_77 : decode cX3_prepares 77 = .ok (.iadd, 1) := dk_96 (dk_at dksX3_prepares_3 6 rfl rfl)
theorem dX3_prepares_78 : decode cX3_prepares 78 = .ok (.putfield 386, 3) := dk_181 1 130 (dk_at dksX3_prepares_3 7 rfl rfl)
theorem dX3_prepares_81 : decode cX3_prepares 81 = .ok (.iinc 2 1, 3) := dk_132 2 1 (dk_at dksX3_prepares_3 10 rfl rfl)
theorem dX3_prepares_84 : decode cX3_prepares 84 = .ok (.goto (-77), 3) := dk_167 255 179 (dk_at dksX3_prepares_3 13 rfl rfl)
theorem dX3_prepares_87 : decode cX3_prepares 87 = .ok (.aload_n 0, 1) := dk_42 (dk_at dksX3_prepares_3 16 rfl rfl)
theorem dX3_prepares_88 : decode cX3_prepares 88 = .ok (.iconst 2, 1) := dk_5 (dk_at dksX3_prepares_3 17 rfl rfl)
theorem dX3_prepares_89 : decode cX3_prepares 89 = .ok (.aload_n 0, 1) := dk_42 (dk_at dksX3_prepares_3 18 rfl rfl)
theorem dX3_prepares_90 : decode cX3_prepares 90 = .ok (.getfield 386, 3) := dk_180 1 130 (dk_at dksX3_prepares_3 19 rfl rfl)
theorem dX3_prepares_93 : decode cX3_prepares 93 = .ok (.imul, 1) := dk_104 (dk_at dksX3_prepares_3 22 rfl rfl)
theorem dX3_prepares_94 : decode cX3_prepares 94 = .ok (.iconst 2, 1) := dk_5 (dk_at dksX3_prepares_3 23 rfl rfl)
theorem dX3_prepares_95 : decode cX3_prepares 95 = .ok (.iadd, 1) := dk_96 (dk_at dksX3_prepares_4 0 rfl rfl)
theorem dX3_prepares_96 : decode cX3_prepares 96 = .ok (.putfield 284, 3) := dk_181 1 28 (dk_at dksX3_prepares_4 1 rfl rfl)
theorem dX3_prepares_99 : decode cX3_prepares 99 = .ok (.return_, 1) := dk_177 (dk_at dksX3_prepares_4 4 rfl rfl)
abbrev cX3_come : ByteArray := prog_28_method_43_code
def yX3_come : MethodName := ⟨RX3, "come", "()I"⟩
def dkwX3_come_1 : List UInt8 := [163, 0, 7, 4, 167, 0, 4, 3, 96, 60, 132, 2, 1, 167, 255, 224, 27, 172]
abbrev dktX3_come_1 : List UInt8 := dkwX3_come_1 ++ []
def dkwX3_come_0 : List UInt8 := [3, 60, 3, 61, 28, 42, 180, 1, 31, 162, 0, 30, 27, 42, 180, 0, 61, 28, 46, 42, 180, 0, 235]
abbrev dktX3_come_0 : List UInt8 := dkwX3_come_0 ++ dktX3_come_1
theorem dksX3_come_0 : cX3_come.data.toList.drop 0 = dktX3_come_0 := by decide +kernel
theorem dksX3_come_1 : cX3_come.data.toList.drop 23 = dktX3_come_1 := dk_seg dksX3_come_0 23 rfl rfl
theorem dX3_come_0 : decode cX3_come 0 = .ok (.iconst 0, 1) := dk_3 (dk_at dksX3_come_0 0 rfl rfl)
theorem dX3_come_1 : decode cX3_come 1 = .ok (.istore_n 1, 1) := dk_60 (dk_at dksX3_come_0 1 rfl rfl)
theorem dX3_come_2 : decode cX3_come 2 = .ok (.iconst 0, 1) := dk_3 (dk_at dksX3_come_0 2 rfl rfl)
theorem dX3_come_3 : decode cX3_come 3 = .ok (.istore_n 2, 1) := dk_61 (dk_at dksX3_come_0 3 rfl rfl)
theorem dX3_come_4 : decode cX3_come 4 = .ok (.iload_n 2, 1) := dk_28 (dk_at dksX3_come_0 4 rfl rfl)
theorem dX3_come_5 : decode cX3_come 5 = .ok (.aload_n 0, 1) := dk_42 (dk_at dksX3_come_0 5 rfl rfl)
theorem dX3_come_6 : decode cX3_come 6 = .ok (.getfield 287, 3) := dk_180 1 31 (dk_at dksX3_come_0 6 rfl rfl)
theorem dX3_come_9 : decode cX3_come 9 = .ok (.if_icmp .ge 30, 3) := dk_162 0 30 (dk_at dksX3_come_0 9 rfl rfl)
theorem dX3_come_12 : decode cX3_come 12 = .ok (.iload_n 1, 1) := dk_27 (dk_at dksX3_come_0 12 rfl rfl)
theorem dX3_come_13 : decode cX3_come 13 = .ok (.aload_n 0, 1) := dk_42 (dk_at dksX3_come_0 13 rfl rfl)
theorem dX3_come_14 : decode cX3_come 14 = .ok (.getfield 61, 3) := dk_180 0 61 (dk_at dksX3_come_0 14 rfl rfl)
theorem dX3_come_17 : decode cX3_come 17 = .ok (.iload_n 2, 1) := dk_28 (dk_at dksX3_come_0 17 rfl rfl)
theorem dX3_come_18 : decode cX3_come 18 = .ok (.iaload, 1) := dk_46 (dk_at dksX3_come_0 18 rfl rfl)
theorem dX3_come_19 : decode cX3_come 19 = .ok (.aload_n 0, 1) := dk_42 (dk_at dksX3_come_0 19 rfl rfl)
theorem dX3_come_20 : decode cX3_come 20 = .ok (.getfield 235, 3) := dk_180 0 235 (dk_at dksX3_come_0 20 rfl rfl)
theorem dX3_come_23 : decode cX3_come 23 = .ok (.if_icmp .gt 7, 3) := dk_163 0 7 (dk_at dksX3_come_1 0 rfl rfl)
theorem dX3_come_26 : decode cX3_come 26 = .ok (.iconst 1, 1) := dk_4 (dk_at dksX3_come_1 3 rfl rfl)
theorem dX3_come_27 : decode cX3_come 27 = .ok (.goto 4, 3) := dk_167 0 4 (dk_at dksX3_come_1 4 rfl rfl)
theorem dX3_come_30 : decode cX3_come 30 = .ok (.iconst 0, 1) := dk_3 (dk_at dksX3_come_1 7 rfl rfl)
theorem dX3_come_31 : decode cX3_come 31 = .ok (.iadd, 1) := dk_96 (dk_at dksX3_come_1 8 rfl rfl)
theorem dX3_come_32 : decode cX3_come 32 = .ok (.istore_n 1, 1) := dk_60 (dk_at dksX3_come_1 9 rfl rfl)
theorem dX3_come_33 : decode cX3_come 33 = .ok (.iinc 2 1, 3) := dk_132 2 1 (dk_at dksX3_come_1 10 rfl rfl)
theorem dX3_come_36 : decode cX3_come 36 = .ok (.goto (-32), 3) := dk_167 255 224 (dk_at dksX3_come_1 13 rfl rfl)
theorem dX3_come_39 : decode cX3_come 39 = .ok (.iload_n 1, 1) := dk_27 (dk_at dksX3_come_1 16 rfl rfl)
theorem dX3_come_40 : decode cX3_come 40 = .ok (.ireturn, 1) := dk_172 (dk_at dksX3_come_1 17 rfl rfl)
abbrev cX3_keysCome : ByteArray := prog_28_method_42_code
def yX3_keysCome : MethodName := ⟨RX3, "keysCome", "()V"⟩
def dkwX3_keysCome_1 : List UInt8 := [42, 180, 0, 235, 160, 0, 7, 4, 167, 0, 4, 3, 181, 1, 13, 132, 1, 1, 167, 255, 216, 177]
abbrev dktX3_keysCome_1 : List UInt8 := dkwX3_keysCome_1 ++ []
def dkwX3_keysCome_0 : List UInt8 := [3, 60, 27, 42, 180, 1, 31, 162, 0, 38, 42, 42, 180, 1, 13, 154, 0, 16, 42, 180, 0, 61, 27, 46]
abbrev dktX3_keysCome_0 : List UInt8 := dkwX3_keysCome_0 ++ dktX3_keysCome_1
theorem dksX3_keysCome_0 : cX3_keysCome.data.toList.drop 0 = dktX3_keysCome_0 := by decide +kernel
theorem dksX3_keysCome_1 : cX3_keysCome.data.toList.drop 24 = dktX3_keysCome_1 := dk_seg dksX3_keysCome_0 24 rfl rfl
theorem dX3_keysCome_0 : decode cX3_keysCome 0 = .ok (.iconst 0, 1) := dk_3 (dk_at dksX3_keysCome_0 0 rfl rfl)
theorem dX3_keysCome_1 : decode cX3_keysCome 1 = .ok (.istore_n 1, 1) := dk_60 (dk_at dksX3_keysCome_0 1 rfl rfl)
theorem dX3_keysCome_2 : decode cX3_keysCome 2 = .ok (.iload_n 1, 1) := dk_27 (dk_at dksX3_keysCome_0 2 rfl rfl)
theorem dX3_keysCome_3 : decode cX3_keysCome 3 = .ok (.aload_n 0, 1) := dk_42 (dk_at dksX3_keysCome_0 3 rfl rfl)
theorem dX3_keysCome_4 : decode cX3_keysCome 4 = .ok (.getfield 287, 3) := dk_180 1 31 (dk_at dksX3_keysCome_0 4 rfl rfl)
theorem dX3_keysCome_7 : decode cX3_keysCome 7 = .ok (.if_icmp .ge 38, 3) := dk_162 0 38 (dk_at dksX3_keysCome_0 7 rfl rfl)
theorem dX3_keysCome_10 : decode cX3_keysCome 10 = .ok (.aload_n 0, 1) := dk_42 (dk_at dksX3_keysCome_0 10 rfl rfl)
theorem dX3_keysCome_11 : decode cX3_keysCome 11 = .ok (.aload_n 0, 1) := dk_42 (dk_at dksX3_keysCome_0 11 rfl rfl)
theorem dX3_keysCome_12 : decode cX3_keysCome 12 = .ok (.getfield 269, 3) := dk_180 1 13 (dk_at dksX3_keysCome_0 12 rfl rfl)
theorem dX3_keysCome_15 : decode cX3_keysCome 15 = .ok (.ifCond .ne 16, 3) := dk_154 0 16 (dk_at dksX3_keysCome_0 15 rfl rfl)
theorem dX3_keysCome_18 : decode cX3_keysCome 18 = .ok (.aload_n 0, 1) := dk_42 (dk_at dksX3_keysCome_0 18 rfl rfl)
theorem dX3_keysCome_19 : decode cX3_keysCome 19 = .ok (.getfield 61, 3) := dk_180 0 61 (dk_at dksX3_keysCome_0 19 rfl rfl)
theorem dX3_keysCome_22 : decode cX3_keysCome 22 = .ok (.iload_n 1, 1) := dk_27 (dk_at dksX3_keysCome_0 22 rfl rfl)
theorem dX3_keysCome_23 : decode cX3_keysCome 23 = .ok (.iaload, 1) := dk_46 (dk_at dksX3_keysCome_0 23 rfl rfl)
theorem dX3_keysCome_24 : decode cX3_keysCome 24 = .ok (.aload_n 0, 1) := dk_42 (dk_at dksX3_keysCome_1 0 rfl rfl)
theorem dX3_keysCome_25 : decode cX3_keysCome 25 = .ok (.getfield 235, 3) := dk_180 0 235 (dk_at dksX3_keysCome_1 1 rfl rfl)
theorem dX3_keysCome_28 : decode cX3_keysCome 28 = .ok (.if_icmp .ne 7, 3) := dk_160 0 7 (dk_at dksX3_keysCome_1 4 rfl rfl)
theorem dX3_keysCome_31 : decode cX3_keysCome 31 = .ok (.iconst 1, 1) := dk_4 (dk_at dksX3_keysCome_1 7 rfl rfl)
theorem dX3_keysCome_32 : decode cX3_keysCome 32 = .ok (.goto 4, 3) := dk_167 0 4 (dk_at dksX3_keysCome_1 8 rfl rfl)
theorem dX3_keysCome_35 : decode cX3_keysCome 35 = .ok (.iconst 0, 1) := dk_3 (dk_at dksX3_keysCome_1 11 rfl rfl)
theorem dX3_keysCome_36 : decode cX3_keysCome 36 = .ok (.putfield 269, 3) := dk_181 1 13 (dk_at dksX3_keysCome_1 12 rfl rfl)
theorem dX3_keysCome_39 : decode cX3_keysCome 39 = .ok (.iinc 1 1, 3) := dk_132 1 1 (dk_at dksX3_keysCome_1 15 rfl rfl)
theorem dX3_keysCome_42 : decode cX3_keysCome 42 = .ok (.goto (-40), 3) := dk_167 255 216 (dk_at dksX3_keysCome_1 18 rfl rfl)
theorem dX3_keysCome_45 : decode cX3_keysCome 45 = .ok (.return_, 1) := dk_177 (dk_at dksX3_keysCome_1 21 rfl rfl)
abbrev cX3_runTo : ByteArray := prog_28_method_81_code
def yX3_runTo : MethodName := ⟨RX3, "runTo", "(II)I"⟩
def dkwX3_runTo_4 : List UInt8 := [167, 0, 4, 3, 54, 4, 167, 255, 210, 29, 172]
abbrev dktX3_runTo_4 : List UInt8 := dkwX3_runTo_4 ++ []
def dkwX3_runTo_3 : List UInt8 := [182, 1, 173, 132, 3, 1, 42, 180, 0, 254, 27, 160, 0, 14, 42, 180, 1, 28, 154, 0, 7, 4]
abbrev dktX3_runTo_3 : List UInt8 := dkwX3_runTo_3 ++ dktX3_runTo_4
def dkwX3_runTo_2 : List UInt8 := [62, 3, 54, 4, 29, 28, 162, 0, 47, 21, 4, 154, 0, 42, 42, 182, 1, 170, 153, 0, 35, 42]
abbrev dktX3_runTo_2 : List UInt8 := dkwX3_runTo_2 ++ dktX3_runTo_3
def dkwX3_runTo_1 : List UInt8 := [167, 0, 15, 42, 182, 1, 157, 153, 0, 7, 3, 167, 0, 4, 5, 182, 0, 152, 154, 0, 5, 3, 172, 3]
abbrev dktX3_runTo_1 : List UInt8 := dkwX3_runTo_1 ++ dktX3_runTo_2
def dkwX3_runTo_0 : List UInt8 := [42, 27, 3, 17, 0, 255, 184, 0, 147, 153, 0, 13, 28, 4, 16, 100, 184, 0, 147, 154, 0, 7, 4]
abbrev dktX3_runTo_0 : List UInt8 := dkwX3_runTo_0 ++ dktX3_runTo_1
theorem dksX3_runTo_0 : cX3_runTo.data.toList.drop 0 = dktX3_runTo_0 := by decide +kernel
theorem dksX3_runTo_1 : cX3_runTo.data.toList.drop 23 = dktX3_runTo_1 := dk_seg dksX3_runTo_0 23 rfl rfl
theorem dksX3_runTo_2 : cX3_runTo.data.toList.drop 47 = dktX3_runTo_2 := dk_seg dksX3_runTo_1 24 rfl rfl
theorem dksX3_runTo_3 : cX3_runTo.data.toList.drop 69 = dktX3_runTo_3 := dk_seg dksX3_runTo_2 22 rfl rfl
theorem dksX3_runTo_4 : cX3_runTo.data.toList.drop 91 = dktX3_runTo_4 := dk_seg dksX3_runTo_3 22 rfl rfl
theorem dX3_runTo_0 : decode cX3_runTo 0 = .ok (.aload_n 0, 1) := dk_42 (dk_at dksX3_runTo_0 0 rfl rfl)
theorem dX3_runTo_1 : decode cX3_runTo 1 = .ok (.iload_n 1, 1) := dk_27 (dk_at dksX3_runTo_0 1 rfl rfl)
theorem dX3_runTo_2 : decode cX3_runTo 2 = .ok (.iconst 0, 1) := dk_3 (dk_at dksX3_runTo_0 2 rfl rfl)
theorem dX3_runTo_3 : decode cX3_runTo 3 = .ok (.sipush 255, 3) := dk_17 0 255 (dk_at dksX3_runTo_0 3 rfl rfl)
theorem dX3_runTo_6 : decode cX3_runTo 6 = .ok (.invokestatic 147, 3) := dk_184 0 147 (dk_at dksX3_runTo_0 6 rfl rfl)
theorem dX3_runTo_9 : decode cX3_runTo 9 = .ok (.ifCond .eq 13, 3) := dk_153 0 13 (dk_at dksX3_runTo_0 9 rfl rfl)
theorem dX3_runTo_12 : decode cX3_runTo 12 = .ok (.iload_n 2, 1) := dk_28 (dk_at dksX3_runTo_0 12 rfl rfl)
theorem dX3_runTo_13 : decode cX3_runTo 13 = .ok (.iconst 1, 1) := dk_4 (dk_at dksX3_runTo_0 13 rfl rfl)
theorem dX3_runTo_14 : decode cX3_runTo 14 = .ok (.bipush 100, 2) := dk_16 100 (dk_at dksX3_runTo_0 14 rfl rfl)
theorem dX3_runTo_16 : decode cX3_runTo 16 = .ok (.invokestatic 147, 3) := dk_184 0 147 (dk_at dksX3_runTo_0 16 rfl rfl)
theorem dX3_runTo_19 : decode cX3_runTo 19 = .ok (.ifCond .ne 7, 3) := dk_154 0 7 (dk_at dksX3_runTo_0 19 rfl rfl)
theorem dX3_runTo_22 : decode cX3_runTo 22 = .ok (.iconst 1, 1) := dk_4 (dk_at dksX3_runTo_0 22 rfl rfl)
theorem dX3_runTo_23 : decode cX3_runTo 23 = .ok (.goto 15, 3) := dk_167 0 15 (dk_at dksX3_runTo_1 0 rfl rfl)
theorem dX3_runTo_26 : decode cX3_runTo 26 = .ok (.aload_n 0, 1) := dk_42 (dk_at dksX3_runTo_1 3 rfl rfl)
theorem dX3_runTo_27 : decode cX3_runTo 27 = .ok (.invokevirtual 413, 3) := dk_182 1 157 (dk_at dksX3_runTo_1 4 rfl rfl)
theorem dX3_runTo_30 : decode cX3_runTo 30 = .ok (.ifCond .eq 7, 3) := dk_153 0 7 (dk_at dksX3_runTo_1 7 rfl rfl)
theorem dX3_runTo_33 : decode cX3_runTo 33 = .ok (.iconst 0, 1) := dk_3 (dk_at dksX3_runTo_1 10 rfl rfl)
theorem dX3_runTo_34 : decode cX3_runTo 34 = .ok (.goto 4, 3) := dk_167 0 4 (dk_at dksX3_runTo_1 11 rfl rfl)
theorem dX3_runTo_37 : decode cX3_runTo 37 = .ok (.iconst 2, 1) := dk_5 (dk_at dksX3_runTo_1 14 rfl rfl)
theorem dX3_runTo_38 : decode cX3_runTo 38 = .ok (.invokevirtual 152, 3) := dk_182 0 152 (dk_at dksX3_runTo_1 15 rfl rfl)
theorem dX3_runTo_41 : decode cX3_runTo 41 = .ok (.ifCond .ne 5, 3) := dk_154 0 5 (dk_at dksX3_runTo_1 18 rfl rfl)
theorem dX3_runTo_44 : decode cX3_runTo 44 = .ok (.iconst 0, 1) := dk_3 (dk_at dksX3_runTo_1 21 rfl rfl)
theorem dX3_runTo_45 : decode cX3_runTo 45 = .ok (.ireturn, 1) := dk_172 (dk_at dksX3_runTo_1 22 rfl rfl)
theorem dX3_runTo_46 : decode cX3_runTo 46 = .ok (.iconst 0, 1) := dk_3 (dk_at dksX3_runTo_1 23 rfl rfl)
theorem dX3_runTo_47 : decode cX3_runTo 47 = .ok (.istore_n 3, 1) := dk_62 (dk_at dksX3_runTo_2 0 rfl rfl)
theorem dX3_runTo_48 : decode cX3_runTo 48 = .ok (.iconst 0, 1) := dk_3 (dk_at dksX3_runTo_2 1 rfl rfl)
theorem dX3_runTo_49 : decode cX3_runTo 49 = .ok (.istore 4, 2) := dk_54 4 (dk_at dksX3_runTo_2 2 rfl rfl)
theorem dX3_runTo_51 : decode cX3_runTo 51 = .ok (.iload_n 3, 1) := dk_29 (dk_at dksX3_runTo_2 4 rfl rfl)
theorem dX3_runTo_52 : decode cX3_runTo 52 = .ok (.iload_n 2, 1) := dk_28 (dk_at dksX3_runTo_2 5 rfl rfl)
theorem dX3_runTo_53 : decode cX3_runTo 53 = .ok (.if_icmp .ge 47, 3) := dk_162 0 47 (dk_at dksX3_runTo_2 6 rfl rfl)
theorem dX3_runTo_56 : decode cX3_runTo 56 = .ok (.iload 4, 2) := dk_21 4 (dk_at dksX3_runTo_2 9 rfl rfl)
theorem dX3_runTo_58 : decode cX3_runTo 58 = .ok (.ifCond .ne 42, 3) := dk_154 0 42 (dk_at dksX3_runTo_2 11 rfl rfl)
theorem dX3_runTo_61 : decode cX3_runTo 61 = .ok (.aload_n 0, 1) := dk_42 (dk_at dksX3_runTo_2 14 rfl rfl)
theorem dX3_runTo_62 : decode cX3_runTo 62 = .ok (.invokevirtual 426, 3) := dk_182 1 170 (dk_at dksX3_runTo_2 15 rfl rfl)
theorem dX3_runTo_65 : decode cX3_runTo 65 = .ok (.ifCond .eq 35, 3) := dk_153 0 35 (dk_at dksX3_runTo_2 18 rfl rfl)
theorem dX3_runTo_68 : decode cX3_runTo 68 = .ok (.aload_n 0, 1) := dk_42 (dk_at dksX3_runTo_2 21 rfl rfl)
theorem dX3_runTo_69 : decode cX3_runTo 69 = .ok (.invokevirtual 429, 3) := dk_182 1 173 (dk_at dksX3_runTo_3 0 rfl rfl)
theorem dX3_runTo_72 : decode cX3_runTo 72 = .ok (.iinc 3 1, 3) := dk_132 3 1 (dk_at dksX3_runTo_3 3 rfl rfl)
theorem dX3_runTo_75 : decode cX3_runTo 75 = .ok (.aload_n 0, 1) := dk_42 (dk_at dksX3_runTo_3 6 rfl rfl)
theorem dX3_runTo_76 : decode cX3_runTo 76 = .ok (.getfield 254, 3) := dk_180 0 254 (dk_at dksX3_runTo_3 7 rfl rfl)
theorem dX3_runTo_79 : decode cX3_runTo 79 = .ok (.iload_n 1, 1) := dk_27 (dk_at dksX3_runTo_3 10 rfl rfl)
theorem dX3_runTo_80 : decode cX3_runTo 80 = .ok (.if_icmp .ne 14, 3) := dk_160 0 14 (dk_at dksX3_runTo_3 11 rfl rfl)
theorem dX3_runTo_83 : decode cX3_runTo 83 = .ok (.aload_n 0, 1) := dk_42 (dk_at dksX3_runTo_3 14 rfl rfl)
theorem dX3_runTo_84 : decode cX3_runTo 84 = .ok (.getfield 284, 3) := dk_180 1 28 (dk_at dksX3_runTo_3 15 rfl rfl)
theorem dX3_runTo_87 : decode cX3_runTo 87 = .ok (.ifCond .ne 7, 3) := dk_154 0 7 (dk_at dksX3_runTo_3 18 rfl rfl)
theorem dX3_runTo_90 : decode cX3_runTo 90 = .ok (.iconst 1, 1) := dk_4 (dk_at dksX3_runTo_3 21 rfl rfl)
theorem dX3_runTo_91 : decode cX3_runTo 91 = .ok (.goto 4, 3) := dk_167 0 4 (dk_at dksX3_runTo_4 0 rfl rfl)
theorem dX3_runTo_94 : decode cX3_runTo 94 = .ok (.iconst 0, 1) := dk_3 (dk_at dksX3_runTo_4 3 rfl rfl)
theorem dX3_runTo_95 : decode cX3_runTo 95 = .ok (.istore 4, 2) := dk_54 4 (dk_at dksX3_runTo_4 4 rfl rfl)
theorem dX3_runTo_97 : decode cX3_runTo 97 = .ok (.goto (-46), 3) := dk_167 255 210 (dk_at dksX3_runTo_4 6 rfl rfl)
theorem dX3_runTo_100 : decode cX3_runTo 100 = .ok (.iload_n 3, 1) := dk_29 (dk_at dksX3_runTo_4 9 rfl rfl)
theorem dX3_runTo_101 : decode cX3_runTo 101 = .ok (.ireturn, 1) := dk_172 (dk_at dksX3_runTo_4 10 rfl rfl)
abbrev cX3_back : ByteArray := prog_28_method_82_code
def yX3_back : MethodName := ⟨RX3, "back", "(I)I"⟩
def dkwX3_back_3 : List UInt8 := [182, 1, 176, 28, 172]
abbrev dktX3_back_3 : List UInt8 := dkwX3_back_3 ++ []
def dkwX3_back_2 : List UInt8 := [42, 180, 1, 164, 61, 42, 180, 0, 235, 28, 100, 62, 42, 89, 180, 1, 164, 28, 100, 181, 1, 164, 42, 29]
abbrev dktX3_back_2 : List UInt8 := dkwX3_back_2 ++ dktX3_back_3
def dkwX3_back_1 : List UInt8 := [167, 0, 4, 5, 182, 0, 152, 154, 0, 5, 3, 172, 27, 42, 180, 1, 164, 162, 0, 7, 27, 167, 0, 7]
abbrev dktX3_back_1 : List UInt8 := dkwX3_back_1 ++ dktX3_back_2
def dkwX3_back_0 : List UInt8 := [42, 27, 4, 17, 0, 200, 184, 0, 147, 154, 0, 7, 4, 167, 0, 15, 42, 182, 1, 157, 153, 0, 7, 3]
abbrev dktX3_back_0 : List UInt8 := dkwX3_back_0 ++ dktX3_back_1
theorem dksX3_back_0 : cX3_back.data.toList.drop 0 = dktX3_back_0 := by decide +kernel
theorem dksX3_back_1 : cX3_back.data.toList.drop 24 = dktX3_back_1 := dk_seg dksX3_back_0 24 rfl rfl
theorem dksX3_back_2 : cX3_back.data.toList.drop 48 = dktX3_back_2 := dk_seg dksX3_back_1 24 rfl rfl
theorem dksX3_back_3 : cX3_back.data.toList.drop 72 = dktX3_back_3 := dk_seg dksX3_back_2 24 rfl rfl
theorem dX3_back_0 : decode cX3_back 0 = .ok (.aload_n 0, 1) := dk_42 (dk_at dksX3_back_0 0 rfl rfl)
theorem dX3_back_1 : decode cX3_back 1 = .ok (.iload_n 1, 1) := dk_27 (dk_at dksX3_back_0 1 rfl rfl)
theorem dX3_back_2 : decode cX3_back 2 = .ok (.iconst 1, 1) := dk_4 (dk_at dksX3_back_0 2 rfl rfl)
theorem dX3_back_3 : decode cX3_back 3 = .ok (.sipush 200, 3) := dk_17 0 200 (dk_at dksX3_back_0 3 rfl rfl)
theorem dX3_back_6 : decode cX3_back 6 = .ok (.invokestatic 147, 3) := dk_184 0 147 (dk_at dksX3_back_0 6 rfl rfl)
theorem dX3_back_9 : decode cX3_back 9 = .ok (.ifCond .ne 7, 3) := dk_154 0 7 (dk_at dksX3_back_0 9 rfl rfl)
theorem dX3_back_12 : decode cX3_back 12 = .ok (.iconst 1, 1) := dk_4 (dk_at dksX3_back_0 12 rfl rfl)
theorem dX3_back_13 : decode cX3_back 13 = .ok (.goto 15, 3) := dk_167 0 15 (dk_at dksX3_back_0 13 rfl rfl)
theorem dX3_back_16 : decode cX3_back 16 = .ok (.aload_n 0, 1) := dk_42 (dk_at dksX3_back_0 16 rfl rfl)
theorem dX3_back_17 : decode cX3_back 17 = .ok (.invokevirtual 413, 3) := dk_182 1 157 (dk_at dksX3_back_0 17 rfl rfl)
theorem dX3_back_20 : decode cX3_back 20 = .ok (.ifCond .eq 7, 3) := dk_153 0 7 (dk_at dksX3_back_0 20 rfl rfl)
theorem dX3_back_23 : decode cX3_back 23 = .ok (.iconst 0, 1) := dk_3 (dk_at dksX3_back_0 23 rfl rfl)
theorem dX3_back_24 : decode cX3_back 24 = .ok (.goto 4, 3) := dk_167 0 4 (dk_at dksX3_back_1 0 rfl rfl)
theorem dX3_back_27 : decode cX3_back 27 = .ok (.iconst 2, 1) := dk_5 (dk_at dksX3_back_1 3 rfl rfl)
theorem dX3_back_28 : decode cX3_back 28 = .ok (.invokevirtual 152, 3) := dk_182 0 152 (dk_at dksX3_back_1 4 rfl rfl)
theorem dX3_back_31 : decode cX3_back 31 = .ok (.ifCond .ne 5, 3) := dk_154 0 5 (dk_at dksX3_back_1 7 rfl rfl)
theorem dX3_back_34 : decode cX3_back 34 = .ok (.iconst 0, 1) := dk_3 (dk_at dksX3_back_1 10 rfl rfl)
theorem dX3_back_35 : decode cX3_back 35 = .ok (.ireturn, 1) := dk_172 (dk_at dksX3_back_1 11 rfl rfl)
theorem dX3_back_36 : decode cX3_back 36 = .ok (.iload_n 1, 1) := dk_27 (dk_at dksX3_back_1 12 rfl rfl)
theorem dX3_back_37 : decode cX3_back 37 = .ok (.aload_n 0, 1) := dk_42 (dk_at dksX3_back_1 13 rfl rfl)
theorem dX3_back_38 : decode cX3_back 38 = .ok (.getfield 420, 3) := dk_180 1 164 (dk_at dksX3_back_1 14 rfl rfl)
theorem dX3_back_41 : decode cX3_back 41 = .ok (.if_icmp .ge 7, 3) := dk_162 0 7 (dk_at dksX3_back_1 17 rfl rfl)
theorem dX3_back_44 : decode cX3_back 44 = .ok (.iload_n 1, 1) := dk_27 (dk_at dksX3_back_1 20 rfl rfl)
theorem dX3_back_45 : decode cX3_back 45 = .ok (.goto 7, 3) := dk_167 0 7 (dk_at dksX3_back_1 21 rfl rfl)
theorem dX3_back_48 : decode cX3_back 48 = .ok (.aload_n 0, 1) := dk_42 (dk_at dksX3_back_2 0 rfl rfl)
theorem dX3_back_49 : decode cX3_back 49 = .ok (.getfield 420, 3) := dk_180 1 164 (dk_at dksX3_back_2 1 rfl rfl)
theorem dX3_back_52 : decode cX3_back 52 = .ok (.istore_n 2, 1) := dk_61 (dk_at dksX3_back_2 4 rfl rfl)
theorem dX3_back_53 : decode cX3_back 53 = .ok (.aload_n 0, 1) := dk_42 (dk_at dksX3_back_2 5 rfl rfl)
theorem dX3_back_54 : decode cX3_back 54 = .ok (.getfield 235, 3) := dk_180 0 235 (dk_at dksX3_back_2 6 rfl rfl)
theorem dX3_back_57 : decode cX3_back 57 = .ok (.iload_n 2, 1) := dk_28 (dk_at dksX3_back_2 9 rfl rfl)
theorem dX3_back_58 : decode cX3_back 58 = .ok (.isub, 1) := dk_100 (dk_at dksX3_back_2 10 rfl rfl)
theorem dX3_back_59 : decode cX3_back 59 = .ok (.istore_n 3, 1) := dk_62 (dk_at dksX3_back_2 11 rfl rfl)
theorem dX3_back_60 : decode cX3_back 60 = .ok (.aload_n 0, 1) := dk_42 (dk_at dksX3_back_2 12 rfl rfl)
theorem dX3_back_61 : decode cX3_back 61 = .ok (.dup, 1) := dk_89 (dk_at dksX3_back_2 13 rfl rfl)
theorem dX3_back_62 : decode cX3_back 62 = .ok (.getfield 420, 3) := dk_180 1 164 (dk_at dksX3_back_2 14 rfl rfl)
theorem dX3_back_65 : decode cX3_back 65 = .ok (.iload_n 2, 1) := dk_28 (dk_at dksX3_back_2 17 rfl rfl)
theorem dX3_back_66 : decode cX3_back 66 = .ok (.isub, 1) := dk_100 (dk_at dksX3_back_2 18 rfl rfl)
theorem dX3_back_67 : decode cX3_back 67 = .ok (.putfield 420, 3) := dk_181 1 164 (dk_at dksX3_back_2 19 rfl rfl)
theorem dX3_back_70 : decode cX3_back 70 = .ok (.aload_n 0, 1) := dk_42 (dk_at dksX3_back_2 22 rfl rfl)
theorem dX3_back_71 : decode cX3_back 71 = .ok (.iload_n 3, 1) := dk_29 (dk_at dksX3_back_2 23 rfl rfl)
theorem dX3_back_72 : decode cX3_back 72 = .ok (.invokevirtual 432, 3) := dk_182 1 176 (dk_at dksX3_back_3 0 rfl rfl)
theorem dX3_back_75 : decode cX3_back 75 = .ok (.iload_n 2, 1) := dk_28 (dk_at dksX3_back_3 3 rfl rfl)
theorem dX3_back_76 : decode cX3_back 76 = .ok (.ireturn, 1) := dk_172 (dk_at dksX3_back_3 4 rfl rfl)
abbrev cX3_makesAnew : ByteArray := prog_28_method_74_code
def yX3_makesAnew : MethodName := ⟨RX3, "makesAnew", "(I)V"⟩
def dkwX3_makesAnew_2 : List UInt8 := [177]
abbrev dktX3_makesAnew_2 : List UInt8 := dkwX3_makesAnew_2 ++ []
def dkwX3_makesAnew_1 : List UInt8 := [182, 1, 150, 42, 182, 1, 81, 3, 61, 28, 27, 162, 0, 13, 42, 182, 1, 154, 132, 2, 1, 167, 255, 244]
abbrev dktX3_makesAnew_1 : List UInt8 := dkwX3_makesAnew_1 ++ dktX3_makesAnew_2
def dkwX3_makesAnew_0 : List UInt8 := [42, 180, 0, 88, 42, 180, 0, 79, 184, 1, 143, 42, 42, 180, 1, 147, 181, 1, 133, 42, 42, 180, 0, 85]
abbrev dktX3_makesAnew_0 : List UInt8 := dkwX3_makesAnew_0 ++ dktX3_makesAnew_1
theorem dksX3_makesAnew_0 : cX3_makesAnew.data.toList.drop 0 = dktX3_makesAnew_0 := by decide +kernel
theorem dksX3_makesAnew_1 : cX3_makesAnew.data.toList.drop 24 = dktX3_makesAnew_1 := dk_seg dksX3_makesAnew_0 24 rfl rfl
theorem dksX3_makesAnew_2 : cX3_makesAnew.data.toList.drop 48 = dktX3_makesAnew_2 := dk_seg dksX3_makesAnew_1 24 rfl rfl
theorem dX3_makesAnew_0 : decode cX3_makesAnew 0 = .ok (.aload_n 0, 1) := dk_42 (dk_at dksX3_makesAnew_0 0 rfl rfl)
theorem dX3_makesAnew_1 : decode cX3_makesAnew 1 = .ok (.getfield 88, 3) := dk_180 0 88 (dk_at dksX3_makesAnew_0 1 rfl rfl)
theorem dX3_makesAnew_4 : decode cX3_makesAnew 4 = .ok (.aload_n 0, 1) := dk_42 (dk_at dksX3_makesAnew_0 4 rfl rfl)
theorem dX3_makesAnew_5 : decode cX3_makesAnew 5 = .ok (.getfield 79, 3) := dk_180 0 79 (dk_at dksX3_makesAnew_0 5 rfl rfl)
theorem dX3_makesAnew_8 : decode cX3_makesAnew 8 = .ok (.invokestatic 399, 3) := dk_184 1 143 (dk_at dksX3_makesAnew_0 8 rfl rfl)
theorem dX3_makesAnew_11 : decode cX3_makesAnew 11 = .ok (.aload_n 0, 1) := dk_42 (dk_at dksX3_makesAnew_0 11 rfl rfl)
theorem dX3_makesAnew_12 : decode cX3_makesAnew 12 = .ok (.aload_n 0, 1) := dk_42 (dk_at dksX3_makesAnew_0 12 rfl rfl)
theorem dX3_makesAnew_13 : decode cX3_makesAnew 13 = .ok (.getfield 403, 3) := dk_180 1 147 (dk_at dksX3_makesAnew_0 13 rfl rfl)
theorem dX3_makesAnew_16 : decode cX3_makesAnew 16 = .ok (.putfield 389, 3) := dk_181 1 133 (dk_at dksX3_makesAnew_0 16 rfl rfl)
theorem dX3_makesAnew_19 : decode cX3_makesAnew 19 = .ok (.aload_n 0, 1) := dk_42 (dk_at dksX3_makesAnew_0 19 rfl rfl)
theorem dX3_makesAnew_20 : decode cX3_makesAnew 20 = .ok (.aload_n 0, 1) := dk_42 (dk_at dksX3_makesAnew_0 20 rfl rfl)
theorem dX3_makesAnew_21 : decode cX3_makesAnew 21 = .ok (.getfield 85, 3) := dk_180 0 85 (dk_at dksX3_makesAnew_0 21 rfl rfl)
theorem dX3_makesAnew_24 : decode cX3_makesAnew 24 = .ok (.invokevirtual 406, 3) := dk_182 1 150 (dk_at dksX3_makesAnew_1 0 rfl rfl)
theorem dX3_makesAnew_27 : decode cX3_makesAnew 27 = .ok (.aload_n 0, 1) := dk_42 (dk_at dksX3_makesAnew_1 3 rfl rfl)
theorem dX3_makesAnew_28 : decode cX3_makesAnew 28 = .ok (.invokevirtual 337, 3) := dk_182 1 81 (dk_at dksX3_makesAnew_1 4 rfl rfl)
theorem dX3_makesAnew_31 : decode cX3_makesAnew 31 = .ok (.iconst 0, 1) := dk_3 (dk_at dksX3_makesAnew_1 7 rfl rfl)
theorem dX3_makesAnew_32 : decode cX3_makesAnew 32 = .ok (.istore_n 2, 1) := dk_61 (dk_at dksX3_makesAnew_1 8 rfl rfl)
theorem dX3_makesAnew_33 : decode cX3_makesAnew 33 = .ok (.iload_n 2, 1) := dk_28 (dk_at dksX3_makesAnew_1 9 rfl rfl)
theorem dX3_makesAnew_34 : decode cX3_makesAnew 34 = .ok (.iload_n 1, 1) := dk_27 (dk_at dksX3_makesAnew_1 10 rfl rfl)
theorem dX3_makesAnew_35 : decode cX3_makesAnew 35 = .ok (.if_icmp .ge 13, 3) := dk_162 0 13 (dk_at dksX3_makesAnew_1 11 rfl rfl)
theorem dX3_makesAnew_38 : decode cX3_makesAnew 38 = .ok (.aload_n 0, 1) := dk_42 (dk_at dksX3_makesAnew_1 14 rfl rfl)
theorem dX3_makesAnew_39 : decode cX3_makesAnew 39 = .ok (.invokevirtual 410, 3) := dk_182 1 154 (dk_at dksX3_makesAnew_1 15 rfl rfl)
theorem dX3_makesAnew_42 : decode cX3_makesAnew 42 = .ok (.iinc 2 1, 3) := dk_132 2 1 (dk_at dksX3_makesAnew_1 18 rfl rfl)
theorem dX3_makesAnew_45 : decode cX3_makesAnew 45 = .ok (.goto (-12), 3) := dk_167 255 244 (dk_at dksX3_makesAnew_1 21 rfl rfl)
theorem dX3_makesAnew_48 : decode cX3_makesAnew 48 = .ok (.return_, 1) := dk_177 (dk_at dksX3_makesAnew_2 0 rfl rfl)
abbrev cX3_press : ByteArray := prog_28_method_83_code
def yX3_press : MethodName := ⟨RX3, "press", "(I)I"⟩
def dkwX3_press_5 : List UInt8 := [27, 79, 42, 89, 180, 1, 31, 4, 96, 181, 1, 31, 42, 4, 181, 1, 13, 42, 180, 1, 31, 172]
abbrev dktX3_press_5 : List UInt8 := dkwX3_press_5 ++ []
def dkwX3_press_4 : List UInt8 := [100, 46, 79, 132, 2, 255, 167, 255, 206, 42, 180, 0, 61, 28, 42, 180, 0, 235, 79, 42, 180, 0, 64, 28]
abbrev dktX3_press_4 : List UInt8 := dkwX3_press_4 ++ dktX3_press_5
def dkwX3_press_3 : List UInt8 := [180, 0, 61, 28, 42, 180, 0, 61, 28, 4, 100, 46, 79, 42, 180, 0, 64, 28, 42, 180, 0, 64, 28, 4]
abbrev dktX3_press_3 : List UInt8 := dkwX3_press_3 ++ dktX3_press_4
def dkwX3_press_2 : List UInt8 := [180, 1, 31, 61, 28, 158, 0, 52, 42, 180, 0, 61, 28, 4, 100, 46, 42, 180, 0, 235, 164, 0, 37, 42]
abbrev dktX3_press_2 : List UInt8 := dkwX3_press_2 ++ dktX3_press_3
def dkwX3_press_1 : List UInt8 := [180, 1, 31, 16, 20, 160, 0, 7, 5, 167, 0, 4, 3, 182, 0, 152, 154, 0, 5, 3, 172, 42]
abbrev dktX3_press_1 : List UInt8 := dkwX3_press_1 ++ dktX3_press_2
def dkwX3_press_0 : List UInt8 := [42, 27, 3, 18, 151, 184, 0, 147, 154, 0, 7, 4, 167, 0, 25, 42, 180, 0, 232, 4, 160, 0, 12, 42]
abbrev dktX3_press_0 : List UInt8 := dkwX3_press_0 ++ dktX3_press_1
theorem dksX3_press_0 : cX3_press.data.toList.drop 0 = dktX3_press_0 := by decide +kernel
theorem dksX3_press_1 : cX3_press.data.toList.drop 24 = dktX3_press_1 := dk_seg dksX3_press_0 24 rfl rfl
theorem dksX3_press_2 : cX3_press.data.toList.drop 46 = dktX3_press_2 := dk_seg dksX3_press_1 22 rfl rfl
theorem dksX3_press_3 : cX3_press.data.toList.drop 70 = dktX3_press_3 := dk_seg dksX3_press_2 24 rfl rfl
theorem dksX3_press_4 : cX3_press.data.toList.drop 94 = dktX3_press_4 := dk_seg dksX3_press_3 24 rfl rfl
theorem dksX3_press_5 : cX3_press.data.toList.drop 118 = dktX3_press_5 := dk_seg dksX3_press_4 24 rfl rfl
theorem dX3_press_0 : decode cX3_press 0 = .ok (.aload_n 0, 1) := dk_42 (dk_at dksX3_press_0 0 rfl rfl)
theorem dX3_press_1 : decode cX3_press 1 = .ok (.iload_n 1, 1) := dk_27 (dk_at dksX3_press_0 1 rfl rfl)
theorem dX3_press_2 : decode cX3_press 2 = .ok (.iconst 0, 1) := dk_3 (dk_at dksX3_press_0 2 rfl rfl)
theorem dX3_press_3 : decode cX3_press 3 = .ok (.ldc 151, 2) := dk_18 151 (dk_at dksX3_press_0 3 rfl rfl)
theorem dX3_press_5 : decode cX3_press 5 = .ok (.invokestatic 147, 3) := dk_184 0 147 (dk_at dksX3_press_0 5 rfl rfl)
theorem dX3_press_8 : decode cX3_press 8 = .ok (.ifCond .ne 7, 3) := dk_154 0 7 (dk_at dksX3_press_0 8 rfl rfl)
theorem dX3_press_11 : decode cX3_press 11 = .ok (.iconst 1, 1) := dk_4 (dk_at dksX3_press_0 11 rfl rfl)
theorem dX3_press_12 : decode cX3_press 12 = .ok (.goto 25, 3) := dk_167 0 25 (dk_at dksX3_press_0 12 rfl rfl)
theorem dX3_press_15 : decode cX3_press 15 = .ok (.aload_n 0, 1) := dk_42 (dk_at dksX3_press_0 15 rfl rfl)
theorem dX3_press_16 : decode cX3_press 16 = .ok (.getfield 232, 3) := dk_180 0 232 (dk_at dksX3_press_0 16 rfl rfl)
theorem dX3_press_19 : decode cX3_press 19 = .ok (.iconst 1, 1) := dk_4 (dk_at dksX3_press_0 19 rfl rfl)
theorem dX3_press_20 : decode cX3_press 20 = .ok (.if_icmp .ne 12, 3) := dk_160 0 12 (dk_at dksX3_press_0 20 rfl rfl)
theorem dX3_press_23 : decode cX3_press 23 = .ok (.aload_n 0, 1) := dk_42 (dk_at dksX3_press_0 23 rfl rfl)
theorem dX3_press_24 : decode cX3_press 24 = .ok (.getfield 287, 3) := dk_180 1 31 (dk_at dksX3_press_1 0 rfl rfl)
theorem dX3_press_27 : decode cX3_press 27 = .ok (.bipush 20, 2) := dk_16 20 (dk_at dksX3_press_1 3 rfl rfl)
theorem dX3_press_29 : decode cX3_press 29 = .ok (.if_icmp .ne 7, 3) := dk_160 0 7 (dk_at dksX3_press_1 5 rfl rfl)
theorem dX3_press_32 : decode cX3_press 32 = .ok (.iconst 2, 1) := dk_5 (dk_at dksX3_press_1 8 rfl rfl)
theorem dX3_press_33 : decode cX3_press 33 = .ok (.goto 4, 3) := dk_167 0 4 (dk_at dksX3_press_1 9 rfl rfl)
theorem dX3_press_36 : decode cX3_press 36 = .ok (.iconst 0, 1) := dk_3 (dk_at dksX3_press_1 12 rfl rfl)
theorem dX3_press_37 : decode cX3_press 37 = .ok (.invokevirtual 152, 3) := dk_182 0 152 (dk_at dksX3_press_1 13 rfl rfl)
theorem dX3_press_40 : decode cX3_press 40 = .ok (.ifCond .ne 5, 3) := dk_154 0 5 (dk_at dksX3_press_1 16 rfl rfl)
theorem dX3_press_43 : decode cX3_press 43 = .ok (.iconst 0, 1) := dk_3 (dk_at dksX3_press_1 19 rfl rfl)
theorem dX3_press_44 : decode cX3_press 44 = .ok (.ireturn, 1) := dk_172 (dk_at dksX3_press_1 20 rfl rfl)
theorem dX3_press_45 : decode cX3_press 45 = .ok (.aload_n 0, 1) := dk_42 (dk_at dksX3_press_1 21 rfl rfl)
theorem dX3_press_46 : decode cX3_press 46 = .ok (.getfield 287, 3) := dk_180 1 31 (dk_at dksX3_press_2 0 rfl rfl)
theorem dX3_press_49 : decode cX3_press 49 = .ok (.istore_n 2, 1) := dk_61 (dk_at dksX3_press_2 3 rfl rfl)
theorem dX3_press_50 : decode cX3_press 50 = .ok (.iload_n 2, 1) := dk_28 (dk_at dksX3_press_2 4 rfl rfl)
theorem dX3_press_51 : decode cX3_press 51 = .ok (.ifCond .le 52, 3) := dk_158 0 52 (dk_at dksX3_press_2 5 rfl rfl)
theorem dX3_press_54 : decode cX3_press 54 = .ok (.aload_n 0, 1) := dk_42 (dk_at dksX3_press_2 8 rfl rfl)
theorem dX3_press_55 : decode cX3_press 55 = .ok (.getfield 61, 3) := dk_180 0 61 (dk_at dksX3_press_2 9 rfl rfl)
theorem dX3_press_58 : decode cX3_press 58 = .ok (.iload_n 2, 1) := dk_28 (dk_at dksX3_press_2 12 rfl rfl)
theorem dX3_press_59 : decode cX3_press 59 = .ok (.iconst 1, 1) := dk_4 (dk_at dksX3_press_2 13 rfl rfl)
theorem dX3_press_60 : decode cX3_press 60 = .ok (.isub, 1) := dk_100 (dk_at dksX3_press_2 14 rfl rfl)
theorem dX3_press_61 : decode cX3_press 61 = .ok (.iaload, 1) := dk_46 (dk_at dksX3_press_2 15 rfl rfl)
theorem dX3_press_62 : decode cX3_press 62 = .ok (.aload_n 0, 1) := dk_42 (dk_at dksX3_press_2 16 rfl rfl)
theorem dX3_press_63 : decode cX3_press 63 = .ok (.getfield 235, 3) := dk_180 0 235 (dk_at dksX3_press_2 17 rfl rfl)
theorem dX3_press_66 : decode cX3_press 66 = .ok (.if_icmp .le 37, 3) := dk_164 0 37 (dk_at dksX3_press_2 20 rfl rfl)
theorem dX3_press_69 : decode cX3_press 69 = .ok (.aload_n 0, 1) := dk_42 (dk_at dksX3_press_2 23 rfl rfl)
theorem dX3_press_70 : decode cX3_press 70 = .ok (.getfield 61, 3) := dk_180 0 61 (dk_at dksX3_press_3 0 rfl rfl)
theorem dX3_press_73 : decode cX3_press 73 = .ok (.iload_n 2, 1) := dk_28 (dk_at dksX3_press_3 3 rfl rfl)
theorem dX3_press_74 : decode cX3_press 74 = .ok (.aload_n 0, 1) := dk_42 (dk_at dksX3_press_3 4 rfl rfl)
theorem dX3_press_75 : decode cX3_press 75 = .ok (.getfield 61, 3) := dk_180 0 61 (dk_at dksX3_press_3 5 rfl rfl)
theorem dX3_press_78 : decode cX3_press 78 = .ok (.iload_n 2, 1) := dk_28 (dk_at dksX3_press_3 8 rfl rfl)
theorem dX3_press_79 : decode cX3_press 79 = .ok (.iconst 1, 1) := dk_4 (dk_at dksX3_press_3 9 rfl rfl)
theorem dX3_press_80 : decode cX3_press 80 = .ok (.isub, 1) := dk_100 (dk_at dksX3_press_3 10 rfl rfl)
theorem dX3_press_81 : decode cX3_press 81 = .ok (.iaload, 1) := dk_46 (dk_at dksX3_press_3 11 rfl rfl)
theorem dX3_press_82 : decode cX3_press 82 = .ok (.iastore, 1) := dk_79 (dk_at dksX3_press_3 12 rfl rfl)
theorem dX3_press_83 : decode cX3_press 83 = .ok (.aload_n 0, 1) := dk_42 (dk_at dksX3_press_3 13 rfl rfl)
theorem dX3_press_84 : decode cX3_press 84 = .ok (.getfield 64, 3) := dk_180 0 64 (dk_at dksX3_press_3 14 rfl rfl)
theorem dX3_press_87 : decode cX3_press 87 = .ok (.iload_n 2, 1) := dk_28 (dk_at dksX3_press_3 17 rfl rfl)
theorem dX3_press_88 : decode cX3_press 88 = .ok (.aload_n 0, 1) := dk_42 (dk_at dksX3_press_3 18 rfl rfl)
theorem dX3_press_89 : decode cX3_press 89 = .ok (.getfield 64, 3) := dk_180 0 64 (dk_at dksX3_press_3 19 rfl rfl)
theorem dX3_press_92 : decode cX3_press 92 = .ok (.iload_n 2, 1) := dk_28 (dk_at dksX3_press_3 22 rfl rfl)
theorem dX3_press_93 : decode cX3_press 93 = .ok (.iconst 1, 1) := dk_4 (dk_at dksX3_press_3 23 rfl rfl)
theorem dX3_press_94 : decode cX3_press 94 = .ok (.isub, 1) := dk_100 (dk_at dksX3_press_4 0 rfl rfl)
theorem dX3_press_95 : decode cX3_press 95 = .ok (.iaload, 1) := dk_46 (dk_at dksX3_press_4 1 rfl rfl)
theorem dX3_press_96 : decode cX3_press 96 = .ok (.iastore, 1) := dk_79 (dk_at dksX3_press_4 2 rfl rfl)
theorem dX3_press_97 : decode cX3_press 97 = .ok (.iinc 2 (-1), 3) := dk_132 2 255 (dk_at dksX3_press_4 3 rfl rfl)
theorem dX3_press_100 : decode cX3_press 100 = .ok (.goto (-50), 3) := dk_167 255 206 (dk_at dksX3_press_4 6 rfl rfl)
theorem dX3_press_103 : decode cX3_press 103 = .ok (.aload_n 0, 1) := dk_42 (dk_at dksX3_press_4 9 rfl rfl)
theorem dX3_press_104 : decode cX3_press 104 = .ok (.getfield 61, 3) := dk_180 0 61 (dk_at dksX3_press_4 10 rfl rfl)
theorem dX3_press_107 : decode cX3_press 107 = .ok (.iload_n 2, 1) := dk_28 (dk_at dksX3_press_4 13 rfl rfl)
theorem dX3_press_108 : decode cX3_press 108 = .ok (.aload_n 0, 1) := dk_42 (dk_at dksX3_press_4 14 rfl rfl)
theorem dX3_press_109 : decode cX3_press 109 = .ok (.getfield 235, 3) := dk_180 0 235 (dk_at dksX3_press_4 15 rfl rfl)
theorem dX3_press_112 : decode cX3_press 112 = .ok (.iastore, 1) := dk_79 (dk_at dksX3_press_4 18 rfl rfl)
theorem dX3_press_113 : decode cX3_press 113 = .ok (.aload_n 0, 1) := dk_42 (dk_at dksX3_press_4 19 rfl rfl)
theorem dX3_press_114 : decode cX3_press 114 = .ok (.getfield 64, 3) := dk_180 0 64 (dk_at dksX3_press_4 20 rfl rfl)
theorem dX3_press_117 : decode cX3_press 117 = .ok (.iload_n 2, 1) := dk_28 (dk_at dksX3_press_4 23 rfl rfl)
theorem dX3_press_118 : decode cX3_press 118 = .ok (.iload_n 1, 1) := dk_27 (dk_at dksX3_press_5 0 rfl rfl)
theorem dX3_press_119 : decode cX3_press 119 = .ok (.iastore, 1) := dk_79 (dk_at dksX3_press_5 1 rfl rfl)
theorem dX3_press_120 : decode cX3_press 120 = .ok (.aload_n 0, 1) := dk_42 (dk_at dksX3_press_5 2 rfl rfl)
theorem dX3_press_121 : decode cX3_press 121 = .ok (.dup, 1) := dk_89 (dk_at dksX3_press_5 3 rfl rfl)
theorem dX3_press_122 : decode cX3_press 122 = .ok (.getfield 287, 3) := dk_180 1 31 (dk_at dksX3_press_5 4 rfl rfl)
theorem dX3_press_125 : decode cX3_press 125 = .ok (.iconst 1, 1) := dk_4 (dk_at dksX3_press_5 7 rfl rfl)
theorem dX3_press_126 : decode cX3_press 126 = .ok (.iadd, 1) := dk_96 (dk_at dksX3_press_5 8 rfl rfl)
theorem dX3_press_127 : decode cX3_press 127 = .ok (.putfield 287, 3) := dk_181 1 31 (dk_at dksX3_press_5 9 rfl rfl)
theorem dX3_press_130 : decode cX3_press 130 = .ok (.aload_n 0, 1) := dk_42 (dk_at dksX3_press_5 12 rfl rfl)
theorem dX3_press_131 : decode cX3_press 131 = .ok (.iconst 1, 1) := dk_4 (dk_at dksX3_press_5 13 rfl rfl)
theorem dX3_press_132 : decode cX3_press 132 = .ok (.putfield 269, 3) := dk_181 1 13 (dk_at dksX3_press_5 14 rfl rfl)
theorem dX3_press_135 : decode cX3_press 135 = .ok (.aload_n 0, 1) := dk_42 (dk_at dksX3_press_5 17 rfl rfl)
theorem dX3_press_136 : decode cX3_press 136 = .ok (.getfield 287, 3) := dk_180 1 31 (dk_at dksX3_press_5 18 rfl rfl)
theorem dX3_press_139 : decode cX3_press 139 = .ok (.ireturn, 1) := dk_172 (dk_at dksX3_press_5 21 rfl rfl)
abbrev cX3_state : ByteArray := prog_28_method_84_code
def yX3_state : MethodName := ⟨RX3, "state", "()I"⟩
def dkwX3_state_0 : List UInt8 := [42, 3, 181, 0, 140, 42, 180, 0, 232, 172]
abbrev dktX3_state_0 : List UInt8 := dkwX3_state_0 ++ []
theorem dksX3_state_0 : cX3_state.data.toList.drop 0 = dktX3_state_0 := by decide +kernel
theorem dX3_state_0 : decode cX3_state 0 = .ok (.aload_n 0, 1) := dk_42 (dk_at dksX3_state_0 0 rfl rfl)
theorem dX3_state_1 : decode cX3_state 1 = .ok (.iconst 0, 1) := dk_3 (dk_at dksX3_state_0 1 rfl rfl)
theorem dX3_state_2 : decode cX3_state 2 = .ok (.putfield 140, 3) := dk_181 0 140 (dk_at dksX3_state_0 2 rfl rfl)
theorem dX3_state_5 : decode cX3_state 5 = .ok (.aload_n 0, 1) := dk_42 (dk_at dksX3_state_0 5 rfl rfl)
theorem dX3_state_6 : decode cX3_state 6 = .ok (.getfield 232, 3) := dk_180 0 232 (dk_at dksX3_state_0 6 rfl rfl)
theorem dX3_state_9 : decode cX3_state 9 = .ok (.ireturn, 1) := dk_172 (dk_at dksX3_state_0 9 rfl rfl)
abbrev cX3_fault : ByteArray := prog_28_method_85_code
def yX3_fault : MethodName := ⟨RX3, "fault", "()I"⟩
def dkwX3_fault_0 : List UInt8 := [42, 3, 181, 0, 140, 42, 180, 0, 248, 172]
abbrev dktX3_fault_0 : List UInt8 := dkwX3_fault_0 ++ []
theorem dksX3_fault_0 : cX3_fault.data.toList.drop 0 = dktX3_fault_0 := by decide +kernel
theorem dX3_fault_0 : decode cX3_fault 0 = .ok (.aload_n 0, 1) := dk_42 (dk_at dksX3_fault_0 0 rfl rfl)
theorem dX3_fault_1 : decode cX3_fault 1 = .ok (.iconst 0, 1) := dk_3 (dk_at dksX3_fault_0 1 rfl rfl)
theorem dX3_fault_2 : decode cX3_fault 2 = .ok (.putfield 140, 3) := dk_181 0 140 (dk_at dksX3_fault_0 2 rfl rfl)
theorem dX3_fault_5 : decode cX3_fault 5 = .ok (.aload_n 0, 1) := dk_42 (dk_at dksX3_fault_0 5 rfl rfl)
theorem dX3_fault_6 : decode cX3_fault 6 = .ok (.getfield 248, 3) := dk_180 0 248 (dk_at dksX3_fault_0 6 rfl rfl)
theorem dX3_fault_9 : decode cX3_fault 9 = .ok (.ireturn, 1) := dk_172 (dk_at dksX3_fault_0 9 rfl rfl)
abbrev cX3_steps : ByteArray := prog_28_method_86_code
def yX3_steps : MethodName := ⟨RX3, "steps", "()I"⟩
def dkwX3_steps_0 : List UInt8 := [42, 3, 181, 0, 140, 42, 180, 0, 235, 172]
abbrev dktX3_steps_0 : List UInt8 := dkwX3_steps_0 ++ []
theorem dksX3_steps_0 : cX3_steps.data.toList.drop 0 = dktX3_steps_0 := by decide +kernel
theorem dX3_steps_0 : decode cX3_steps 0 = .ok (.aload_n 0, 1) := dk_42 (dk_at dksX3_steps_0 0 rfl rfl)
theorem dX3_steps_1 : decode cX3_steps 1 = .ok (.iconst 0, 1) := dk_3 (dk_at dksX3_steps_0 1 rfl rfl)
theorem dX3_steps_2 : decode cX3_steps 2 = .ok (.putfield 140, 3) := dk_181 0 140 (dk_at dksX3_steps_0 2 rfl rfl)
theorem dX3_steps_5 : decode cX3_steps 5 = .ok (.aload_n 0, 1) := dk_42 (dk_at dksX3_steps_0 5 rfl rfl)
theorem dX3_steps_6 : decode cX3_steps 6 = .ok (.getfield 235, 3) := dk_180 0 235 (dk_at dksX3_steps_0 6 rfl rfl)
theorem dX3_steps_9 : decode cX3_steps 9 = .ok (.ireturn, 1) := dk_172 (dk_at dksX3_steps_0 9 rfl rfl)
abbrev cX3_kept : ByteArray := prog_28_method_87_code
def yX3_kept : MethodName := ⟨RX3, "kept", "()I"⟩
def dkwX3_kept_0 : List UInt8 := [42, 3, 181, 0, 140, 42, 180, 1, 164, 172]
abbrev dktX3_kept_0 : List UInt8 := dkwX3_kept_0 ++ []
theorem dksX3_kept_0 : cX3_kept.data.toList.drop 0 = dktX3_kept_0 := by decide +kernel
theorem dX3_kept_0 : decode cX3_kept 0 = .ok (.aload_n 0, 1) := dk_42 (dk_at dksX3_kept_0 0 rfl rfl)
theorem dX3_kept_1 : decode cX3_kept 1 = .ok (.iconst 0, 1) := dk_3 (dk_at dksX3_kept_0 1 rfl rfl)
theorem dX3_kept_2 : decode cX3_kept 2 = .ok (.putfield 140, 3) := dk_181 0 140 (dk_at dksX3_kept_0 2 rfl rfl)
theorem dX3_kept_5 : decode cX3_kept 5 = .ok (.aload_n 0, 1) := dk_42 (dk_at dksX3_kept_0 5 rfl rfl)
theorem dX3_kept_6 : decode cX3_kept 6 = .ok (.getfield 420, 3) := dk_180 1 164 (dk_at dksX3_kept_0 6 rfl rfl)
theorem dX3_kept_9 : decode cX3_kept 9 = .ok (.ireturn, 1) := dk_172 (dk_at dksX3_kept_0 9 rfl rfl)
abbrev cX3_counter : ByteArray := prog_28_method_88_code
def yX3_counter : MethodName := ⟨RX3, "counter", "()I"⟩
def dkwX3_counter_0 : List UInt8 := [42, 3, 181, 0, 140, 42, 180, 0, 254, 172]
abbrev dktX3_counter_0 : List UInt8 := dkwX3_counter_0 ++ []
theorem dksX3_counter_0 : cX3_counter.data.toList.drop 0 = dktX3_counter_0 := by decide +kernel
theorem dX3_counter_0 : decode cX3_counter 0 = .ok (.aload_n 0, 1) := dk_42 (dk_at dksX3_counter_0 0 rfl rfl)
theorem dX3_counter_1 : decode cX3_counter 1 = .ok (.iconst 0, 1) := dk_3 (dk_at dksX3_counter_0 1 rfl rfl)
theorem dX3_counter_2 : decode cX3_counter 2 = .ok (.putfield 140, 3) := dk_181 0 140 (dk_at dksX3_counter_0 2 rfl rfl)
theorem dX3_counter_5 : decode cX3_counter 5 = .ok (.aload_n 0, 1) := dk_42 (dk_at dksX3_counter_0 5 rfl rfl)
theorem dX3_counter_6 : decode cX3_counter 6 = .ok (.getfield 254, 3) := dk_180 0 254 (dk_at dksX3_counter_0 6 rfl rfl)
theorem dX3_counter_9 : decode cX3_counter 9 = .ok (.ireturn, 1) := dk_172 (dk_at dksX3_counter_0 9 rfl rfl)
abbrev cX3_stack : ByteArray := prog_28_method_89_code
def yX3_stack : MethodName := ⟨RX3, "stack", "()I"⟩
def dkwX3_stack_0 : List UInt8 := [42, 3, 181, 0, 140, 42, 180, 0, 241, 172]
abbrev dktX3_stack_0 : List UInt8 := dkwX3_stack_0 ++ []
theorem dksX3_stack_0 : cX3_stack.data.toList.drop 0 = dktX3_stack_0 := by decide +kernel
theorem dX3_stack_0 : decode cX3_stack 0 = .ok (.aload_n 0, 1) := dk_42 (dk_at dksX3_stack_0 0 rfl rfl)
theorem dX3_stack_1 : decode cX3_stack 1 = .ok (.iconst 0, 1) := dk_3 (dk_at dksX3_stack_0 1 rfl rfl)
theorem dX3_stack_2 : decode cX3_stack 2 = .ok (.putfield 140, 3) := dk_181 0 140 (dk_at dksX3_stack_0 2 rfl rfl)
theorem dX3_stack_5 : decode cX3_stack 5 = .ok (.aload_n 0, 1) := dk_42 (dk_at dksX3_stack_0 5 rfl rfl)
theorem dX3_stack_6 : decode cX3_stack 6 = .ok (.getfield 241, 3) := dk_180 0 241 (dk_at dksX3_stack_0 6 rfl rfl)
theorem dX3_stack_9 : decode cX3_stack 9 = .ok (.ireturn, 1) := dk_172 (dk_at dksX3_stack_0 9 rfl rfl)
abbrev cX3_flags : ByteArray := prog_28_method_91_code
def yX3_flags : MethodName := ⟨RX3, "flags", "()I"⟩
def dkwX3_flags_0 : List UInt8 := [42, 3, 181, 0, 140, 42, 182, 1, 179, 172]
abbrev dktX3_flags_0 : List UInt8 := dkwX3_flags_0 ++ []
theorem dksX3_flags_0 : cX3_flags.data.toList.drop 0 = dktX3_flags_0 := by decide +kernel
theorem dX3_flags_0 : decode cX3_flags 0 = .ok (.aload_n 0, 1) := dk_42 (dk_at dksX3_flags_0 0 rfl rfl)
theorem dX3_flags_1 : decode cX3_flags 1 = .ok (.iconst 0, 1) := dk_3 (dk_at dksX3_flags_0 1 rfl rfl)
theorem dX3_flags_2 : decode cX3_flags 2 = .ok (.putfield 140, 3) := dk_181 0 140 (dk_at dksX3_flags_0 2 rfl rfl)
theorem dX3_flags_5 : decode cX3_flags 5 = .ok (.aload_n 0, 1) := dk_42 (dk_at dksX3_flags_0 5 rfl rfl)
theorem dX3_flags_6 : decode cX3_flags 6 = .ok (.invokevirtual 435, 3) := dk_182 1 179 (dk_at dksX3_flags_0 6 rfl rfl)
theorem dX3_flags_9 : decode cX3_flags 9 = .ok (.ireturn, 1) := dk_172 (dk_at dksX3_flags_0 9 rfl rfl)
abbrev cX3_flagsOf : ByteArray := prog_28_method_90_code
def yX3_flagsOf : MethodName := ⟨RX3, "flagsOf", "()I"⟩
def dkwX3_flagsOf_2 : List UInt8 := [167, 0, 4, 3, 96, 42, 180, 1, 13, 153, 0, 8, 16, 16, 167, 0, 4, 3, 96, 172]
abbrev dktX3_flagsOf_2 : List UInt8 := dkwX3_flagsOf_2 ++ []
def dkwX3_flagsOf_1 : List UInt8 := [96, 42, 180, 1, 7, 153, 0, 7, 7, 167, 0, 4, 3, 96, 42, 180, 1, 10, 153, 0, 8, 16, 8]
abbrev dktX3_flagsOf_1 : List UInt8 := dkwX3_flagsOf_1 ++ dktX3_flagsOf_2
def dkwX3_flagsOf_0 : List UInt8 := [42, 180, 1, 1, 153, 0, 7, 4, 167, 0, 4, 3, 42, 180, 1, 4, 153, 0, 7, 5, 167, 0, 4, 3]
abbrev dktX3_flagsOf_0 : List UInt8 := dkwX3_flagsOf_0 ++ dktX3_flagsOf_1
theorem dksX3_flagsOf_0 : cX3_flagsOf.data.toList.drop 0 = dktX3_flagsOf_0 := by decide +kernel
theorem dksX3_flagsOf_1 : cX3_flagsOf.data.toList.drop 24 = dktX3_flagsOf_1 := dk_seg dksX3_flagsOf_0 24 rfl rfl
theorem dksX3_flagsOf_2 : cX3_flagsOf.data.toList.drop 47 = dktX3_flagsOf_2 := dk_seg dksX3_flagsOf_1 23 rfl rfl
theorem dX3_flagsOf_0 : decode cX3_flagsOf 0 = .ok (.aload_n 0, 1) := dk_42 (dk_at dksX3_flagsOf_0 0 rfl rfl)
theorem dX3_flagsOf_1 : decode cX3_flagsOf 1 = .ok (.getfield 257, 3) := dk_180 1 1 (dk_at dksX3_flagsOf_0 1 rfl rfl)
theorem dX3_flagsOf_4 : decode cX3_flagsOf 4 = .ok (.ifCond .eq 7, 3) := dk_153 0 7 (dk_at dksX3_flagsOf_0 4 rfl rfl)
theorem dX3_flagsOf_7 : decode cX3_flagsOf 7 = .ok (.iconst 1, 1) := dk_4 (dk_at dksX3_flagsOf_0 7 rfl rfl)
theorem dX3_flagsOf_8 : decode cX3_flagsOf 8 = .ok (.goto 4, 3) := dk_167 0 4 (dk_at dksX3_flagsOf_0 8 rfl rfl)
theorem dX3_flagsOf_11 : decode cX3_flagsOf 11 = .ok (.iconst 0, 1) := dk_3 (dk_at dksX3_flagsOf_0 11 rfl rfl)
theorem dX3_flagsOf_12 : decode cX3_flagsOf 12 = .ok (.aload_n 0, 1) := dk_42 (dk_at dksX3_flagsOf_0 12 rfl rfl)
theorem dX3_flagsOf_13 : decode cX3_flagsOf 13 = .ok (.getfield 260, 3) := dk_180 1 4 (dk_at dksX3_flagsOf_0 13 rfl rfl)
theorem dX3_flagsOf_16 : decode cX3_flagsOf 16 = .ok (.ifCond .eq 7, 3) := dk_153 0 7 (dk_at dksX3_flagsOf_0 16 rfl rfl)
theorem dX3_flagsOf_19 : decode cX3_flagsOf 19 = .ok (.iconst 2, 1) := dk_5 (dk_at dksX3_flagsOf_0 19 rfl rfl)
theorem dX3_flagsOf_20 : decode cX3_flagsOf 20 = .ok (.goto 4, 3) := dk_167 0 4 (dk_at dksX3_flagsOf_0 20 rfl rfl)
theorem dX3_flagsOf_23 : decode cX3_flagsOf 23 = .ok (.iconst 0, 1) := dk_3 (dk_at dksX3_flagsOf_0 23 rfl rfl)
theorem dX3_flagsOf_24 : decode cX3_flagsOf 24 = .ok (.iadd, 1) := dk_96 (dk_at dksX3_flagsOf_1 0 rfl rfl)
theorem dX3_flagsOf_25 : decode cX3_flagsOf 25 = .ok (.aload_n 0, 1) := dk_42 (dk_at dksX3_flagsOf_1 1 rfl rfl)
theorem dX3_flagsOf_26 : decode cX3_flagsOf 26 = .ok (.getfield 263, 3) := dk_180 1 7 (dk_at dksX3_flagsOf_1 2 rfl rfl)
theorem dX3_flagsOf_29 : decode cX3_flagsOf 29 = .ok (.ifCond .eq 7, 3) := dk_153 0 7 (dk_at dksX3_flagsOf_1 5 rfl rfl)
theorem dX3_flagsOf_32 : decode cX3_flagsOf 32 = .ok (.iconst 4, 1) := dk_7 (dk_at dksX3_flagsOf_1 8 rfl rfl)
theorem dX3_flagsOf_33 : decode cX3_flagsOf 33 = .ok (.goto 4, 3) := dk_167 0 4 (dk_at dksX3_flagsOf_1 9 rfl rfl)
theorem dX3_flagsOf_36 : decode cX3_flagsOf 36 = .ok (.iconst 0, 1) := dk_3 (dk_at dksX3_flagsOf_1 12 rfl rfl)
theorem dX3_flagsOf_37 : decode cX3_flagsOf 37 = .ok (.iadd, 1) := dk_96 (dk_at dksX3_flagsOf_1 13 rfl rfl)
theorem dX3_flagsOf_38 : decode cX3_flagsOf 38 = .ok (.aload_n 0, 1) := dk_42 (dk_at dksX3_flagsOf_1 14 rfl rfl)
theorem dX3_flagsOf_39 : decode cX3_flagsOf 39 = .ok (.getfield 266, 3) := dk_180 1 10 (dk_at dksX3_flagsOf_1 15 rfl rfl)
theorem dX3_flagsOf_42 : decode cX3_flagsOf 42 = .ok (.ifCond .eq 8, 3) := dk_153 0 8 (dk_at dksX3_flagsOf_1 18 rfl rfl)
theorem dX3_flagsOf_45 : decode cX3_flagsOf 45 = .ok (.bipush 8, 2) := dk_16 8 (dk_at dksX3_flagsOf_1 21 rfl rfl)
theorem dX3_flagsOf_47 : decode cX3_flagsOf 47 = .ok (.goto 4, 3) := dk_167 0 4 (dk_at dksX3_flagsOf_2 0 rfl rfl)
theorem dX3_flagsOf_50 : decode cX3_flagsOf 50 = .ok (.iconst 0, 1) := dk_3 (dk_at dksX3_flagsOf_2 3 rfl rfl)
theorem dX3_flagsOf_51 : decode cX3_flagsOf 51 = .ok (.iadd, 1) := dk_96 (dk_at dksX3_flagsOf_2 4 rfl rfl)
theorem dX3_flagsOf_52 : decode cX3_flagsOf 52 = .ok (.aload_n 0, 1) := dk_42 (dk_at dksX3_flagsOf_2 5 rfl rfl)
theorem dX3_flagsOf_53 : decode cX3_flagsOf 53 = .ok (.getfield 269, 3) := dk_180 1 13 (dk_at dksX3_flagsOf_2 6 rfl rfl)
theorem dX3_flagsOf_56 : decode cX3_flagsOf 56 = .ok (.ifCond .eq 8, 3) := dk_153 0 8 (dk_at dksX3_flagsOf_2 9 rfl rfl)
theorem dX3_flagsOf_59 : decode cX3_flagsOf 59 = .ok (.bipush 16, 2) := dk_16 16 (dk_at dksX3_flagsOf_2 12 rfl rfl)
theorem dX3_flagsOf_61 : decode cX3_flagsOf 61 = .ok (.goto 4, 3) := dk_167 0 4 (dk_at dksX3_flagsOf_2 14 rfl rfl)
theorem dX3_flagsOf_64 : decode cX3_flagsOf 64 = .ok (.iconst 0, 1) := dk_3 (dk_at dksX3_flagsOf_2 17 rfl rfl)
theorem dX3_flagsOf_65 : decode cX3_flagsOf 65 = .ok (.iadd, 1) := dk_96 (dk_at dksX3_flagsOf_2 18 rfl rfl)
theorem dX3_flagsOf_66 : decode cX3_flagsOf 66 = .ok (.ireturn, 1) := dk_172 (dk_at dksX3_flagsOf_2 19 rfl rfl)
abbrev cX3_writesLeft : ByteArray := prog_28_method_92_code
def yX3_writesLeft : MethodName := ⟨RX3, "writesLeft", "()I"⟩
def dkwX3_writesLeft_0 : List UInt8 := [42, 3, 181, 0, 140, 42, 180, 1, 28, 172]
abbrev dktX3_writesLeft_0 : List UInt8 := dkwX3_writesLeft_0 ++ []
theorem dksX3_writesLeft_0 : cX3_writesLeft.data.toList.drop 0 = dktX3_writesLeft_0 := by decide +kernel
theorem dX3_writesLeft_0 : decode cX3_writesLeft 0 = .ok (.aload_n 0, 1) := dk_42 (dk_at dksX3_writesLeft_0 0 rfl rfl)
theorem dX3_writesLeft_1 : decode cX3_writesLeft 1 = .ok (.iconst 0, 1) := dk_3 (dk_at dksX3_writesLeft_0 1 rfl rfl)
theorem dX3_writesLeft_2 : decode cX3_writesLeft 2 = .ok (.putfield 140, 3) := dk_181 0 140 (dk_at dksX3_writesLeft_0 2 rfl rfl)
theorem dX3_writesLeft_5 : decode cX3_writesLeft 5 = .ok (.aload_n 0, 1) := dk_42 (dk_at dksX3_writesLeft_0 5 rfl rfl)
theorem dX3_writesLeft_6 : decode cX3_writesLeft 6 = .ok (.getfield 284, 3) := dk_180 1 28 (dk_at dksX3_writesLeft_0 6 rfl rfl)
theorem dX3_writesLeft_9 : decode cX3_writesLeft 9 = .ok (.ireturn, 1) := dk_172 (dk_at dksX3_writesLeft_0 9 rfl rfl)
abbrev cX3_register : ByteArray := prog_28_method_93_code
def yX3_register : MethodName := ⟨RX3, "register", "(I)I"⟩
def dkwX3_register_1 : List UInt8 := [180, 0, 55, 27, 46, 167, 0, 4, 3, 172]
abbrev dktX3_register_1 : List UInt8 := dkwX3_register_1 ++ []
def dkwX3_register_0 : List UInt8 := [42, 27, 3, 6, 184, 0, 147, 153, 0, 7, 3, 167, 0, 4, 4, 182, 0, 152, 153, 0, 12, 42]
abbrev dktX3_register_0 : List UInt8 := dkwX3_register_0 ++ dktX3_register_1
theorem dksX3_register_0 : cX3_register.data.toList.drop 0 = dktX3_register_0 := by decide +kernel
theorem dksX3_register_1 : cX3_register.data.toList.drop 22 = dktX3_register_1 := dk_seg dksX3_register_0 22 rfl rfl
theorem dX3_register_0 : decode cX3_register 0 = .ok (.aload_n 0, 1) := dk_42 (dk_at dksX3_register_0 0 rfl rfl)
theorem dX3_register_1 : decode cX3_register 1 = .ok (.iload_n 1, 1) := dk_27 (dk_at dksX3_register_0 1 rfl rfl)
theorem dX3_register_2 : decode cX3_register 2 = .ok (.iconst 0, 1) := dk_3 (dk_at dksX3_register_0 2 rfl rfl)
theorem dX3_register_3 : decode cX3_register 3 = .ok (.iconst 3, 1) := dk_6 (dk_at dksX3_register_0 3 rfl rfl)
theorem dX3_register_4 : decode cX3_register 4 = .ok (.invokestatic 147, 3) := dk_184 0 147 (dk_at dksX3_register_0 4 rfl rfl)
theorem dX3_register_7 : decode cX3_register 7 = .ok (.ifCond .eq 7, 3) := dk_153 0 7 (dk_at dksX3_register_0 7 rfl rfl)
theorem dX3_register_10 : decode cX3_register 10 = .ok (.iconst 0, 1) := dk_3 (dk_at dksX3_register_0 10 rfl rfl)
theorem dX3_register_11 : decode cX3_register 11 = .ok (.goto 4, 3) := dk_167 0 4 (dk_at dksX3_register_0 11 rfl rfl)
theorem dX3_register_14 : decode cX3_register 14 = .ok (.iconst 1, 1) := dk_4 (dk_at dksX3_register_0 14 rfl rfl)
theorem dX3_register_15 : decode cX3_register 15 = .ok (.invokevirtual 152, 3) := dk_182 0 152 (dk_at dksX3_register_0 15 rfl rfl)
theorem dX3_register_18 : decode cX3_register 18 = .ok (.ifCond .eq 12, 3) := dk_153 0 12 (dk_at dksX3_register_0 18 rfl rfl)
theorem dX3_register_21 : decode cX3_register 21 = .ok (.aload_n 0, 1) := dk_42 (dk_at dksX3_register_0 21 rfl rfl)
theorem dX3_register_22 : decode cX3_register 22 = .ok (.getfield 55, 3) := dk_180 0 55 (dk_at dksX3_register_1 0 rfl rfl)
theorem dX3_register_25 : decode cX3_register 25 = .ok (.iload_n 1, 1) := dk_27 (dk_at dksX3_register_1 3 rfl rfl)
theorem dX3_register_26 : decode cX3_register 26 = .ok (.iaload, 1) := dk_46 (dk_at dksX3_register_1 4 rfl rfl)
theorem dX3_register_27 : decode cX3_register 27 = .ok (.goto 4, 3) := dk_167 0 4 (dk_at dksX3_register_1 5 rfl rfl)
theorem dX3_register_30 : decode cX3_register 30 = .ok (.iconst 0, 1) := dk_3 (dk_at dksX3_register_1 8 rfl rfl)
theorem dX3_register_31 : decode cX3_register 31 = .ok (.ireturn, 1) := dk_172 (dk_at dksX3_register_1 9 rfl rfl)
abbrev cX3_memory : ByteArray := prog_28_method_95_code
def yX3_memory : MethodName := ⟨RX3, "memory", "(I)I"⟩
def dkwX3_memory_1 : List UInt8 := [46, 167, 0, 4, 3, 172]
abbrev dktX3_memory_1 : List UInt8 := dkwX3_memory_1 ++ []
def dkwX3_memory_0 : List UInt8 := [42, 27, 184, 1, 182, 153, 0, 7, 3, 167, 0, 4, 4, 182, 0, 152, 153, 0, 12, 42, 180, 0, 52, 27]
abbrev dktX3_memory_0 : List UInt8 := dkwX3_memory_0 ++ dktX3_memory_1
theorem dksX3_memory_0 : cX3_memory.data.toList.drop 0 = dktX3_memory_0 := by decide +kernel
theorem dksX3_memory_1 : cX3_memory.data.toList.drop 24 = dktX3_memory_1 := dk_seg dksX3_memory_0 24 rfl rfl
theorem dX3_memory_0 : decode cX3_memory 0 = .ok (.aload_n 0, 1) := dk_42 (dk_at dksX3_memory_0 0 rfl rfl)
theorem dX3_memory_1 : decode cX3_memory 1 = .ok (.iload_n 1, 1) := dk_27 (dk_at dksX3_memory_0 1 rfl rfl)
theorem dX3_memory_2 : decode cX3_memory 2 = .ok (.invokestatic 438, 3) := dk_184 1 182 (dk_at dksX3_memory_0 2 rfl rfl)
theorem dX3_memory_5 : decode cX3_memory 5 = .ok (.ifCond .eq 7, 3) := dk_153 0 7 (dk_at dksX3_memory_0 5 rfl rfl)
theorem dX3_memory_8 : decode cX3_memory 8 = .ok (.iconst 0, 1) := dk_3 (dk_at dksX3_memory_0 8 rfl rfl)
theorem dX3_memory_9 : decode cX3_memory 9 = .ok (.goto 4, 3) := dk_167 0 4 (dk_at dksX3_memory_0 9 rfl rfl)
theorem dX3_memory_12 : decode cX3_memory 12 = .ok (.iconst 1, 1) := dk_4 (dk_at dksX3_memory_0 12 rfl rfl)
theorem dX3_memory_13 : decode cX3_memory 13 = .ok (.invokevirtual 152, 3) := dk_182 0 152 (dk_at dksX3_memory_0 13 rfl rfl)
theorem dX3_memory_16 : decode cX3_memory 16 = .ok (.ifCond .eq 12, 3) := dk_153 0 12 (dk_at dksX3_memory_0 16 rfl rfl)
theorem dX3_memory_19 : decode cX3_memory 19 = .ok (.aload_n 0, 1) := dk_42 (dk_at dksX3_memory_0 19 rfl rfl)
theorem dX3_memory_20 : decode cX3_memory 20 = .ok (.getfield 52, 3) := dk_180 0 52 (dk_at dksX3_memory_0 20 rfl rfl)
theorem dX3_memory_23 : decode cX3_memory 23 = .ok (.iload_n 1, 1) := dk_27 (dk_at dksX3_memory_0 23 rfl rfl)
theorem dX3_memory_24 : decode cX3_memory 24 = .ok (.iaload, 1) := dk_46 (dk_at dksX3_memory_1 0 rfl rfl)
theorem dX3_memory_25 : decode cX3_memory 25 = .ok (.goto 4, 3) := dk_167 0 4 (dk_at dksX3_memory_1 1 rfl rfl)
theorem dX3_memory_28 : decode cX3_memory 28 = .ok (.iconst 0, 1) := dk_3 (dk_at dksX3_memory_1 4 rfl rfl)
theorem dX3_memory_29 : decode cX3_memory 29 = .ok (.ireturn, 1) := dk_172 (dk_at dksX3_memory_1 5 rfl rfl)
abbrev cX3_isAddress : ByteArray := prog_28_method_94_code
def yX3_isAddress : MethodName := ⟨RX3, "isAddress", "(I)Z"⟩
def dkwX3_isAddress_0 : List UInt8 := [26, 3, 17, 0, 255, 184, 0, 147, 172]
abbrev dktX3_isAddress_0 : List UInt8 := dkwX3_isAddress_0 ++ []
theorem dksX3_isAddress_0 : cX3_isAddress.data.toList.drop 0 = dktX3_isAddress_0 := by decide +kernel
theorem dX3_isAddress_0 : decode cX3_isAddress 0 = .ok (.iload_n 0, 1) := dk_26 (dk_at dksX3_isAddress_0 0 rfl rfl)
theorem dX3_isAddress_1 : decode cX3_isAddress 1 = .ok (.iconst 0, 1) := dk_3 (dk_at dksX3_isAddress_0 1 rfl rfl)
theorem dX3_isAddress_2 : decode cX3_isAddress 2 = .ok (.sipush 255, 3) := dk_17 0 255 (dk_at dksX3_isAddress_0 2 rfl rfl)
theorem dX3_isAddress_5 : decode cX3_isAddress 5 = .ok (.invokestatic 147, 3) := dk_184 0 147 (dk_at dksX3_isAddress_0 5 rfl rfl)
theorem dX3_isAddress_8 : decode cX3_isAddress 8 = .ok (.ireturn, 1) := dk_172 (dk_at dksX3_isAddress_0 8 rfl rfl)
abbrev cX3_changedAt : ByteArray := prog_28_method_96_code
def yX3_changedAt : MethodName := ⟨RX3, "changedAt", "(I)I"⟩
def dkwX3_changedAt_3 : List UInt8 := [172]
abbrev dktX3_changedAt_3 : List UInt8 := dkwX3_changedAt_3 ++ []
def dkwX3_changedAt_2 : List UInt8 := [46, 27, 159, 0, 13, 42, 180, 0, 70, 28, 46, 27, 160, 0, 5, 28, 172, 132, 2, 255, 167, 255, 218, 2]
abbrev dktX3_changedAt_2 : List UInt8 := dkwX3_changedAt_2 ++ dktX3_changedAt_3
def dkwX3_changedAt_1 : List UInt8 := [180, 0, 235, 4, 100, 61, 28, 42, 180, 0, 235, 42, 180, 1, 164, 100, 161, 0, 31, 42, 180, 0, 67, 28]
abbrev dktX3_changedAt_1 : List UInt8 := dkwX3_changedAt_1 ++ dktX3_changedAt_2
def dkwX3_changedAt_0 : List UInt8 := [42, 27, 184, 1, 182, 153, 0, 7, 3, 167, 0, 4, 4, 182, 0, 152, 154, 0, 5, 3, 172, 42]
abbrev dktX3_changedAt_0 : List UInt8 := dkwX3_changedAt_0 ++ dktX3_changedAt_1
theorem dksX3_changedAt_0 : cX3_changedAt.data.toList.drop 0 = dktX3_changedAt_0 := by decide +kernel
theorem dksX3_changedAt_1 : cX3_changedAt.data.toList.drop 22 = dktX3_changedAt_1 := dk_seg dksX3_changedAt_0 22 rfl rfl
theorem dksX3_changedAt_2 : cX3_changedAt.data.toList.drop 46 = dktX3_changedAt_2 := dk_seg dksX3_changedAt_1 24 rfl rfl
theorem dksX3_changedAt_3 : cX3_changedAt.data.toList.drop 70 = dktX3_changedAt_3 := dk_seg dksX3_changedAt_2 24 rfl rfl
theorem dX3_changedAt_0 : decode cX3_changedAt 0 = .ok (.aload_n 0, 1) := dk_42 (dk_at dksX3_changedAt_0 0 rfl rfl)
theorem dX3_changedAt_1 : decode cX3_changedAt 1 = .ok (.iload_n 1, 1) := dk_27 (dk_at dksX3_changedAt_0 1 rfl rfl)
theorem dX3_changedAt_2 : decode cX3_changedAt 2 = .ok (.invokestatic 438, 3) := dk_184 1 182 (dk_at dksX3_changedAt_0 2 rfl rfl)
theorem dX3_changedAt_5 : decode cX3_changedAt 5 = .ok (.ifCond .eq 7, 3) := dk_153 0 7 (dk_at dksX3_changedAt_0 5 rfl rfl)
theorem dX3_changedAt_8 : decode cX3_changedAt 8 = .ok (.iconst 0, 1) := dk_3 (dk_at dksX3_changedAt_0 8 rfl rfl)
theorem dX3_changedAt_9 : decode cX3_changedAt 9 = .ok (.goto 4, 3) := dk_167 0 4 (dk_at dksX3_changedAt_0 9 rfl rfl)
theorem dX3_changedAt_12 : decode cX3_changedAt 12 = .ok (.iconst 1, 1) := dk_4 (dk_at dksX3_changedAt_0 12 rfl rfl)
theorem dX3_changedAt_13 : decode cX3_changedAt 13 = .ok (.invokevirtual 152, 3) := dk_182 0 152 (dk_at dksX3_changedAt_0 13 rfl rfl)
theorem dX3_changedAt_16 : decode cX3_changedAt 16 = .ok (.ifCond .ne 5, 3) := dk_154 0 5 (dk_at dksX3_changedAt_0 16 rfl rfl)
theorem dX3_changedAt_19 : decode cX3_changedAt 19 = .ok (.iconst 0, 1) := dk_3 (dk_at dksX3_changedAt_0 19 rfl rfl)
theorem dX3_changedAt_20 : decode cX3_changedAt 20 = .ok (.ireturn, 1) := dk_172 (dk_at dksX3_changedAt_0 20 rfl rfl)
theorem dX3_changedAt_21 : decode cX3_changedAt 21 = .ok (.aload_n 0, 1) := dk_42 (dk_at dksX3_changedAt_0 21 rfl rfl)
theorem dX3_changedAt_22 : decode cX3_changedAt 22 = .ok (.getfield 235, 3) := dk_180 0 235 (dk_at dksX3_changedAt_1 0 rfl rfl)
theorem dX3_changedAt_25 : decode cX3_changedAt 25 = .ok (.iconst 1, 1) := dk_4 (dk_at dksX3_changedAt_1 3 rfl rfl)
theorem dX3_changedAt_26 : decode cX3_changedAt 26 = .ok (.isub, 1) := dk_100 (dk_at dksX3_changedAt_1 4 rfl rfl)
theorem dX3_changedAt_27 : decode cX3_changedAt 27 = .ok (.istore_n 2, 1) := dk_61 (dk_at dksX3_changedAt_1 5 rfl rfl)
theorem dX3_changedAt_28 : decode cX3_changedAt 28 = .ok (.iload_n 2, 1) := dk_28 (dk_at dksX3_changedAt_1 6 rfl rfl)
theorem dX3_changedAt_29 : decode cX3_changedAt 29 = .ok (.aload_n 0, 1) := dk_42 (dk_at dksX3_changedAt_1 7 rfl rfl)
theorem dX3_changedAt_30 : decode cX3_changedAt 30 = .ok (.getfield 235, 3) := dk_180 0 235 (dk_at dksX3_changedAt_1 8 rfl rfl)
theorem dX3_changedAt_33 : decode cX3_changedAt 33 = .ok (.aload_n 0, 1) := dk_42 (dk_at dksX3_changedAt_1 11 rfl rfl)
theorem dX3_changedAt_34 : decode cX3_changedAt 34 = .ok (.getfield 420, 3) := dk_180 1 164 (dk_at dksX3_changedAt_1 12 rfl rfl)
theorem dX3_changedAt_37 : decode cX3_changedAt 37 = .ok (.isub, 1) := dk_100 (dk_at dksX3_changedAt_1 15 rfl rfl)
theorem dX3_changedAt_38 : decode cX3_changedAt 38 = .ok (.if_icmp .lt 31, 3) := dk_161 0 31 (dk_at dksX3_changedAt_1 16 rfl rfl)
theorem dX3_changedAt_41 : decode cX3_changedAt 41 = .ok (.aload_n 0, 1) := dk_42 (dk_at dksX3_changedAt_1 19 rfl rfl)
theorem dX3_changedAt_42 : decode cX3_changedAt 42 = .ok (.getfield 67, 3) := dk_180 0 67 (dk_at dksX3_changedAt_1 20 rfl rfl)
theorem dX3_changedAt_45 : decode cX3_changedAt 45 = .ok (.iload_n 2, 1) := dk_28 (dk_at dksX3_changedAt_1 23 rfl rfl)
theorem dX3_changedAt_46 : decode cX3_changedAt 46 = .ok (.iaload, 1) := dk_46 (dk_at dksX3_changedAt_2 0 rfl rfl)
theorem dX3_changedAt_47 : decode cX3_changedAt 47 = .ok (.iload_n 1, 1) := dk_27 (dk_at dksX3_changedAt_2 1 rfl rfl)
theorem dX3_changedAt_48 : decode cX3_changedAt 48 = .ok (.if_icmp .eq 13, 3) := dk_159 0 13 (dk_at dksX3_changedAt_2 2 rfl rfl)
theorem dX3_changedAt_51 : decode cX3_changedAt 51 = .ok (.aload_n 0, 1) := dk_42 (dk_at dksX3_changedAt_2 5 rfl rfl)
theorem dX3_changedAt_52 : decode cX3_changedAt 52 = .ok (.getfield 70, 3) := dk_180 0 70 (dk_at dksX3_changedAt_2 6 rfl rfl)
theorem dX3_changedAt_55 : decode cX3_changedAt 55 = .ok (.iload_n 2, 1) := dk_28 (dk_at dksX3_changedAt_2 9 rfl rfl)
theorem dX3_changedAt_56 : decode cX3_changedAt 56 = .ok (.iaload, 1) := dk_46 (dk_at dksX3_changedAt_2 10 rfl rfl)
theorem dX3_changedAt_57 : decode cX3_changedAt 57 = .ok (.iload_n 1, 1) := dk_27 (dk_at dksX3_changedAt_2 11 rfl rfl)
theorem dX3_changedAt_58 : decode cX3_changedAt 58 = .ok (.if_icmp .ne 5, 3) := dk_160 0 5 (dk_at dksX3_changedAt_2 12 rfl rfl)
theorem dX3_changedAt_61 : decode cX3_changedAt 61 = .ok (.iload_n 2, 1) := dk_28 (dk_at dksX3_changedAt_2 15 rfl rfl)
theorem dX3_changedAt_62 : decode cX3_changedAt 62 = .ok (.ireturn, 1) := dk_172 (dk_at dksX3_changedAt_2 16 rfl rfl)
theorem dX3_changedAt_63 : decode cX3_changedAt 63 = .ok (.iinc 2 (-1), 3) := dk_132 2 255 (dk_at dksX3_changedAt_2 17 rfl rfl)
theorem dX3_changedAt_66 : decode cX3_changedAt 66 = .ok (.goto (-38), 3) := dk_167 255 218 (dk_at dksX3_changedAt_2 20 rfl rfl)
theorem dX3_changedAt_69 : decode cX3_changedAt 69 = .ok (.iconst (-1), 1) := dk_2 (dk_at dksX3_changedAt_2 23 rfl rfl)
theorem dX3_changedAt_70 : decode cX3_changedAt 70 = .ok (.ireturn, 1) := dk_172 (dk_at dksX3_changedAt_3 0 rfl rfl)
abbrev cX3_tape : ByteArray := prog_28_method_97_code
def yX3_tape : MethodName := ⟨RX3, "tape", "()I"⟩
def dkwX3_tape_0 : List UInt8 := [42, 3, 181, 0, 140, 42, 180, 1, 22, 172]
abbrev dktX3_tape_0 : List UInt8 := dkwX3_tape_0 ++ []
theorem dksX3_tape_0 : cX3_tape.data.toList.drop 0 = dktX3_tape_0 := by decide +kernel
theorem dX3_tape_0 : decode cX3_tape 0 = .ok (.aload_n 0, 1) := dk_42 (dk_at dksX3_tape_0 0 rfl rfl)
theorem dX3_tape_1 : decode cX3_tape 1 = .ok (.iconst 0, 1) := dk_3 (dk_at dksX3_tape_0 1 rfl rfl)
theorem dX3_tape_2 : decode cX3_tape 2 = .ok (.putfield 140, 3) := dk_181 0 140 (dk_at dksX3_tape_0 2 rfl rfl)
theorem dX3_tape_5 : decode cX3_tape 5 = .ok (.aload_n 0, 1) := dk_42 (dk_at dksX3_tape_0 5 rfl rfl)
theorem dX3_tape_6 : decode cX3_tape 6 = .ok (.getfield 278, 3) := dk_180 1 22 (dk_at dksX3_tape_0 6 rfl rfl)
theorem dX3_tape_9 : decode cX3_tape 9 = .ok (.ireturn, 1) := dk_172 (dk_at dksX3_tape_0 9 rfl rfl)
abbrev cX3_tapeAt : ByteArray := prog_28_method_98_code
def yX3_tapeAt : MethodName := ⟨RX3, "tapeAt", "(I)I"⟩
def dkwX3_tapeAt_1 : List UInt8 := [153, 0, 12, 42, 180, 0, 58, 27, 46, 167, 0, 4, 3, 172]
abbrev dktX3_tapeAt_1 : List UInt8 := dkwX3_tapeAt_1 ++ []
def dkwX3_tapeAt_0 : List UInt8 := [42, 27, 3, 42, 180, 1, 22, 4, 100, 184, 0, 147, 153, 0, 7, 3, 167, 0, 4, 4, 182, 0, 152]
abbrev dktX3_tapeAt_0 : List UInt8 := dkwX3_tapeAt_0 ++ dktX3_tapeAt_1
theorem dksX3_tapeAt_0 : cX3_tapeAt.data.toList.drop 0 = dktX3_tapeAt_0 := by decide +kernel
theorem dksX3_tapeAt_1 : cX3_tapeAt.data.toList.drop 23 = dktX3_tapeAt_1 := dk_seg dksX3_tapeAt_0 23 rfl rfl
theorem dX3_tapeAt_0 : decode cX3_tapeAt 0 = .ok (.aload_n 0, 1) := dk_42 (dk_at dksX3_tapeAt_0 0 rfl rfl)
theorem dX3_tapeAt_1 : decode cX3_tapeAt 1 = .ok (.iload_n 1, 1) := dk_27 (dk_at dksX3_tapeAt_0 1 rfl rfl)
theorem dX3_tapeAt_2 : decode cX3_tapeAt 2 = .ok (.iconst 0, 1) := dk_3 (dk_at dksX3_tapeAt_0 2 rfl rfl)
theorem dX3_tapeAt_3 : decode cX3_tapeAt 3 = .ok (.aload_n 0, 1) := dk_42 (dk_at dksX3_tapeAt_0 3 rfl rfl)
theorem dX3_tapeAt_4 : decode cX3_tapeAt 4 = .ok (.getfield 278, 3) := dk_180 1 22 (dk_at dksX3_tapeAt_0 4 rfl rfl)
theorem dX3_tapeAt_7 : decode cX3_tapeAt 7 = .ok (.iconst 1, 1) := dk_4 (dk_at dksX3_tapeAt_0 7 rfl rfl)
theorem dX3_tapeAt_8 : decode cX3_tapeAt 8 = .ok (.isub, 1) := dk_100 (dk_at dksX3_tapeAt_0 8 rfl rfl)
theorem dX3_tapeAt_9 : decode cX3_tapeAt 9 = .ok (.invokestatic 147, 3) := dk_184 0 147 (dk_at dksX3_tapeAt_0 9 rfl rfl)
theorem dX3_tapeAt_12 : decode cX3_tapeAt 12 = .ok (.ifCond .eq 7, 3) := dk_153 0 7 (dk_at dksX3_tapeAt_0 12 rfl rfl)
theorem dX3_tapeAt_15 : decode cX3_tapeAt 15 = .ok (.iconst 0, 1) := dk_3 (dk_at dksX3_tapeAt_0 15 rfl rfl)
theorem dX3_tapeAt_16 : decode cX3_tapeAt 16 = .ok (.goto 4, 3) := dk_167 0 4 (dk_at dksX3_tapeAt_0 16 rfl rfl)
theorem dX3_tapeAt_19 : decode cX3_tapeAt 19 = .ok (.iconst 1, 1) := dk_4 (dk_at dksX3_tapeAt_0 19 rfl rfl)
theorem dX3_tapeAt_20 : decode cX3_tapeAt 20 = .ok (.invokevirtual 152, 3) := dk_182 0 152 (dk_at dksX3_tapeAt_0 20 rfl rfl)
theorem dX3_tapeAt_23 : decode cX3_tapeAt 23 = .ok (.ifCond .eq 12, 3) := dk_153 0 12 (dk_at dksX3_tapeAt_1 0 rfl rfl)
theorem dX3_tapeAt_26 : decode cX3_tapeAt 26 = .ok (.aload_n 0, 1) := dk_42 (dk_at dksX3_tapeAt_1 3 rfl rfl)
theorem dX3_tapeAt_27 : decode cX3_tapeAt 27 = .ok (.getfield 58, 3) := dk_180 0 58 (dk_at dksX3_tapeAt_1 4 rfl rfl)
theorem dX3_tapeAt_30 : decode cX3_tapeAt 30 = .ok (.iload_n 1, 1) := dk_27 (dk_at dksX3_tapeAt_1 7 rfl rfl)
theorem dX3_tapeAt_31 : decode cX3_tapeAt 31 = .ok (.iaload, 1) := dk_46 (dk_at dksX3_tapeAt_1 8 rfl rfl)
theorem dX3_tapeAt_32 : decode cX3_tapeAt 32 = .ok (.goto 4, 3) := dk_167 0 4 (dk_at dksX3_tapeAt_1 9 rfl rfl)
theorem dX3_tapeAt_35 : decode cX3_tapeAt 35 = .ok (.iconst 0, 1) := dk_3 (dk_at dksX3_tapeAt_1 12 rfl rfl)
theorem dX3_tapeAt_36 : decode cX3_tapeAt 36 = .ok (.ireturn, 1) := dk_172 (dk_at dksX3_tapeAt_1 13 rfl rfl)
abbrev cX3_sum : ByteArray := prog_28_method_101_code
def yX3_sum : MethodName := ⟨RX3, "sum", "()I"⟩
def dkwX3_sum_0 : List UInt8 := [42, 3, 181, 0, 140, 42, 182, 1, 192, 172]
abbrev dktX3_sum_0 : List UInt8 := dkwX3_sum_0 ++ []
theorem dksX3_sum_0 : cX3_sum.data.toList.drop 0 = dktX3_sum_0 := by decide +kernel
theorem dX3_sum_0 : decode cX3_sum 0 = .ok (.aload_n 0, 1) := dk_42 (dk_at dksX3_sum_0 0 rfl rfl)
theorem dX3_sum_1 : decode cX3_sum 1 = .ok (.iconst 0, 1) := dk_3 (dk_at dksX3_sum_0 1 rfl rfl)
theorem dX3_sum_2 : decode cX3_sum 2 = .ok (.putfield 140, 3) := dk_181 0 140 (dk_at dksX3_sum_0 2 rfl rfl)
theorem dX3_sum_5 : decode cX3_sum 5 = .ok (.aload_n 0, 1) := dk_42 (dk_at dksX3_sum_0 5 rfl rfl)
theorem dX3_sum_6 : decode cX3_sum 6 = .ok (.invokevirtual 448, 3) := dk_182 1 192 (dk_at dksX3_sum_0 6 rfl rfl)
theorem dX3_sum_9 : decode cX3_sum 9 = .ok (.ireturn, 1) := dk_172 (dk_at dksX3_sum_0 9 rfl rfl)
abbrev cX3_sumOf : ByteArray := prog_28_method_100_code
def yX3_sumOf : MethodName := ⟨RX3, "sumOf", "()I"⟩
def dkwX3_sumOf_7 : List UInt8 := [162, 0, 20, 27, 42, 180, 0, 58, 28, 46, 184, 1, 189, 60, 132, 2, 1, 167, 255, 234, 27, 172]
abbrev dktX3_sumOf_7 : List UInt8 := dkwX3_sumOf_7 ++ []
def dkwX3_sumOf_6 : List UInt8 := [132, 2, 1, 167, 255, 235, 27, 42, 180, 1, 22, 184, 1, 189, 60, 3, 61, 28, 42, 180, 1, 22]
abbrev dktX3_sumOf_6 : List UInt8 := dkwX3_sumOf_6 ++ dktX3_sumOf_7
def dkwX3_sumOf_5 : List UInt8 := [167, 255, 235, 3, 61, 28, 17, 1, 0, 162, 0, 20, 27, 42, 180, 0, 79, 28, 46, 184, 1, 189, 60]
abbrev dktX3_sumOf_5 : List UInt8 := dkwX3_sumOf_5 ++ dktX3_sumOf_6
def dkwX3_sumOf_4 : List UInt8 := [3, 61, 28, 17, 1, 0, 162, 0, 20, 27, 42, 180, 0, 52, 28, 46, 184, 1, 189, 60, 132, 2, 1]
abbrev dktX3_sumOf_4 : List UInt8 := dkwX3_sumOf_4 ++ dktX3_sumOf_5
def dkwX3_sumOf_3 : List UInt8 := [180, 0, 55, 28, 46, 184, 1, 189, 60, 132, 2, 1, 167, 255, 237, 27, 42, 180, 1, 28, 184, 1, 189, 60]
abbrev dktX3_sumOf_3 : List UInt8 := dkwX3_sumOf_3 ++ dktX3_sumOf_4
def dkwX3_sumOf_2 : List UInt8 := [180, 1, 16, 184, 1, 189, 42, 180, 1, 19, 184, 1, 189, 60, 3, 61, 28, 7, 162, 0, 20, 27, 42]
abbrev dktX3_sumOf_2 : List UInt8 := dkwX3_sumOf_2 ++ dktX3_sumOf_3
def dkwX3_sumOf_1 : List UInt8 := [180, 0, 254, 184, 1, 189, 60, 27, 42, 180, 0, 241, 184, 1, 189, 42, 182, 1, 179, 184, 1, 189, 42]
abbrev dktX3_sumOf_1 : List UInt8 := dkwX3_sumOf_1 ++ dktX3_sumOf_2
def dkwX3_sumOf_0 : List UInt8 := [16, 7, 42, 180, 0, 232, 184, 1, 189, 42, 180, 0, 248, 184, 1, 189, 42, 180, 0, 235, 184, 1, 189, 42]
abbrev dktX3_sumOf_0 : List UInt8 := dkwX3_sumOf_0 ++ dktX3_sumOf_1
theorem dksX3_sumOf_0 : cX3_sumOf.data.toList.drop 0 = dktX3_sumOf_0 := by decide +kernel
theorem dksX3_sumOf_1 : cX3_sumOf.data.toList.drop 24 = dktX3_sumOf_1 := dk_seg dksX3_sumOf_0 24 rfl rfl
theorem dksX3_sumOf_2 : cX3_sumOf.data.toList.drop 47 = dktX3_sumOf_2 := dk_seg dksX3_sumOf_1 23 rfl rfl
theorem dksX3_sumOf_3 : cX3_sumOf.data.toList.drop 70 = dktX3_sumOf_3 := dk_seg dksX3_sumOf_2 23 rfl rfl
theorem dksX3_sumOf_4 : cX3_sumOf.data.toList.drop 94 = dktX3_sumOf_4 := dk_seg dksX3_sumOf_3 24 rfl rfl
theorem dksX3_sumOf_5 : cX3_sumOf.data.toList.drop 117 = dktX3_sumOf_5 := dk_seg dksX3_sumOf_4 23 rfl rfl
theorem dksX3_sumOf_6 : cX3_sumOf.data.toList.drop 140 = dktX3_sumOf_6 := dk_seg dksX3_sumOf_5 23 rfl rfl
theorem dksX3_sumOf_7 : cX3_sumOf.data.toList.drop 162 = dktX3_sumOf_7 := dk_seg dksX3_sumOf_6 22 rfl rfl
theorem dX3_sumOf_0 : decode cX3_sumOf 0 = .ok (.bipush 7, 2) := dk_16 7 (dk_at dksX3_sumOf_0 0 rfl rfl)
theorem dX3_sumOf_2 : decode cX3_sumOf 2 = .ok (.aload_n 0, 1) := dk_42 (dk_at dksX3_sumOf_0 2 rfl rfl)
theorem dX3_sumOf_3 : decode cX3_sumOf 3 = .ok (.getfield 232, 3) := dk_180 0 232 (dk_at dksX3_sumOf_0 3 rfl rfl)
theorem dX3_sumOf_6 : decode cX3_sumOf 6 = .ok (.invokestatic 445, 3) := dk_184 1 189 (dk_at dksX3_sumOf_0 6 rfl rfl)
theorem dX3_sumOf_9 : decode cX3_sumOf 9 = .ok (.aload_n 0, 1) := dk_42 (dk_at dksX3_sumOf_0 9 rfl rfl)
theorem dX3_sumOf_10 : decode cX3_sumOf 10 = .ok (.getfield 248, 3) := dk_180 0 248 (dk_at dksX3_sumOf_0 10 rfl rfl)
theorem dX3_sumOf_13 : decode cX3_sumOf 13 = .ok (.invokestatic 445, 3) := dk_184 1 189 (dk_at dksX3_sumOf_0 13 rfl rfl)
theorem dX3_sumOf_16 : decode cX3_sumOf 16 = .ok (.aload_n 0, 1) := dk_42 (dk_at dksX3_sumOf_0 16 rfl rfl)
theorem dX3_sumOf_17 : decode cX3_sumOf 17 = .ok (.getfield 235, 3) := dk_180 0 235 (dk_at dksX3_sumOf_0 17 rfl rfl)
theorem dX3_sumOf_20 : decode cX3_sumOf 20 = .ok (.invokestatic 445, 3) := dk_184 1 189 (dk_at dksX3_sumOf_0 20 rfl rfl)
theorem dX3_sumOf_23 : decode cX3_sumOf 23 = .ok (.aload_n 0, 1) := dk_42 (dk_at dksX3_sumOf_0 23 rfl rfl)
theorem dX3_sumOf_24 : decode cX3_sumOf 24 = .ok (.getfield 254, 3) := dk_180 0 254 (dk_at dksX3_sumOf_1 0 rfl rfl)
theorem dX3_sumOf_27 : decode cX3_sumOf 27 = .ok (.invokestatic 445, 3) := dk_184 1 189 (dk_at dksX3_sumOf_1 3 rfl rfl)
theorem dX3_sumOf_30 : decode cX3_sumOf 30 = .ok (.istore_n 1, 1) := dk_60 (dk_at dksX3_sumOf_1 6 rfl rfl)
theorem dX3_sumOf_31 : decode cX3_sumOf 31 = .ok (.iload_n 1, 1) := dk_27 (dk_at dksX3_sumOf_1 7 rfl rfl)
theorem dX3_sumOf_32 : decode cX3_sumOf 32 = .ok (.aload_n 0, 1) := dk_42 (dk_at dksX3_sumOf_1 8 rfl rfl)
theorem dX3_sumOf_33 : decode cX3_sumOf 33 = .ok (.getfield 241, 3) := dk_180 0 241 (dk_at dksX3_sumOf_1 9 rfl rfl)
theorem dX3_sumOf_36 : decode cX3_sumOf 36 = .ok (.invokestatic 445, 3) := dk_184 1 189 (dk_at dksX3_sumOf_1 12 rfl rfl)
theorem dX3_sumOf_39 : decode cX3_sumOf 39 = .ok (.aload_n 0, 1) := dk_42 (dk_at dksX3_sumOf_1 15 rfl rfl)
theorem dX3_sumOf_40 : decode cX3_sumOf 40 = .ok (.invokevirtual 435, 3) := dk_182 1 179 (dk_at dksX3_sumOf_1 16 rfl rfl)
theorem dX3_sumOf_43 : decode cX3_sumOf 43 = .ok (.invokestatic 445, 3) := dk_184 1 189 (dk_at dksX3_sumOf_1 19 rfl rfl)
theorem dX3_sumOf_46 : decode cX3_sumOf 46 = .ok (.aload_n 0, 1) := dk_42 (dk_at dksX3_sumOf_1 22 rfl rfl)
theorem dX3_sumOf_47 : decode cX3_sumOf 47 = .ok (.getfield 272, 3) := dk_180 1 16 (dk_at dksX3_sumOf_2 0 rfl rfl)
theorem dX3_sumOf_50 : decode cX3_sumOf 50 = .ok (.invokestatic 445, 3) := dk_184 1 189 (dk_at dksX3_sumOf_2 3 rfl rfl)
theorem dX3_sumOf_53 : decode cX3_sumOf 53 = .ok (.aload_n 0, 1) := dk_42 (dk_at dksX3_sumOf_2 6 rfl rfl)
theorem dX3_sumOf_54 : decode cX3_sumOf 54 = .ok (.getfield 275, 3) := dk_180 1 19 (dk_at dksX3_sumOf_2 7 rfl rfl)
theorem dX3_sumOf_57 : decode cX3_sumOf 57 = .ok (.invokestatic 445, 3) := dk_184 1 189 (dk_at dksX3_sumOf_2 10 rfl rfl)
theorem dX3_sumOf_60 : decode cX3_sumOf 60 = .ok (.istore_n 1, 1) := dk_60 (dk_at dksX3_sumOf_2 13 rfl rfl)
theorem dX3_sumOf_61 : decode cX3_sumOf 61 = .ok (.iconst 0, 1) := dk_3 (dk_at dksX3_sumOf_2 14 rfl rfl)
theorem dX3_sumOf_62 : decode cX3_sumOf 62 = .ok (.istore_n 2, 1) := dk_61 (dk_at dksX3_sumOf_2 15 rfl rfl)
theorem dX3_sumOf_63 : decode cX3_sumOf 63 = .ok (.iload_n 2, 1) := dk_28 (dk_at dksX3_sumOf_2 16 rfl rfl)
theorem dX3_sumOf_64 : decode cX3_sumOf 64 = .ok (.iconst 4, 1) := dk_7 (dk_at dksX3_sumOf_2 17 rfl rfl)
theorem dX3_sumOf_65 : decode cX3_sumOf 65 = .ok (.if_icmp .ge 20, 3) := dk_162 0 20 (dk_at dksX3_sumOf_2 18 rfl rfl)
theorem dX3_sumOf_68 : decode cX3_sumOf 68 = .ok (.iload_n 1, 1) := dk_27 (dk_at dksX3_sumOf_2 21 rfl rfl)
theorem dX3_sumOf_69 : decode cX3_sumOf 69 = .ok (.aload_n 0, 1) := dk_42 (dk_at dksX3_sumOf_2 22 rfl rfl)
theorem dX3_sumOf_70 : decode cX3_sumOf 70 = .ok (.getfield 55, 3) := dk_180 0 55 (dk_at dksX3_sumOf_3 0 rfl rfl)
theorem dX3_sumOf_73 : decode cX3_sumOf 73 = .ok (.iload_n 2, 1) := dk_28 (dk_at dksX3_sumOf_3 3 rfl rfl)
theorem dX3_sumOf_74 : decode cX3_sumOf 74 = .ok (.iaload, 1) := dk_46 (dk_at dksX3_sumOf_3 4 rfl rfl)
theorem dX3_sumOf_75 : decode cX3_sumOf 75 = .ok (.invokestatic 445, 3) := dk_184 1 189 (dk_at dksX3_sumOf_3 5 rfl rfl)
theorem dX3_sumOf_78 : decode cX3_sumOf 78 = .ok (.istore_n 1, 1) := dk_60 (dk_at dksX3_sumOf_3 8 rfl rfl)
theorem dX3_sumOf_79 : decode cX3_sumOf 79 = .ok (.iinc 2 1, 3) := dk_132 2 1 (dk_at dksX3_sumOf_3 9 rfl rfl)
theorem dX3_sumOf_82 : decode cX3_sumOf 82 = .ok (.goto (-19), 3) := dk_167 255 237 (dk_at dksX3_sumOf_3 12 rfl rfl)
theorem dX3_sumOf_85 : decode cX3_sumOf 85 = .ok (.iload_n 1, 1) := dk_27 (dk_at dksX3_sumOf_3 15 rfl rfl)
theorem dX3_sumOf_86 : decode cX3_sumOf 86 = .ok (.aload_n 0, 1) := dk_42 (dk_at dksX3_sumOf_3 16 rfl rfl)
theorem dX3_sumOf_87 : decode cX3_sumOf 87 = .ok (.getfield 284, 3) := dk_180 1 28 (dk_at dksX3_sumOf_3 17 rfl rfl)
theorem dX3_sumOf_90 : decode cX3_sumOf 90 = .ok (.invokestatic 445, 3) := dk_184 1 189 (dk_at dksX3_sumOf_3 20 rfl rfl)
theorem dX3_sumOf_93 : decode cX3_sumOf 93 = .ok (.istore_n 1, 1) := dk_60 (dk_at dksX3_sumOf_3 23 rfl rfl)
theorem dX3_sumOf_94 : decode cX3_sumOf 94 = .ok (.iconst 0, 1) := dk_3 (dk_at dksX3_sumOf_4 0 rfl rfl)
theorem dX3_sumOf_95 : decode cX3_sumOf 95 = .ok (.istore_n 2, 1) := dk_61 (dk_at dksX3_sumOf_4 1 rfl rfl)
theorem dX3_sumOf_96 : decode cX3_sumOf 96 = .ok (.iload_n 2, 1) := dk_28 (dk_at dksX3_sumOf_4 2 rfl rfl)
theorem dX3_sumOf_97 : decode cX3_sumOf 97 = .ok (.sipush 256, 3) := dk_17 1 0 (dk_at dksX3_sumOf_4 3 rfl rfl)
theorem dX3_sumOf_100 : decode cX3_sumOf 100 = .ok (.if_icmp .ge 20, 3) := dk_162 0 20 (dk_at dksX3_sumOf_4 6 rfl rfl)
theorem dX3_sumOf_103 : decode cX3_sumOf 103 = .ok (.iload_n 1, 1) := dk_27 (dk_at dksX3_sumOf_4 9 rfl rfl)
theorem dX3_sumOf_104 : decode cX3_sumOf 104 = .ok (.aload_n 0, 1) := dk_42 (dk_at dksX3_sumOf_4 10 rfl rfl)
theorem dX3_sumOf_105 : decode cX3_sumOf 105 = .ok (.getfield 52, 3) := dk_180 0 52 (dk_at dksX3_sumOf_4 11 rfl rfl)
theorem dX3_sumOf_108 : decode cX3_sumOf 108 = .ok (.iload_n 2, 1) := dk_28 (dk_at dksX3_sumOf_4 14 rfl rfl)
theorem dX3_sumOf_109 : decode cX3_sumOf 109 = .ok (.iaload, 1) := dk_46 (dk_at dksX3_sumOf_4 15 rfl rfl)
theorem dX3_sumOf_110 : decode cX3_sumOf 110 = .ok (.invokestatic 445, 3) := dk_184 1 189 (dk_at dksX3_sumOf_4 16 rfl rfl)
theorem dX3_sumOf_113 : decode cX3_sumOf 113 = .ok (.istore_n 1, 1) := dk_60 (dk_at dksX3_sumOf_4 19 rfl rfl)
theorem dX3_sumOf_114 : decode cX3_sumOf 114 = .ok (.iinc 2 1, 3) := dk_132 2 1 (dk_at dksX3_sumOf_4 20 rfl rfl)
theorem dX3_sumOf_117 : decode cX3_sumOf 117 = .ok (.goto (-21), 3) := dk_167 255 235 (dk_at dksX3_sumOf_5 0 rfl rfl)
theorem dX3_sumOf_120 : decode cX3_sumOf 120 = .ok (.iconst 0, 1) := dk_3 (dk_at dksX3_sumOf_5 3 rfl rfl)
theorem dX3_sumOf_121 : decode cX3_sumOf 121 = .ok (.istore_n 2, 1) := dk_61 (dk_at dksX3_sumOf_5 4 rfl rfl)
theorem dX3_sumOf_122 : decode cX3_sumOf 122 = .ok (.iload_n 2, 1) := dk_28 (dk_at dksX3_sumOf_5 5 rfl rfl)
theorem dX3_sumOf_123 : decode cX3_sumOf 123 = .ok (.sipush 256, 3) := dk_17 1 0 (dk_at dksX3_sumOf_5 6 rfl rfl)
theorem dX3_sumOf_126 : decode cX3_sumOf 126 = .ok (.if_icmp .ge 20, 3) := dk_162 0 20 (dk_at dksX3_sumOf_5 9 rfl rfl)
theorem dX3_sumOf_129 : decode cX3_sumOf 129 = .ok (.iload_n 1, 1) := dk_27 (dk_at dksX3_sumOf_5 12 rfl rfl)
theorem dX3_sumOf_130 : decode cX3_sumOf 130 = .ok (.aload_n 0, 1) := dk_42 (dk_at dksX3_sumOf_5 13 rfl rfl)
theorem dX3_sumOf_131 : decode cX3_sumOf 131 = .ok (.getfield 79, 3) := dk_180 0 79 (dk_at dksX3_sumOf_5 14 rfl rfl)
theorem dX3_sumOf_134 : decode cX3_sumOf 134 = .ok (.iload_n 2, 1) := dk_28 (dk_at dksX3_sumOf_5 17 rfl rfl)
theorem dX3_sumOf_135 : decode cX3_sumOf 135 = .ok (.iaload, 1) := dk_46 (dk_at dksX3_sumOf_5 18 rfl rfl)
theorem dX3_sumOf_136 : decode cX3_sumOf 136 = .ok (.invokestatic 445, 3) := dk_184 1 189 (dk_at dksX3_sumOf_5 19 rfl rfl)
theorem dX3_sumOf_139 : decode cX3_sumOf 139 = .ok (.istore_n 1, 1) := dk_60 (dk_at dksX3_sumOf_5 22 rfl rfl)
theorem dX3_sumOf_140 : decode cX3_sumOf 140 = .ok (.iinc 2 1, 3) := dk_132 2 1 (dk_at dksX3_sumOf_6 0 rfl rfl)
theorem dX3_sumOf_143 : decode cX3_sumOf 143 = .ok (.goto (-21), 3) := dk_167 255 235 (dk_at dksX3_sumOf_6 3 rfl rfl)
theorem dX3_sumOf_146 : decode cX3_sumOf 146 = .ok (.iload_n 1, 1) := dk_27 (dk_at dksX3_sumOf_6 6 rfl rfl)
theorem dX3_sumOf_147 : decode cX3_sumOf 147 = .ok (.aload_n 0, 1) := dk_42 (dk_at dksX3_sumOf_6 7 rfl rfl)
theorem dX3_sumOf_148 : decode cX3_sumOf 148 = .ok (.getfield 278, 3) := dk_180 1 22 (dk_at dksX3_sumOf_6 8 rfl rfl)
theorem dX3_sumOf_151 : decode cX3_sumOf 151 = .ok (.invokestatic 445, 3) := dk_184 1 189 (dk_at dksX3_sumOf_6 11 rfl rfl)
theorem dX3_sumOf_154 : decode cX3_sumOf 154 = .ok (.istore_n 1, 1) := dk_60 (dk_at dksX3_sumOf_6 14 rfl rfl)
theorem dX3_sumOf_155 : decode cX3_sumOf 155 = .ok (.iconst 0, 1) := dk_3 (dk_at dksX3_sumOf_6 15 rfl rfl)
theorem dX3_sumOf_156 : decode cX3_sumOf 156 = .ok (.istore_n 2, 1) := dk_61 (dk_at dksX3_sumOf_6 16 rfl rfl)
theorem dX3_sumOf_157 : decode cX3_sumOf 157 = .ok (.iload_n 2, 1) := dk_28 (dk_at dksX3_sumOf_6 17 rfl rfl)
theorem dX3_sumOf_158 : decode cX3_sumOf 158 = .ok (.aload_n 0, 1) := dk_42 (dk_at dksX3_sumOf_6 18 rfl rfl)
theorem dX3_sumOf_159 : decode cX3_sumOf 159 = .ok (.getfield 278, 3) := dk_180 1 22 (dk_at dksX3_sumOf_6 19 rfl rfl)
theorem dX3_sumOf_162 : decode cX3_sumOf 162 = .ok (.if_icmp .ge 20, 3) := dk_162 0 20 (dk_at dksX3_sumOf_7 0 rfl rfl)
theorem dX3_sumOf_165 : decode cX3_sumOf 165 = .ok (.iload_n 1, 1) := dk_27 (dk_at dksX3_sumOf_7 3 rfl rfl)
theorem dX3_sumOf_166 : decode cX3_sumOf 166 = .ok (.aload_n 0, 1) := dk_42 (dk_at dksX3_sumOf_7 4 rfl rfl)
theorem dX3_sumOf_167 : decode cX3_sumOf 167 = .ok (.getfield 58, 3) := dk_180 0 58 (dk_at dksX3_sumOf_7 5 rfl rfl)
theorem dX3_sumOf_170 : decode cX3_sumOf 170 = .ok (.iload_n 2, 1) := dk_28 (dk_at dksX3_sumOf_7 8 rfl rfl)
theorem dX3_sumOf_171 : decode cX3_sumOf 171 = .ok (.iaload, 1) := dk_46 (dk_at dksX3_sumOf_7 9 rfl rfl)
theorem dX3_sumOf_172 : decode cX3_sumOf 172 = .ok (.invokestatic 445, 3) := dk_184 1 189 (dk_at dksX3_sumOf_7 10 rfl rfl)
theorem dX3_sumOf_175 : decode cX3_sumOf 175 = .ok (.istore_n 1, 1) := dk_60 (dk_at dksX3_sumOf_7 13 rfl rfl)
theorem dX3_sumOf_176 : decode cX3_sumOf 176 = .ok (.iinc 2 1, 3) := dk_132 2 1 (dk_at dksX3_sumOf_7 14 rfl rfl)
theorem dX3_sumOf_179 : decode cX3_sumOf 179 = .ok (.goto (-22), 3) := dk_167 255 234 (dk_at dksX3_sumOf_7 17 rfl rfl)
theorem dX3_sumOf_182 : decode cX3_sumOf 182 = .ok (.iload_n 1, 1) := dk_27 (dk_at dksX3_sumOf_7 20 rfl rfl)
theorem dX3_sumOf_183 : decode cX3_sumOf 183 = .ok (.ireturn, 1) := dk_172 (dk_at dksX3_sumOf_7 21 rfl rfl)
abbrev cX3_added : ByteArray := prog_28_method_99_code
def yX3_added : MethodName := ⟨RX3, "added", "(II)I"⟩
def dkwX3_added_0 : List UInt8 := [20, 1, 185, 26, 133, 105, 27, 133, 97, 20, 1, 187, 113, 136, 172]
abbrev dktX3_added_0 : List UInt8 := dkwX3_added_0 ++ []
theorem dksX3_added_0 : cX3_added.data.toList.drop 0 = dktX3_added_0 := by decide +kernel
theorem dX3_added_0 : decode cX3_added 0 = .ok (.ldc2_w 441, 3) := dk_20 1 185 (dk_at dksX3_added_0 0 rfl rfl)
theorem dX3_added_3 : decode cX3_added 3 = .ok (.iload_n 0, 1) := dk_26 (dk_at dksX3_added_0 3 rfl rfl)
theorem dX3_added_4 : decode cX3_added 4 = .ok (.i2l, 1) := dk_133 (dk_at dksX3_added_0 4 rfl rfl)
theorem dX3_added_5 : decode cX3_added 5 = .ok (.lmul, 1) := dk_105 (dk_at dksX3_added_0 5 rfl rfl)
theorem dX3_added_6 : decode cX3_added 6 = .ok (.iload_n 1, 1) := dk_27 (dk_at dksX3_added_0 6 rfl rfl)
theorem dX3_added_7 : decode cX3_added 7 = .ok (.i2l, 1) := dk_133 (dk_at dksX3_added_0 7 rfl rfl)
theorem dX3_added_8 : decode cX3_added 8 = .ok (.ladd, 1) := dk_97 (dk_at dksX3_added_0 8 rfl rfl)
theorem dX3_added_9 : decode cX3_added 9 = .ok (.ldc2_w 443, 3) := dk_20 1 187 (dk_at dksX3_added_0 9 rfl rfl)
theorem dX3_added_12 : decode cX3_added 12 = .ok (.lrem, 1) := dk_113 (dk_at dksX3_added_0 12 rfl rfl)
theorem dX3_added_13 : decode cX3_added 13 = .ok (.l2i, 1) := dk_136 (dk_at dksX3_added_0 13 rfl rfl)
theorem dX3_added_14 : decode cX3_added 14 = .ok (.ireturn, 1) := dk_172 (dk_at dksX3_added_0 14 rfl rfl)
abbrev cX3_sumAnew : ByteArray := prog_28_method_102_code
def yX3_sumAnew : MethodName := ⟨RX3, "sumAnew", "(I)I"⟩
def dkwX3_sumAnew_2 : List UInt8 := [182, 1, 192, 62, 42, 28, 182, 1, 176, 29, 172]
abbrev dktX3_sumAnew_2 : List UInt8 := dkwX3_sumAnew_2 ++ []
def dkwX3_sumAnew_1 : List UInt8 := [3, 167, 0, 4, 5, 182, 0, 152, 154, 0, 5, 3, 172, 42, 180, 0, 235, 61, 42, 27, 182, 1, 176, 42]
abbrev dktX3_sumAnew_1 : List UInt8 := dkwX3_sumAnew_1 ++ dktX3_sumAnew_2
def dkwX3_sumAnew_0 : List UInt8 := [42, 42, 182, 1, 157, 154, 0, 7, 4, 167, 0, 20, 27, 3, 42, 180, 0, 235, 184, 0, 147, 153, 0, 7]
abbrev dktX3_sumAnew_0 : List UInt8 := dkwX3_sumAnew_0 ++ dktX3_sumAnew_1
theorem dksX3_sumAnew_0 : cX3_sumAnew.data.toList.drop 0 = dktX3_sumAnew_0 := by decide +kernel
theorem dksX3_sumAnew_1 : cX3_sumAnew.data.toList.drop 24 = dktX3_sumAnew_1 := dk_seg dksX3_sumAnew_0 24 rfl rfl
theorem dksX3_sumAnew_2 : cX3_sumAnew.data.toList.drop 48 = dktX3_sumAnew_2 := dk_seg dksX3_sumAnew_1 24 rfl rfl
theorem dX3_sumAnew_0 : decode cX3_sumAnew 0 = .ok (.aload_n 0, 1) := dk_42 (dk_at dksX3_sumAnew_0 0 rfl rfl)
theorem dX3_sumAnew_1 : decode cX3_sumAnew 1 = .ok (.aload_n 0, 1) := dk_42 (dk_at dksX3_sumAnew_0 1 rfl rfl)
theorem dX3_sumAnew_2 : decode cX3_sumAnew 2 = .ok (.invokevirtual 413, 3) := dk_182 1 157 (dk_at dksX3_sumAnew_0 2 rfl rfl)
theorem dX3_sumAnew_5 : decode cX3_sumAnew 5 = .ok (.ifCond .ne 7, 3) := dk_154 0 7 (dk_at dksX3_sumAnew_0 5 rfl rfl)
theorem dX3_sumAnew_8 : decode cX3_sumAnew 8 = .ok (.iconst 1, 1) := dk_4 (dk_at dksX3_sumAnew_0 8 rfl rfl)
theorem dX3_sumAnew_9 : decode cX3_sumAnew 9 = .ok (.goto 20, 3) := dk_167 0 20 (dk_at dksX3_sumAnew_0 9 rfl rfl)
theorem dX3_sumAnew_12 : decode cX3_sumAnew 12 = .ok (.iload_n 1, 1) := dk_27 (dk_at dksX3_sumAnew_0 12 rfl rfl)
theorem dX3_sumAnew_13 : decode cX3_sumAnew 13 = .ok (.iconst 0, 1) := dk_3 (dk_at dksX3_sumAnew_0 13 rfl rfl)
theorem dX3_sumAnew_14 : decode cX3_sumAnew 14 = .ok (.aload_n 0, 1) := dk_42 (dk_at dksX3_sumAnew_0 14 rfl rfl)
theorem dX3_sumAnew_15 : decode cX3_sumAnew 15 = .ok (.getfield 235, 3) := dk_180 0 235 (dk_at dksX3_sumAnew_0 15 rfl rfl)
theorem dX3_sumAnew_18 : decode cX3_sumAnew 18 = .ok (.invokestatic 147, 3) := dk_184 0 147 (dk_at dksX3_sumAnew_0 18 rfl rfl)
theorem dX3_sumAnew_21 : decode cX3_sumAnew 21 = .ok (.ifCond .eq 7, 3) := dk_153 0 7 (dk_at dksX3_sumAnew_0 21 rfl rfl)
theorem dX3_sumAnew_24 : decode cX3_sumAnew 24 = .ok (.iconst 0, 1) := dk_3 (dk_at dksX3_sumAnew_1 0 rfl rfl)
theorem dX3_sumAnew_25 : decode cX3_sumAnew 25 = .ok (.goto 4, 3) := dk_167 0 4 (dk_at dksX3_sumAnew_1 1 rfl rfl)
theorem dX3_sumAnew_28 : decode cX3_sumAnew 28 = .ok (.iconst 2, 1) := dk_5 (dk_at dksX3_sumAnew_1 4 rfl rfl)
theorem dX3_sumAnew_29 : decode cX3_sumAnew 29 = .ok (.invokevirtual 152, 3) := dk_182 0 152 (dk_at dksX3_sumAnew_1 5 rfl rfl)
theorem dX3_sumAnew_32 : decode cX3_sumAnew 32 = .ok (.ifCond .ne 5, 3) := dk_154 0 5 (dk_at dksX3_sumAnew_1 8 rfl rfl)
theorem dX3_sumAnew_35 : decode cX3_sumAnew 35 = .ok (.iconst 0, 1) := dk_3 (dk_at dksX3_sumAnew_1 11 rfl rfl)
theorem dX3_sumAnew_36 : decode cX3_sumAnew 36 = .ok (.ireturn, 1) := dk_172 (dk_at dksX3_sumAnew_1 12 rfl rfl)
theorem dX3_sumAnew_37 : decode cX3_sumAnew 37 = .ok (.aload_n 0, 1) := dk_42 (dk_at dksX3_sumAnew_1 13 rfl rfl)
theorem dX3_sumAnew_38 : decode cX3_sumAnew 38 = .ok (.getfield 235, 3) := dk_180 0 235 (dk_at dksX3_sumAnew_1 14 rfl rfl)
theorem dX3_sumAnew_41 : decode cX3_sumAnew 41 = .ok (.istore_n 2, 1) := dk_61 (dk_at dksX3_sumAnew_1 17 rfl rfl)
theorem dX3_sumAnew_42 : decode cX3_sumAnew 42 = .ok (.aload_n 0, 1) := dk_42 (dk_at dksX3_sumAnew_1 18 rfl rfl)
theorem dX3_sumAnew_43 : decode cX3_sumAnew 43 = .ok (.iload_n 1, 1) := dk_27 (dk_at dksX3_sumAnew_1 19 rfl rfl)
theorem dX3_sumAnew_44 : decode cX3_sumAnew 44 = .ok (.invokevirtual 432, 3) := dk_182 1 176 (dk_at dksX3_sumAnew_1 20 rfl rfl)
theorem dX3_sumAnew_47 : decode cX3_sumAnew 47 = .ok (.aload_n 0, 1) := dk_42 (dk_at dksX3_sumAnew_1 23 rfl rfl)
theorem dX3_sumAnew_48 : decode cX3_sumAnew 48 = .ok (.invokevirtual 448, 3) := dk_182 1 192 (dk_at dksX3_sumAnew_2 0 rfl rfl)
theorem dX3_sumAnew_51 : decode cX3_sumAnew 51 = .ok (.istore_n 3, 1) := dk_62 (dk_at dksX3_sumAnew_2 3 rfl rfl)
theorem dX3_sumAnew_52 : decode cX3_sumAnew 52 = .ok (.aload_n 0, 1) := dk_42 (dk_at dksX3_sumAnew_2 4 rfl rfl)
theorem dX3_sumAnew_53 : decode cX3_sumAnew 53 = .ok (.iload_n 2, 1) := dk_28 (dk_at dksX3_sumAnew_2 5 rfl rfl)
theorem dX3_sumAnew_54 : decode cX3_sumAnew 54 = .ok (.invokevirtual 432, 3) := dk_182 1 176 (dk_at dksX3_sumAnew_2 6 rfl rfl)
theorem dX3_sumAnew_57 : decode cX3_sumAnew 57 = .ok (.iload_n 3, 1) := dk_29 (dk_at dksX3_sumAnew_2 9 rfl rfl)
theorem dX3_sumAnew_58 : decode cX3_sumAnew 58 = .ok (.ireturn, 1) := dk_172 (dk_at dksX3_sumAnew_2 10 rfl rfl)
abbrev cX3_written : ByteArray := prog_28_method_104_code
def yX3_written : MethodName := ⟨RX3, "written", "()I"⟩
def dkwX3_written_0 : List UInt8 := [42, 3, 181, 0, 140, 42, 180, 1, 133, 172]
abbrev dktX3_written_0 : List UInt8 := dkwX3_written_0 ++ []
theorem dksX3_written_0 : cX3_written.data.toList.drop 0 = dktX3_written_0 := by decide +kernel
theorem dX3_written_0 : decode cX3_written 0 = .ok (.aload_n 0, 1) := dk_42 (dk_at dksX3_written_0 0 rfl rfl)
theorem dX3_written_1 : decode cX3_written 1 = .ok (.iconst 0, 1) := dk_3 (dk_at dksX3_written_0 1 rfl rfl)
theorem dX3_written_2 : decode cX3_written 2 = .ok (.putfield 140, 3) := dk_181 0 140 (dk_at dksX3_written_0 2 rfl rfl)
theorem dX3_written_5 : decode cX3_written 5 = .ok (.aload_n 0, 1) := dk_42 (dk_at dksX3_written_0 5 rfl rfl)
theorem dX3_written_6 : decode cX3_written 6 = .ok (.getfield 389, 3) := dk_180 1 133 (dk_at dksX3_written_0 6 rfl rfl)
theorem dX3_written_9 : decode cX3_written 9 = .ok (.ireturn, 1) := dk_172 (dk_at dksX3_written_0 9 rfl rfl)
abbrev cX3_disk : ByteArray := prog_28_method_105_code
def yX3_disk : MethodName := ⟨RX3, "disk", "(II)I"⟩
def dkwX3_disk_2 : List UInt8 := [3, 172]
abbrev dktX3_disk_2 : List UInt8 := dkwX3_disk_2 ++ []
def dkwX3_disk_1 : List UInt8 := [167, 0, 4, 4, 182, 0, 152, 153, 0, 17, 42, 180, 0, 79, 16, 8, 27, 104, 28, 96, 46, 167, 0, 4]
abbrev dktX3_disk_1 : List UInt8 := dkwX3_disk_1 ++ dktX3_disk_2
def dkwX3_disk_0 : List UInt8 := [42, 27, 3, 16, 31, 184, 0, 147, 153, 0, 17, 28, 3, 16, 7, 184, 0, 147, 153, 0, 7, 3]
abbrev dktX3_disk_0 : List UInt8 := dkwX3_disk_0 ++ dktX3_disk_1
theorem dksX3_disk_0 : cX3_disk.data.toList.drop 0 = dktX3_disk_0 := by decide +kernel
theorem dksX3_disk_1 : cX3_disk.data.toList.drop 22 = dktX3_disk_1 := dk_seg dksX3_disk_0 22 rfl rfl
theorem dksX3_disk_2 : cX3_disk.data.toList.drop 46 = dktX3_disk_2 := dk_seg dksX3_disk_1 24 rfl rfl
theorem dX3_disk_0 : decode cX3_disk 0 = .ok (.aload_n 0, 1) := dk_42 (dk_at dksX3_disk_0 0 rfl rfl)
theorem dX3_disk_1 : decode cX3_disk 1 = .ok (.iload_n 1, 1) := dk_27 (dk_at dksX3_disk_0 1 rfl rfl)
theorem dX3_disk_2 : decode cX3_disk 2 = .ok (.iconst 0, 1) := dk_3 (dk_at dksX3_disk_0 2 rfl rfl)
theorem dX3_disk_3 : decode cX3_disk 3 = .ok (.bipush 31, 2) := dk_16 31 (dk_at dksX3_disk_0 3 rfl rfl)
theorem dX3_disk_5 : decode cX3_disk 5 = .ok (.invokestatic 147, 3) := dk_184 0 147 (dk_at dksX3_disk_0 5 rfl rfl)
theorem dX3_disk_8 : decode cX3_disk 8 = .ok (.ifCond .eq 17, 3) := dk_153 0 17 (dk_at dksX3_disk_0 8 rfl rfl)
theorem dX3_disk_11 : decode cX3_disk 11 = .ok (.iload_n 2, 1) := dk_28 (dk_at dksX3_disk_0 11 rfl rfl)
theorem dX3_disk_12 : decode cX3_disk 12 = .ok (.iconst 0, 1) := dk_3 (dk_at dksX3_disk_0 12 rfl rfl)
theorem dX3_disk_13 : decode cX3_disk 13 = .ok (.bipush 7, 2) := dk_16 7 (dk_at dksX3_disk_0 13 rfl rfl)
theorem dX3_disk_15 : decode cX3_disk 15 = .ok (.invokestatic 147, 3) := dk_184 0 147 (dk_at dksX3_disk_0 15 rfl rfl)
theorem dX3_disk_18 : decode cX3_disk 18 = .ok (.ifCond .eq 7, 3) := dk_153 0 7 (dk_at dksX3_disk_0 18 rfl rfl)
theorem dX3_disk_21 : decode cX3_disk 21 = .ok (.iconst 0, 1) := dk_3 (dk_at dksX3_disk_0 21 rfl rfl)
theorem dX3_disk_22 : decode cX3_disk 22 = .ok (.goto 4, 3) := dk_167 0 4 (dk_at dksX3_disk_1 0 rfl rfl)
theorem dX3_disk_25 : decode cX3_disk 25 = .ok (.iconst 1, 1) := dk_4 (dk_at dksX3_disk_1 3 rfl rfl)
theorem dX3_disk_26 : decode cX3_disk 26 = .ok (.invokevirtual 152, 3) := dk_182 0 152 (dk_at dksX3_disk_1 4 rfl rfl)
theorem dX3_disk_29 : decode cX3_disk 29 = .ok (.ifCond .eq 17, 3) := dk_153 0 17 (dk_at dksX3_disk_1 7 rfl rfl)
theorem dX3_disk_32 : decode cX3_disk 32 = .ok (.aload_n 0, 1) := dk_42 (dk_at dksX3_disk_1 10 rfl rfl)
theorem dX3_disk_33 : decode cX3_disk 33 = .ok (.getfield 79, 3) := dk_180 0 79 (dk_at dksX3_disk_1 11 rfl rfl)
theorem dX3_disk_36 : decode cX3_disk 36 = .ok (.bipush 8, 2) := dk_16 8 (dk_at dksX3_disk_1 14 rfl rfl)
theorem dX3_disk_38 : decode cX3_disk 38 = .ok (.iload_n 1, 1) := dk_27 (dk_at dksX3_disk_1 16 rfl rfl)
theorem dX3_disk_39 : decode cX3_disk 39 = .ok (.imul, 1) := dk_104 (dk_at dksX3_disk_1 17 rfl rfl)
theorem dX3_disk_40 : decode cX3_disk 40 = .ok (.iload_n 2, 1) := dk_28 (dk_at dksX3_disk_1 18 rfl rfl)
theorem dX3_disk_41 : decode cX3_disk 41 = .ok (.iadd, 1) := dk_96 (dk_at dksX3_disk_1 19 rfl rfl)
theorem dX3_disk_42 : decode cX3_disk 42 = .ok (.iaload, 1) := dk_46 (dk_at dksX3_disk_1 20 rfl rfl)
theorem dX3_disk_43 : decode cX3_disk 43 = .ok (.goto 4, 3) := dk_167 0 4 (dk_at dksX3_disk_1 21 rfl rfl)
theorem dX3_disk_46 : decode cX3_disk 46 = .ok (.iconst 0, 1) := dk_3 (dk_at dksX3_disk_2 0 rfl rfl)
theorem dX3_disk_47 : decode cX3_disk 47 = .ok (.ireturn, 1) := dk_172 (dk_at dksX3_disk_2 1 rfl rfl)
abbrev cX3_files : ByteArray := prog_28_method_106_code
def yX3_files : MethodName := ⟨RX3, "files", "()I"⟩
def dkwX3_files_0 : List UInt8 := [42, 3, 181, 0, 140, 42, 182, 1, 167, 172]
abbrev dktX3_files_0 : List UInt8 := dkwX3_files_0 ++ []
theorem dksX3_files_0 : cX3_files.data.toList.drop 0 = dktX3_files_0 := by decide +kernel
theorem dX3_files_0 : decode cX3_files 0 = .ok (.aload_n 0, 1) := dk_42 (dk_at dksX3_files_0 0 rfl rfl)
theorem dX3_files_1 : decode cX3_files 1 = .ok (.iconst 0, 1) := dk_3 (dk_at dksX3_files_0 1 rfl rfl)
theorem dX3_files_2 : decode cX3_files 2 = .ok (.putfield 140, 3) := dk_181 0 140 (dk_at dksX3_files_0 2 rfl rfl)
theorem dX3_files_5 : decode cX3_files 5 = .ok (.aload_n 0, 1) := dk_42 (dk_at dksX3_files_0 5 rfl rfl)
theorem dX3_files_6 : decode cX3_files 6 = .ok (.invokevirtual 423, 3) := dk_182 1 167 (dk_at dksX3_files_0 6 rfl rfl)
theorem dX3_files_9 : decode cX3_files 9 = .ok (.ireturn, 1) := dk_172 (dk_at dksX3_files_0 9 rfl rfl)
abbrev cX3_size : ByteArray := prog_28_method_108_code
def yX3_size : MethodName := ⟨RX3, "size", "(I)I"⟩
def dkwX3_size_1 : List UInt8 := [184, 1, 84, 4, 96, 46, 167, 0, 4, 3, 172]
abbrev dktX3_size_1 : List UInt8 := dkwX3_size_1 ++ []
def dkwX3_size_0 : List UInt8 := [42, 42, 27, 182, 1, 195, 182, 0, 152, 153, 0, 24, 42, 180, 0, 79, 42, 180, 0, 79, 27, 184, 1, 91]
abbrev dktX3_size_0 : List UInt8 := dkwX3_size_0 ++ dktX3_size_1
theorem dksX3_size_0 : cX3_size.data.toList.drop 0 = dktX3_size_0 := by decide +kernel
theorem dksX3_size_1 : cX3_size.data.toList.drop 24 = dktX3_size_1 := dk_seg dksX3_size_0 24 rfl rfl
theorem dX3_size_0 : decode cX3_size 0 = .ok (.aload_n 0, 1) := dk_42 (dk_at dksX3_size_0 0 rfl rfl)
theorem dX3_size_1 : decode cX3_size 1 = .ok (.aload_n 0, 1) := dk_42 (dk_at dksX3_size_0 1 rfl rfl)
theorem dX3_size_2 : decode cX3_size 2 = .ok (.iload_n 1, 1) := dk_27 (dk_at dksX3_size_0 2 rfl rfl)
theorem dX3_size_3 : decode cX3_size 3 = .ok (.invokevirtual 451, 3) := dk_182 1 195 (dk_at dksX3_size_0 3 rfl rfl)
theorem dX3_size_6 : decode cX3_size 6 = .ok (.invokevirtual 152, 3) := dk_182 0 152 (dk_at dksX3_size_0 6 rfl rfl)
theorem dX3_size_9 : decode cX3_size 9 = .ok (.ifCond .eq 24, 3) := dk_153 0 24 (dk_at dksX3_size_0 9 rfl rfl)
theorem dX3_size_12 : decode cX3_size 12 = .ok (.aload_n 0, 1) := dk_42 (dk_at dksX3_size_0 12 rfl rfl)
theorem dX3_size_13 : decode cX3_size 13 = .ok (.getfield 79, 3) := dk_180 0 79 (dk_at dksX3_size_0 13 rfl rfl)
theorem dX3_size_16 : decode cX3_size 16 = .ok (.aload_n 0, 1) := dk_42 (dk_at dksX3_size_0 16 rfl rfl)
theorem dX3_size_17 : decode cX3_size 17 = .ok (.getfield 79, 3) := dk_180 0 79 (dk_at dksX3_size_0 17 rfl rfl)
theorem dX3_size_20 : decode cX3_size 20 = .ok (.iload_n 1, 1) := dk_27 (dk_at dksX3_size_0 20 rfl rfl)
theorem dX3_size_21 : decode cX3_size 21 = .ok (.invokestatic 347, 3) := dk_184 1 91 (dk_at dksX3_size_0 21 rfl rfl)
theorem dX3_size_24 : decode cX3_size 24 = .ok (.invokestatic 340, 3) := dk_184 1 84 (dk_at dksX3_size_1 0 rfl rfl)
theorem dX3_size_27 : decode cX3_size 27 = .ok (.iconst 1, 1) := dk_4 (dk_at dksX3_size_1 3 rfl rfl)
theorem dX3_size_28 : decode cX3_size 28 = .ok (.iadd, 1) := dk_96 (dk_at dksX3_size_1 4 rfl rfl)
theorem dX3_size_29 : decode cX3_size 29 = .ok (.iaload, 1) := dk_46 (dk_at dksX3_size_1 5 rfl rfl)
theorem dX3_size_30 : decode cX3_size 30 = .ok (.goto 4, 3) := dk_167 0 4 (dk_at dksX3_size_1 6 rfl rfl)
theorem dX3_size_33 : decode cX3_size 33 = .ok (.iconst 0, 1) := dk_3 (dk_at dksX3_size_1 9 rfl rfl)
theorem dX3_size_34 : decode cX3_size 34 = .ok (.ireturn, 1) := dk_172 (dk_at dksX3_size_1 10 rfl rfl)
abbrev cX3_errorOfName : ByteArray := prog_28_method_107_code
def yX3_errorOfName : MethodName := ⟨RX3, "errorOfName", "(I)I"⟩
def dkwX3_errorOfName_1 : List UInt8 := [160, 0, 7, 5, 167, 0, 4, 3, 172]
abbrev dktX3_errorOfName_1 : List UInt8 := dkwX3_errorOfName_1 ++ []
def dkwX3_errorOfName_0 : List UInt8 := [27, 4, 18, 151, 184, 0, 147, 154, 0, 7, 4, 167, 0, 20, 42, 180, 0, 79, 27, 184, 1, 91, 2]
abbrev dktX3_errorOfName_0 : List UInt8 := dkwX3_errorOfName_0 ++ dktX3_errorOfName_1
theorem dksX3_errorOfName_0 : cX3_errorOfName.data.toList.drop 0 = dktX3_errorOfName_0 := by decide +kernel
theorem dksX3_errorOfName_1 : cX3_errorOfName.data.toList.drop 23 = dktX3_errorOfName_1 := dk_seg dksX3_errorOfName_0 23 rfl rfl
theorem dX3_errorOfName_0 : decode cX3_errorOfName 0 = .ok (.iload_n 1, 1) := dk_27 (dk_at dksX3_errorOfName_0 0 rfl rfl)
theorem dX3_errorOfName_1 : decode cX3_errorOfName 1 = .ok (.iconst 1, 1) := dk_4 (dk_at dksX3_errorOfName_0 1 rfl rfl)
theorem dX3_errorOfName_2 : decode cX3_errorOfName 2 = .ok (.ldc 151, 2) := dk_18 151 (dk_at dksX3_errorOfName_0 2 rfl rfl)
theorem dX3_errorOfName_4 : decode cX3_errorOfName 4 = .ok (.invokestatic 147, 3) := dk_184 0 147 (dk_at dksX3_errorOfName_0 4 rfl rfl)
theorem dX3_errorOfName_7 : decode cX3_errorOfName 7 = .ok (.ifCond .ne 7, 3) := dk_154 0 7 (dk_at dksX3_errorOfName_0 7 rfl rfl)
theorem dX3_errorOfName_10 : decode cX3_errorOfName 10 = .ok (.iconst 1, 1) := dk_4 (dk_at dksX3_errorOfName_0 10 rfl rfl)
theorem dX3_errorOfName_11 : decode cX3_errorOfName 11 = .ok (.goto 20, 3) := dk_167 0 20 (dk_at dksX3_errorOfName_0 11 rfl rfl)
theorem dX3_errorOfName_14 : decode cX3_errorOfName 14 = .ok (.aload_n 0, 1) := dk_42 (dk_at dksX3_errorOfName_0 14 rfl rfl)
theorem dX3_errorOfName_15 : decode cX3_errorOfName 15 = .ok (.getfield 79, 3) := dk_180 0 79 (dk_at dksX3_errorOfName_0 15 rfl rfl)
theorem dX3_errorOfName_18 : decode cX3_errorOfName 18 = .ok (.iload_n 1, 1) := dk_27 (dk_at dksX3_errorOfName_0 18 rfl rfl)
theorem dX3_errorOfName_19 : decode cX3_errorOfName 19 = .ok (.invokestatic 347, 3) := dk_184 1 91 (dk_at dksX3_errorOfName_0 19 rfl rfl)
theorem dX3_errorOfName_22 : decode cX3_errorOfName 22 = .ok (.iconst (-1), 1) := dk_2 (dk_at dksX3_errorOfName_0 22 rfl rfl)
theorem dX3_errorOfName_23 : decode cX3_errorOfName 23 = .ok (.if_icmp .ne 7, 3) := dk_160 0 7 (dk_at dksX3_errorOfName_1 0 rfl rfl)
theorem dX3_errorOfName_26 : decode cX3_errorOfName 26 = .ok (.iconst 2, 1) := dk_5 (dk_at dksX3_errorOfName_1 3 rfl rfl)
theorem dX3_errorOfName_27 : decode cX3_errorOfName 27 = .ok (.goto 4, 3) := dk_167 0 4 (dk_at dksX3_errorOfName_1 4 rfl rfl)
theorem dX3_errorOfName_30 : decode cX3_errorOfName 30 = .ok (.iconst 0, 1) := dk_3 (dk_at dksX3_errorOfName_1 7 rfl rfl)
theorem dX3_errorOfName_31 : decode cX3_errorOfName 31 = .ok (.ireturn, 1) := dk_172 (dk_at dksX3_errorOfName_1 8 rfl rfl)
abbrev cX3_wordOf : ByteArray := prog_28_method_109_code
def yX3_wordOf : MethodName := ⟨RX3, "wordOf", "(II)I"⟩
def dkwX3_wordOf_3 : List UInt8 := [180, 0, 79, 21, 4, 28, 182, 1, 101, 104, 28, 16, 8, 112, 96, 46, 172]
abbrev dktX3_wordOf_3 : List UInt8 := dkwX3_wordOf_3 ++ []
def dkwX3_wordOf_2 : List UInt8 := [153, 0, 7, 3, 167, 0, 4, 6, 182, 0, 152, 154, 0, 5, 3, 172, 42, 180, 0, 79, 16, 8, 42, 42]
abbrev dktX3_wordOf_2 : List UInt8 := dkwX3_wordOf_2 ++ dktX3_wordOf_3
def dkwX3_wordOf_1 : List UInt8 := [167, 0, 30, 28, 3, 42, 180, 0, 79, 21, 4, 184, 1, 84, 4, 96, 46, 4, 100, 184, 0, 147]
abbrev dktX3_wordOf_1 : List UInt8 := dkwX3_wordOf_1 ++ dktX3_wordOf_2
def dkwX3_wordOf_0 : List UInt8 := [42, 27, 182, 1, 195, 62, 42, 180, 0, 79, 27, 184, 1, 91, 54, 4, 42, 29, 153, 0, 7, 29]
abbrev dktX3_wordOf_0 : List UInt8 := dkwX3_wordOf_0 ++ dktX3_wordOf_1
theorem dksX3_wordOf_0 : cX3_wordOf.data.toList.drop 0 = dktX3_wordOf_0 := by decide +kernel
theorem dksX3_wordOf_1 : cX3_wordOf.data.toList.drop 22 = dktX3_wordOf_1 := dk_seg dksX3_wordOf_0 22 rfl rfl
theorem dksX3_wordOf_2 : cX3_wordOf.data.toList.drop 44 = dktX3_wordOf_2 := dk_seg dksX3_wordOf_1 22 rfl rfl
theorem dksX3_wordOf_3 : cX3_wordOf.data.toList.drop 68 = dktX3_wordOf_3 := dk_seg dksX3_wordOf_2 24 rfl rfl
theorem dX3_wordOf_0 : decode cX3_wordOf 0 = .ok (.aload_n 0, 1) := dk_42 (dk_at dksX3_wordOf_0 0 rfl rfl)
theorem dX3_wordOf_1 : decode cX3_wordOf 1 = .ok (.iload_n 1, 1) := dk_27 (dk_at dksX3_wordOf_0 1 rfl rfl)
theorem dX3_wordOf_2 : decode cX3_wordOf 2 = .ok (.invokevirtual 451, 3) := dk_182 1 195 (dk_at dksX3_wordOf_0 2 rfl rfl)
theorem dX3_wordOf_5 : decode cX3_wordOf 5 = .ok (.istore_n 3, 1) := dk_62 (dk_at dksX3_wordOf_0 5 rfl rfl)
theorem dX3_wordOf_6 : decode cX3_wordOf 6 = .ok (.aload_n 0, 1) := dk_42 (dk_at dksX3_wordOf_0 6 rfl rfl)
theorem dX3_wordOf_7 : decode cX3_wordOf 7 = .ok (.getfield 79, 3) := dk_180 0 79 (dk_at dksX3_wordOf_0 7 rfl rfl)
theorem dX3_wordOf_10 : decode cX3_wordOf 10 = .ok (.iload_n 1, 1) := dk_27 (dk_at dksX3_wordOf_0 10 rfl rfl)
theorem dX3_wordOf_11 : decode cX3_wordOf 11 = .ok (.invokestatic 347, 3) := dk_184 1 91 (dk_at dksX3_wordOf_0 11 rfl rfl)
theorem dX3_wordOf_14 : decode cX3_wordOf 14 = .ok (.istore 4, 2) := dk_54 4 (dk_at dksX3_wordOf_0 14 rfl rfl)
theorem dX3_wordOf_16 : decode cX3_wordOf 16 = .ok (.aload_n 0, 1) := dk_42 (dk_at dksX3_wordOf_0 16 rfl rfl)
theorem dX3_wordOf_17 : decode cX3_wordOf 17 = .ok (.iload_n 3, 1) := dk_29 (dk_at dksX3_wordOf_0 17 rfl rfl)
theorem dX3_wordOf_18 : decode cX3_wordOf 18 = .ok (.ifCond .eq 7, 3) := dk_153 0 7 (dk_at dksX3_wordOf_0 18 rfl rfl)
theorem dX3_wordOf_21 : decode cX3_wordOf 21 = .ok (.iload_n 3, 1) := dk_29 (dk_at dksX3_wordOf_0 21 rfl rfl)
theorem dX3_wordOf_22 : decode cX3_wordOf 22 = .ok (.goto 30, 3) := dk_167 0 30 (dk_at dksX3_wordOf_1 0 rfl rfl)
theorem dX3_wordOf_25 : decode cX3_wordOf 25 = .ok (.iload_n 2, 1) := dk_28 (dk_at dksX3_wordOf_1 3 rfl rfl)
theorem dX3_wordOf_26 : decode cX3_wordOf 26 = .ok (.iconst 0, 1) := dk_3 (dk_at dksX3_wordOf_1 4 rfl rfl)
theorem dX3_wordOf_27 : decode cX3_wordOf 27 = .ok (.aload_n 0, 1) := dk_42 (dk_at dksX3_wordOf_1 5 rfl rfl)
theorem dX3_wordOf_28 : decode cX3_wordOf 28 = .ok (.getfield 79, 3) := dk_180 0 79 (dk_at dksX3_wordOf_1 6 rfl rfl)
theorem dX3_wordOf_31 : decode cX3_wordOf 31 = .ok (.iload 4, 2) := dk_21 4 (dk_at dksX3_wordOf_1 9 rfl rfl)
theorem dX3_wordOf_33 : decode cX3_wordOf 33 = .ok (.invokestatic 340, 3) := dk_184 1 84 (dk_at dksX3_wordOf_1 11 rfl rfl)
theorem dX3_wordOf_36 : decode cX3_wordOf 36 = .ok (.iconst 1, 1) := dk_4 (dk_at dksX3_wordOf_1 14 rfl rfl)
theorem dX3_wordOf_37 : decode cX3_wordOf 37 = .ok (.iadd, 1) := dk_96 (dk_at dksX3_wordOf_1 15 rfl rfl)
theorem dX3_wordOf_38 : decode cX3_wordOf 38 = .ok (.iaload, 1) := dk_46 (dk_at dksX3_wordOf_1 16 rfl rfl)
theorem dX3_wordOf_39 : decode cX3_wordOf 39 = .ok (.iconst 1, 1) := dk_4 (dk_at dksX3_wordOf_1 17 rfl rfl)
theorem dX3_wordOf_40 : decode cX3_wordOf 40 = .ok (.isub, 1) := dk_100 (dk_at dksX3_wordOf_1 18 rfl rfl)
theorem dX3_wordOf_41 : decode cX3_wordOf 41 = .ok (.invokestatic 147, 3) := dk_184 0 147 (dk_at dksX3_wordOf_1 19 rfl rfl)
theorem dX3_wordOf_44 : decode cX3_wordOf 44 = .ok (.ifCond .eq 7, 3) := dk_153 0 7 (dk_at dksX3_wordOf_2 0 rfl rfl)
theorem dX3_wordOf_47 : decode cX3_wordOf 47 = .ok (.iconst 0, 1) := dk_3 (dk_at dksX3_wordOf_2 3 rfl rfl)
theorem dX3_wordOf_48 : decode cX3_wordOf 48 = .ok (.goto 4, 3) := dk_167 0 4 (dk_at dksX3_wordOf_2 4 rfl rfl)
theorem dX3_wordOf_51 : decode cX3_wordOf 51 = .ok (.iconst 3, 1) := dk_6 (dk_at dksX3_wordOf_2 7 rfl rfl)
theorem dX3_wordOf_52 : decode cX3_wordOf 52 = .ok (.invokevirtual 152, 3) := dk_182 0 152 (dk_at dksX3_wordOf_2 8 rfl rfl)
theorem dX3_wordOf_55 : decode cX3_wordOf 55 = .ok (.ifCond .ne 5, 3) := dk_154 0 5 (dk_at dksX3_wordOf_2 11 rfl rfl)
theorem dX3_wordOf_58 : decode cX3_wordOf 58 = .ok (.iconst 0, 1) := dk_3 (dk_at dksX3_wordOf_2 14 rfl rfl)
theorem dX3_wordOf_59 : decode cX3_wordOf 59 = .ok (.ireturn, 1) := dk_172 (dk_at dksX3_wordOf_2 15 rfl rfl)
theorem dX3_wordOf_60 : decode cX3_wordOf 60 = .ok (.aload_n 0, 1) := dk_42 (dk_at dksX3_wordOf_2 16 rfl rfl)
theorem dX3_wordOf_61 : decode cX3_wordOf 61 = .ok (.getfield 79, 3) := dk_180 0 79 (dk_at dksX3_wordOf_2 17 rfl rfl)
theorem dX3_wordOf_64 : decode cX3_wordOf 64 = .ok (.bipush 8, 2) := dk_16 8 (dk_at dksX3_wordOf_2 20 rfl rfl)
theorem dX3_wordOf_66 : decode cX3_wordOf 66 = .ok (.aload_n 0, 1) := dk_42 (dk_at dksX3_wordOf_2 22 rfl rfl)
theorem dX3_wordOf_67 : decode cX3_wordOf 67 = .ok (.aload_n 0, 1) := dk_42 (dk_at dksX3_wordOf_2 23 rfl rfl)
theorem dX3_wordOf_68 : decode cX3_wordOf 68 = .ok (.getfield 79, 3) := dk_180 0 79 (dk_at dksX3_wordOf_3 0 rfl rfl)
theorem dX3_wordOf_71 : decode cX3_wordOf 71 = .ok (.iload 4, 2) := dk_21 4 (dk_at dksX3_wordOf_3 3 rfl rfl)
theorem dX3_wordOf_73 : decode cX3_wordOf 73 = .ok (.iload_n 2, 1) := dk_28 (dk_at dksX3_wordOf_3 5 rfl rfl)
theorem dX3_wordOf_74 : decode cX3_wordOf 74 = .ok (.invokevirtual 357, 3) := dk_182 1 101 (dk_at dksX3_wordOf_3 6 rfl rfl)
theorem dX3_wordOf_77 : decode cX3_wordOf 77 = .ok (.imul, 1) := dk_104 (dk_at dksX3_wordOf_3 9 rfl rfl)
theorem dX3_wordOf_78 : decode cX3_wordOf 78 = .ok (.iload_n 2, 1) := dk_28 (dk_at dksX3_wordOf_3 10 rfl rfl)
theorem dX3_wordOf_79 : decode cX3_wordOf 79 = .ok (.bipush 8, 2) := dk_16 8 (dk_at dksX3_wordOf_3 11 rfl rfl)
theorem dX3_wordOf_81 : decode cX3_wordOf 81 = .ok (.irem, 1) := dk_112 (dk_at dksX3_wordOf_3 13 rfl rfl)
theorem dX3_wordOf_82 : decode cX3_wordOf 82 = .ok (.iadd, 1) := dk_96 (dk_at dksX3_wordOf_3 14 rfl rfl)
theorem dX3_wordOf_83 : decode cX3_wordOf 83 = .ok (.iaload, 1) := dk_46 (dk_at dksX3_wordOf_3 15 rfl rfl)
theorem dX3_wordOf_84 : decode cX3_wordOf 84 = .ok (.ireturn, 1) := dk_172 (dk_at dksX3_wordOf_3 16 rfl rfl)
abbrev cX3_freeBlocks : ByteArray := prog_28_method_110_code
def yX3_freeBlocks : MethodName := ⟨RX3, "freeBlocks", "()I"⟩
def dkwX3_freeBlocks_1 : List UInt8 := [184, 1, 87, 153, 0, 7, 3, 167, 0, 4, 4, 96, 60, 132, 2, 1, 167, 255, 228, 27, 172]
abbrev dktX3_freeBlocks_1 : List UInt8 := dkwX3_freeBlocks_1 ++ []
def dkwX3_freeBlocks_0 : List UInt8 := [42, 3, 181, 0, 140, 3, 60, 16, 8, 61, 28, 16, 32, 162, 0, 28, 27, 42, 180, 0, 79, 28]
abbrev dktX3_freeBlocks_0 : List UInt8 := dkwX3_freeBlocks_0 ++ dktX3_freeBlocks_1
theorem dksX3_freeBlocks_0 : cX3_freeBlocks.data.toList.drop 0 = dktX3_freeBlocks_0 := by decide +kernel
theorem dksX3_freeBlocks_1 : cX3_freeBlocks.data.toList.drop 22 = dktX3_freeBlocks_1 := dk_seg dksX3_freeBlocks_0 22 rfl rfl
theorem dX3_freeBlocks_0 : decode cX3_freeBlocks 0 = .ok (.aload_n 0, 1) := dk_42 (dk_at dksX3_freeBlocks_0 0 rfl rfl)
theorem dX3_freeBlocks_1 : decode cX3_freeBlocks 1 = .ok (.iconst 0, 1) := dk_3 (dk_at dksX3_freeBlocks_0 1 rfl rfl)
theorem dX3_freeBlocks_2 : decode cX3_freeBlocks 2 = .ok (.putfield 140, 3) := dk_181 0 140 (dk_at dksX3_freeBlocks_0 2 rfl rfl)
theorem dX3_freeBlocks_5 : decode cX3_freeBlocks 5 = .ok (.iconst 0, 1) := dk_3 (dk_at dksX3_freeBlocks_0 5 rfl rfl)
theorem dX3_freeBlocks_6 : decode cX3_freeBlocks 6 = .ok (.istore_n 1, 1) := dk_60 (dk_at dksX3_freeBlocks_0 6 rfl rfl)
theorem dX3_freeBlocks_7 : decode cX3_freeBlocks 7 = .ok (.bipush 8, 2) := dk_16 8 (dk_at dksX3_freeBlocks_0 7 rfl rfl)
theorem dX3_freeBlocks_9 : decode cX3_freeBlocks 9 = .ok (.istore_n 2, 1) := dk_61 (dk_at dksX3_freeBlocks_0 9 rfl rfl)
theorem dX3_freeBlocks_10 : decode cX3_freeBlocks 10 = .ok (.iload_n 2, 1) := dk_28 (dk_at dksX3_freeBlocks_0 10 rfl rfl)
theorem dX3_freeBlocks_11 : decode cX3_freeBlocks 11 = .ok (.bipush 32, 2) := dk_16 32 (dk_at dksX3_freeBlocks_0 11 rfl rfl)
theorem dX3_freeBlocks_13 : decode cX3_freeBlocks 13 = .ok (.if_icmp .ge 28, 3) := dk_162 0 28 (dk_at dksX3_freeBlocks_0 13 rfl rfl)
theorem dX3_freeBlocks_16 : decode cX3_freeBlocks 16 = .ok (.iload_n 1, 1) := dk_27 (dk_at dksX3_freeBlocks_0 16 rfl rfl)
theorem dX3_freeBlocks_17 : decode cX3_freeBlocks 17 = .ok (.aload_n 0, 1) := dk_42 (dk_at dksX3_freeBlocks_0 17 rfl rfl)
theorem dX3_freeBlocks_18 : decode cX3_freeBlocks 18 = .ok (.getfield 79, 3) := dk_180 0 79 (dk_at dksX3_freeBlocks_0 18 rfl rfl)
theorem dX3_freeBlocks_21 : decode cX3_freeBlocks 21 = .ok (.iload_n 2, 1) := dk_28 (dk_at dksX3_freeBlocks_0 21 rfl rfl)
theorem dX3_freeBlocks_22 : decode cX3_freeBlocks 22 = .ok (.invokestatic 343, 3) := dk_184 1 87 (dk_at dksX3_freeBlocks_1 0 rfl rfl)
theorem dX3_freeBlocks_25 : decode cX3_freeBlocks 25 = .ok (.ifCond .eq 7, 3) := dk_153 0 7 (dk_at dksX3_freeBlocks_1 3 rfl rfl)
theorem dX3_freeBlocks_28 : decode cX3_freeBlocks 28 = .ok (.iconst 0, 1) := dk_3 (dk_at dksX3_freeBlocks_1 6 rfl rfl)
theorem dX3_freeBlocks_29 : decode cX3_freeBlocks 29 = .ok (.goto 4, 3) := dk_167 0 4 (dk_at dksX3_freeBlocks_1 7 rfl rfl)
theorem dX3_freeBlocks_32 : decode cX3_freeBlocks 32 = .ok (.iconst 1, 1) := dk_4 (dk_at dksX3_freeBlocks_1 10 rfl rfl)
theorem dX3_freeBlocks_33 : decode cX3_freeBlocks 33 = .ok (.iadd, 1) := dk_96 (dk_at dksX3_freeBlocks_1 11 rfl rfl)
theorem dX3_freeBlocks_34 : decode cX3_freeBlocks 34 = .ok (.istore_n 1, 1) := dk_60 (dk_at dksX3_freeBlocks_1 12 rfl rfl)
theorem dX3_freeBlocks_35 : decode cX3_freeBlocks 35 = .ok (.iinc 2 1, 3) := dk_132 2 1 (dk_at dksX3_freeBlocks_1 13 rfl rfl)
theorem dX3_freeBlocks_38 : decode cX3_freeBlocks 38 = .ok (.goto (-28), 3) := dk_167 255 228 (dk_at dksX3_freeBlocks_1 16 rfl rfl)
theorem dX3_freeBlocks_41 : decode cX3_freeBlocks 41 = .ok (.iload_n 1, 1) := dk_27 (dk_at dksX3_freeBlocks_1 19 rfl rfl)
theorem dX3_freeBlocks_42 : decode cX3_freeBlocks 42 = .ok (.ireturn, 1) := dk_172 (dk_at dksX3_freeBlocks_1 20 rfl rfl)
abbrev cX3_isWhole : ByteArray := prog_28_method_113_code
def yX3_isWhole : MethodName := ⟨RX3, "isWhole", "()Z"⟩
def dkwX3_isWhole_0 : List UInt8 := [42, 3, 181, 0, 140, 42, 182, 1, 201, 172]
abbrev dktX3_isWhole_0 : List UInt8 := dkwX3_isWhole_0 ++ []
theorem dksX3_isWhole_0 : cX3_isWhole.data.toList.drop 0 = dktX3_isWhole_0 := by decide +kernel
theorem dX3_isWhole_0 : decode cX3_isWhole 0 = .ok (.aload_n 0, 1) := dk_42 (dk_at dksX3_isWhole_0 0 rfl rfl)
theorem dX3_isWhole_1 : decode cX3_isWhole 1 = .ok (.iconst 0, 1) := dk_3 (dk_at dksX3_isWhole_0 1 rfl rfl)
theorem dX3_isWhole_2 : decode cX3_isWhole 2 = .ok (.putfield 140, 3) := dk_181 0 140 (dk_at dksX3_isWhole_0 2 rfl rfl)
theorem dX3_isWhole_5 : decode cX3_isWhole 5 = .ok (.aload_n 0, 1) := dk_42 (dk_at dksX3_isWhole_0 5 rfl rfl)
theorem dX3_isWhole_6 : decode cX3_isWhole 6 = .ok (.invokevirtual 457, 3) := dk_182 1 201 (dk_at dksX3_isWhole_0 6 rfl rfl)
theorem dX3_isWhole_9 : decode cX3_isWhole 9 = .ok (.ireturn, 1) := dk_172 (dk_at dksX3_isWhole_0 9 rfl rfl)
abbrev cX3_isWholeNow : ByteArray := prog_28_method_112_code
def yX3_isWholeNow : MethodName := ⟨RX3, "isWholeNow", "()Z"⟩
def dkwX3_isWholeNow_6 : List UInt8 := [160, 0, 7, 4, 167, 0, 4, 3, 172]
abbrev dktX3_isWholeNow_6 : List UInt8 := dkwX3_isWholeNow_6 ++ []
def dkwX3_isWholeNow_5 : List UInt8 := [180, 0, 79, 16, 32, 46, 27, 18, 151, 126, 160, 0, 21, 42, 180, 0, 79, 16, 33, 46, 27, 16, 16, 124]
abbrev dktX3_isWholeNow_5 : List UInt8 := dkwX3_isWholeNow_5 ++ dktX3_isWholeNow_6
def dkwX3_isWholeNow_4 : List UInt8 := [4, 21, 5, 120, 128, 60, 132, 4, 1, 167, 255, 193, 132, 3, 1, 167, 255, 168, 28, 153, 0, 35, 42]
abbrev dktX3_isWholeNow_4 : List UInt8 := dkwX3_isWholeNow_4 ++ dktX3_isWholeNow_5
def dkwX3_isWholeNow_3 : List UInt8 := [21, 5, 122, 4, 126, 154, 0, 7, 4, 167, 0, 4, 3, 61, 27, 21, 5, 154, 0, 7, 3, 167, 0, 7]
abbrev dktX3_isWholeNow_3 : List UInt8 := dkwX3_isWholeNow_3 ++ dktX3_isWholeNow_4
def dkwX3_isWholeNow_2 : List UInt8 := [153, 0, 59, 42, 180, 0, 79, 29, 184, 1, 84, 21, 4, 96, 46, 54, 5, 21, 5, 153, 0, 12, 27]
abbrev dktX3_isWholeNow_2 : List UInt8 := dkwX3_isWholeNow_2 ++ dktX3_isWholeNow_3
def dkwX3_isWholeNow_1 : List UInt8 := [162, 0, 88, 28, 153, 0, 84, 42, 29, 182, 1, 198, 61, 5, 54, 4, 21, 4, 7, 162, 0, 63, 28]
abbrev dktX3_isWholeNow_1 : List UInt8 := dkwX3_isWholeNow_1 ++ dktX3_isWholeNow_2
def dkwX3_isWholeNow_0 : List UInt8 := [17, 0, 255, 60, 42, 180, 0, 79, 3, 46, 154, 0, 7, 4, 167, 0, 4, 3, 61, 3, 62, 29, 16, 6]
abbrev dktX3_isWholeNow_0 : List UInt8 := dkwX3_isWholeNow_0 ++ dktX3_isWholeNow_1
theorem dksX3_isWholeNow_0 : cX3_isWholeNow.data.toList.drop 0 = dktX3_isWholeNow_0 := by decide +kernel
theorem dksX3_isWholeNow_1 : cX3_isWholeNow.data.toList.drop 24 = dktX3_isWholeNow_1 := dk_seg dksX3_isWholeNow_0 24 rfl rfl
theorem dksX3_isWholeNow_2 : cX3_isWholeNow.data.toList.drop 47 = dktX3_isWholeNow_2 := dk_seg dksX3_isWholeNow_1 23 rfl rfl
theorem dksX3_isWholeNow_3 : cX3_isWholeNow.data.toList.drop 70 = dktX3_isWholeNow_3 := dk_seg dksX3_isWholeNow_2 23 rfl rfl
theorem dksX3_isWholeNow_4 : cX3_isWholeNow.data.toList.drop 94 = dktX3_isWholeNow_4 := dk_seg dksX3_isWholeNow_3 24 rfl rfl
theorem dksX3_isWholeNow_5 : cX3_isWholeNow.data.toList.drop 117 = dktX3_isWholeNow_5 := dk_seg dksX3_isWholeNow_4 23 rfl rfl
theorem dksX3_isWholeNow_6 : cX3_isWholeNow.data.toList.drop 141 = dktX3_isWholeNow_6 := dk_seg dksX3_isWholeNow_5 24 rfl rfl
theorem dX3_isWholeNow_0 : decode cX3_isWholeNow 0 = .ok (.sipush 255, 3) := dk_17 0 255 (dk_at dksX3_isWholeNow_0 0 rfl rfl)
theorem dX3_isWholeNow_3 : decode cX3_isWholeNow 3 = .ok (.istore_n 1, 1) := dk_60 (dk_at dksX3_isWholeNow_0 3 rfl rfl)
theorem dX3_isWholeNow_4 : decode cX3_isWholeNow 4 = .ok (.aload_n 0, 1) := dk_42 (dk_at dksX3_isWholeNow_0 4 rfl rfl)
theorem dX3_isWholeNow_5 : decode cX3_isWholeNow 5 = .ok (.getfield 79, 3) := dk_180 0 79 (dk_at dksX3_isWholeNow_0 5 rfl rfl)
theorem dX3_isWholeNow_8 : decode cX3_isWholeNow 8 = .ok (.iconst 0, 1) := dk_3 (dk_at dksX3_isWholeNow_0 8 rfl rfl)
theorem dX3_isWholeNow_9 : decode cX3_isWholeNow 9 = .ok (.iaload, 1) := dk_46 (dk_at dksX3_isWholeNow_0 9 rfl rfl)
theorem dX3_isWholeNow_10 : decode cX3_isWholeNow 10 = .ok (.ifCond .ne 7, 3) := dk_154 0 7 (dk_at dksX3_isWholeNow_0 10 rfl rfl)
theorem dX3_isWholeNow_13 : decode cX3_isWholeNow 13 = .ok (.iconst 1, 1) := dk_4 (dk_at dksX3_isWholeNow_0 13 rfl rfl)
theorem dX3_isWholeNow_14 : decode cX3_isWholeNow 14 = .ok (.goto 4, 3) := dk_167 0 4 (dk_at dksX3_isWholeNow_0 14 rfl rfl)
theorem dX3_isWholeNow_17 : decode cX3_isWholeNow 17 = .ok (.iconst 0, 1) := dk_3 (dk_at dksX3_isWholeNow_0 17 rfl rfl)
theorem dX3_isWholeNow_18 : decode cX3_isWholeNow 18 = .ok (.istore_n 2, 1) := dk_61 (dk_at dksX3_isWholeNow_0 18 rfl rfl)
theorem dX3_isWholeNow_19 : decode cX3_isWholeNow 19 = .ok (.iconst 0, 1) := dk_3 (dk_at dksX3_isWholeNow_0 19 rfl rfl)
theorem dX3_isWholeNow_20 : decode cX3_isWholeNow 20 = .ok (.istore_n 3, 1) := dk_62 (dk_at dksX3_isWholeNow_0 20 rfl rfl)
theorem dX3_isWholeNow_21 : decode cX3_isWholeNow 21 = .ok (.iload_n 3, 1) := dk_29 (dk_at dksX3_isWholeNow_0 21 rfl rfl)
theorem dX3_isWholeNow_22 : decode cX3_isWholeNow 22 = .ok (.bipush 6, 2) := dk_16 6 (dk_at dksX3_isWholeNow_0 22 rfl rfl)
theorem dX3_isWholeNow_24 : decode cX3_isWholeNow 24 = .ok (.if_icmp .ge 88, 3) := dk_162 0 88 (dk_at dksX3_isWholeNow_1 0 rfl rfl)
theorem dX3_isWholeNow_27 : decode cX3_isWholeNow 27 = .ok (.iload_n 2, 1) := dk_28 (dk_at dksX3_isWholeNow_1 3 rfl rfl)
theorem dX3_isWholeNow_28 : decode cX3_isWholeNow 28 = .ok (.ifCond .eq 84, 3) := dk_153 0 84 (dk_at dksX3_isWholeNow_1 4 rfl rfl)
theorem dX3_isWholeNow_31 : decode cX3_isWholeNow 31 = .ok (.aload_n 0, 1) := dk_42 (dk_at dksX3_isWholeNow_1 7 rfl rfl)
theorem dX3_isWholeNow_32 : decode cX3_isWholeNow 32 = .ok (.iload_n 3, 1) := dk_29 (dk_at dksX3_isWholeNow_1 8 rfl rfl)
theorem dX3_isWholeNow_33 : decode cX3_isWholeNow 33 = .ok (.invokevirtual 454, 3) := dk_182 1 198 (dk_at dksX3_isWholeNow_1 9 rfl rfl)
theorem dX3_isWholeNow_36 : decode cX3_isWholeNow 36 = .ok (.istore_n 2, 1) := dk_61 (dk_at dksX3_isWholeNow_1 12 rfl rfl)
theorem dX3_isWholeNow_37 : decode cX3_isWholeNow 37 = .ok (.iconst 2, 1) := dk_5 (dk_at dksX3_isWholeNow_1 13 rfl rfl)
theorem dX3_isWholeNow_38 : decode cX3_isWholeNow 38 = .ok (.istore 4, 2) := dk_54 4 (dk_at dksX3_isWholeNow_1 14 rfl rfl)
theorem dX3_isWholeNow_40 : decode cX3_isWholeNow 40 = .ok (.iload 4, 2) := dk_21 4 (dk_at dksX3_isWholeNow_1 16 rfl rfl)
theorem dX3_isWholeNow_42 : decode cX3_isWholeNow 42 = .ok (.iconst 4, 1) := dk_7 (dk_at dksX3_isWholeNow_1 18 rfl rfl)
theorem dX3_isWholeNow_43 : decode cX3_isWholeNow 43 = .ok (.if_icmp .ge 63, 3) := dk_162 0 63 (dk_at dksX3_isWholeNow_1 19 rfl rfl)
theorem dX3_isWholeNow_46 : decode cX3_isWholeNow 46 = .ok (.iload_n 2, 1) := dk_28 (dk_at dksX3_isWholeNow_1 22 rfl rfl)
theorem dX3_isWholeNow_47 : decode cX3_isWholeNow 47 = .ok (.ifCond .eq 59, 3) := dk_153 0 59 (dk_at dksX3_isWholeNow_2 0 rfl rfl)
theorem dX3_isWholeNow_50 : decode cX3_isWholeNow 50 = .ok (.aload_n 0, 1) := dk_42 (dk_at dksX3_isWholeNow_2 3 rfl rfl)
theorem dX3_isWholeNow_51 : decode cX3_isWholeNow 51 = .ok (.getfield 79, 3) := dk_180 0 79 (dk_at dksX3_isWholeNow_2 4 rfl rfl)
theorem dX3_isWholeNow_54 : decode cX3_isWholeNow 54 = .ok (.iload_n 3, 1) := dk_29 (dk_at dksX3_isWholeNow_2 7 rfl rfl)
theorem dX3_isWholeNow_55 : decode cX3_isWholeNow 55 = .ok (.invokestatic 340, 3) := dk_184 1 84 (dk_at dksX3_isWholeNow_2 8 rfl rfl)
theorem dX3_isWholeNow_58 : decode cX3_isWholeNow 58 = .ok (.iload 4, 2) := dk_21 4 (dk_at dksX3_isWholeNow_2 11 rfl rfl)
theorem dX3_isWholeNow_60 : decode cX3_isWholeNow 60 = .ok (.iadd, 1) := dk_96 (dk_at dksX3_isWholeNow_2 13 rfl rfl)
theorem dX3_isWholeNow_61 : decode cX3_isWholeNow 61 = .ok (.iaload, 1) := dk_46 (dk_at dksX3_isWholeNow_2 14 rfl rfl)
theorem dX3_isWholeNow_62 : decode cX3_isWholeNow 62 = .ok (.istore 5, 2) := dk_54 5 (dk_at dksX3_isWholeNow_2 15 rfl rfl)
theorem dX3_isWholeNow_64 : decode cX3_isWholeNow 64 = .ok (.iload 5, 2) := dk_21 5 (dk_at dksX3_isWholeNow_2 17 rfl rfl)
theorem dX3_isWholeNow_66 : decode cX3_isWholeNow 66 = .ok (.ifCond .eq 12, 3) := dk_153 0 12 (dk_at dksX3_isWholeNow_2 19 rfl rfl)
theorem dX3_isWholeNow_69 : decode cX3_isWholeNow 69 = .ok (.iload_n 1, 1) := dk_27 (dk_at dksX3_isWholeNow_2 22 rfl rfl)
theorem dX3_isWholeNow_70 : decode cX3_isWholeNow 70 = .ok (.iload 5, 2) := dk_21 5 (dk_at dksX3_isWholeNow_3 0 rfl rfl)
theorem dX3_isWholeNow_72 : decode cX3_isWholeNow 72 = .ok (.ishr, 1) := dk_122 (dk_at dksX3_isWholeNow_3 2 rfl rfl)
theorem dX3_isWholeNow_73 : decode cX3_isWholeNow 73 = .ok (.iconst 1, 1) := dk_4 (dk_at dksX3_isWholeNow_3 3 rfl rfl)
theorem dX3_isWholeNow_74 : decode cX3_isWholeNow 74 = .ok (.iand, 1) := dk_126 (dk_at dksX3_isWholeNow_3 4 rfl rfl)
theorem dX3_isWholeNow_75 : decode cX3_isWholeNow 75 = .ok (.ifCond .ne 7, 3) := dk_154 0 7 (dk_at dksX3_isWholeNow_3 5 rfl rfl)
theorem dX3_isWholeNow_78 : decode cX3_isWholeNow 78 = .ok (.iconst 1, 1) := dk_4 (dk_at dksX3_isWholeNow_3 8 rfl rfl)
theorem dX3_isWholeNow_79 : decode cX3_isWholeNow 79 = .ok (.goto 4, 3) := dk_167 0 4 (dk_at dksX3_isWholeNow_3 9 rfl rfl)
theorem dX3_isWholeNow_82 : decode cX3_isWholeNow 82 = .ok (.iconst 0, 1) := dk_3 (dk_at dksX3_isWholeNow_3 12 rfl rfl)
theorem dX3_isWholeNow_83 : decode cX3_isWholeNow 83 = .ok (.istore_n 2, 1) := dk_61 (dk_at dksX3_isWholeNow_3 13 rfl rfl)
theorem dX3_isWholeNow_84 : decode cX3_isWholeNow 84 = .ok (.iload_n 1, 1) := dk_27 (dk_at dksX3_isWholeNow_3 14 rfl rfl)
theorem dX3_isWholeNow_85 : decode cX3_isWholeNow 85 = .ok (.iload 5, 2) := dk_21 5 (dk_at dksX3_isWholeNow_3 15 rfl rfl)
theorem dX3_isWholeNow_87 : decode cX3_isWholeNow 87 = .ok (.ifCond .ne 7, 3) := dk_154 0 7 (dk_at dksX3_isWholeNow_3 17 rfl rfl)
theorem dX3_isWholeNow_90 : decode cX3_isWholeNow 90 = .ok (.iconst 0, 1) := dk_3 (dk_at dksX3_isWholeNow_3 20 rfl rfl)
theorem dX3_isWholeNow_91 : decode cX3_isWholeNow 91 = .ok (.goto 7, 3) := dk_167 0 7 (dk_at dksX3_isWholeNow_3 21 rfl rfl)
theorem dX3_isWholeNow_94 : decode cX3_isWholeNow 94 = .ok (.iconst 1, 1) := dk_4 (dk_at dksX3_isWholeNow_4 0 rfl rfl)
theorem dX3_isWholeNow_95 : decode cX3_isWholeNow 95 = .ok (.iload 5, 2) := dk_21 5 (dk_at dksX3_isWholeNow_4 1 rfl rfl)
theorem dX3_isWholeNow_97 : decode cX3_isWholeNow 97 = .ok (.ishl, 1) := dk_120 (dk_at dksX3_isWholeNow_4 3 rfl rfl)
theorem dX3_isWholeNow_98 : decode cX3_isWholeNow 98 = .ok (.ior, 1) := dk_128 (dk_at dksX3_isWholeNow_4 4 rfl rfl)
theorem dX3_isWholeNow_99 : decode cX3_isWholeNow 99 = .ok (.istore_n 1, 1) := dk_60 (dk_at dksX3_isWholeNow_4 5 rfl rfl)
theorem dX3_isWholeNow_100 : decode cX3_isWholeNow 100 = .ok (.iinc 4 1, 3) := dk_132 4 1 (dk_at dksX3_isWholeNow_4 6 rfl rfl)
theorem dX3_isWholeNow_103 : decode cX3_isWholeNow 103 = .ok (.goto (-63), 3) := dk_167 255 193 (dk_at dksX3_isWholeNow_4 9 rfl rfl)
theorem dX3_isWholeNow_106 : decode cX3_isWholeNow 106 = .ok (.iinc 3 1, 3) := dk_132 3 1 (dk_at dksX3_isWholeNow_4 12 rfl rfl)
theorem dX3_isWholeNow_109 : decode cX3_isWholeNow 109 = .ok (.goto (-88), 3) := dk_167 255 168 (dk_at dksX3_isWholeNow_4 15 rfl rfl)
theorem dX3_isWholeNow_112 : decode cX3_isWholeNow 112 = .ok (.iload_n 2, 1) := dk_28 (dk_at dksX3_isWholeNow_4 18 rfl rfl)
theorem dX3_isWholeNow_113 : decode cX3_isWholeNow 113 = .ok (.ifCond .eq 35, 3) := dk_153 0 35 (dk_at dksX3_isWholeNow_4 19 rfl rfl)
theorem dX3_isWholeNow_116 : decode cX3_isWholeNow 116 = .ok (.aload_n 0, 1) := dk_42 (dk_at dksX3_isWholeNow_4 22 rfl rfl)
theorem dX3_isWholeNow_117 : decode cX3_isWholeNow 117 = .ok (.getfield 79, 3) := dk_180 0 79 (dk_at dksX3_isWholeNow_5 0 rfl rfl)
theorem dX3_isWholeNow_120 : decode cX3_isWholeNow 120 = .ok (.bipush 32, 2) := dk_16 32 (dk_at dksX3_isWholeNow_5 3 rfl rfl)
theorem dX3_isWholeNow_122 : decode cX3_isWholeNow 122 = .ok (.iaload, 1) := dk_46 (dk_at dksX3_isWholeNow_5 5 rfl rfl)
theorem dX3_isWholeNow_123 : decode cX3_isWholeNow 123 = .ok (.iload_n 1, 1) := dk_27 (dk_at dksX3_isWholeNow_5 6 rfl rfl)
theorem dX3_isWholeNow_124 : decode cX3_isWholeNow 124 = .ok (.ldc 151, 2) := dk_18 151 (dk_at dksX3_isWholeNow_5 7 rfl rfl)
theorem dX3_isWholeNow_126 : decode cX3_isWholeNow 126 = .ok (.iand, 1) := dk_126 (dk_at dksX3_isWholeNow_5 9 rfl rfl)
theorem dX3_isWholeNow_127 : decode cX3_isWholeNow 127 = .ok (.if_icmp .ne 21, 3) := dk_160 0 21 (dk_at dksX3_isWholeNow_5 10 rfl rfl)
theorem dX3_isWholeNow_130 : decode cX3_isWholeNow 130 = .ok (.aload_n 0, 1) := dk_42 (dk_at dksX3_isWholeNow_5 13 rfl rfl)
theorem dX3_isWholeNow_131 : decode cX3_isWholeNow 131 = .ok (.getfield 79, 3) := dk_180 0 79 (dk_at dksX3_isWholeNow_5 14 rfl rfl)
theorem dX3_isWholeNow_134 : decode cX3_isWholeNow 134 = .ok (.bipush 33, 2) := dk_16 33 (dk_at dksX3_isWholeNow_5 17 rfl rfl)
theorem dX3_isWholeNow_136 : decode cX3_isWholeNow 136 = .ok (.iaload, 1) := dk_46 (dk_at dksX3_isWholeNow_5 19 rfl rfl)
theorem dX3_isWholeNow_137 : decode cX3_isWholeNow 137 = .ok (.iload_n 1, 1) := dk_27 (dk_at dksX3_isWholeNow_5 20 rfl rfl)
theorem dX3_isWholeNow_138 : decode cX3_isWholeNow 138 = .ok (.bipush 16, 2) := dk_16 16 (dk_at dksX3_isWholeNow_5 21 rfl rfl)
theorem dX3_isWholeNow_140 : decode cX3_isWholeNow 140 = .ok (.iushr, 1) := dk_124 (dk_at dksX3_isWholeNow_5 23 rfl rfl)
theorem dX3_isWholeNow_141 : decode cX3_isWholeNow 141 = .ok (.if_icmp .ne 7, 3) := dk_160 0 7 (dk_at dksX3_isWholeNow_6 0 rfl rfl)
theorem dX3_isWholeNow_144 : decode cX3_isWholeNow 144 = .ok (.iconst 1, 1) := dk_4 (dk_at dksX3_isWholeNow_6 3 rfl rfl)
theorem dX3_isWholeNow_145 : decode cX3_isWholeNow 145 = .ok (.goto 4, 3) := dk_167 0 4 (dk_at dksX3_isWholeNow_6 4 rfl rfl)
theorem dX3_isWholeNow_148 : decode cX3_isWholeNow 148 = .ok (.iconst 0, 1) := dk_3 (dk_at dksX3_isWholeNow_6 7 rfl rfl)
theorem dX3_isWholeNow_149 : decode cX3_isWholeNow 149 = .ok (.ireturn, 1) := dk_172 (dk_at dksX3_isWholeNow_6 8 rfl rfl)
abbrev cX3_isEntrySo : ByteArray := prog_28_method_111_code
def yX3_isEntrySo : MethodName := ⟨RX3, "isEntrySo", "(I)Z"⟩
def dkwX3_isEntrySo_8 : List UInt8 := [172]
abbrev dktX3_isEntrySo_8 : List UInt8 := dkwX3_isEntrySo_8 ++ []
def dkwX3_isEntrySo_7 : List UInt8 := [180, 0, 79, 42, 180, 0, 79, 27, 184, 1, 84, 46, 184, 1, 91, 27, 160, 0, 7, 4, 167, 0, 4, 3]
abbrev dktX3_isEntrySo_7 : List UInt8 := dkwX3_isEntrySo_7 ++ dktX3_isEntrySo_8
def dkwX3_isEntrySo_6 : List UInt8 := [184, 0, 147, 153, 0, 44, 21, 4, 153, 0, 15, 21, 4, 16, 8, 16, 31, 184, 0, 147, 153, 0, 27, 42]
abbrev dktX3_isEntrySo_6 : List UInt8 := dkwX3_isEntrySo_6 ++ dktX3_isEntrySo_7
def dkwX3_isEntrySo_5 : List UInt8 := [160, 0, 7, 4, 167, 0, 4, 3, 54, 5, 21, 5, 153, 0, 59, 29, 153, 0, 14, 29, 16, 8, 16, 31]
abbrev dktX3_isEntrySo_5 : List UInt8 := dkwX3_isEntrySo_5 ++ dktX3_isEntrySo_6
def dkwX3_isEntrySo_4 : List UInt8 := [160, 0, 31, 21, 4, 158, 0, 7, 4, 167, 0, 4, 3, 28, 16, 8, 164, 0, 7, 4, 167, 0, 4, 3]
abbrev dktX3_isEntrySo_4 : List UInt8 := dkwX3_isEntrySo_4 ++ dktX3_isEntrySo_5
def dkwX3_isEntrySo_3 : List UInt8 := [16, 16, 163, 0, 52, 29, 158, 0, 7, 4, 167, 0, 4, 3, 28, 158, 0, 7, 4, 167, 0, 4, 3]
abbrev dktX3_isEntrySo_3 : List UInt8 := dkwX3_isEntrySo_3 ++ dktX3_isEntrySo_4
def dkwX3_isEntrySo_2 : List UInt8 := [154, 0, 22, 28, 154, 0, 16, 29, 154, 0, 12, 21, 4, 154, 0, 7, 4, 167, 0, 4, 3, 172, 28]
abbrev dktX3_isEntrySo_2 : List UInt8 := dkwX3_isEntrySo_2 ++ dktX3_isEntrySo_3
def dkwX3_isEntrySo_1 : List UInt8 := [42, 180, 0, 79, 27, 184, 1, 84, 6, 96, 46, 54, 4, 42, 180, 0, 79, 27, 184, 1, 84, 46]
abbrev dktX3_isEntrySo_1 : List UInt8 := dkwX3_isEntrySo_1 ++ dktX3_isEntrySo_2
def dkwX3_isEntrySo_0 : List UInt8 := [42, 180, 0, 79, 27, 184, 1, 84, 4, 96, 46, 61, 42, 180, 0, 79, 27, 184, 1, 84, 5, 96, 46, 62]
abbrev dktX3_isEntrySo_0 : List UInt8 := dkwX3_isEntrySo_0 ++ dktX3_isEntrySo_1
theorem dksX3_isEntrySo_0 : cX3_isEntrySo.data.toList.drop 0 = dktX3_isEntrySo_0 := by decide +kernel
theorem dksX3_isEntrySo_1 : cX3_isEntrySo.data.toList.drop 24 = dktX3_isEntrySo_1 := dk_seg dksX3_isEntrySo_0 24 rfl rfl
theorem dksX3_isEntrySo_2 : cX3_isEntrySo.data.toList.drop 46 = dktX3_isEntrySo_2 := dk_seg dksX3_isEntrySo_1 22 rfl rfl
theorem dksX3_isEntrySo_3 : cX3_isEntrySo.data.toList.drop 69 = dktX3_isEntrySo_3 := dk_seg dksX3_isEntrySo_2 23 rfl rfl
theorem dksX3_isEntrySo_4 : cX3_isEntrySo.data.toList.drop 92 = dktX3_isEntrySo_4 := dk_seg dksX3_isEntrySo_3 23 rfl rfl
theorem dksX3_isEntrySo_5 : cX3_isEntrySo.data.toList.drop 116 = dktX3_isEntrySo_5 := dk_seg dksX3_isEntrySo_4 24 rfl rfl
theorem dksX3_isEntrySo_6 : cX3_isEntrySo.data.toList.drop 140 = dktX3_isEntrySo_6 := dk_seg dksX3_isEntrySo_5 24 rfl rfl
theorem dksX3_isEntrySo_7 : cX3_isEntrySo.data.toList.drop 164 = dktX3_isEntrySo_7 := dk_seg dksX3_isEntrySo_6 24 rfl rfl
theorem dksX3_isEntrySo_8 : cX3_isEntrySo.data.toList.drop 188 = dktX3_isEntrySo_8 := dk_seg dksX3_isEntrySo_7 24 rfl rfl
theorem dX3_isEntrySo_0 : decode cX3_isEntrySo 0 = .ok (.aload_n 0, 1) := dk_42 (dk_at dksX3_isEntrySo_0 0 rfl rfl)
theorem dX3_isEntrySo_1 : decode cX3_isEntrySo 1 = .ok (.getfield 79, 3) := dk_180 0 79 (dk_at dksX3_isEntrySo_0 1 rfl rfl)
theorem dX3_isEntrySo_4 : decode cX3_isEntrySo 4 = .ok (.iload_n 1, 1) := dk_27 (dk_at dksX3_isEntrySo_0 4 rfl rfl)
theorem dX3_isEntrySo_5 : decode cX3_isEntrySo 5 = .ok (.invokestatic 340, 3) := dk_184 1 84 (dk_at dksX3_isEntrySo_0 5 rfl rfl)
theorem dX3_isEntrySo_8 : decode cX3_isEntrySo 8 = .ok (.iconst 1, 1) := dk_4 (dk_at dksX3_isEntrySo_0 8 rfl rfl)
theorem dX3_isEntrySo_9 : decode cX3_isEntrySo 9 = .ok (.iadd, 1) := dk_96 (dk_at dksX3_isEntrySo_0 9 rfl rfl)
theorem dX3_isEntrySo_10 : decode cX3_isEntrySo 10 = .ok (.iaload, 1) := dk_46 (dk_at dksX3_isEntrySo_0 10 rfl rfl)
theorem dX3_isEntrySo_11 : decode cX3_isEntrySo 11 = .ok (.istore_n 2, 1) := dk_61 (dk_at dksX3_isEntrySo_0 11 rfl rfl)
theorem dX3_isEntrySo_12 : decode cX3_isEntrySo 12 = .ok (.aload_n 0, 1) := dk_42 (dk_at dksX3_isEntrySo_0 12 rfl rfl)
theorem dX3_isEntrySo_13 : decode cX3_isEntrySo 13 = .ok (.getfield 79, 3) := dk_180 0 79 (dk_at dksX3_isEntrySo_0 13 rfl rfl)
theorem dX3_isEntrySo_16 : decode cX3_isEntrySo 16 = .ok (.iload_n 1, 1) := dk_27 (dk_at dksX3_isEntrySo_0 16 rfl rfl)
theorem dX3_isEntrySo_17 : decode cX3_isEntrySo 17 = .ok (.invokestatic 340, 3) := dk_184 1 84 (dk_at dksX3_isEntrySo_0 17 rfl rfl)
theorem dX3_isEntrySo_20 : decode cX3_isEntrySo 20 = .ok (.iconst 2, 1) := dk_5 (dk_at dksX3_isEntrySo_0 20 rfl rfl)
theorem dX3_isEntrySo_21 : decode cX3_isEntrySo 21 = .ok (.iadd, 1) := dk_96 (dk_at dksX3_isEntrySo_0 21 rfl rfl)
theorem dX3_isEntrySo_22 : decode cX3_isEntrySo 22 = .ok (.iaload, 1) := dk_46 (dk_at dksX3_isEntrySo_0 22 rfl rfl)
theorem dX3_isEntrySo_23 : decode cX3_isEntrySo 23 = .ok (.istore_n 3, 1) := dk_62 (dk_at dksX3_isEntrySo_0 23 rfl rfl)
theorem dX3_isEntrySo_24 : decode cX3_isEntrySo 24 = .ok (.aload_n 0, 1) := dk_42 (dk_at dksX3_isEntrySo_1 0 rfl rfl)
theorem dX3_isEntrySo_25 : decode cX3_isEntrySo 25 = .ok (.getfield 79, 3) := dk_180 0 79 (dk_at dksX3_isEntrySo_1 1 rfl rfl)
theorem dX3_isEntrySo_28 : decode cX3_isEntrySo 28 = .ok (.iload_n 1, 1) := dk_27 (dk_at dksX3_isEntrySo_1 4 rfl rfl)
theorem dX3_isEntrySo_29 : decode cX3_isEntrySo 29 = .ok (.invokestatic 340, 3) := dk_184 1 84 (dk_at dksX3_isEntrySo_1 5 rfl rfl)
theorem dX3_isEntrySo_32 : decode cX3_isEntrySo 32 = .ok (.iconst 3, 1) := dk_6 (dk_at dksX3_isEntrySo_1 8 rfl rfl)
theorem dX3_isEntrySo_33 : decode cX3_isEntrySo 33 = .ok (.iadd, 1) := dk_96 (dk_at dksX3_isEntrySo_1 9 rfl rfl)
theorem dX3_isEntrySo_34 : decode cX3_isEntrySo 34 = .ok (.iaload, 1) := dk_46 (dk_at dksX3_isEntrySo_1 10 rfl rfl)
theorem dX3_isEntrySo_35 : decode cX3_isEntrySo 35 = .ok (.istore 4, 2) := dk_54 4 (dk_at dksX3_isEntrySo_1 11 rfl rfl)
theorem dX3_isEntrySo_37 : decode cX3_isEntrySo 37 = .ok (.aload_n 0, 1) := dk_42 (dk_at dksX3_isEntrySo_1 13 rfl rfl)
theorem dX3_isEntrySo_38 : decode cX3_isEntrySo 38 = .ok (.getfield 79, 3) := dk_180 0 79 (dk_at dksX3_isEntrySo_1 14 rfl rfl)
theorem dX3_isEntrySo_41 : decode cX3_isEntrySo 41 = .ok (.iload_n 1, 1) := dk_27 (dk_at dksX3_isEntrySo_1 17 rfl rfl)
theorem dX3_isEntrySo_42 : decode cX3_isEntrySo 42 = .ok (.invokestatic 340, 3) := dk_184 1 84 (dk_at dksX3_isEntrySo_1 18 rfl rfl)
theorem dX3_isEntrySo_45 : decode cX3_isEntrySo 45 = .ok (.iaload, 1) := dk_46 (dk_at dksX3_isEntrySo_1 21 rfl rfl)
theorem dX3_isEntrySo_46 : decode cX3_isEntrySo 46 = .ok (.ifCond .ne 22, 3) := dk_154 0 22 (dk_at dksX3_isEntrySo_2 0 rfl rfl)
theorem dX3_isEntrySo_49 : decode cX3_isEntrySo 49 = .ok (.iload_n 2, 1) := dk_28 (dk_at dksX3_isEntrySo_2 3 rfl rfl)
theorem dX3_isEntrySo_50 : decode cX3_isEntrySo 50 = .ok (.ifCond .ne 16, 3) := dk_154 0 16 (dk_at dksX3_isEntrySo_2 4 rfl rfl)
theorem dX3_isEntrySo_53 : decode cX3_isEntrySo 53 = .ok (.iload_n 3, 1) := dk_29 (dk_at dksX3_isEntrySo_2 7 rfl rfl)
theorem dX3_isEntrySo_54 : decode cX3_isEntrySo 54 = .ok (.ifCond .ne 12, 3) := dk_154 0 12 (dk_at dksX3_isEntrySo_2 8 rfl rfl)
theorem dX3_isEntrySo_57 : decode cX3_isEntrySo 57 = .ok (.iload 4, 2) := dk_21 4 (dk_at dksX3_isEntrySo_2 11 rfl rfl)
theorem dX3_isEntrySo_59 : decode cX3_isEntrySo 59 = .ok (.ifCond .ne 7, 3) := dk_154 0 7 (dk_at dksX3_isEntrySo_2 13 rfl rfl)
theorem dX3_isEntrySo_62 : decode cX3_isEntrySo 62 = .ok (.iconst 1, 1) := dk_4 (dk_at dksX3_isEntrySo_2 16 rfl rfl)
theorem dX3_isEntrySo_63 : decode cX3_isEntrySo 63 = .ok (.goto 4, 3) := dk_167 0 4 (dk_at dksX3_isEntrySo_2 17 rfl rfl)
theorem dX3_isEntrySo_66 : decode cX3_isEntrySo 66 = .ok (.iconst 0, 1) := dk_3 (dk_at dksX3_isEntrySo_2 20 rfl rfl)
theorem dX3_isEntrySo_67 : decode cX3_isEntrySo 67 = .ok (.ireturn, 1) := dk_172 (dk_at dksX3_isEntrySo_2 21 rfl rfl)
theorem dX3_isEntrySo_68 : decode cX3_isEntrySo 68 = .ok (.iload_n 2, 1) := dk_28 (dk_at dksX3_isEntrySo_2 22 rfl rfl)
theorem dX3_isEntrySo_69 : decode cX3_isEntrySo 69 = .ok (.bipush 16, 2) := dk_16 16 (dk_at dksX3_isEntrySo_3 0 rfl rfl)
theorem dX3_isEntrySo_71 : decode cX3_isEntrySo 71 = .ok (.if_icmp .gt 52, 3) := dk_163 0 52 (dk_at dksX3_isEntrySo_3 2 rfl rfl)
theorem dX3_isEntrySo_74 : decode cX3_isEntrySo 74 = .ok (.iload_n 3, 1) := dk_29 (dk_at dksX3_isEntrySo_3 5 rfl rfl)
theorem dX3_isEntrySo_75 : decode cX3_isEntrySo 75 = .ok (.ifCond .le 7, 3) := dk_158 0 7 (dk_at dksX3_isEntrySo_3 6 rfl rfl)
theorem dX3_isEntrySo_78 : decode cX3_isEntrySo 78 = .ok (.iconst 1, 1) := dk_4 (dk_at dksX3_isEntrySo_3 9 rfl rfl)
theorem dX3_isEntrySo_79 : decode cX3_isEntrySo 79 = .ok (.goto 4, 3) := dk_167 0 4 (dk_at dksX3_isEntrySo_3 10 rfl rfl)
theorem dX3_isEntrySo_82 : decode cX3_isEntrySo 82 = .ok (.iconst 0, 1) := dk_3 (dk_at dksX3_isEntrySo_3 13 rfl rfl)
theorem dX3_isEntrySo_83 : decode cX3_isEntrySo 83 = .ok (.iload_n 2, 1) := dk_28 (dk_at dksX3_isEntrySo_3 14 rfl rfl)
theorem dX3_isEntrySo_84 : decode cX3_isEntrySo 84 = .ok (.ifCond .le 7, 3) := dk_158 0 7 (dk_at dksX3_isEntrySo_3 15 rfl rfl)
theorem dX3_isEntrySo_87 : decode cX3_isEntrySo 87 = .ok (.iconst 1, 1) := dk_4 (dk_at dksX3_isEntrySo_3 18 rfl rfl)
theorem dX3_isEntrySo_88 : decode cX3_isEntrySo 88 = .ok (.goto 4, 3) := dk_167 0 4 (dk_at dksX3_isEntrySo_3 19 rfl rfl)
theorem dX3_isEntrySo_91 : decode cX3_isEntrySo 91 = .ok (.iconst 0, 1) := dk_3 (dk_at dksX3_isEntrySo_3 22 rfl rfl)
theorem dX3_isEntrySo_92 : decode cX3_isEntrySo 92 = .ok (.if_icmp .ne 31, 3) := dk_160 0 31 (dk_at dksX3_isEntrySo_4 0 rfl rfl)
theorem dX3_isEntrySo_95 : decode cX3_isEntrySo 95 = .ok (.iload 4, 2) := dk_21 4 (dk_at dksX3_isEntrySo_4 3 rfl rfl)
theorem dX3_isEntrySo_97 : decode cX3_isEntrySo 97 = .ok (.ifCond .le 7, 3) := dk_158 0 7 (dk_at dksX3_isEntrySo_4 5 rfl rfl)
theorem dX3_isEntrySo_100 : decode cX3_isEntrySo 100 = .ok (.iconst 1, 1) := dk_4 (dk_at dksX3_isEntrySo_4 8 rfl rfl)
theorem dX3_isEntrySo_101 : decode cX3_isEntrySo 101 = .ok (.goto 4, 3) := dk_167 0 4 (dk_at dksX3_isEntrySo_4 9 rfl rfl)
theorem dX3_isEntrySo_104 : decode cX3_isEntrySo 104 = .ok (.iconst 0, 1) := dk_3 (dk_at dksX3_isEntrySo_4 12 rfl rfl)
theorem dX3_isEntrySo_105 : decode cX3_isEntrySo 105 = .ok (.iload_n 2, 1) := dk_28 (dk_at dksX3_isEntrySo_4 13 rfl rfl)
theorem dX3_isEntrySo_106 : decode cX3_isEntrySo 106 = .ok (.bipush 8, 2) := dk_16 8 (dk_at dksX3_isEntrySo_4 14 rfl rfl)
theorem dX3_isEntrySo_108 : decode cX3_isEntrySo 108 = .ok (.if_icmp .le 7, 3) := dk_164 0 7 (dk_at dksX3_isEntrySo_4 16 rfl rfl)
theorem dX3_isEntrySo_111 : decode cX3_isEntrySo 111 = .ok (.iconst 1, 1) := dk_4 (dk_at dksX3_isEntrySo_4 19 rfl rfl)
theorem dX3_isEntrySo_112 : decode cX3_isEntrySo 112 = .ok (.goto 4, 3) := dk_167 0 4 (dk_at dksX3_isEntrySo_4 20 rfl rfl)
theorem dX3_isEntrySo_115 : decode cX3_isEntrySo 115 = .ok (.iconst 0, 1) := dk_3 (dk_at dksX3_isEntrySo_4 23 rfl rfl)
theorem dX3_isEntrySo_116 : decode cX3_isEntrySo 116 = .ok (.if_icmp .ne 7, 3) := dk_160 0 7 (dk_at dksX3_isEntrySo_5 0 rfl rfl)
theorem dX3_isEntrySo_119 : decode cX3_isEntrySo 119 = .ok (.iconst 1, 1) := dk_4 (dk_at dksX3_isEntrySo_5 3 rfl rfl)
theorem dX3_isEntrySo_120 : decode cX3_isEntrySo 120 = .ok (.goto 4, 3) := dk_167 0 4 (dk_at dksX3_isEntrySo_5 4 rfl rfl)
theorem dX3_isEntrySo_123 : decode cX3_isEntrySo 123 = .ok (.iconst 0, 1) := dk_3 (dk_at dksX3_isEntrySo_5 7 rfl rfl)
theorem dX3_isEntrySo_124 : decode cX3_isEntrySo 124 = .ok (.istore 5, 2) := dk_54 5 (dk_at dksX3_isEntrySo_5 8 rfl rfl)
theorem dX3_isEntrySo_126 : decode cX3_isEntrySo 126 = .ok (.iload 5, 2) := dk_21 5 (dk_at dksX3_isEntrySo_5 10 rfl rfl)
theorem dX3_isEntrySo_128 : decode cX3_isEntrySo 128 = .ok (.ifCond .eq 59, 3) := dk_153 0 59 (dk_at dksX3_isEntrySo_5 12 rfl rfl)
theorem dX3_isEntrySo_131 : decode cX3_isEntrySo 131 = .ok (.iload_n 3, 1) := dk_29 (dk_at dksX3_isEntrySo_5 15 rfl rfl)
theorem dX3_isEntrySo_132 : decode cX3_isEntrySo 132 = .ok (.ifCond .eq 14, 3) := dk_153 0 14 (dk_at dksX3_isEntrySo_5 16 rfl rfl)
theorem dX3_isEntrySo_135 : decode cX3_isEntrySo 135 = .ok (.iload_n 3, 1) := dk_29 (dk_at dksX3_isEntrySo_5 19 rfl rfl)
theorem dX3_isEntrySo_136 : decode cX3_isEntrySo 136 = .ok (.bipush 8, 2) := dk_16 8 (dk_at dksX3_isEntrySo_5 20 rfl rfl)
theorem dX3_isEntrySo_138 : decode cX3_isEntrySo 138 = .ok (.bipush 31, 2) := dk_16 31 (dk_at dksX3_isEntrySo_5 22 rfl rfl)
theorem dX3_isEntrySo_140 : decode cX3_isEntrySo 140 = .ok (.invokestatic 147, 3) := dk_184 0 147 (dk_at dksX3_isEntrySo_6 0 rfl rfl)
theorem dX3_isEntrySo_143 : decode cX3_isEntrySo 143 = .ok (.ifCond .eq 44, 3) := dk_153 0 44 (dk_at dksX3_isEntrySo_6 3 rfl rfl)
theorem dX3_isEntrySo_146 : decode cX3_isEntrySo 146 = .ok (.iload 4, 2) := dk_21 4 (dk_at dksX3_isEntrySo_6 6 rfl rfl)
theorem dX3_isEntrySo_148 : decode cX3_isEntrySo 148 = .ok (.ifCond .eq 15, 3) := dk_153 0 15 (dk_at dksX3_isEntrySo_6 8 rfl rfl)
theorem dX3_isEntrySo_151 : decode cX3_isEntrySo 151 = .ok (.iload 4, 2) := dk_21 4 (dk_at dksX3_isEntrySo_6 11 rfl rfl)
theorem dX3_isEntrySo_153 : decode cX3_isEntrySo 153 = .ok (.bipush 8, 2) := dk_16 8 (dk_at dksX3_isEntrySo_6 13 rfl rfl)
theorem dX3_isEntrySo_155 : decode cX3_isEntrySo 155 = .ok (.bipush 31, 2) := dk_16 31 (dk_at dksX3_isEntrySo_6 15 rfl rfl)
theorem dX3_isEntrySo_157 : decode cX3_isEntrySo 157 = .ok (.invokestatic 147, 3) := dk_184 0 147 (dk_at dksX3_isEntrySo_6 17 rfl rfl)
theorem dX3_isEntrySo_160 : decode cX3_isEntrySo 160 = .ok (.ifCond .eq 27, 3) := dk_153 0 27 (dk_at dksX3_isEntrySo_6 20 rfl rfl)
theorem dX3_isEntrySo_163 : decode cX3_isEntrySo 163 = .ok (.aload_n 0, 1) := dk_42 (dk_at dksX3_isEntrySo_6 23 rfl rfl)
theorem dX3_isEntrySo_164 : decode cX3_isEntrySo 164 = .ok (.getfield 79, 3) := dk_180 0 79 (dk_at dksX3_isEntrySo_7 0 rfl rfl)
theorem dX3_isEntrySo_167 : decode cX3_isEntrySo 167 = .ok (.aload_n 0, 1) := dk_42 (dk_at dksX3_isEntrySo_7 3 rfl rfl)
theorem dX3_isEntrySo_168 : decode cX3_isEntrySo 168 = .ok (.getfield 79, 3) := dk_180 0 79 (dk_at dksX3_isEntrySo_7 4 rfl rfl)
theorem dX3_isEntrySo_171 : decode cX3_isEntrySo 171 = .ok (.iload_n 1, 1) := dk_27 (dk_at dksX3_isEntrySo_7 7 rfl rfl)
theorem dX3_isEntrySo_172 : decode cX3_isEntrySo 172 = .ok (.invokestatic 340, 3) := dk_184 1 84 (dk_at dksX3_isEntrySo_7 8 rfl rfl)
theorem dX3_isEntrySo_175 : decode cX3_isEntrySo 175 = .ok (.iaload, 1) := dk_46 (dk_at dksX3_isEntrySo_7 11 rfl rfl)
theorem dX3_isEntrySo_176 : decode cX3_isEntrySo 176 = .ok (.invokestatic 347, 3) := dk_184 1 91 (dk_at dksX3_isEntrySo_7 12 rfl rfl)
theorem dX3_isEntrySo_179 : decode cX3_isEntrySo 179 = .ok (.iload_n 1, 1) := dk_27 (dk_at dksX3_isEntrySo_7 15 rfl rfl)
theorem dX3_isEntrySo_180 : decode cX3_isEntrySo 180 = .ok (.if_icmp .ne 7, 3) := dk_160 0 7 (dk_at dksX3_isEntrySo_7 16 rfl rfl)
theorem dX3_isEntrySo_183 : decode cX3_isEntrySo 183 = .ok (.iconst 1, 1) := dk_4 (dk_at dksX3_isEntrySo_7 19 rfl rfl)
theorem dX3_isEntrySo_184 : decode cX3_isEntrySo 184 = .ok (.goto 4, 3) := dk_167 0 4 (dk_at dksX3_isEntrySo_7 20 rfl rfl)
theorem dX3_isEntrySo_187 : decode cX3_isEntrySo 187 = .ok (.iconst 0, 1) := dk_3 (dk_at dksX3_isEntrySo_7 23 rfl rfl)
theorem dX3_isEntrySo_188 : decode cX3_isEntrySo 188 = .ok (.ireturn, 1) := dk_172 (dk_at dksX3_isEntrySo_8 0 rfl rfl)
abbrev cX3_testKey : ByteArray := prog_28_method_114_code
def yX3_testKey : MethodName := ⟨RX3, "testKey", "(I)I"⟩
def dkwX3_testKey_2 : List UInt8 := [89, 180, 1, 204, 4, 96, 181, 1, 204, 42, 180, 1, 204, 172]
abbrev dktX3_testKey_2 : List UInt8 := dkwX3_testKey_2 ++ []
def dkwX3_testKey_1 : List UInt8 := [5, 167, 0, 4, 3, 182, 0, 152, 154, 0, 5, 3, 172, 42, 180, 0, 91, 42, 180, 1, 204, 27, 79, 42]
abbrev dktX3_testKey_1 : List UInt8 := dkwX3_testKey_1 ++ dktX3_testKey_2
def dkwX3_testKey_0 : List UInt8 := [42, 27, 3, 18, 151, 184, 0, 147, 154, 0, 7, 4, 167, 0, 17, 42, 180, 1, 204, 16, 6, 160, 0, 7]
abbrev dktX3_testKey_0 : List UInt8 := dkwX3_testKey_0 ++ dktX3_testKey_1
theorem dksX3_testKey_0 : cX3_testKey.data.toList.drop 0 = dktX3_testKey_0 := by decide +kernel
theorem dksX3_testKey_1 : cX3_testKey.data.toList.drop 24 = dktX3_testKey_1 := dk_seg dksX3_testKey_0 24 rfl rfl
theorem dksX3_testKey_2 : cX3_testKey.data.toList.drop 48 = dktX3_testKey_2 := dk_seg dksX3_testKey_1 24 rfl rfl
theorem dX3_testKey_0 : decode cX3_testKey 0 = .ok (.aload_n 0, 1) := dk_42 (dk_at dksX3_testKey_0 0 rfl rfl)
theorem dX3_testKey_1 : decode cX3_testKey 1 = .ok (.iload_n 1, 1) := dk_27 (dk_at dksX3_testKey_0 1 rfl rfl)
theorem dX3_testKey_2 : decode cX3_testKey 2 = .ok (.iconst 0, 1) := dk_3 (dk_at dksX3_testKey_0 2 rfl rfl)
theorem dX3_testKey_3 : decode cX3_testKey 3 = .ok (.ldc 151, 2) := dk_18 151 (dk_at dksX3_testKey_0 3 rfl rfl)
theorem dX3_testKey_5 : decode cX3_testKey 5 = .ok (.invokestatic 147, 3) := dk_184 0 147 (dk_at dksX3_testKey_0 5 rfl rfl)
theorem dX3_testKey_8 : decode cX3_testKey 8 = .ok (.ifCond .ne 7, 3) := dk_154 0 7 (dk_at dksX3_testKey_0 8 rfl rfl)
theorem dX3_testKey_11 : decode cX3_testKey 11 = .ok (.iconst 1, 1) := dk_4 (dk_at dksX3_testKey_0 11 rfl rfl)
theorem dX3_testKey_12 : decode cX3_testKey 12 = .ok (.goto 17, 3) := dk_167 0 17 (dk_at dksX3_testKey_0 12 rfl rfl)
theorem dX3_testKey_15 : decode cX3_testKey 15 = .ok (.aload_n 0, 1) := dk_42 (dk_at dksX3_testKey_0 15 rfl rfl)
theorem dX3_testKey_16 : decode cX3_testKey 16 = .ok (.getfield 460, 3) := dk_180 1 204 (dk_at dksX3_testKey_0 16 rfl rfl)
theorem dX3_testKey_19 : decode cX3_testKey 19 = .ok (.bipush 6, 2) := dk_16 6 (dk_at dksX3_testKey_0 19 rfl rfl)
theorem dX3_testKey_21 : decode cX3_testKey 21 = .ok (.if_icmp .ne 7, 3) := dk_160 0 7 (dk_at dksX3_testKey_0 21 rfl rfl)
theorem dX3_testKey_24 : decode cX3_testKey 24 = .ok (.iconst 2, 1) := dk_5 (dk_at dksX3_testKey_1 0 rfl rfl)
theorem dX3_testKey_25 : decode cX3_testKey 25 = .ok (.goto 4, 3) := dk_167 0 4 (dk_at dksX3_testKey_1 1 rfl rfl)
theorem dX3_testKey_28 : decode cX3_testKey 28 = .ok (.iconst 0, 1) := dk_3 (dk_at dksX3_testKey_1 4 rfl rfl)
theorem dX3_testKey_29 : decode cX3_testKey 29 = .ok (.invokevirtual 152, 3) := dk_182 0 152 (dk_at dksX3_testKey_1 5 rfl rfl)
theorem dX3_testKey_32 : decode cX3_testKey 32 = .ok (.ifCond .ne 5, 3) := dk_154 0 5 (dk_at dksX3_testKey_1 8 rfl rfl)
theorem dX3_testKey_35 : decode cX3_testKey 35 = .ok (.iconst 0, 1) := dk_3 (dk_at dksX3_testKey_1 11 rfl rfl)
theorem dX3_testKey_36 : decode cX3_testKey 36 = .ok (.ireturn, 1) := dk_172 (dk_at dksX3_testKey_1 12 rfl rfl)
theorem dX3_testKey_37 : decode cX3_testKey 37 = .ok (.aload_n 0, 1) := dk_42 (dk_at dksX3_testKey_1 13 rfl rfl)
theorem dX3_testKey_38 : decode cX3_testKey 38 = .ok (.getfield 91, 3) := dk_180 0 91 (dk_at dksX3_testKey_1 14 rfl rfl)
theorem dX3_testKey_41 : decode cX3_testKey 41 = .ok (.aload_n 0, 1) := dk_42 (dk_at dksX3_testKey_1 17 rfl rfl)
theorem dX3_testKey_42 : decode cX3_testKey 42 = .ok (.getfield 460, 3) := dk_180 1 204 (dk_at dksX3_testKey_1 18 rfl rfl)
theorem dX3_testKey_45 : decode cX3_testKey 45 = .ok (.iload_n 1, 1) := dk_27 (dk_at dksX3_testKey_1 21 rfl rfl)
theorem dX3_testKey_46 : decode cX3_testKey 46 = .ok (.iastore, 1) := dk_79 (dk_at dksX3_testKey_1 22 rfl rfl)
theorem dX3_testKey_47 : decode cX3_testKey 47 = .ok (.aload_n 0, 1) := dk_42 (dk_at dksX3_testKey_1 23 rfl rfl)
theorem dX3_testKey_48 : decode cX3_testKey 48 = .ok (.dup, 1) := dk_89 (dk_at dksX3_testKey_2 0 rfl rfl)
theorem dX3_testKey_49 : decode cX3_testKey 49 = .ok (.getfield 460, 3) := dk_180 1 204 (dk_at dksX3_testKey_2 1 rfl rfl)
theorem dX3_testKey_52 : decode cX3_testKey 52 = .ok (.iconst 1, 1) := dk_4 (dk_at dksX3_testKey_2 4 rfl rfl)
theorem dX3_testKey_53 : decode cX3_testKey 53 = .ok (.iadd, 1) := dk_96 (dk_at dksX3_testKey_2 5 rfl rfl)
theorem dX3_testKey_54 : decode cX3_testKey 54 = .ok (.putfield 460, 3) := dk_181 1 204 (dk_at dksX3_testKey_2 6 rfl rfl)
theorem dX3_testKey_57 : decode cX3_testKey 57 = .ok (.aload_n 0, 1) := dk_42 (dk_at dksX3_testKey_2 9 rfl rfl)
theorem dX3_testKey_58 : decode cX3_testKey 58 = .ok (.getfield 460, 3) := dk_180 1 204 (dk_at dksX3_testKey_2 10 rfl rfl)
theorem dX3_testKey_61 : decode cX3_testKey 61 = .ok (.ireturn, 1) := dk_172 (dk_at dksX3_testKey_2 13 rfl rfl)
abbrev cX3_testWord : ByteArray := prog_28_method_115_code
def yX3_testWord : MethodName := ⟨RX3, "testWord", "(I)I"⟩
def dkwX3_testWord_2 : List UInt8 := [89, 180, 1, 207, 4, 96, 181, 1, 207, 42, 180, 1, 207, 172]
abbrev dktX3_testWord_2 : List UInt8 := dkwX3_testWord_2 ++ []
def dkwX3_testWord_1 : List UInt8 := [5, 167, 0, 4, 3, 182, 0, 152, 154, 0, 5, 3, 172, 42, 180, 0, 94, 42, 180, 1, 207, 27, 79, 42]
abbrev dktX3_testWord_1 : List UInt8 := dkwX3_testWord_1 ++ dktX3_testWord_2
def dkwX3_testWord_0 : List UInt8 := [42, 27, 3, 18, 151, 184, 0, 147, 154, 0, 7, 4, 167, 0, 17, 42, 180, 1, 207, 16, 6, 160, 0, 7]
abbrev dktX3_testWord_0 : List UInt8 := dkwX3_testWord_0 ++ dktX3_testWord_1
theorem dksX3_testWord_0 : cX3_testWord.data.toList.drop 0 = dktX3_testWord_0 := by decide +kernel
theorem dksX3_testWord_1 : cX3_testWord.data.toList.drop 24 = dktX3_testWord_1 := dk_seg dksX3_testWord_0 24 rfl rfl
theorem dksX3_testWord_2 : cX3_testWord.data.toList.drop 48 = dktX3_testWord_2 := dk_seg dksX3_testWord_1 24 rfl rfl
theorem dX3_testWord_0 : decode cX3_testWord 0 = .ok (.aload_n 0, 1) := dk_42 (dk_at dksX3_testWord_0 0 rfl rfl)
theorem dX3_testWord_1 : decode cX3_testWord 1 = .ok (.iload_n 1, 1) := dk_27 (dk_at dksX3_testWord_0 1 rfl rfl)
theorem dX3_testWord_2 : decode cX3_testWord 2 = .ok (.iconst 0, 1) := dk_3 (dk_at dksX3_testWord_0 2 rfl rfl)
theorem dX3_testWord_3 : decode cX3_testWord 3 = .ok (.ldc 151, 2) := dk_18 151 (dk_at dksX3_testWord_0 3 rfl rfl)
theorem dX3_testWord_5 : decode cX3_testWord 5 = .ok (.invokestatic 147, 3) := dk_184 0 147 (dk_at dksX3_testWord_0 5 rfl rfl)
theorem dX3_testWord_8 : decode cX3_testWord 8 = .ok (.ifCond .ne 7, 3) := dk_154 0 7 (dk_at dksX3_testWord_0 8 rfl rfl)
theorem dX3_testWord_11 : decode cX3_testWord 11 = .ok (.iconst 1, 1) := dk_4 (dk_at dksX3_testWord_0 11 rfl rfl)
theorem dX3_testWord_12 : decode cX3_testWord 12 = .ok (.goto 17, 3) := dk_167 0 17 (dk_at dksX3_testWord_0 12 rfl rfl)
theorem dX3_testWord_15 : decode cX3_testWord 15 = .ok (.aload_n 0, 1) := dk_42 (dk_at dksX3_testWord_0 15 rfl rfl)
theorem dX3_testWord_16 : decode cX3_testWord 16 = .ok (.getfield 463, 3) := dk_180 1 207 (dk_at dksX3_testWord_0 16 rfl rfl)
theorem dX3_testWord_19 : decode cX3_testWord 19 = .ok (.bipush 6, 2) := dk_16 6 (dk_at dksX3_testWord_0 19 rfl rfl)
theorem dX3_testWord_21 : decode cX3_testWord 21 = .ok (.if_icmp .ne 7, 3) := dk_160 0 7 (dk_at dksX3_testWord_0 21 rfl rfl)
theorem dX3_testWord_24 : decode cX3_testWord 24 = .ok (.iconst 2, 1) := dk_5 (dk_at dksX3_testWord_1 0 rfl rfl)
theorem dX3_testWord_25 : decode cX3_testWord 25 = .ok (.goto 4, 3) := dk_167 0 4 (dk_at dksX3_testWord_1 1 rfl rfl)
theorem dX3_testWord_28 : decode cX3_testWord 28 = .ok (.iconst 0, 1) := dk_3 (dk_at dksX3_testWord_1 4 rfl rfl)
theorem dX3_testWord_29 : decode cX3_testWord 29 = .ok (.invokevirtual 152, 3) := dk_182 0 152 (dk_at dksX3_testWord_1 5 rfl rfl)
theorem dX3_testWord_32 : decode cX3_testWord 32 = .ok (.ifCond .ne 5, 3) := dk_154 0 5 (dk_at dksX3_testWord_1 8 rfl rfl)
theorem dX3_testWord_35 : decode cX3_testWord 35 = .ok (.iconst 0, 1) := dk_3 (dk_at dksX3_testWord_1 11 rfl rfl)
theorem dX3_testWord_36 : decode cX3_testWord 36 = .ok (.ireturn, 1) := dk_172 (dk_at dksX3_testWord_1 12 rfl rfl)
theorem dX3_testWord_37 : decode cX3_testWord 37 = .ok (.aload_n 0, 1) := dk_42 (dk_at dksX3_testWord_1 13 rfl rfl)
theorem dX3_testWord_38 : decode cX3_testWord 38 = .ok (.getfield 94, 3) := dk_180 0 94 (dk_at dksX3_testWord_1 14 rfl rfl)
theorem dX3_testWord_41 : decode cX3_testWord 41 = .ok (.aload_n 0, 1) := dk_42 (dk_at dksX3_testWord_1 17 rfl rfl)
theorem dX3_testWord_42 : decode cX3_testWord 42 = .ok (.getfield 463, 3) := dk_180 1 207 (dk_at dksX3_testWord_1 18 rfl rfl)
theorem dX3_testWord_45 : decode cX3_testWord 45 = .ok (.iload_n 1, 1) := dk_27 (dk_at dksX3_testWord_1 21 rfl rfl)
theorem dX3_testWord_46 : decode cX3_testWord 46 = .ok (.iastore, 1) := dk_79 (dk_at dksX3_testWord_1 22 rfl rfl)
theorem dX3_testWord_47 : decode cX3_testWord 47 = .ok (.aload_n 0, 1) := dk_42 (dk_at dksX3_testWord_1 23 rfl rfl)
theorem dX3_testWord_48 : decode cX3_testWord 48 = .ok (.dup, 1) := dk_89 (dk_at dksX3_testWord_2 0 rfl rfl)
theorem dX3_testWord_49 : decode cX3_testWord 49 = .ok (.getfield 463, 3) := dk_180 1 207 (dk_at dksX3_testWord_2 1 rfl rfl)
theorem dX3_testWord_52 : decode cX3_testWord 52 = .ok (.iconst 1, 1) := dk_4 (dk_at dksX3_testWord_2 4 rfl rfl)
theorem dX3_testWord_53 : decode cX3_testWord 53 = .ok (.iadd, 1) := dk_96 (dk_at dksX3_testWord_2 5 rfl rfl)
theorem dX3_testWord_54 : decode cX3_testWord 54 = .ok (.putfield 463, 3) := dk_181 1 207 (dk_at dksX3_testWord_2 6 rfl rfl)
theorem dX3_testWord_57 : decode cX3_testWord 57 = .ok (.aload_n 0, 1) := dk_42 (dk_at dksX3_testWord_2 9 rfl rfl)
theorem dX3_testWord_58 : decode cX3_testWord 58 = .ok (.getfield 463, 3) := dk_180 1 207 (dk_at dksX3_testWord_2 10 rfl rfl)
theorem dX3_testWord_61 : decode cX3_testWord 61 = .ok (.ireturn, 1) := dk_172 (dk_at dksX3_testWord_2 13 rfl rfl)
abbrev cX3_addTest : ByteArray := prog_28_method_116_code
def yX3_addTest : MethodName := ⟨RX3, "addTest", "(IIII)I"⟩
def dkwX3_addTest_10 : List UInt8 := [96, 181, 1, 210, 42, 180, 1, 210, 4, 100, 172]
abbrev dktX3_addTest_10 : List UInt8 := dkwX3_addTest_10 ++ []
def dkwX3_addTest_9 : List UInt8 := [46, 79, 132, 6, 1, 167, 255, 202, 42, 3, 181, 1, 204, 42, 3, 181, 1, 207, 42, 89, 180, 1, 210, 4]
abbrev dktX3_addTest_9 : List UInt8 := dkwX3_addTest_9 ++ dktX3_addTest_10
def dkwX3_addTest_8 : List UInt8 := [21, 6, 46, 79, 42, 180, 0, 103, 16, 6, 42, 180, 1, 210, 104, 21, 6, 96, 42, 180, 0, 94, 21, 6]
abbrev dktX3_addTest_8 : List UInt8 := dkwX3_addTest_8 ++ dktX3_addTest_9
def dkwX3_addTest_7 : List UInt8 := [16, 6, 162, 0, 53, 42, 180, 0, 97, 16, 6, 42, 180, 1, 210, 104, 21, 6, 96, 42, 180, 0, 91]
abbrev dktX3_addTest_7 : List UInt8 := dkwX3_addTest_7 ++ dktX3_addTest_8
def dkwX3_addTest_6 : List UInt8 := [42, 180, 1, 204, 79, 42, 180, 0, 106, 42, 180, 1, 210, 42, 180, 1, 207, 79, 3, 54, 6, 21, 6]
abbrev dktX3_addTest_6 : List UInt8 := dkwX3_addTest_6 ++ dktX3_addTest_7
def dkwX3_addTest_5 : List UInt8 := [180, 1, 210, 21, 4, 79, 42, 180, 0, 121, 42, 180, 1, 210, 2, 79, 42, 180, 0, 100, 42, 180, 1, 210]
abbrev dktX3_addTest_5 : List UInt8 := dkwX3_addTest_5 ++ dktX3_addTest_6
def dkwX3_addTest_4 : List UInt8 := [180, 0, 112, 42, 180, 1, 210, 28, 79, 42, 180, 0, 115, 42, 180, 1, 210, 29, 79, 42, 180, 0, 118, 42]
abbrev dktX3_addTest_4 : List UInt8 := dkwX3_addTest_4 ++ dktX3_addTest_5
def dkwX3_addTest_3 : List UInt8 := [167, 0, 4, 3, 182, 0, 152, 154, 0, 5, 3, 172, 42, 180, 0, 109, 42, 180, 1, 210, 27, 79, 42]
abbrev dktX3_addTest_3 : List UInt8 := dkwX3_addTest_3 ++ dktX3_addTest_4
def dkwX3_addTest_2 : List UInt8 := [3, 54, 5, 42, 21, 5, 154, 0, 7, 4, 167, 0, 16, 42, 180, 1, 210, 8, 160, 0, 7, 5]
abbrev dktX3_addTest_2 : List UInt8 := dkwX3_addTest_2 ++ dktX3_addTest_3
def dkwX3_addTest_1 : List UInt8 := [16, 20, 184, 0, 147, 153, 0, 19, 21, 4, 3, 17, 1, 244, 184, 0, 147, 153, 0, 7, 4, 167, 0, 4]
abbrev dktX3_addTest_1 : List UInt8 := dkwX3_addTest_1 ++ dktX3_addTest_2
def dkwX3_addTest_0 : List UInt8 := [27, 4, 17, 1, 244, 184, 0, 147, 153, 0, 39, 28, 3, 16, 100, 184, 0, 147, 153, 0, 29, 29, 4]
abbrev dktX3_addTest_0 : List UInt8 := dkwX3_addTest_0 ++ dktX3_addTest_1
theorem dksX3_addTest_0 : cX3_addTest.data.toList.drop 0 = dktX3_addTest_0 := by decide +kernel
theorem dksX3_addTest_1 : cX3_addTest.data.toList.drop 23 = dktX3_addTest_1 := dk_seg dksX3_addTest_0 23 rfl rfl
theorem dksX3_addTest_2 : cX3_addTest.data.toList.drop 47 = dktX3_addTest_2 := dk_seg dksX3_addTest_1 24 rfl rfl
theorem dksX3_addTest_3 : cX3_addTest.data.toList.drop 69 = dktX3_addTest_3 := dk_seg dksX3_addTest_2 22 rfl rfl
theorem dksX3_addTest_4 : cX3_addTest.data.toList.drop 92 = dktX3_addTest_4 := dk_seg dksX3_addTest_3 23 rfl rfl
theorem dksX3_addTest_5 : cX3_addTest.data.toList.drop 116 = dktX3_addTest_5 := dk_seg dksX3_addTest_4 24 rfl rfl
theorem dksX3_addTest_6 : cX3_addTest.data.toList.drop 140 = dktX3_addTest_6 := dk_seg dksX3_addTest_5 24 rfl rfl
theorem dksX3_addTest_7 : cX3_addTest.data.toList.drop 163 = dktX3_addTest_7 := dk_seg dksX3_addTest_6 23 rfl rfl
theorem dksX3_addTest_8 : cX3_addTest.data.toList.drop 186 = dktX3_addTest_8 := dk_seg dksX3_addTest_7 23 rfl rfl
theorem dksX3_addTest_9 : cX3_addTest.data.toList.drop 210 = dktX3_addTest_9 := dk_seg dksX3_addTest_8 24 rfl rfl
theorem dksX3_addTest_10 : cX3_addTest.data.toList.drop 234 = dktX3_addTest_10 := dk_seg dksX3_addTest_9 24 rfl rfl
theorem dX3_addTest_0 : decode cX3_addTest 0 = .ok (.iload_n 1, 1) := dk_27 (dk_at dksX3_addTest_0 0 rfl rfl)
theorem dX3_addTest_1 : decode cX3_addTest 1 = .ok (.iconst 1, 1) := dk_4 (dk_at dksX3_addTest_0 1 rfl rfl)
theorem dX3_addTest_2 : decode cX3_addTest 2 = .ok (.sipush 500, 3) := dk_17 1 244 (dk_at dksX3_addTest_0 2 rfl rfl)
theorem dX3_addTest_5 : decode cX3_addTest 5 = .ok (.invokestatic 147, 3) := dk_184 0 147 (dk_at dksX3_addTest_0 5 rfl rfl)
theorem dX3_addTest_8 : decode cX3_addTest 8 = .ok (.ifCond .eq 39, 3) := dk_153 0 39 (dk_at dksX3_addTest_0 8 rfl rfl)
theorem dX3_addTest_11 : decode cX3_addTest 11 = .ok (.iload_n 2, 1) := dk_28 (dk_at dksX3_addTest_0 11 rfl rfl)
theorem dX3_addTest_12 : decode cX3_addTest 12 = .ok (.iconst 0, 1) := dk_3 (dk_at dksX3_addTest_0 12 rfl rfl)
theorem dX3_addTest_13 : decode cX3_addTest 13 = .ok (.bipush 100, 2) := dk_16 100 (dk_at dksX3_addTest_0 13 rfl rfl)
theorem dX3_addTest_15 : decode cX3_addTest 15 = .ok (.invokestatic 147, 3) := dk_184 0 147 (dk_at dksX3_addTest_0 15 rfl rfl)
theorem dX3_addTest_18 : decode cX3_addTest 18 = .ok (.ifCond .eq 29, 3) := dk_153 0 29 (dk_at dksX3_addTest_0 18 rfl rfl)
theorem dX3_addTest_21 : decode cX3_addTest 21 = .ok (.iload_n 3, 1) := dk_29 (dk_at dksX3_addTest_0 21 rfl rfl)
theorem dX3_addTest_22 : decode cX3_addTest 22 = .ok (.iconst 1, 1) := dk_4 (dk_at dksX3_addTest_0 22 rfl rfl)
theorem dX3_addTest_23 : decode cX3_addTest 23 = .ok (.bipush 20, 2) := dk_16 20 (dk_at dksX3_addTest_1 0 rfl rfl)
theorem dX3_addTest_25 : decode cX3_addTest 25 = .ok (.invokestatic 147, 3) := dk_184 0 147 (dk_at dksX3_addTest_1 2 rfl rfl)
theorem dX3_addTest_28 : decode cX3_addTest 28 = .ok (.ifCond .eq 19, 3) := dk_153 0 19 (dk_at dksX3_addTest_1 5 rfl rfl)
theorem dX3_addTest_31 : decode cX3_addTest 31 = .ok (.iload 4, 2) := dk_21 4 (dk_at dksX3_addTest_1 8 rfl rfl)
theorem dX3_addTest_33 : decode cX3_addTest 33 = .ok (.iconst 0, 1) := dk_3 (dk_at dksX3_addTest_1 10 rfl rfl)
theorem dX3_addTest_34 : decode cX3_addTest 34 = .ok (.sipush 500, 3) := dk_17 1 244 (dk_at dksX3_addTest_1 11 rfl rfl)
theorem dX3_addTest_37 : decode cX3_addTest 37 = .ok (.invokestatic 147, 3) := dk_184 0 147 (dk_at dksX3_addTest_1 14 rfl rfl)
theorem dX3_addTest_40 : decode cX3_addTest 40 = .ok (.ifCond .eq 7, 3) := dk_153 0 7 (dk_at dksX3_addTest_1 17 rfl rfl)
theorem dX3_addTest_43 : decode cX3_addTest 43 = .ok (.iconst 1, 1) := dk_4 (dk_at dksX3_addTest_1 20 rfl rfl)
theorem dX3_addTest_44 : decode cX3_addTest 44 = .ok (.goto 4, 3) := dk_167 0 4 (dk_at dksX3_addTest_1 21 rfl rfl)
theorem dX3_addTest_47 : decode cX3_addTest 47 = .ok (.iconst 0, 1) := dk_3 (dk_at dksX3_addTest_2 0 rfl rfl)
theorem dX3_addTest_48 : decode cX3_addTest 48 = .ok (.istore 5, 2) := dk_54 5 (dk_at dksX3_addTest_2 1 rfl rfl)
theorem dX3_addTest_50 : decode cX3_addTest 50 = .ok (.aload_n 0, 1) := dk_42 (dk_at dksX3_addTest_2 3 rfl rfl)
theorem dX3_addTest_51 : decode cX3_addTest 51 = .ok (.iload 5, 2) := dk_21 5 (dk_at dksX3_addTest_2 4 rfl rfl)
theorem dX3_addTest_53 : decode cX3_addTest 53 = .ok (.ifCond .ne 7, 3) := dk_154 0 7 (dk_at dksX3_addTest_2 6 rfl rfl)
theorem dX3_addTest_56 : decode cX3_addTest 56 = .ok (.iconst 1, 1) := dk_4 (dk_at dksX3_addTest_2 9 rfl rfl)
theorem dX3_addTest_57 : decode cX3_addTest 57 = .ok (.goto 16, 3) := dk_167 0 16 (dk_at dksX3_addTest_2 10 rfl rfl)
theorem dX3_addTest_60 : decode cX3_addTest 60 = .ok (.aload_n 0, 1) := dk_42 (dk_at dksX3_addTest_2 13 rfl rfl)
theorem dX3_addTest_61 : decode cX3_addTest 61 = .ok (.getfield 466, 3) := dk_180 1 210 (dk_at dksX3_addTest_2 14 rfl rfl)
theorem dX3_addTest_64 : decode cX3_addTest 64 = .ok (.iconst 5, 1) := dk_8 (dk_at dksX3_addTest_2 17 rfl rfl)
theorem dX3_addTest_65 : decode cX3_addTest 65 = .ok (.if_icmp .ne 7, 3) := dk_160 0 7 (dk_at dksX3_addTest_2 18 rfl rfl)
theorem dX3_addTest_68 : decode cX3_addTest 68 = .ok (.iconst 2, 1) := dk_5 (dk_at dksX3_addTest_2 21 rfl rfl)
theorem dX3_addTest_69 : decode cX3_addTest 69 = .ok (.goto 4, 3) := dk_167 0 4 (dk_at dksX3_addTest_3 0 rfl rfl)
theorem dX3_addTest_72 : decode cX3_addTest 72 = .ok (.iconst 0, 1) := dk_3 (dk_at dksX3_addTest_3 3 rfl rfl)
theorem dX3_addTest_73 : decode cX3_addTest 73 = .ok (.invokevirtual 152, 3) := dk_182 0 152 (dk_at dksX3_addTest_3 4 rfl rfl)
theorem dX3_addTest_76 : decode cX3_addTest 76 = .ok (.ifCond .ne 5, 3) := dk_154 0 5 (dk_at dksX3_addTest_3 7 rfl rfl)
theorem dX3_addTest_79 : decode cX3_addTest 79 = .ok (.iconst 0, 1) := dk_3 (dk_at dksX3_addTest_3 10 rfl rfl)
theorem dX3_addTest_80 : decode cX3_addTest 80 = .ok (.ireturn, 1) := dk_172 (dk_at dksX3_addTest_3 11 rfl rfl)
theorem dX3_addTest_81 : decode cX3_addTest 81 = .ok (.aload_n 0, 1) := dk_42 (dk_at dksX3_addTest_3 12 rfl rfl)
theorem dX3_addTest_82 : decode cX3_addTest 82 = .ok (.getfield 109, 3) := dk_180 0 109 (dk_at dksX3_addTest_3 13 rfl rfl)
theorem dX3_addTest_85 : decode cX3_addTest 85 = .ok (.aload_n 0, 1) := dk_42 (dk_at dksX3_addTest_3 16 rfl rfl)
theorem dX3_addTest_86 : decode cX3_addTest 86 = .ok (.getfield 466, 3) := dk_180 1 210 (dk_at dksX3_addTest_3 17 rfl rfl)
theorem dX3_addTest_89 : decode cX3_addTest 89 = .ok (.iload_n 1, 1) := dk_27 (dk_at dksX3_addTest_3 20 rfl rfl)
theorem dX3_addTest_90 : decode cX3_addTest 90 = .ok (.iastore, 1) := dk_79 (dk_at dksX3_addTest_3 21 rfl rfl)
theorem dX3_addTest_91 : decode cX3_addTest 91 = .ok (.aload_n 0, 1) := dk_42 (dk_at dksX3_addTest_3 22 rfl rfl)
theorem dX3_addTest_92 : decode cX3_addTest 92 = .ok (.getfield 112, 3) := dk_180 0 112 (dk_at dksX3_addTest_4 0 rfl rfl)
theorem dX3_addTest_95 : decode cX3_addTest 95 = .ok (.aload_n 0, 1) := dk_42 (dk_at dksX3_addTest_4 3 rfl rfl)
theorem dX3_addTest_96 : decode cX3_addTest 96 = .ok (.getfield 466, 3) := dk_180 1 210 (dk_at dksX3_addTest_4 4 rfl rfl)
theorem dX3_addTest_99 : decode cX3_addTest 99 = .ok (.iload_n 2, 1) := dk_28 (dk_at dksX3_addTest_4 7 rfl rfl)
theorem dX3_addTest_100 : decode cX3_addTest 100 = .ok (.iastore, 1) := dk_79 (dk_at dksX3_addTest_4 8 rfl rfl)
theorem dX3_addTest_101 : decode cX3_addTest 101 = .ok (.aload_n 0, 1) := dk_42 (dk_at dksX3_addTest_4 9 rfl rfl)
theorem dX3_addTest_102 : decode cX3_addTest 102 = .ok (.getfield 115, 3) := dk_180 0 115 (dk_at dksX3_addTest_4 10 rfl rfl)
theorem dX3_addTest_105 : decode cX3_addTest 105 = .ok (.aload_n 0, 1) := dk_42 (dk_at dksX3_addTest_4 13 rfl rfl)
theorem dX3_addTest_106 : decode cX3_addTest 106 = .ok (.getfield 466, 3) := dk_180 1 210 (dk_at dksX3_addTest_4 14 rfl rfl)
theorem dX3_addTest_109 : decode cX3_addTest 109 = .ok (.iload_n 3, 1) := dk_29 (dk_at dksX3_addTest_4 17 rfl rfl)
theorem dX3_addTest_110 : decode cX3_addTest 110 = .ok (.iastore, 1) := dk_79 (dk_at dksX3_addTest_4 18 rfl rfl)
theorem dX3_addTest_111 : decode cX3_addTest 111 = .ok (.aload_n 0, 1) := dk_42 (dk_at dksX3_addTest_4 19 rfl rfl)
theorem dX3_addTest_112 : decode cX3_addTest 112 = .ok (.getfield 118, 3) := dk_180 0 118 (dk_at dksX3_addTest_4 20 rfl rfl)
theorem dX3_addTest_115 : decode cX3_addTest 115 = .ok (.aload_n 0, 1) := dk_42 (dk_at dksX3_addTest_4 23 rfl rfl)
theorem dX3_addTest_116 : decode cX3_addTest 116 = .ok (.getfield 466, 3) := dk_180 1 210 (dk_at dksX3_addTest_5 0 rfl rfl)
theorem dX3_addTest_119 : decode cX3_addTest 119 = .ok (.iload 4, 2) := dk_21 4 (dk_at dksX3_addTest_5 3 rfl rfl)
theorem dX3_addTest_121 : decode cX3_addTest 121 = .ok (.iastore, 1) := dk_79 (dk_at dksX3_addTest_5 5 rfl rfl)
theorem dX3_addTest_122 : decode cX3_addTest 122 = .ok (.aload_n 0, 1) := dk_42 (dk_at dksX3_addTest_5 6 rfl rfl)
theorem dX3_addTest_123 : decode cX3_addTest 123 = .ok (.getfield 121, 3) := dk_180 0 121 (dk_at dksX3_addTest_5 7 rfl rfl)
theorem dX3_addTest_126 : decode cX3_addTest 126 = .ok (.aload_n 0, 1) := dk_42 (dk_at dksX3_addTest_5 10 rfl rfl)
theorem dX3_addTest_127 : decode cX3_addTest 127 = .ok (.getfield 466, 3) := dk_180 1 210 (dk_at dksX3_addTest_5 11 rfl rfl)
theorem dX3_addTest_130 : decode cX3_addTest 130 = .ok (.iconst (-1), 1) := dk_2 (dk_at dksX3_addTest_5 14 rfl rfl)
theorem dX3_addTest_131 : decode cX3_addTest 131 = .ok (.iastore, 1) := dk_79 (dk_at dksX3_addTest_5 15 rfl rfl)
theorem dX3_addTest_132 : decode cX3_addTest 132 = .ok (.aload_n 0, 1) := dk_42 (dk_at dksX3_addTest_5 16 rfl rfl)
theorem dX3_addTest_133 : decode cX3_addTest 133 = .ok (.getfield 100, 3) := dk_180 0 100 (dk_at dksX3_addTest_5 17 rfl rfl)
theorem dX3_addTest_136 : decode cX3_addTest 136 = .ok (.aload_n 0, 1) := dk_42 (dk_at dksX3_addTest_5 20 rfl rfl)
theorem dX3_addTest_137 : decode cX3_addTest 137 = .ok (.getfield 466, 3) := dk_180 1 210 (dk_at dksX3_addTest_5 21 rfl rfl)
theorem dX3_addTest_140 : decode cX3_addTest 140 = .ok (.aload_n 0, 1) := dk_42 (dk_at dksX3_addTest_6 0 rfl rfl)
theorem dX3_addTest_141 : decode cX3_addTest 141 = .ok (.getfield 460, 3) := dk_180 1 204 (dk_at dksX3_addTest_6 1 rfl rfl)
theorem dX3_addTest_144 : decode cX3_addTest 144 = .ok (.iastore, 1) := dk_79 (dk_at dksX3_addTest_6 4 rfl rfl)
theorem dX3_addTest_145 : decode cX3_addTest 145 = .ok (.aload_n 0, 1) := dk_42 (dk_at dksX3_addTest_6 5 rfl rfl)
theorem dX3_addTest_146 : decode cX3_addTest 146 = .ok (.getfield 106, 3) := dk_180 0 106 (dk_at dksX3_addTest_6 6 rfl rfl)
theorem dX3_addTest_149 : decode cX3_addTest 149 = .ok (.aload_n 0, 1) := dk_42 (dk_at dksX3_addTest_6 9 rfl rfl)
theorem dX3_addTest_150 : decode cX3_addTest 150 = .ok (.getfield 466, 3) := dk_180 1 210 (dk_at dksX3_addTest_6 10 rfl rfl)
theorem dX3_addTest_153 : decode cX3_addTest 153 = .ok (.aload_n 0, 1) := dk_42 (dk_at dksX3_addTest_6 13 rfl rfl)
theorem dX3_addTest_154 : decode cX3_addTest 154 = .ok (.getfield 463, 3) := dk_180 1 207 (dk_at dksX3_addTest_6 14 rfl rfl)
theorem dX3_addTest_157 : decode cX3_addTest 157 = .ok (.iastore, 1) := dk_79 (dk_at dksX3_addTest_6 17 rfl rfl)
theorem dX3_addTest_158 : decode cX3_addTest 158 = .ok (.iconst 0, 1) := dk_3 (dk_at dksX3_addTest_6 18 rfl rfl)
theorem dX3_addTest_159 : decode cX3_addTest 159 = .ok (.istore 6, 2) := dk_54 6 (dk_at dksX3_addTest_6 19 rfl rfl)
theorem dX3_addTest_161 : decode cX3_addTest 161 = .ok (.iload 6, 2) := dk_21 6 (dk_at dksX3_addTest_6 21 rfl rfl)
theorem dX3_addTest_163 : decode cX3_addTest 163 = .ok (.bipush 6, 2) := dk_16 6 (dk_at dksX3_addTest_7 0 rfl rfl)
theorem dX3_addTest_165 : decode cX3_addTest 165 = .ok (.if_icmp .ge 53, 3) := dk_162 0 53 (dk_at dksX3_addTest_7 2 rfl rfl)
theorem dX3_addTest_168 : decode cX3_addTest 168 = .ok (.aload_n 0, 1) := dk_42 (dk_at dksX3_addTest_7 5 rfl rfl)
theorem dX3_addTest_169 : decode cX3_addTest 169 = .ok (.getfield 97, 3) := dk_180 0 97 (dk_at dksX3_addTest_7 6 rfl rfl)
theorem dX3_addTest_172 : decode cX3_addTest 172 = .ok (.bipush 6, 2) := dk_16 6 (dk_at dksX3_addTest_7 9 rfl rfl)
theorem dX3_addTest_174 : decode cX3_addTest 174 = .ok (.aload_n 0, 1) := dk_42 (dk_at dksX3_addTest_7 11 rfl rfl)
theorem dX3_addTest_175 : decode cX3_addTest 175 = .ok (.getfield 466, 3) := dk_180 1 210 (dk_at dksX3_addTest_7 12 rfl rfl)
theorem dX3_addTest_178 : decode cX3_addTest 178 = .ok (.imul, 1) := dk_104 (dk_at dksX3_addTest_7 15 rfl rfl)
theorem dX3_addTest_179 : decode cX3_addTest 179 = .ok (.iload 6, 2) := dk_21 6 (dk_at dksX3_addTest_7 16 rfl rfl)
theorem dX3_addTest_181 : decode cX3_addTest 181 = .ok (.iadd, 1) := dk_96 (dk_at dksX3_addTest_7 18 rfl rfl)
theorem dX3_addTest_182 : decode cX3_addTest 182 = .ok (.aload_n 0, 1) := dk_42 (dk_at dksX3_addTest_7 19 rfl rfl)
theorem dX3_addTest_183 : decode cX3_addTest 183 = .ok (.getfield 91, 3) := dk_180 0 91 (dk_at dksX3_addTest_7 20 rfl rfl)
theorem dX3_addTest_186 : decode cX3_addTest 186 = .ok (.iload 6, 2) := dk_21 6 (dk_at dksX3_addTest_8 0 rfl rfl)
theorem dX3_addTest_188 : decode cX3_addTest 188 = .ok (.iaload, 1) := dk_46 (dk_at dksX3_addTest_8 2 rfl rfl)
theorem dX3_addTest_189 : decode cX3_addTest 189 = .ok (.iastore, 1) := dk_79 (dk_at dksX3_addTest_8 3 rfl rfl)
theorem dX3_addTest_190 : decode cX3_addTest 190 = .ok (.aload_n 0, 1) := dk_42 (dk_at dksX3_addTest_8 4 rfl rfl)
theorem dX3_addTest_191 : decode cX3_addTest 191 = .ok (.getfield 103, 3) := dk_180 0 103 (dk_at dksX3_addTest_8 5 rfl rfl)
theorem dX3_addTest_194 : decode cX3_addTest 194 = .ok (.bipush 6, 2) := dk_16 6 (dk_at dksX3_addTest_8 8 rfl rfl)
theorem dX3_addTest_196 : decode cX3_addTest 196 = .ok (.aload_n 0, 1) := dk_42 (dk_at dksX3_addTest_8 10 rfl rfl)
theorem dX3_addTest_197 : decode cX3_addTest 197 = .ok (.getfield 466, 3) := dk_180 1 210 (dk_at dksX3_addTest_8 11 rfl rfl)
theorem dX3_addTest_200 : decode cX3_addTest 200 = .ok (.imul, 1) := dk_104 (dk_at dksX3_addTest_8 14 rfl rfl)
theorem dX3_addTest_201 : decode cX3_addTest 201 = .ok (.iload 6, 2) := dk_21 6 (dk_at dksX3_addTest_8 15 rfl rfl)
theorem dX3_addTest_203 : decode cX3_addTest 203 = .ok (.iadd, 1) := dk_96 (dk_at dksX3_addTest_8 17 rfl rfl)
theorem dX3_addTest_204 : decode cX3_addTest 204 = .ok (.aload_n 0, 1) := dk_42 (dk_at dksX3_addTest_8 18 rfl rfl)
theorem dX3_addTest_205 : decode cX3_addTest 205 = .ok (.getfield 94, 3) := dk_180 0 94 (dk_at dksX3_addTest_8 19 rfl rfl)
theorem dX3_addTest_208 : decode cX3_addTest 208 = .ok (.iload 6, 2) := dk_21 6 (dk_at dksX3_addTest_8 22 rfl rfl)
theorem dX3_addTest_210 : decode cX3_addTest 210 = .ok (.iaload, 1) := dk_46 (dk_at dksX3_addTest_9 0 rfl rfl)
theorem dX3_addTest_211 : decode cX3_addTest 211 = .ok (.iastore, 1) := dk_79 (dk_at dksX3_addTest_9 1 rfl rfl)
theorem dX3_addTest_212 : decode cX3_addTest 212 = .ok (.iinc 6 1, 3) := dk_132 6 1 (dk_at dksX3_addTest_9 2 rfl rfl)
theorem dX3_addTest_215 : decode cX3_addTest 215 = .ok (.goto (-54), 3) := dk_167 255 202 (dk_at dksX3_addTest_9 5 rfl rfl)
theorem dX3_addTest_218 : decode cX3_addTest 218 = .ok (.aload_n 0, 1) := dk_42 (dk_at dksX3_addTest_9 8 rfl rfl)
theorem dX3_addTest_219 : decode cX3_addTest 219 = .ok (.iconst 0, 1) := dk_3 (dk_at dksX3_addTest_9 9 rfl rfl)
theorem dX3_addTest_220 : decode cX3_addTest 220 = .ok (.putfield 460, 3) := dk_181 1 204 (dk_at dksX3_addTest_9 10 rfl rfl)
theorem dX3_addTest_223 : decode cX3_addTest 223 = .ok (.aload_n 0, 1) := dk_42 (dk_at dksX3_addTest_9 13 rfl rfl)
theorem dX3_addTest_224 : decode cX3_addTest 224 = .ok (.iconst 0, 1) := dk_3 (dk_at dksX3_addTest_9 14 rfl rfl)
theorem dX3_addTest_225 : decode cX3_addTest 225 = .ok (.putfield 463, 3) := dk_181 1 207 (dk_at dksX3_addTest_9 15 rfl rfl)
theorem dX3_addTest_228 : decode cX3_addTest 228 = .ok (.aload_n 0, 1) := dk_42 (dk_at dksX3_addTest_9 18 rfl rfl)
theorem dX3_addTest_229 : decode cX3_addTest 229 = .ok (.dup, 1) := dk_89 (dk_at dksX3_addTest_9 19 rfl rfl)
theorem dX3_addTest_230 : decode cX3_addTest 230 = .ok (.getfield 466, 3) := dk_180 1 210 (dk_at dksX3_addTest_9 20 rfl rfl)
theorem dX3_addTest_233 : decode cX3_addTest 233 = .ok (.iconst 1, 1) := dk_4 (dk_at dksX3_addTest_9 23 rfl rfl)
theorem dX3_addTest_234 : decode cX3_addTest 234 = .ok (.iadd, 1) := dk_96 (dk_at dksX3_addTest_10 0 rfl rfl)
theorem dX3_addTest_235 : decode cX3_addTest 235 = .ok (.putfield 466, 3) := dk_181 1 210 (dk_at dksX3_addTest_10 1 rfl rfl)
theorem dX3_addTest_238 : decode cX3_addTest 238 = .ok (.aload_n 0, 1) := dk_42 (dk_at dksX3_addTest_10 4 rfl rfl)
theorem dX3_addTest_239 : decode cX3_addTest 239 = .ok (.getfield 466, 3) := dk_180 1 210 (dk_at dksX3_addTest_10 5 rfl rfl)
theorem dX3_addTest_242 : decode cX3_addTest 242 = .ok (.iconst 1, 1) := dk_4 (dk_at dksX3_addTest_10 8 rfl rfl)
theorem dX3_addTest_243 : decode cX3_addTest 243 = .ok (.isub, 1) := dk_100 (dk_at dksX3_addTest_10 9 rfl rfl)
theorem dX3_addTest_244 : decode cX3_addTest 244 = .ok (.ireturn, 1) := dk_172 (dk_at dksX3_addTest_10 10 rfl rfl)
abbrev cX3_tests : ByteArray := prog_28_method_117_code
def yX3_tests : MethodName := ⟨RX3, "tests", "()I"⟩
def dkwX3_tests_0 : List UInt8 := [42, 3, 181, 0, 140, 42, 180, 1, 210, 172]
abbrev dktX3_tests_0 : List UInt8 := dkwX3_tests_0 ++ []
theorem dksX3_tests_0 : cX3_tests.data.toList.drop 0 = dktX3_tests_0 := by decide +kernel
theorem dX3_tests_0 : decode cX3_tests 0 = .ok (.aload_n 0, 1) := dk_42 (dk_at dksX3_tests_0 0 rfl rfl)
theorem dX3_tests_1 : decode cX3_tests 1 = .ok (.iconst 0, 1) := dk_3 (dk_at dksX3_tests_0 1 rfl rfl)
theorem dX3_tests_2 : decode cX3_tests 2 = .ok (.putfield 140, 3) := dk_181 0 140 (dk_at dksX3_tests_0 2 rfl rfl)
theorem dX3_tests_5 : decode cX3_tests 5 = .ok (.aload_n 0, 1) := dk_42 (dk_at dksX3_tests_0 5 rfl rfl)
theorem dX3_tests_6 : decode cX3_tests 6 = .ok (.getfield 466, 3) := dk_180 1 210 (dk_at dksX3_tests_0 6 rfl rfl)
theorem dX3_tests_9 : decode cX3_tests 9 = .ok (.ireturn, 1) := dk_172 (dk_at dksX3_tests_0 9 rfl rfl)
abbrev cX3_submit : ByteArray := prog_28_method_120_code
def yX3_submit : MethodName := ⟨RX3, "submit", "()I"⟩
def dkwX3_submit_11 : List UInt8 := [21, 5, 172]
abbrev dktX3_submit_11 : List UInt8 := dkwX3_submit_11 ++ []
def dkwX3_submit_10 : List UInt8 := [180, 0, 128, 42, 180, 0, 79, 184, 1, 143, 42, 29, 181, 1, 133, 27, 153, 0, 8, 42, 28, 182, 1, 176]
abbrev dktX3_submit_10 : List UInt8 := dkwX3_submit_10 ++ dktX3_submit_11
def dkwX3_submit_9 : List UInt8 := [180, 0, 64, 21, 6, 42, 180, 0, 134, 21, 6, 46, 79, 132, 6, 1, 167, 255, 218, 42, 182, 0, 251, 42]
abbrev dktX3_submit_9 : List UInt8 := dkwX3_submit_9 ++ dktX3_submit_10
def dkwX3_submit_8 : List UInt8 := [54, 6, 21, 6, 16, 20, 162, 0, 37, 42, 180, 0, 61, 21, 6, 42, 180, 0, 131, 21, 6, 46, 79, 42]
abbrev dktX3_submit_8 : List UInt8 := dkwX3_submit_8 ++ dktX3_submit_9
def dkwX3_submit_7 : List UInt8 := [154, 0, 7, 4, 167, 0, 4, 3, 96, 54, 5, 132, 6, 1, 167, 255, 179, 42, 21, 4, 181, 1, 31, 3]
abbrev dktX3_submit_7 : List UInt8 := dkwX3_submit_7 ++ dktX3_submit_8
def dkwX3_submit_6 : List UInt8 := [180, 0, 121, 21, 6, 46, 154, 0, 7, 4, 167, 0, 4, 3, 84, 21, 5, 42, 180, 0, 121, 21, 6, 46]
abbrev dktX3_submit_6 : List UInt8 := dkwX3_submit_6 ++ dktX3_submit_7
def dkwX3_submit_5 : List UInt8 := [42, 21, 6, 182, 1, 216, 79, 42, 180, 0, 124, 21, 6, 42, 180, 0, 124, 21, 6, 51, 154, 0, 13, 42]
abbrev dktX3_submit_5 : List UInt8 := dkwX3_submit_5 ++ dktX3_submit_6
def dkwX3_submit_4 : List UInt8 := [167, 255, 218, 3, 54, 5, 3, 54, 6, 21, 6, 42, 180, 1, 210, 162, 0, 74, 42, 180, 0, 121, 21, 6]
abbrev dktX3_submit_4 : List UInt8 := dkwX3_submit_4 ++ dktX3_submit_5
def dkwX3_submit_3 : List UInt8 := [180, 0, 61, 21, 5, 46, 79, 42, 180, 0, 134, 21, 5, 42, 180, 0, 64, 21, 5, 46, 79, 132, 5, 1]
abbrev dktX3_submit_3 : List UInt8 := dkwX3_submit_3 ++ dktX3_submit_4
def dkwX3_submit_2 : List UInt8 := [42, 180, 0, 128, 184, 1, 143, 3, 54, 5, 21, 5, 16, 20, 162, 0, 37, 42, 180, 0, 131, 21, 5, 42]
abbrev dktX3_submit_2 : List UInt8 := dkwX3_submit_2 ++ dktX3_submit_3
def dkwX3_submit_1 : List UInt8 := [182, 1, 157, 60, 42, 180, 0, 235, 61, 42, 180, 1, 133, 62, 42, 180, 1, 31, 54, 4, 42, 180, 0, 79]
abbrev dktX3_submit_1 : List UInt8 := dkwX3_submit_1 ++ dktX3_submit_2
def dkwX3_submit_0 : List UInt8 := [42, 42, 180, 0, 228, 153, 0, 7, 3, 167, 0, 4, 4, 182, 0, 152, 154, 0, 5, 3, 172, 42]
abbrev dktX3_submit_0 : List UInt8 := dkwX3_submit_0 ++ dktX3_submit_1
theorem dksX3_submit_0 : cX3_submit.data.toList.drop 0 = dktX3_submit_0 := by decide +kernel
theorem dksX3_submit_1 : cX3_submit.data.toList.drop 22 = dktX3_submit_1 := dk_seg dksX3_submit_0 22 rfl rfl
theorem dksX3_submit_2 : cX3_submit.data.toList.drop 46 = dktX3_submit_2 := dk_seg dksX3_submit_1 24 rfl rfl
theorem dksX3_submit_3 : cX3_submit.data.toList.drop 70 = dktX3_submit_3 := dk_seg dksX3_submit_2 24 rfl rfl
theorem dksX3_submit_4 : cX3_submit.data.toList.drop 94 = dktX3_submit_4 := dk_seg dksX3_submit_3 24 rfl rfl
theorem dksX3_submit_5 : cX3_submit.data.toList.drop 118 = dktX3_submit_5 := dk_seg dksX3_submit_4 24 rfl rfl
theorem dksX3_submit_6 : cX3_submit.data.toList.drop 142 = dktX3_submit_6 := dk_seg dksX3_submit_5 24 rfl rfl
theorem dksX3_submit_7 : cX3_submit.data.toList.drop 166 = dktX3_submit_7 := dk_seg dksX3_submit_6 24 rfl rfl
theorem dksX3_submit_8 : cX3_submit.data.toList.drop 190 = dktX3_submit_8 := dk_seg dksX3_submit_7 24 rfl rfl
theorem dksX3_submit_9 : cX3_submit.data.toList.drop 214 = dktX3_submit_9 := dk_seg dksX3_submit_8 24 rfl rfl
theorem dksX3_submit_10 : cX3_submit.data.toList.drop 238 = dktX3_submit_10 := dk_seg dksX3_submit_9 24 rfl rfl
theorem dksX3_submit_11 : cX3_submit.data.toList.drop 262 = dktX3_submit_11 := dk_seg dksX3_submit_10 24 rfl rfl
theorem dX3_submit_0 : decode cX3_submit 0 = .ok (.aload_n 0, 1) := dk_42 (dk_at dksX3_submit_0 0 rfl rfl)
theorem dX3_submit_1 : decode cX3_submit 1 = .ok (.aload_n 0, 1) := dk_42 (dk_at dksX3_submit_0 1 rfl rfl)
theorem dX3_submit_2 : decode cX3_submit 2 = .ok (.getfield 228, 3) := dk_180 0 228 (dk_at dksX3_submit_0 2 rfl rfl)
theorem dX3_submit_5 : decode cX3_submit 5 = .ok (.ifCond .eq 7, 3) := dk_153 0 7 (dk_at dksX3_submit_0 5 rfl rfl)
theorem dX3_submit_8 : decode cX3_submit 8 = .ok (.iconst 0, 1) := dk_3 (dk_at dksX3_submit_0 8 rfl rfl)
theorem dX3_submit_9 : decode cX3_submit 9 = .ok (.goto 4, 3) := dk_167 0 4 (dk_at dksX3_submit_0 9 rfl rfl)
theorem dX3_submit_12 : decode cX3_submit 12 = .ok (.iconst 1, 1) := dk_4 (dk_at dksX3_submit_0 12 rfl rfl)
theorem dX3_submit_13 : decode cX3_submit 13 = .ok (.invokevirtual 152, 3) := dk_182 0 152 (dk_at dksX3_submit_0 13 rfl rfl)
theorem dX3_submit_16 : decode cX3_submit 16 = .ok (.ifCond .ne 5, 3) := dk_154 0 5 (dk_at dksX3_submit_0 16 rfl rfl)
theorem dX3_submit_19 : decode cX3_submit 19 = .ok (.iconst 0, 1) := dk_3 (dk_at dksX3_submit_0 19 rfl rfl)
theorem dX3_submit_20 : decode cX3_submit 20 = .ok (.ireturn, 1) := dk_172 (dk_at dksX3_submit_0 20 rfl rfl)
theorem dX3_submit_21 : decode cX3_submit 21 = .ok (.aload_n 0, 1) := dk_42 (dk_at dksX3_submit_0 21 rfl rfl)
theorem dX3_submit_22 : decode cX3_submit 22 = .ok (.invokevirtual 413, 3) := dk_182 1 157 (dk_at dksX3_submit_1 0 rfl rfl)
theorem dX3_submit_25 : decode cX3_submit 25 = .ok (.istore_n 1, 1) := dk_60 (dk_at dksX3_submit_1 3 rfl rfl)
theorem dX3_submit_26 : decode cX3_submit 26 = .ok (.aload_n 0, 1) := dk_42 (dk_at dksX3_submit_1 4 rfl rfl)
theorem dX3_submit_27 : decode cX3_submit 27 = .ok (.getfield 235, 3) := dk_180 0 235 (dk_at dksX3_submit_1 5 rfl rfl)
theorem dX3_submit_30 : decode cX3_submit 30 = .ok (.istore_n 2, 1) := dk_61 (dk_at dksX3_submit_1 8 rfl rfl)
theorem dX3_submit_31 : decode cX3_submit 31 = .ok (.aload_n 0, 1) := dk_42 (dk_at dksX3_submit_1 9 rfl rfl)
theorem dX3_submit_32 : decode cX3_submit 32 = .ok (.getfield 389, 3) := dk_180 1 133 (dk_at dksX3_submit_1 10 rfl rfl)
theorem dX3_submit_35 : decode cX3_submit 35 = .ok (.istore_n 3, 1) := dk_62 (dk_at dksX3_submit_1 13 rfl rfl)
theorem dX3_submit_36 : decode cX3_submit 36 = .ok (.aload_n 0, 1) := dk_42 (dk_at dksX3_submit_1 14 rfl rfl)
theorem dX3_submit_37 : decode cX3_submit 37 = .ok (.getfield 287, 3) := dk_180 1 31 (dk_at dksX3_submit_1 15 rfl rfl)
theorem dX3_submit_40 : decode cX3_submit 40 = .ok (.istore 4, 2) := dk_54 4 (dk_at dksX3_submit_1 18 rfl rfl)
theorem dX3_submit_42 : decode cX3_submit 42 = .ok (.aload_n 0, 1) := dk_42 (dk_at dksX3_submit_1 20 rfl rfl)
theorem dX3_submit_43 : decode cX3_submit 43 = .ok (.getfield 79, 3) := dk_180 0 79 (dk_at dksX3_submit_1 21 rfl rfl)
theorem dX3_submit_46 : decode cX3_submit 46 = .ok (.aload_n 0, 1) := dk_42 (dk_at dksX3_submit_2 0 rfl rfl)
theorem dX3_submit_47 : decode cX3_submit 47 = .ok (.getfield 128, 3) := dk_180 0 128 (dk_at dksX3_submit_2 1 rfl rfl)
theorem dX3_submit_50 : decode cX3_submit 50 = .ok (.invokestatic 399, 3) := dk_184 1 143 (dk_at dksX3_submit_2 4 rfl rfl)
theorem dX3_submit_53 : decode cX3_submit 53 = .ok (.iconst 0, 1) := dk_3 (dk_at dksX3_submit_2 7 rfl rfl)
theorem dX3_submit_54 : decode cX3_submit 54 = .ok (.istore 5, 2) := dk_54 5 (dk_at dksX3_submit_2 8 rfl rfl)
theorem dX3_submit_56 : decode cX3_submit 56 = .ok (.iload 5, 2) := dk_21 5 (dk_at dksX3_submit_2 10 rfl rfl)
theorem dX3_submit_58 : decode cX3_submit 58 = .ok (.bipush 20, 2) := dk_16 20 (dk_at dksX3_submit_2 12 rfl rfl)
theorem dX3_submit_60 : decode cX3_submit 60 = .ok (.if_icmp .ge 37, 3) := dk_162 0 37 (dk_at dksX3_submit_2 14 rfl rfl)
theorem dX3_submit_63 : decode cX3_submit 63 = .ok (.aload_n 0, 1) := dk_42 (dk_at dksX3_submit_2 17 rfl rfl)
theorem dX3_submit_64 : decode cX3_submit 64 = .ok (.getfield 131, 3) := dk_180 0 131 (dk_at dksX3_submit_2 18 rfl rfl)
theorem dX3_submit_67 : decode cX3_submit 67 = .ok (.iload 5, 2) := dk_21 5 (dk_at dksX3_submit_2 21 rfl rfl)
theorem dX3_submit_69 : decode cX3_submit 69 = .ok (.aload_n 0, 1) := dk_42 (dk_at dksX3_submit_2 23 rfl rfl)
theorem dX3_submit_70 : decode cX3_submit 70 = .ok (.getfield 61, 3) := dk_180 0 61 (dk_at dksX3_submit_3 0 rfl rfl)
theorem dX3_submit_73 : decode cX3_submit 73 = .ok (.iload 5, 2) := dk_21 5 (dk_at dksX3_submit_3 3 rfl rfl)
theorem dX3_submit_75 : decode cX3_submit 75 = .ok (.iaload, 1) := dk_46 (dk_at dksX3_submit_3 5 rfl rfl)
theorem dX3_submit_76 : decode cX3_submit 76 = .ok (.iastore, 1) := dk_79 (dk_at dksX3_submit_3 6 rfl rfl)
theorem dX3_submit_77 : decode cX3_submit 77 = .ok (.aload_n 0, 1) := dk_42 (dk_at dksX3_submit_3 7 rfl rfl)
theorem dX3_submit_78 : decode cX3_submit 78 = .ok (.getfield 134, 3) := dk_180 0 134 (dk_at dksX3_submit_3 8 rfl rfl)
theorem dX3_submit_81 : decode cX3_submit 81 = .ok (.iload 5, 2) := dk_21 5 (dk_at dksX3_submit_3 11 rfl rfl)
theorem dX3_submit_83 : decode cX3_submit 83 = .ok (.aload_n 0, 1) := dk_42 (dk_at dksX3_submit_3 13 rfl rfl)
theorem dX3_submit_84 : decode cX3_submit 84 = .ok (.getfield 64, 3) := dk_180 0 64 (dk_at dksX3_submit_3 14 rfl rfl)
theorem dX3_submit_87 : decode cX3_submit 87 = .ok (.iload 5, 2) := dk_21 5 (dk_at dksX3_submit_3 17 rfl rfl)
theorem dX3_submit_89 : decode cX3_submit 89 = .ok (.iaload, 1) := dk_46 (dk_at dksX3_submit_3 19 rfl rfl)
theorem dX3_submit_90 : decode cX3_submit 90 = .ok (.iastore, 1) := dk_79 (dk_at dksX3_submit_3 20 rfl rfl)
theorem dX3_submit_91 : decode cX3_submit 91 = .ok (.iinc 5 1, 3) := dk_132 5 1 (dk_at dksX3_submit_3 21 rfl rfl)
theorem dX3_submit_94 : decode cX3_submit 94 = .ok (.goto (-38), 3) := dk_167 255 218 (dk_at dksX3_submit_4 0 rfl rfl)
theorem dX3_submit_97 : decode cX3_submit 97 = .ok (.iconst 0, 1) := dk_3 (dk_at dksX3_submit_4 3 rfl rfl)
theorem dX3_submit_98 : decode cX3_submit 98 = .ok (.istore 5, 2) := dk_54 5 (dk_at dksX3_submit_4 4 rfl rfl)
theorem dX3_submit_100 : decode cX3_submit 100 = .ok (.iconst 0, 1) := dk_3 (dk_at dksX3_submit_4 6 rfl rfl)
theorem dX3_submit_101 : decode cX3_submit 101 = .ok (.istore 6, 2) := dk_54 6 (dk_at dksX3_submit_4 7 rfl rfl)
theorem dX3_submit_103 : decode cX3_submit 103 = .ok (.iload 6, 2) := dk_21 6 (dk_at dksX3_submit_4 9 rfl rfl)
theorem dX3_submit_105 : decode cX3_submit 105 = .ok (.aload_n 0, 1) := dk_42 (dk_at dksX3_submit_4 11 rfl rfl)
theorem dX3_submit_106 : decode cX3_submit 106 = .ok (.getfield 466, 3) := dk_180 1 210 (dk_at dksX3_submit_4 12 rfl rfl)
theorem dX3_submit_109 : decode cX3_submit 109 = .ok (.if_icmp .ge 74, 3) := dk_162 0 74 (dk_at dksX3_submit_4 15 rfl rfl)
theorem dX3_submit_112 : decode cX3_submit 112 = .ok (.aload_n 0, 1) := dk_42 (dk_at dksX3_submit_4 18 rfl rfl)
theorem dX3_submit_113 : decode cX3_submit 113 = .ok (.getfield 121, 3) := dk_180 0 121 (dk_at dksX3_submit_4 19 rfl rfl)
theorem dX3_submit_116 : decode cX3_submit 116 = .ok (.iload 6, 2) := dk_21 6 (dk_at dksX3_submit_4 22 rfl rfl)
theorem dX3_submit_118 : decode cX3_submit 118 = .ok (.aload_n 0, 1) := dk_42 (dk_at dksX3_submit_5 0 rfl rfl)
theorem dX3_submit_119 : decode cX3_submit 119 = .ok (.iload 6, 2) := dk_21 6 (dk_at dksX3_submit_5 1 rfl rfl)
theorem dX3_submit_121 : decode cX3_submit 121 = .ok (.invokevirtual 472, 3) := dk_182 1 216 (dk_at dksX3_submit_5 3 rfl rfl)
theorem dX3_submit_124 : decode cX3_submit 124 = .ok (.iastore, 1) := dk_79 (dk_at dksX3_submit_5 6 rfl rfl)
theorem dX3_submit_125 : decode cX3_submit 125 = .ok (.aload_n 0, 1) := dk_42 (dk_at dksX3_submit_5 7 rfl rfl)
theorem dX3_submit_126 : decode cX3_submit 126 = .ok (.getfield 124, 3) := dk_180 0 124 (dk_at dksX3_submit_5 8 rfl rfl)
theorem dX3_submit_129 : decode cX3_submit 129 = .ok (.iload 6, 2) := dk_21 6 (dk_at dksX3_submit_5 11 rfl rfl)
theorem dX3_submit_131 : decode cX3_submit 131 = .ok (.aload_n 0, 1) := dk_42 (dk_at dksX3_submit_5 13 rfl rfl)
theorem dX3_submit_132 : decode cX3_submit 132 = .ok (.getfield 124, 3) := dk_180 0 124 (dk_at dksX3_submit_5 14 rfl rfl)
theorem dX3_submit_135 : decode cX3_submit 135 = .ok (.iload 6, 2) := dk_21 6 (dk_at dksX3_submit_5 17 rfl rfl)
theorem dX3_submit_137 : decode cX3_submit 137 = .ok (.baload, 1) := dk_51 (dk_at dksX3_submit_5 19 rfl rfl)
theorem dX3_submit_138 : decode cX3_submit 138 = .ok (.ifCond .ne 13, 3) := dk_154 0 13 (dk_at dksX3_submit_5 20 rfl rfl)
theorem dX3_submit_141 : decode cX3_submit 141 = .ok (.aload_n 0, 1) := dk_42 (dk_at dksX3_submit_5 23 rfl rfl)
theorem dX3_submit_142 : decode cX3_submit 142 = .ok (.getfield 121, 3) := dk_180 0 121 (dk_at dksX3_submit_6 0 rfl rfl)
theorem dX3_submit_145 : decode cX3_submit 145 = .ok (.iload 6, 2) := dk_21 6 (dk_at dksX3_submit_6 3 rfl rfl)
theorem dX3_submit_147 : decode cX3_submit 147 = .ok (.iaload, 1) := dk_46 (dk_at dksX3_submit_6 5 rfl rfl)
theorem dX3_submit_148 : decode cX3_submit 148 = .ok (.ifCond .ne 7, 3) := dk_154 0 7 (dk_at dksX3_submit_6 6 rfl rfl)
theorem dX3_submit_151 : decode cX3_submit 151 = .ok (.iconst 1, 1) := dk_4 (dk_at dksX3_submit_6 9 rfl rfl)
theorem dX3_submit_152 : decode cX3_submit 152 = .ok (.goto 4, 3) := dk_167 0 4 (dk_at dksX3_submit_6 10 rfl rfl)
theorem dX3_submit_155 : decode cX3_submit 155 = .ok (.iconst 0, 1) := dk_3 (dk_at dksX3_submit_6 13 rfl rfl)
theorem dX3_submit_156 : decode cX3_submit 156 = .ok (.bastore, 1) := dk_84 (dk_at dksX3_submit_6 14 rfl rfl)
theorem dX3_submit_157 : decode cX3_submit 157 = .ok (.iload 5, 2) := dk_21 5 (dk_at dksX3_submit_6 15 rfl rfl)
theorem dX3_submit_159 : decode cX3_submit 159 = .ok (.aload_n 0, 1) := dk_42 (dk_at dksX3_submit_6 17 rfl rfl)
theorem dX3_submit_160 : decode cX3_submit 160 = .ok (.getfield 121, 3) := dk_180 0 121 (dk_at dksX3_submit_6 18 rfl rfl)
theorem dX3_submit_163 : decode cX3_submit 163 = .ok (.iload 6, 2) := dk_21 6 (dk_at dksX3_submit_6 21 rfl rfl)
theorem dX3_submit_165 : decode cX3_submit 165 = .ok (.iaload, 1) := dk_46 (dk_at dksX3_submit_6 23 rfl rfl)
theorem dX3_submit_166 : decode cX3_submit 166 = .ok (.ifCond .ne 7, 3) := dk_154 0 7 (dk_at dksX3_submit_7 0 rfl rfl)
theorem dX3_submit_169 : decode cX3_submit 169 = .ok (.iconst 1, 1) := dk_4 (dk_at dksX3_submit_7 3 rfl rfl)
theorem dX3_submit_170 : decode cX3_submit 170 = .ok (.goto 4, 3) := dk_167 0 4 (dk_at dksX3_submit_7 4 rfl rfl)
theorem dX3_submit_173 : decode cX3_submit 173 = .ok (.iconst 0, 1) := dk_3 (dk_at dksX3_submit_7 7 rfl rfl)
theorem dX3_submit_174 : decode cX3_submit 174 = .ok (.iadd, 1) := dk_96 (dk_at dksX3_submit_7 8 rfl rfl)
theorem dX3_submit_175 : decode cX3_submit 175 = .ok (.istore 5, 2) := dk_54 5 (dk_at dksX3_submit_7 9 rfl rfl)
theorem dX3_submit_177 : decode cX3_submit 177 = .ok (.iinc 6 1, 3) := dk_132 6 1 (dk_at dksX3_submit_7 11 rfl rfl)
theorem dX3_submit_180 : decode cX3_submit 180 = .ok (.goto (-77), 3) := dk_167 255 179 (dk_at dksX3_submit_7 14 rfl rfl)
theorem dX3_submit_183 : decode cX3_submit 183 = .ok (.aload_n 0, 1) := dk_42 (dk_at dksX3_submit_7 17 rfl rfl)
theorem dX3_submit_184 : decode cX3_submit 184 = .ok (.iload 4, 2) := dk_21 4 (dk_at dksX3_submit_7 18 rfl rfl)
theorem dX3_submit_186 : decode cX3_submit 186 = .ok (.putfield 287, 3) := dk_181 1 31 (dk_at dksX3_submit_7 20 rfl rfl)
theorem dX3_submit_189 : decode cX3_submit 189 = .ok (.iconst 0, 1) := dk_3 (dk_at dksX3_submit_7 23 rfl rfl)
theorem dX3_submit_190 : decode cX3_submit 190 = .ok (.istore 6, 2) := dk_54 6 (dk_at dksX3_submit_8 0 rfl rfl)
theorem dX3_submit_192 : decode cX3_submit 192 = .ok (.iload 6, 2) := dk_21 6 (dk_at dksX3_submit_8 2 rfl rfl)
theorem dX3_submit_194 : decode cX3_submit 194 = .ok (.bipush 20, 2) := dk_16 20 (dk_at dksX3_submit_8 4 rfl rfl)
theorem dX3_submit_196 : decode cX3_submit 196 = .ok (.if_icmp .ge 37, 3) := dk_162 0 37 (dk_at dksX3_submit_8 6 rfl rfl)
theorem dX3_submit_199 : decode cX3_submit 199 = .ok (.aload_n 0, 1) := dk_42 (dk_at dksX3_submit_8 9 rfl rfl)
theorem dX3_submit_200 : decode cX3_submit 200 = .ok (.getfield 61, 3) := dk_180 0 61 (dk_at dksX3_submit_8 10 rfl rfl)
theorem dX3_submit_203 : decode cX3_submit 203 = .ok (.iload 6, 2) := dk_21 6 (dk_at dksX3_submit_8 13 rfl rfl)
theorem dX3_submit_205 : decode cX3_submit 205 = .ok (.aload_n 0, 1) := dk_42 (dk_at dksX3_submit_8 15 rfl rfl)
theorem dX3_submit_206 : decode cX3_submit 206 = .ok (.getfield 131, 3) := dk_180 0 131 (dk_at dksX3_submit_8 16 rfl rfl)
theorem dX3_submit_209 : decode cX3_submit 209 = .ok (.iload 6, 2) := dk_21 6 (dk_at dksX3_submit_8 19 rfl rfl)
theorem dX3_submit_211 : decode cX3_submit 211 = .ok (.iaload, 1) := dk_46 (dk_at dksX3_submit_8 21 rfl rfl)
theorem dX3_submit_212 : decode cX3_submit 212 = .ok (.iastore, 1) := dk_79 (dk_at dksX3_submit_8 22 rfl rfl)
theorem dX3_submit_213 : decode cX3_submit 213 = .ok (.aload_n 0, 1) := dk_42 (dk_at dksX3_submit_8 23 rfl rfl)
theorem dX3_submit_214 : decode cX3_submit 214 = .ok (.getfield 64, 3) := dk_180 0 64 (dk_at dksX3_submit_9 0 rfl rfl)
theorem dX3_submit_217 : decode cX3_submit 217 = .ok (.iload 6, 2) := dk_21 6 (dk_at dksX3_submit_9 3 rfl rfl)
theorem dX3_submit_219 : decode cX3_submit 219 = .ok (.aload_n 0, 1) := dk_42 (dk_at dksX3_submit_9 5 rfl rfl)
theorem dX3_submit_220 : decode cX3_submit 220 = .ok (.getfield 134, 3) := dk_180 0 134 (dk_at dksX3_submit_9 6 rfl rfl)
theorem dX3_submit_223 : decode cX3_submit 223 = .ok (.iload 6, 2) := dk_21 6 (dk_at dksX3_submit_9 9 rfl rfl)
theorem dX3_submit_225 : decode cX3_submit 225 = .ok (.iaload, 1) := dk_46 (dk_at dksX3_submit_9 11 rfl rfl)
theorem dX3_submit_226 : decode cX3_submit 226 = .ok (.iastore, 1) := dk_79 (dk_at dksX3_submit_9 12 rfl rfl)
theorem dX3_submit_227 : decode cX3_submit 227 = .ok (.iinc 6 1, 3) := dk_132 6 1 (dk_at dksX3_submit_9 13 rfl rfl)
theorem dX3_submit_230 : decode cX3_submit 230 = .ok (.goto (-38), 3) := dk_167 255 218 (dk_at dksX3_submit_9 16 rfl rfl)
theorem dX3_submit_233 : decode cX3_submit 233 = .ok (.aload_n 0, 1) := dk_42 (dk_at dksX3_submit_9 19 rfl rfl)
theorem dX3_submit_234 : decode cX3_submit 234 = .ok (.invokevirtual 251, 3) := dk_182 0 251 (dk_at dksX3_submit_9 20 rfl rfl)
theorem dX3_submit_237 : decode cX3_submit 237 = .ok (.aload_n 0, 1) := dk_42 (dk_at dksX3_submit_9 23 rfl rfl)
theorem dX3_submit_238 : decode cX3_submit 238 = .ok (.getfield 128, 3) := dk_180 0 128 (dk_at dksX3_submit_10 0 rfl rfl)
theorem dX3_submit_241 : decode cX3_submit 241 = .ok (.aload_n 0, 1) := dk_42 (dk_at dksX3_submit_10 3 rfl rfl)
theorem dX3_submit_242 : decode cX3_submit 242 = .ok (.getfield 79, 3) := dk_180 0 79 (dk_at dksX3_submit_10 4 rfl rfl)
theorem dX3_submit_245 : decode cX3_submit 245 = .ok (.invokestatic 399, 3) := dk_184 1 143 (dk_at dksX3_submit_10 7 rfl rfl)
theorem dX3_submit_248 : decode cX3_submit 248 = .ok (.aload_n 0, 1) := dk_42 (dk_at dksX3_submit_10 10 rfl rfl)
theorem dX3_submit_249 : decode cX3_submit 249 = .ok (.iload_n 3, 1) := dk_29 (dk_at dksX3_submit_10 11 rfl rfl)
theorem dX3_submit_250 : decode cX3_submit 250 = .ok (.putfield 389, 3) := dk_181 1 133 (dk_at dksX3_submit_10 12 rfl rfl)
theorem dX3_submit_253 : decode cX3_submit 253 = .ok (.iload_n 1, 1) := dk_27 (dk_at dksX3_submit_10 15 rfl rfl)
theorem dX3_submit_254 : decode cX3_submit 254 = .ok (.ifCond .eq 8, 3) := dk_153 0 8 (dk_at dksX3_submit_10 16 rfl rfl)
theorem dX3_submit_257 : decode cX3_submit 257 = .ok (.aload_n 0, 1) := dk_42 (dk_at dksX3_submit_10 19 rfl rfl)
theorem dX3_submit_258 : decode cX3_submit 258 = .ok (.iload_n 2, 1) := dk_28 (dk_at dksX3_submit_10 20 rfl rfl)
theorem dX3_submit_259 : decode cX3_submit 259 = .ok (.invokevirtual 432, 3) := dk_182 1 176 (dk_at dksX3_submit_10 21 rfl rfl)
theorem dX3_submit_262 : decode cX3_submit 262 = .ok (.iload 5, 2) := dk_21 5 (dk_at dksX3_submit_11 0 rfl rfl)
theorem dX3_submit_264 : decode cX3_submit 264 = .ok (.ireturn, 1) := dk_172 (dk_at dksX3_submit_11 2 rfl rfl)
abbrev cX3_madeTest : ByteArray := prog_28_method_119_code
def yX3_madeTest : MethodName := ⟨RX3, "madeTest", "(I)I"⟩
def dkwX3_madeTest_8 : List UInt8 := [7, 167, 0, 15, 42, 182, 1, 201, 153, 0, 7, 3, 167, 0, 4, 8, 172]
abbrev dktX3_madeTest_8 : List UInt8 := dkwX3_madeTest_8 ++ []
def dkwX3_madeTest_7 : List UInt8 := [180, 1, 133, 42, 180, 0, 112, 27, 46, 164, 0, 7, 6, 167, 0, 27, 42, 27, 182, 1, 213, 154, 0, 7]
abbrev dktX3_madeTest_7 : List UInt8 := dkwX3_madeTest_7 ++ dktX3_madeTest_8
def dkwX3_madeTest_6 : List UInt8 := [180, 0, 232, 4, 160, 0, 17, 42, 180, 0, 232, 6, 160, 0, 7, 4, 167, 0, 4, 5, 172, 42]
abbrev dktX3_madeTest_6 : List UInt8 := dkwX3_madeTest_6 ++ dktX3_madeTest_7
def dkwX3_madeTest_5 : List UInt8 := [181, 1, 31, 42, 42, 180, 0, 49, 182, 1, 150, 167, 255, 195, 42, 180, 0, 232, 6, 159, 0, 11, 42]
abbrev dktX3_madeTest_5 : List UInt8 := dkwX3_madeTest_5 ++ dktX3_madeTest_6
def dkwX3_madeTest_4 : List UInt8 := [180, 0, 118, 27, 46, 160, 255, 224, 42, 180, 0, 232, 4, 160, 255, 216, 42, 182, 1, 161, 87, 42, 3]
abbrev dktX3_madeTest_4 : List UInt8 := dkwX3_madeTest_4 ++ dktX3_madeTest_5
def dkwX3_madeTest_3 : List UInt8 := [4, 160, 0, 59, 28, 42, 180, 0, 109, 27, 46, 162, 0, 49, 42, 182, 1, 154, 132, 2, 1, 28, 42]
abbrev dktX3_madeTest_3 : List UInt8 := dkwX3_madeTest_3 ++ dktX3_madeTest_4
def dkwX3_madeTest_2 : List UInt8 := [132, 2, 1, 167, 255, 221, 42, 42, 180, 0, 49, 182, 1, 150, 42, 182, 1, 81, 3, 61, 42, 180, 0, 232]
abbrev dktX3_madeTest_2 : List UInt8 := dkwX3_madeTest_2 ++ dktX3_madeTest_3
def dkwX3_madeTest_1 : List UInt8 := [42, 180, 0, 61, 28, 3, 79, 42, 180, 0, 64, 28, 42, 180, 0, 97, 16, 6, 27, 104, 28, 96, 46, 79]
abbrev dktX3_madeTest_1 : List UInt8 := dkwX3_madeTest_1 ++ dktX3_madeTest_2
def dkwX3_madeTest_0 : List UInt8 := [42, 182, 0, 137, 42, 42, 180, 0, 100, 27, 46, 181, 1, 31, 3, 61, 28, 42, 180, 1, 31, 162, 0, 33]
abbrev dktX3_madeTest_0 : List UInt8 := dkwX3_madeTest_0 ++ dktX3_madeTest_1
theorem dksX3_madeTest_0 : cX3_madeTest.data.toList.drop 0 = dktX3_madeTest_0 := by decide +kernel
theorem dksX3_madeTest_1 : cX3_madeTest.data.toList.drop 24 = dktX3_madeTest_1 := dk_seg dksX3_madeTest_0 24 rfl rfl
theorem dksX3_madeTest_2 : cX3_madeTest.data.toList.drop 48 = dktX3_madeTest_2 := dk_seg dksX3_madeTest_1 24 rfl rfl
theorem dksX3_madeTest_3 : cX3_madeTest.data.toList.drop 72 = dktX3_madeTest_3 := dk_seg dksX3_madeTest_2 24 rfl rfl
theorem dksX3_madeTest_4 : cX3_madeTest.data.toList.drop 95 = dktX3_madeTest_4 := dk_seg dksX3_madeTest_3 23 rfl rfl
theorem dksX3_madeTest_5 : cX3_madeTest.data.toList.drop 118 = dktX3_madeTest_5 := dk_seg dksX3_madeTest_4 23 rfl rfl
theorem dksX3_madeTest_6 : cX3_madeTest.data.toList.drop 141 = dktX3_madeTest_6 := dk_seg dksX3_madeTest_5 23 rfl rfl
theorem dksX3_madeTest_7 : cX3_madeTest.data.toList.drop 163 = dktX3_madeTest_7 := dk_seg dksX3_madeTest_6 22 rfl rfl
theorem dksX3_madeTest_8 : cX3_madeTest.data.toList.drop 187 = dktX3_madeTest_8 := dk_seg dksX3_madeTest_7 24 rfl rfl
theorem dX3_madeTest_0 : decode cX3_madeTest 0 = .ok (.aload_n 0, 1) := dk_42 (dk_at dksX3_madeTest_0 0 rfl rfl)
theorem dX3_madeTest_1 : decode cX3_madeTest 1 = .ok (.invokevirtual 137, 3) := dk_182 0 137 (dk_at dksX3_madeTest_0 1 rfl rfl)
theorem dX3_madeTest_4 : decode cX3_madeTest 4 = .ok (.aload_n 0, 1) := dk_42 (dk_at dksX3_madeTest_0 4 rfl rfl)
theorem dX3_madeTest_5 : decode cX3_madeTest 5 = .ok (.aload_n 0, 1) := dk_42 (dk_at dksX3_madeTest_0 5 rfl rfl)
theorem dX3_madeTest_6 : decode cX3_madeTest 6 = .ok (.getfield 100, 3) := dk_180 0 100 (dk_at dksX3_madeTest_0 6 rfl rfl)
theorem dX3_madeTest_9 : decode cX3_madeTest 9 = .ok (.iload_n 1, 1) := dk_27 (dk_at dksX3_madeTest_0 9 rfl rfl)
theorem dX3_madeTest_10 : decode cX3_madeTest 10 = .ok (.iaload, 1) := dk_46 (dk_at dksX3_madeTest_0 10 rfl rfl)
theorem dX3_madeTest_11 : decode cX3_madeTest 11 = .ok (.putfield 287, 3) := dk_181 1 31 (dk_at dksX3_madeTest_0 11 rfl rfl)
theorem dX3_madeTest_14 : decode cX3_madeTest 14 = .ok (.iconst 0, 1) := dk_3 (dk_at dksX3_madeTest_0 14 rfl rfl)
theorem dX3_madeTest_15 : decode cX3_madeTest 15 = .ok (.istore_n 2, 1) := dk_61 (dk_at dksX3_madeTest_0 15 rfl rfl)
theorem dX3_madeTest_16 : decode cX3_madeTest 16 = .ok (.iload_n 2, 1) := dk_28 (dk_at dksX3_madeTest_0 16 rfl rfl)
theorem dX3_madeTest_17 : decode cX3_madeTest 17 = .ok (.aload_n 0, 1) := dk_42 (dk_at dksX3_madeTest_0 17 rfl rfl)
theorem dX3_madeTest_18 : decode cX3_madeTest 18 = .ok (.getfield 287, 3) := dk_180 1 31 (dk_at dksX3_madeTest_0 18 rfl rfl)
theorem dX3_madeTest_21 : decode cX3_madeTest 21 = .ok (.if_icmp .ge 33, 3) := dk_162 0 33 (dk_at dksX3_madeTest_0 21 rfl rfl)
theorem dX3_madeTest_24 : decode cX3_madeTest 24 = .ok (.aload_n 0, 1) := dk_42 (dk_at dksX3_madeTest_1 0 rfl rfl)
theorem dX3_madeTest_25 : decode cX3_madeTest 25 = .ok (.getfield 61, 3) := dk_180 0 61 (dk_at dksX3_madeTest_1 1 rfl rfl)
theorem dX3_madeTest_28 : decode cX3_madeTest 28 = .ok (.iload_n 2, 1) := dk_28 (dk_at dksX3_madeTest_1 4 rfl rfl)
theorem dX3_madeTest_29 : decode cX3_madeTest 29 = .ok (.iconst 0, 1) := dk_3 (dk_at dksX3_madeTest_1 5 rfl rfl)
theorem dX3_madeTest_30 : decode cX3_madeTest 30 = .ok (.iastore, 1) := dk_79 (dk_at dksX3_madeTest_1 6 rfl rfl)
theorem dX3_madeTest_31 : decode cX3_madeTest 31 = .ok (.aload_n 0, 1) := dk_42 (dk_at dksX3_madeTest_1 7 rfl rfl)
theorem dX3_madeTest_32 : decode cX3_madeTest 32 = .ok (.getfield 64, 3) := dk_180 0 64 (dk_at dksX3_madeTest_1 8 rfl rfl)
theorem dX3_madeTest_35 : decode cX3_madeTest 35 = .ok (.iload_n 2, 1) := dk_28 (dk_at dksX3_madeTest_1 11 rfl rfl)
theorem dX3_madeTest_36 : decode cX3_madeTest 36 = .ok (.aload_n 0, 1) := dk_42 (dk_at dksX3_madeTest_1 12 rfl rfl)
theorem dX3_madeTest_37 : decode cX3_madeTest 37 = .ok (.getfield 97, 3) := dk_180 0 97 (dk_at dksX3_madeTest_1 13 rfl rfl)
theorem dX3_madeTest_40 : decode cX3_madeTest 40 = .ok (.bipush 6, 2) := dk_16 6 (dk_at dksX3_madeTest_1 16 rfl rfl)
theorem dX3_madeTest_42 : decode cX3_madeTest 42 = .ok (.iload_n 1, 1) := dk_27 (dk_at dksX3_madeTest_1 18 rfl rfl)
theorem dX3_madeTest_43 : decode cX3_madeTest 43 = .ok (.imul, 1) := dk_104 (dk_at dksX3_madeTest_1 19 rfl rfl)
theorem dX3_madeTest_44 : decode cX3_madeTest 44 = .ok (.iload_n 2, 1) := dk_28 (dk_at dksX3_madeTest_1 20 rfl rfl)
theorem dX3_madeTest_45 : decode cX3_madeTest 45 = .ok (.iadd, 1) := dk_96 (dk_at dksX3_madeTest_1 21 rfl rfl)
theorem dX3_madeTest_46 : decode cX3_madeTest 46 = .ok (.iaload, 1) := dk_46 (dk_at dksX3_madeTest_1 22 rfl rfl)
theorem dX3_madeTest_47 : decode cX3_madeTest 47 = .ok (.iastore, 1) := dk_79 (dk_at dksX3_madeTest_1 23 rfl rfl)
theorem dX3_madeTest_48 : decode cX3_madeTest 48 = .ok (.iinc 2 1, 3) := dk_132 2 1 (dk_at dksX3_madeTest_2 0 rfl rfl)
theorem dX3_madeTest_51 : decode cX3_madeTest 51 = .ok (.goto (-35), 3) := dk_167 255 221 (dk_at dksX3_madeTest_2 3 rfl rfl)
theorem dX3_madeTest_54 : decode cX3_madeTest 54 = .ok (.aload_n 0, 1) := dk_42 (dk_at dksX3_madeTest_2 6 rfl rfl)
theorem dX3_madeTest_55 : decode cX3_madeTest 55 = .ok (.aload_n 0, 1) := dk_42 (dk_at dksX3_madeTest_2 7 rfl rfl)
theorem dX3_madeTest_56 : decode cX3_madeTest 56 = .ok (.getfield 49, 3) := dk_180 0 49 (dk_at dksX3_madeTest_2 8 rfl rfl)
theorem dX3_madeTest_59 : decode cX3_madeTest 59 = .ok (.invokevirtual 406, 3) := dk_182 1 150 (dk_at dksX3_madeTest_2 11 rfl rfl)
theorem dX3_madeTest_62 : decode cX3_madeTest 62 = .ok (.aload_n 0, 1) := dk_42 (dk_at dksX3_madeTest_2 14 rfl rfl)
theorem dX3_madeTest_63 : decode cX3_madeTest 63 = .ok (.invokevirtual 337, 3) := dk_182 1 81 (dk_at dksX3_madeTest_2 15 rfl rfl)
theorem dX3_madeTest_66 : decode cX3_madeTest 66 = .ok (.iconst 0, 1) := dk_3 (dk_at dksX3_madeTest_2 18 rfl rfl)
theorem dX3_madeTest_67 : decode cX3_madeTest 67 = .ok (.istore_n 2, 1) := dk_61 (dk_at dksX3_madeTest_2 19 rfl rfl)
theorem dX3_madeTest_68 : decode cX3_madeTest 68 = .ok (.aload_n 0, 1) := dk_42 (dk_at dksX3_madeTest_2 20 rfl rfl)
theorem dX3_madeTest_69 : decode cX3_madeTest 69 = .ok (.getfield 232, 3) := dk_180 0 232 (dk_at dksX3_madeTest_2 21 rfl rfl)
theorem dX3_madeTest_72 : decode cX3_madeTest 72 = .ok (.iconst 1, 1) := dk_4 (dk_at dksX3_madeTest_3 0 rfl rfl)
theorem dX3_madeTest_73 : decode cX3_madeTest 73 = .ok (.if_icmp .ne 59, 3) := dk_160 0 59 (dk_at dksX3_madeTest_3 1 rfl rfl)
theorem dX3_madeTest_76 : decode cX3_madeTest 76 = .ok (.iload_n 2, 1) := dk_28 (dk_at dksX3_madeTest_3 4 rfl rfl)
theorem dX3_madeTest_77 : decode cX3_madeTest 77 = .ok (.aload_n 0, 1) := dk_42 (dk_at dksX3_madeTest_3 5 rfl rfl)
theorem dX3_madeTest_78 : decode cX3_madeTest 78 = .ok (.getfield 109, 3) := dk_180 0 109 (dk_at dksX3_madeTest_3 6 rfl rfl)
theorem dX3_madeTest_81 : decode cX3_madeTest 81 = .ok (.iload_n 1, 1) := dk_27 (dk_at dksX3_madeTest_3 9 rfl rfl)
theorem dX3_madeTest_82 : decode cX3_madeTest 82 = .ok (.iaload, 1) := dk_46 (dk_at dksX3_madeTest_3 10 rfl rfl)
theorem dX3_madeTest_83 : decode cX3_madeTest 83 = .ok (.if_icmp .ge 49, 3) := dk_162 0 49 (dk_at dksX3_madeTest_3 11 rfl rfl)
theorem dX3_madeTest_86 : decode cX3_madeTest 86 = .ok (.aload_n 0, 1) := dk_42 (dk_at dksX3_madeTest_3 14 rfl rfl)
theorem dX3_madeTest_87 : decode cX3_madeTest 87 = .ok (.invokevirtual 410, 3) := dk_182 1 154 (dk_at dksX3_madeTest_3 15 rfl rfl)
theorem dX3_madeTest_90 : decode cX3_madeTest 90 = .ok (.iinc 2 1, 3) := dk_132 2 1 (dk_at dksX3_madeTest_3 18 rfl rfl)
theorem dX3_madeTest_93 : decode cX3_madeTest 93 = .ok (.iload_n 2, 1) := dk_28 (dk_at dksX3_madeTest_3 21 rfl rfl)
theorem dX3_madeTest_94 : decode cX3_madeTest 94 = .ok (.aload_n 0, 1) := dk_42 (dk_at dksX3_madeTest_3 22 rfl rfl)
theorem dX3_madeTest_95 : decode cX3_madeTest 95 = .ok (.getfield 118, 3) := dk_180 0 118 (dk_at dksX3_madeTest_4 0 rfl rfl)
theorem dX3_madeTest_98 : decode cX3_madeTest 98 = .ok (.iload_n 1, 1) := dk_27 (dk_at dksX3_madeTest_4 3 rfl rfl)
theorem dX3_madeTest_99 : decode cX3_madeTest 99 = .ok (.iaload, 1) := dk_46 (dk_at dksX3_madeTest_4 4 rfl rfl)
theorem dX3_madeTest_100 : decode cX3_madeTest 100 = .ok (.if_icmp .ne (-32), 3) := dk_160 255 224 (dk_at dksX3_madeTest_4 5 rfl rfl)
theorem dX3_madeTest_103 : decode cX3_madeTest 103 = .ok (.aload_n 0, 1) := dk_42 (dk_at dksX3_madeTest_4 8 rfl rfl)
theorem dX3_madeTest_104 : decode cX3_madeTest 104 = .ok (.getfield 232, 3) := dk_180 0 232 (dk_at dksX3_madeTest_4 9 rfl rfl)
theorem dX3_madeTest_107 : decode cX3_madeTest 107 = .ok (.iconst 1, 1) := dk_4 (dk_at dksX3_madeTest_4 12 rfl rfl)
theorem dX3_madeTest_108 : decode cX3_madeTest 108 = .ok (.if_icmp .ne (-40), 3) := dk_160 255 216 (dk_at dksX3_madeTest_4 13 rfl rfl)
theorem dX3_madeTest_111 : decode cX3_madeTest 111 = .ok (.aload_n 0, 1) := dk_42 (dk_at dksX3_madeTest_4 16 rfl rfl)
theorem dX3_madeTest_112 : decode cX3_madeTest 112 = .ok (.invokevirtual 417, 3) := dk_182 1 161 (dk_at dksX3_madeTest_4 17 rfl rfl)
theorem dX3_madeTest_115 : decode cX3_madeTest 115 = .ok (.pop, 1) := dk_87 (dk_at dksX3_madeTest_4 20 rfl rfl)
theorem dX3_madeTest_116 : decode cX3_madeTest 116 = .ok (.aload_n 0, 1) := dk_42 (dk_at dksX3_madeTest_4 21 rfl rfl)
theorem dX3_madeTest_117 : decode cX3_madeTest 117 = .ok (.iconst 0, 1) := dk_3 (dk_at dksX3_madeTest_4 22 rfl rfl)
theorem dX3_madeTest_118 : decode cX3_madeTest 118 = .ok (.putfield 287, 3) := dk_181 1 31 (dk_at dksX3_madeTest_5 0 rfl rfl)
theorem dX3_madeTest_121 : decode cX3_madeTest 121 = .ok (.aload_n 0, 1) := dk_42 (dk_at dksX3_madeTest_5 3 rfl rfl)
theorem dX3_madeTest_122 : decode cX3_madeTest 122 = .ok (.aload_n 0, 1) := dk_42 (dk_at dksX3_madeTest_5 4 rfl rfl)
theorem dX3_madeTest_123 : decode cX3_madeTest 123 = .ok (.getfield 49, 3) := dk_180 0 49 (dk_at dksX3_madeTest_5 5 rfl rfl)
theorem dX3_madeTest_126 : decode cX3_madeTest 126 = .ok (.invokevirtual 406, 3) := dk_182 1 150 (dk_at dksX3_madeTest_5 8 rfl rfl)
theorem dX3_madeTest_129 : decode cX3_madeTest 129 = .ok (.goto (-61), 3) := dk_167 255 195 (dk_at dksX3_madeTest_5 11 rfl rfl)
theorem dX3_madeTest_132 : decode cX3_madeTest 132 = .ok (.aload_n 0, 1) := dk_42 (dk_at dksX3_madeTest_5 14 rfl rfl)
theorem dX3_madeTest_133 : decode cX3_madeTest 133 = .ok (.getfield 232, 3) := dk_180 0 232 (dk_at dksX3_madeTest_5 15 rfl rfl)
theorem dX3_madeTest_136 : decode cX3_madeTest 136 = .ok (.iconst 3, 1) := dk_6 (dk_at dksX3_madeTest_5 18 rfl rfl)
theorem dX3_madeTest_137 : decode cX3_madeTest 137 = .ok (.if_icmp .eq 11, 3) := dk_159 0 11 (dk_at dksX3_madeTest_5 19 rfl rfl)
theorem dX3_madeTest_140 : decode cX3_madeTest 140 = .ok (.aload_n 0, 1) := dk_42 (dk_at dksX3_madeTest_5 22 rfl rfl)
theorem dX3_madeTest_141 : decode cX3_madeTest 141 = .ok (.getfield 232, 3) := dk_180 0 232 (dk_at dksX3_madeTest_6 0 rfl rfl)
theorem dX3_madeTest_144 : decode cX3_madeTest 144 = .ok (.iconst 1, 1) := dk_4 (dk_at dksX3_madeTest_6 3 rfl rfl)
theorem dX3_madeTest_145 : decode cX3_madeTest 145 = .ok (.if_icmp .ne 17, 3) := dk_160 0 17 (dk_at dksX3_madeTest_6 4 rfl rfl)
theorem dX3_madeTest_148 : decode cX3_madeTest 148 = .ok (.aload_n 0, 1) := dk_42 (dk_at dksX3_madeTest_6 7 rfl rfl)
theorem dX3_madeTest_149 : decode cX3_madeTest 149 = .ok (.getfield 232, 3) := dk_180 0 232 (dk_at dksX3_madeTest_6 8 rfl rfl)
theorem dX3_madeTest_152 : decode cX3_madeTest 152 = .ok (.iconst 3, 1) := dk_6 (dk_at dksX3_madeTest_6 11 rfl rfl)
theorem dX3_madeTest_153 : decode cX3_madeTest 153 = .ok (.if_icmp .ne 7, 3) := dk_160 0 7 (dk_at dksX3_madeTest_6 12 rfl rfl)
theorem dX3_madeTest_156 : decode cX3_madeTest 156 = .ok (.iconst 1, 1) := dk_4 (dk_at dksX3_madeTest_6 15 rfl rfl)
theorem dX3_madeTest_157 : decode cX3_madeTest 157 = .ok (.goto 4, 3) := dk_167 0 4 (dk_at dksX3_madeTest_6 16 rfl rfl)
theorem dX3_madeTest_160 : decode cX3_madeTest 160 = .ok (.iconst 2, 1) := dk_5 (dk_at dksX3_madeTest_6 19 rfl rfl)
theorem dX3_madeTest_161 : decode cX3_madeTest 161 = .ok (.ireturn, 1) := dk_172 (dk_at dksX3_madeTest_6 20 rfl rfl)
theorem dX3_madeTest_162 : decode cX3_madeTest 162 = .ok (.aload_n 0, 1) := dk_42 (dk_at dksX3_madeTest_6 21 rfl rfl)
theorem dX3_madeTest_163 : decode cX3_madeTest 163 = .ok (.getfield 389, 3) := dk_180 1 133 (dk_at dksX3_madeTest_7 0 rfl rfl)
theorem dX3_madeTest_166 : decode cX3_madeTest 166 = .ok (.aload_n 0, 1) := dk_42 (dk_at dksX3_madeTest_7 3 rfl rfl)
theorem dX3_madeTest_167 : decode cX3_madeTest 167 = .ok (.getfield 112, 3) := dk_180 0 112 (dk_at dksX3_madeTest_7 4 rfl rfl)
theorem dX3_madeTest_170 : decode cX3_madeTest 170 = .ok (.iload_n 1, 1) := dk_27 (dk_at dksX3_madeTest_7 7 rfl rfl)
theorem dX3_madeTest_171 : decode cX3_madeTest 171 = .ok (.iaload, 1) := dk_46 (dk_at dksX3_madeTest_7 8 rfl rfl)
theorem dX3_madeTest_172 : decode cX3_madeTest 172 = .ok (.if_icmp .le 7, 3) := dk_164 0 7 (dk_at dksX3_madeTest_7 9 rfl rfl)
theorem dX3_madeTest_175 : decode cX3_madeTest 175 = .ok (.iconst 3, 1) := dk_6 (dk_at dksX3_madeTest_7 12 rfl rfl)
theorem dX3_madeTest_176 : decode cX3_madeTest 176 = .ok (.goto 27, 3) := dk_167 0 27 (dk_at dksX3_madeTest_7 13 rfl rfl)
theorem dX3_madeTest_179 : decode cX3_madeTest 179 = .ok (.aload_n 0, 1) := dk_42 (dk_at dksX3_madeTest_7 16 rfl rfl)
theorem dX3_madeTest_180 : decode cX3_madeTest 180 = .ok (.iload_n 1, 1) := dk_27 (dk_at dksX3_madeTest_7 17 rfl rfl)
theorem dX3_madeTest_181 : decode cX3_madeTest 181 = .ok (.invokevirtual 469, 3) := dk_182 1 213 (dk_at dksX3_madeTest_7 18 rfl rfl)
theorem dX3_madeTest_184 : decode cX3_madeTest 184 = .ok (.ifCond .ne 7, 3) := dk_154 0 7 (dk_at dksX3_madeTest_7 21 rfl rfl)
theorem dX3_madeTest_187 : decode cX3_madeTest 187 = .ok (.iconst 4, 1) := dk_7 (dk_at dksX3_madeTest_8 0 rfl rfl)
theorem dX3_madeTest_188 : decode cX3_madeTest 188 = .ok (.goto 15, 3) := dk_167 0 15 (dk_at dksX3_madeTest_8 1 rfl rfl)
theorem dX3_madeTest_191 : decode cX3_madeTest 191 = .ok (.aload_n 0, 1) := dk_42 (dk_at dksX3_madeTest_8 4 rfl rfl)
theorem dX3_madeTest_192 : decode cX3_madeTest 192 = .ok (.invokevirtual 457, 3) := dk_182 1 201 (dk_at dksX3_madeTest_8 5 rfl rfl)
theorem dX3_madeTest_195 : decode cX3_madeTest 195 = .ok (.ifCond .eq 7, 3) := dk_153 0 7 (dk_at dksX3_madeTest_8 8 rfl rfl)
theorem dX3_madeTest_198 : decode cX3_madeTest 198 = .ok (.iconst 0, 1) := dk_3 (dk_at dksX3_madeTest_8 11 rfl rfl)
theorem dX3_madeTest_199 : decode cX3_madeTest 199 = .ok (.goto 4, 3) := dk_167 0 4 (dk_at dksX3_madeTest_8 12 rfl rfl)
theorem dX3_madeTest_202 : decode cX3_madeTest 202 = .ok (.iconst 5, 1) := dk_8 (dk_at dksX3_madeTest_8 15 rfl rfl)
theorem dX3_madeTest_203 : decode cX3_madeTest 203 = .ok (.ireturn, 1) := dk_172 (dk_at dksX3_madeTest_8 16 rfl rfl)
abbrev cX3_isTapeOf : ByteArray := prog_28_method_118_code
def yX3_isTapeOf : MethodName := ⟨RX3, "isTapeOf", "(I)Z"⟩
def dkwX3_isTapeOf_2 : List UInt8 := [29, 96, 46, 160, 0, 7, 4, 167, 0, 4, 3, 61, 132, 3, 1, 167, 255, 215, 28, 172]
abbrev dktX3_isTapeOf_2 : List UInt8 := dkwX3_isTapeOf_2 ++ []
def dkwX3_isTapeOf_1 : List UInt8 := [180, 1, 22, 162, 0, 39, 28, 153, 0, 35, 42, 180, 0, 58, 29, 46, 42, 180, 0, 103, 16, 6, 27, 104]
abbrev dktX3_isTapeOf_1 : List UInt8 := dkwX3_isTapeOf_1 ++ dktX3_isTapeOf_2
def dkwX3_isTapeOf_0 : List UInt8 := [42, 180, 1, 22, 42, 180, 0, 106, 27, 46, 160, 0, 7, 4, 167, 0, 4, 3, 61, 3, 62, 29, 42]
abbrev dktX3_isTapeOf_0 : List UInt8 := dkwX3_isTapeOf_0 ++ dktX3_isTapeOf_1
theorem dksX3_isTapeOf_0 : cX3_isTapeOf.data.toList.drop 0 = dktX3_isTapeOf_0 := by decide +kernel
theorem dksX3_isTapeOf_1 : cX3_isTapeOf.data.toList.drop 23 = dktX3_isTapeOf_1 := dk_seg dksX3_isTapeOf_0 23 rfl rfl
theorem dksX3_isTapeOf_2 : cX3_isTapeOf.data.toList.drop 47 = dktX3_isTapeOf_2 := dk_seg dksX3_isTapeOf_1 24 rfl rfl
theorem dX3_isTapeOf_0 : decode cX3_isTapeOf 0 = .ok (.aload_n 0, 1) := dk_42 (dk_at dksX3_isTapeOf_0 0 rfl rfl)
theorem dX3_isTapeOf_1 : decode cX3_isTapeOf 1 = .ok (.getfield 278, 3) := dk_180 1 22 (dk_at dksX3_isTapeOf_0 1 rfl rfl)
theorem dX3_isTapeOf_4 : decode cX3_isTapeOf 4 = .ok (.aload_n 0, 1) := dk_42 (dk_at dksX3_isTapeOf_0 4 rfl rfl)
theorem dX3_isTapeOf_5 : decode cX3_isTapeOf 5 = .ok (.getfield 106, 3) := dk_180 0 106 (dk_at dksX3_isTapeOf_0 5 rfl rfl)
theorem dX3_isTapeOf_8 : decode cX3_isTapeOf 8 = .ok (.iload_n 1, 1) := dk_27 (dk_at dksX3_isTapeOf_0 8 rfl rfl)
theorem dX3_isTapeOf_9 : decode cX3_isTapeOf 9 = .ok (.iaload, 1) := dk_46 (dk_at dksX3_isTapeOf_0 9 rfl rfl)
theorem dX3_isTapeOf_10 : decode cX3_isTapeOf 10 = .ok (.if_icmp .ne 7, 3) := dk_160 0 7 (dk_at dksX3_isTapeOf_0 10 rfl rfl)
theorem dX3_isTapeOf_13 : decode cX3_isTapeOf 13 = .ok (.iconst 1, 1) := dk_4 (dk_at dksX3_isTapeOf_0 13 rfl rfl)
theorem dX3_isTapeOf_14 : decode cX3_isTapeOf 14 = .ok (.goto 4, 3) := dk_167 0 4 (dk_at dksX3_isTapeOf_0 14 rfl rfl)
theorem dX3_isTapeOf_17 : decode cX3_isTapeOf 17 = .ok (.iconst 0, 1) := dk_3 (dk_at dksX3_isTapeOf_0 17 rfl rfl)
theorem dX3_isTapeOf_18 : decode cX3_isTapeOf 18 = .ok (.istore_n 2, 1) := dk_61 (dk_at dksX3_isTapeOf_0 18 rfl rfl)
theorem dX3_isTapeOf_19 : decode cX3_isTapeOf 19 = .ok (.iconst 0, 1) := dk_3 (dk_at dksX3_isTapeOf_0 19 rfl rfl)
theorem dX3_isTapeOf_20 : decode cX3_isTapeOf 20 = .ok (.istore_n 3, 1) := dk_62 (dk_at dksX3_isTapeOf_0 20 rfl rfl)
theorem dX3_isTapeOf_21 : decode cX3_isTapeOf 21 = .ok (.iload_n 3, 1) := dk_29 (dk_at dksX3_isTapeOf_0 21 rfl rfl)
theorem dX3_isTapeOf_22 : decode cX3_isTapeOf 22 = .ok (.aload_n 0, 1) := dk_42 (dk_at dksX3_isTapeOf_0 22 rfl rfl)
theorem dX3_isTapeOf_23 : decode cX3_isTapeOf 23 = .ok (.getfield 278, 3) := dk_180 1 22 (dk_at dksX3_isTapeOf_1 0 rfl rfl)
theorem dX3_isTapeOf_26 : decode cX3_isTapeOf 26 = .ok (.if_icmp .ge 39, 3) := dk_162 0 39 (dk_at dksX3_isTapeOf_1 3 rfl rfl)
theorem dX3_isTapeOf_29 : decode cX3_isTapeOf 29 = .ok (.iload_n 2, 1) := dk_28 (dk_at dksX3_isTapeOf_1 6 rfl rfl)
theorem dX3_isTapeOf_30 : decode cX3_isTapeOf 30 = .ok (.ifCond .eq 35, 3) := dk_153 0 35 (dk_at dksX3_isTapeOf_1 7 rfl rfl)
theorem dX3_isTapeOf_33 : decode cX3_isTapeOf 33 = .ok (.aload_n 0, 1) := dk_42 (dk_at dksX3_isTapeOf_1 10 rfl rfl)
theorem dX3_isTapeOf_34 : decode cX3_isTapeOf 34 = .ok (.getfield 58, 3) := dk_180 0 58 (dk_at dksX3_isTapeOf_1 11 rfl rfl)
theorem dX3_isTapeOf_37 : decode cX3_isTapeOf 37 = .ok (.iload_n 3, 1) := dk_29 (dk_at dksX3_isTapeOf_1 14 rfl rfl)
theorem dX3_isTapeOf_38 : decode cX3_isTapeOf 38 = .ok (.iaload, 1) := dk_46 (dk_at dksX3_isTapeOf_1 15 rfl rfl)
theorem dX3_isTapeOf_39 : decode cX3_isTapeOf 39 = .ok (.aload_n 0, 1) := dk_42 (dk_at dksX3_isTapeOf_1 16 rfl rfl)
theorem dX3_isTapeOf_40 : decode cX3_isTapeOf 40 = .ok (.getfield 103, 3) := dk_180 0 103 (dk_at dksX3_isTapeOf_1 17 rfl rfl)
theorem dX3_isTapeOf_43 : decode cX3_isTapeOf 43 = .ok (.bipush 6, 2) := dk_16 6 (dk_at dksX3_isTapeOf_1 20 rfl rfl)
theorem dX3_isTapeOf_45 : decode cX3_isTapeOf 45 = .ok (.iload_n 1, 1) := dk_27 (dk_at dksX3_isTapeOf_1 22 rfl rfl)
theorem dX3_isTapeOf_46 : decode cX3_isTapeOf 46 = .ok (.imul, 1) := dk_104 (dk_at dksX3_isTapeOf_1 23 rfl rfl)
theorem dX3_isTapeOf_47 : decode cX3_isTapeOf 47 = .ok (.iload_n 3, 1) := dk_29 (dk_at dksX3_isTapeOf_2 0 rfl rfl)
theorem dX3_isTapeOf_48 : decode cX3_isTapeOf 48 = .ok (.iadd, 1) := dk_96 (dk_at dksX3_isTapeOf_2 1 rfl rfl)
theorem dX3_isTapeOf_49 : decode cX3_isTapeOf 49 = .ok (.iaload, 1) := dk_46 (dk_at dksX3_isTapeOf_2 2 rfl rfl)
theorem dX3_isTapeOf_50 : decode cX3_isTapeOf 50 = .ok (.if_icmp .ne 7, 3) := dk_160 0 7 (dk_at dksX3_isTapeOf_2 3 rfl rfl)
theorem dX3_isTapeOf_53 : decode cX3_isTapeOf 53 = .ok (.iconst 1, 1) := dk_4 (dk_at dksX3_isTapeOf_2 6 rfl rfl)
theorem dX3_isTapeOf_54 : decode cX3_isTapeOf 54 = .ok (.goto 4, 3) := dk_167 0 4 (dk_at dksX3_isTapeOf_2 7 rfl rfl)
theorem dX3_isTapeOf_57 : decode cX3_isTapeOf 57 = .ok (.iconst 0, 1) := dk_3 (dk_at dksX3_isTapeOf_2 10 rfl rfl)
theorem dX3_isTapeOf_58 : decode cX3_isTapeOf 58 = .ok (.istore_n 2, 1) := dk_61 (dk_at dksX3_isTapeOf_2 11 rfl rfl)
theorem dX3_isTapeOf_59 : decode cX3_isTapeOf 59 = .ok (.iinc 3 1, 3) := dk_132 3 1 (dk_at dksX3_isTapeOf_2 12 rfl rfl)
theorem dX3_isTapeOf_62 : decode cX3_isTapeOf 62 = .ok (.goto (-41), 3) := dk_167 255 215 (dk_at dksX3_isTapeOf_2 15 rfl rfl)
theorem dX3_isTapeOf_65 : decode cX3_isTapeOf 65 = .ok (.iload_n 2, 1) := dk_28 (dk_at dksX3_isTapeOf_2 18 rfl rfl)
theorem dX3_isTapeOf_66 : decode cX3_isTapeOf 66 = .ok (.ireturn, 1) := dk_172 (dk_at dksX3_isTapeOf_2 19 rfl rfl)
abbrev cX3_result : ByteArray := prog_28_method_121_code
def yX3_result : MethodName := ⟨RX3, "result", "(I)I"⟩
def dkwX3_result_1 : List UInt8 := [153, 0, 12, 42, 180, 0, 121, 27, 46, 167, 0, 4, 3, 172]
abbrev dktX3_result_1 : List UInt8 := dkwX3_result_1 ++ []
def dkwX3_result_0 : List UInt8 := [42, 27, 3, 42, 180, 1, 210, 4, 100, 184, 0, 147, 153, 0, 7, 3, 167, 0, 4, 4, 182, 0, 152]
abbrev dktX3_result_0 : List UInt8 := dkwX3_result_0 ++ dktX3_result_1
theorem dksX3_result_0 : cX3_result.data.toList.drop 0 = dktX3_result_0 := by decide +kernel
theorem dksX3_result_1 : cX3_result.data.toList.drop 23 = dktX3_result_1 := dk_seg dksX3_result_0 23 rfl rfl
theorem dX3_result_0 : decode cX3_result 0 = .ok (.aload_n 0, 1) := dk_42 (dk_at dksX3_result_0 0 rfl rfl)
theorem dX3_result_1 : decode cX3_result 1 = .ok (.iload_n 1, 1) := dk_27 (dk_at dksX3_result_0 1 rfl rfl)
theorem dX3_result_2 : decode cX3_result 2 = .ok (.iconst 0, 1) := dk_3 (dk_at dksX3_result_0 2 rfl rfl)
theorem dX3_result_3 : decode cX3_result 3 = .ok (.aload_n 0, 1) := dk_42 (dk_at dksX3_result_0 3 rfl rfl)
theorem dX3_result_4 : decode cX3_result 4 = .ok (.getfield 466, 3) := dk_180 1 210 (dk_at dksX3_result_0 4 rfl rfl)
theorem dX3_result_7 : decode cX3_result 7 = .ok (.iconst 1, 1) := dk_4 (dk_at dksX3_result_0 7 rfl rfl)
theorem dX3_result_8 : decode cX3_result 8 = .ok (.isub, 1) := dk_100 (dk_at dksX3_result_0 8 rfl rfl)
theorem dX3_result_9 : decode cX3_result 9 = .ok (.invokestatic 147, 3) := dk_184 0 147 (dk_at dksX3_result_0 9 rfl rfl)
theorem dX3_result_12 : decode cX3_result 12 = .ok (.ifCond .eq 7, 3) := dk_153 0 7 (dk_at dksX3_result_0 12 rfl rfl)
theorem dX3_result_15 : decode cX3_result 15 = .ok (.iconst 0, 1) := dk_3 (dk_at dksX3_result_0 15 rfl rfl)
theorem dX3_result_16 : decode cX3_result 16 = .ok (.goto 4, 3) := dk_167 0 4 (dk_at dksX3_result_0 16 rfl rfl)
theorem dX3_result_19 : decode cX3_result 19 = .ok (.iconst 1, 1) := dk_4 (dk_at dksX3_result_0 19 rfl rfl)
theorem dX3_result_20 : decode cX3_result 20 = .ok (.invokevirtual 152, 3) := dk_182 0 152 (dk_at dksX3_result_0 20 rfl rfl)
theorem dX3_result_23 : decode cX3_result 23 = .ok (.ifCond .eq 12, 3) := dk_153 0 12 (dk_at dksX3_result_1 0 rfl rfl)
theorem dX3_result_26 : decode cX3_result 26 = .ok (.aload_n 0, 1) := dk_42 (dk_at dksX3_result_1 3 rfl rfl)
theorem dX3_result_27 : decode cX3_result 27 = .ok (.getfield 121, 3) := dk_180 0 121 (dk_at dksX3_result_1 4 rfl rfl)
theorem dX3_result_30 : decode cX3_result 30 = .ok (.iload_n 1, 1) := dk_27 (dk_at dksX3_result_1 7 rfl rfl)
theorem dX3_result_31 : decode cX3_result 31 = .ok (.iaload, 1) := dk_46 (dk_at dksX3_result_1 8 rfl rfl)
theorem dX3_result_32 : decode cX3_result 32 = .ok (.goto 4, 3) := dk_167 0 4 (dk_at dksX3_result_1 9 rfl rfl)
theorem dX3_result_35 : decode cX3_result 35 = .ok (.iconst 0, 1) := dk_3 (dk_at dksX3_result_1 12 rfl rfl)
theorem dX3_result_36 : decode cX3_result 36 = .ok (.ireturn, 1) := dk_172 (dk_at dksX3_result_1 13 rfl rfl)
abbrev cX3_mark : ByteArray := prog_28_method_122_code
def yX3_mark : MethodName := ⟨RX3, "mark", "()I"⟩
def dkwX3_mark_3 : List UInt8 := [60, 132, 2, 1, 167, 255, 190, 27, 156, 0, 7, 3, 167, 0, 4, 27, 172]
abbrev dktX3_mark_3 : List UInt8 := dkwX3_mark_3 ++ []
def dkwX3_mark_2 : List UInt8 := [180, 0, 124, 28, 51, 153, 0, 17, 42, 180, 0, 115, 28, 46, 4, 96, 5, 108, 116, 167, 0, 4, 3, 96]
abbrev dktX3_mark_2 : List UInt8 := dkwX3_mark_2 ++ dktX3_mark_3
def dkwX3_mark_1 : List UInt8 := [154, 0, 12, 42, 180, 0, 115, 28, 46, 167, 0, 37, 42, 180, 0, 121, 28, 46, 2, 159, 0, 26, 42]
abbrev dktX3_mark_1 : List UInt8 := dkwX3_mark_1 ++ dktX3_mark_2
def dkwX3_mark_0 : List UInt8 := [42, 3, 181, 0, 140, 3, 60, 3, 61, 28, 42, 180, 1, 210, 162, 0, 64, 27, 42, 180, 0, 121, 28, 46]
abbrev dktX3_mark_0 : List UInt8 := dkwX3_mark_0 ++ dktX3_mark_1
theorem dksX3_mark_0 : cX3_mark.data.toList.drop 0 = dktX3_mark_0 := by decide +kernel
theorem dksX3_mark_1 : cX3_mark.data.toList.drop 24 = dktX3_mark_1 := dk_seg dksX3_mark_0 24 rfl rfl
theorem dksX3_mark_2 : cX3_mark.data.toList.drop 47 = dktX3_mark_2 := dk_seg dksX3_mark_1 23 rfl rfl
theorem dksX3_mark_3 : cX3_mark.data.toList.drop 71 = dktX3_mark_3 := dk_seg dksX3_mark_2 24 rfl rfl
theorem dX3_mark_0 : decode cX3_mark 0 = .ok (.aload_n 0, 1) := dk_42 (dk_at dksX3_mark_0 0 rfl rfl)
theorem dX3_mark_1 : decode cX3_mark 1 = .ok (.iconst 0, 1) := dk_3 (dk_at dksX3_mark_0 1 rfl rfl)
theorem dX3_mark_2 : decode cX3_mark 2 = .ok (.putfield 140, 3) := dk_181 0 140 (dk_at dksX3_mark_0 2 rfl rfl)
theorem dX3_mark_5 : decode cX3_mark 5 = .ok (.iconst 0, 1) := dk_3 (dk_at dksX3_mark_0 5 rfl rfl)
theorem dX3_mark_6 : decode cX3_mark 6 = .ok (.istore_n 1, 1) := dk_60 (dk_at dksX3_mark_0 6 rfl rfl)
theorem dX3_mark_7 : decode cX3_mark 7 = .ok (.iconst 0, 1) := dk_3 (dk_at dksX3_mark_0 7 rfl rfl)
theorem dX3_mark_8 : decode cX3_mark 8 = .ok (.istore_n 2, 1) := dk_61 (dk_at dksX3_mark_0 8 rfl rfl)
theorem dX3_mark_9 : decode cX3_mark 9 = .ok (.iload_n 2, 1) := dk_28 (dk_at dksX3_mark_0 9 rfl rfl)
theorem dX3_mark_10 : decode cX3_mark 10 = .ok (.aload_n 0, 1) := dk_42 (dk_at dksX3_mark_0 10 rfl rfl)
theorem dX3_mark_11 : decode cX3_mark 11 = .ok (.getfield 466, 3) := dk_180 1 210 (dk_at dksX3_mark_0 11 rfl rfl)
theorem dX3_mark_14 : decode cX3_mark 14 = .ok (.if_icmp .ge 64, 3) := dk_162 0 64 (dk_at dksX3_mark_0 14 rfl rfl)
theorem dX3_mark_17 : decode cX3_mark 17 = .ok (.iload_n 1, 1) := dk_27 (dk_at dksX3_mark_0 17 rfl rfl)
theorem dX3_mark_18 : decode cX3_mark 18 = .ok (.aload_n 0, 1) := dk_42 (dk_at dksX3_mark_0 18 rfl rfl)
theorem dX3_mark_19 : decode cX3_mark 19 = .ok (.getfield 121, 3) := dk_180 0 121 (dk_at dksX3_mark_0 19 rfl rfl)
theorem dX3_mark_22 : decode cX3_mark 22 = .ok (.iload_n 2, 1) := dk_28 (dk_at dksX3_mark_0 22 rfl rfl)
theorem dX3_mark_23 : decode cX3_mark 23 = .ok (.iaload, 1) := dk_46 (dk_at dksX3_mark_0 23 rfl rfl)
theorem dX3_mark_24 : decode cX3_mark 24 = .ok (.ifCond .ne 12, 3) := dk_154 0 12 (dk_at dksX3_mark_1 0 rfl rfl)
theorem dX3_mark_27 : decode cX3_mark 27 = .ok (.aload_n 0, 1) := dk_42 (dk_at dksX3_mark_1 3 rfl rfl)
theorem dX3_mark_28 : decode cX3_mark 28 = .ok (.getfield 115, 3) := dk_180 0 115 (dk_at dksX3_mark_1 4 rfl rfl)
theorem dX3_mark_31 : decode cX3_mark 31 = .ok (.iload_n 2, 1) := dk_28 (dk_at dksX3_mark_1 7 rfl rfl)
theorem dX3_mark_32 : decode cX3_mark 32 = .ok (.iaload, 1) := dk_46 (dk_at dksX3_mark_1 8 rfl rfl)
theorem dX3_mark_33 : decode cX3_mark 33 = .ok (.goto 37, 3) := dk_167 0 37 (dk_at dksX3_mark_1 9 rfl rfl)
theorem dX3_mark_36 : decode cX3_mark 36 = .ok (.aload_n 0, 1) := dk_42 (dk_at dksX3_mark_1 12 rfl rfl)
theorem dX3_mark_37 : decode cX3_mark 37 = .ok (.getfield 121, 3) := dk_180 0 121 (dk_at dksX3_mark_1 13 rfl rfl)
theorem dX3_mark_40 : decode cX3_mark 40 = .ok (.iload_n 2, 1) := dk_28 (dk_at dksX3_mark_1 16 rfl rfl)
theorem dX3_mark_41 : decode cX3_mark 41 = .ok (.iaload, 1) := dk_46 (dk_at dksX3_mark_1 17 rfl rfl)
theorem dX3_mark_42 : decode cX3_mark 42 = .ok (.iconst (-1), 1) := dk_2 (dk_at dksX3_mark_1 18 rfl rfl)
theorem dX3_mark_43 : decode cX3_mark 43 = .ok (.if_icmp .eq 26, 3) := dk_159 0 26 (dk_at dksX3_mark_1 19 rfl rfl)
theorem dX3_mark_46 : decode cX3_mark 46 = .ok (.aload_n 0, 1) := dk_42 (dk_at dksX3_mark_1 22 rfl rfl)
theorem dX3_mark_47 : decode cX3_mark 47 = .ok (.getfield 124, 3) := dk_180 0 124 (dk_at dksX3_mark_2 0 rfl rfl)
theorem dX3_mark_50 : decode cX3_mark 50 = .ok (.iload_n 2, 1) := dk_28 (dk_at dksX3_mark_2 3 rfl rfl)
theorem dX3_mark_51 : decode cX3_mark 51 = .ok (.baload, 1) := dk_51 (dk_at dksX3_mark_2 4 rfl rfl)
theorem dX3_mark_52 : decode cX3_mark 52 = .ok (.ifCond .eq 17, 3) := dk_153 0 17 (dk_at dksX3_mark_2 5 rfl rfl)
theorem dX3_mark_55 : decode cX3_mark 55 = .ok (.aload_n 0, 1) := dk_42 (dk_at dksX3_mark_2 8 rfl rfl)
theorem dX3_mark_56 : decode cX3_mark 56 = .ok (.getfield 115, 3) := dk_180 0 115 (dk_at dksX3_mark_2 9 rfl rfl)
theorem dX3_mark_59 : decode cX3_mark 59 = .ok (.iload_n 2, 1) := dk_28 (dk_at dksX3_mark_2 12 rfl rfl)
theorem dX3_mark_60 : decode cX3_mark 60 = .ok (.iaload, 1) := dk_46 (dk_at dksX3_mark_2 13 rfl rfl)
theorem dX3_mark_61 : decode cX3_mark 61 = .ok (.iconst 1, 1) := dk_4 (dk_at dksX3_mark_2 14 rfl rfl)
theorem dX3_mark_62 : decode cX3_mark 62 = .ok (.iadd, 1) := dk_96 (dk_at dksX3_mark_2 15 rfl rfl)
theorem dX3_mark_63 : decode cX3_mark 63 = .ok (.iconst 2, 1) := dk_5 (dk_at dksX3_mark_2 16 rfl rfl)
theorem dX3_mark_64 : decode cX3_mark 64 = .ok (.idiv, 1) := dk_108 (dk_at dksX3_mark_2 17 rfl rfl)
theorem dX3_mark_65 : decode cX3_mark 65 = .ok (.ineg, 1) := dk_116 (dk_at dksX3_mark_2 18 rfl rfl)
theorem dX3_mark_66 : decode cX3_mark 66 = .ok (.goto 4, 3) := dk_167 0 4 (dk_at dksX3_mark_2 19 rfl rfl)
theorem dX3_mark_69 : decode cX3_mark 69 = .ok (.iconst 0, 1) := dk_3 (dk_at dksX3_mark_2 22 rfl rfl)
theorem dX3_mark_70 : decode cX3_mark 70 = .ok (.iadd, 1) := dk_96 (dk_at dksX3_mark_2 23 rfl rfl)
theorem dX3_mark_71 : decode cX3_mark 71 = .ok (.istore_n 1, 1) := dk_60 (dk_at dksX3_mark_3 0 rfl rfl)
theorem dX3_mark_72 : decode cX3_mark 72 = .ok (.iinc 2 1, 3) := dk_132 2 1 (dk_at dksX3_mark_3 1 rfl rfl)
theorem dX3_mark_75 : decode cX3_mark 75 = .ok (.goto (-66), 3) := dk_167 255 190 (dk_at dksX3_mark_3 4 rfl rfl)
theorem dX3_mark_78 : decode cX3_mark 78 = .ok (.iload_n 1, 1) := dk_27 (dk_at dksX3_mark_3 7 rfl rfl)
theorem dX3_mark_79 : decode cX3_mark 79 = .ok (.ifCond .ge 7, 3) := dk_156 0 7 (dk_at dksX3_mark_3 8 rfl rfl)
theorem dX3_mark_82 : decode cX3_mark 82 = .ok (.iconst 0, 1) := dk_3 (dk_at dksX3_mark_3 11 rfl rfl)
theorem dX3_mark_83 : decode cX3_mark 83 = .ok (.goto 4, 3) := dk_167 0 4 (dk_at dksX3_mark_3 12 rfl rfl)
theorem dX3_mark_86 : decode cX3_mark 86 = .ok (.iload_n 1, 1) := dk_27 (dk_at dksX3_mark_3 15 rfl rfl)
theorem dX3_mark_87 : decode cX3_mark 87 = .ok (.ireturn, 1) := dk_172 (dk_at dksX3_mark_3 16 rfl rfl)
theorem q126 : (Jvm.Cond.initialized "KernelGymModel") ∈ lw_all := lw_g (lw_at lw_m1 9 rfl) rfl
theorem q1070 : (Jvm.Cond.selects "KernelGymModel" ({ cls := "java/lang/Object", name := "getClass", desc := "()Ljava/lang/Class;" } : Jvm.MethodName) ({ cls := "java/lang/Object", name := "getClass", desc := "()Ljava/lang/Class;" } : Jvm.MethodName)) ∈ lw_all := lw_g (lw_at lw_m4 233 rfl) rfl
theorem q2744 : (Jvm.Cond.instantiable "KernelGymModel" (74 : Nat)) ∈ lw_all := lw_g (lw_at lw_m11 227 rfl) rfl
theorem q2746 : (Jvm.Cond.instanceMethod ({ cls := "KernelGymModel", name := "<init>", desc := "()V" } : Jvm.MethodName)) ∈ lw_all := lw_g (lw_at lw_m11 229 rfl) rfl
theorem q2747 : (Jvm.Cond.code ({ cls := "KernelGymModel", name := "<init>", desc := "()V" } : Jvm.MethodName) prog_28_method_1_code (1 : Nat) (Option.none : Option Jvm.ClassFile.FieldType)) ∈ lw_all := lw_g (lw_at lw_m11 230 rfl) rfl
theorem q2748 : (Jvm.Cond.methodLink "KernelGymModel" (1 : Nat) ({ cls := "java/lang/Object", name := "<init>", desc := "()V" } : Jvm.MethodName)) ∈ lw_all := lw_g (lw_at lw_m11 231 rfl) rfl
theorem q2749 : (Jvm.Cond.methodLink "KernelGymModel" (137 : Nat) ({ cls := "KernelGymModel", name := "formats", desc := "()V" } : Jvm.MethodName)) ∈ lw_all := lw_g (lw_at lw_m11 232 rfl) rfl
theorem q2750 : (Jvm.Cond.privateMethod ({ cls := "KernelGymModel", name := "formats", desc := "()V" } : Jvm.MethodName)) ∈ lw_tbl := lw_at lw_m11 233 rfl
theorem q2751 : (Jvm.Cond.instanceMethod ({ cls := "KernelGymModel", name := "formats", desc := "()V" } : Jvm.MethodName)) ∈ lw_all := lw_g (lw_at lw_m11 234 rfl) rfl
theorem q2752 : (Jvm.Cond.code ({ cls := "KernelGymModel", name := "formats", desc := "()V" } : Jvm.MethodName) prog_28_method_72_code (2 : Nat) (Option.none : Option Jvm.ClassFile.FieldType)) ∈ lw_all := lw_g (lw_at lw_m11 235 rfl) rfl
theorem q2753 : (Jvm.Cond.fieldLink "KernelGymModel" (140 : Nat) "KernelGymModel" "thrown" "I") ∈ lw_all := lw_g (lw_at lw_m11 236 rfl) rfl
theorem q2754 : (Jvm.Cond.fieldLink "KernelGymModel" (144 : Nat) "KernelGymModel" "lines" "I") ∈ lw_all := lw_g (lw_at lw_m11 237 rfl) rfl
theorem q2755 : (Jvm.Cond.fieldLink "KernelGymModel" (7 : Nat) "KernelGymModel" "kinds" "[I") ∈ lw_all := lw_g (lw_at lw_m11 238 rfl) rfl
theorem q2756 : (Jvm.Cond.fieldLink "KernelGymModel" (13 : Nat) "KernelGymModel" "numbers" "[I") ∈ lw_all := lw_g (lw_at lw_m11 239 rfl) rfl
theorem q2757 : (Jvm.Cond.fieldLink "KernelGymModel" (16 : Nat) "KernelGymModel" "labels" "[I") ∈ lw_all := lw_g (lw_at lw_m12 0 rfl) rfl
theorem q2758 : (Jvm.Cond.fieldLink "KernelGymModel" (19 : Nat) "KernelGymModel" "sizes" "[I") ∈ lw_all := lw_g (lw_at lw_m12 1 rfl) rfl
theorem q2759 : (Jvm.Cond.fieldLink "KernelGymModel" (22 : Nat) "KernelGymModel" "macroFrom" "[I") ∈ lw_all := lw_g (lw_at lw_m12 2 rfl) rfl
theorem q2760 : (Jvm.Cond.fieldLink "KernelGymModel" (25 : Nat) "KernelGymModel" "macroTo" "[I") ∈ lw_all := lw_g (lw_at lw_m12 3 rfl) rfl
theorem q2761 : (Jvm.Cond.fieldLink "KernelGymModel" (28 : Nat) "KernelGymModel" "at" "[I") ∈ lw_all := lw_g (lw_at lw_m12 4 rfl) rfl
theorem q2762 : (Jvm.Cond.fieldLink "KernelGymModel" (31 : Nat) "KernelGymModel" "to" "[I") ∈ lw_all := lw_g (lw_at lw_m12 5 rfl) rfl
theorem q2763 : (Jvm.Cond.fieldLink "KernelGymModel" (34 : Nat) "KernelGymModel" "useOf" "[I") ∈ lw_all := lw_g (lw_at lw_m12 6 rfl) rfl
theorem q2764 : (Jvm.Cond.fieldLink "KernelGymModel" (37 : Nat) "KernelGymModel" "macroOf" "[I") ∈ lw_all := lw_g (lw_at lw_m12 7 rfl) rfl
theorem q2765 : (Jvm.Cond.fieldLink "KernelGymModel" (40 : Nat) "KernelGymModel" "firsts" "[I") ∈ lw_all := lw_g (lw_at lw_m12 8 rfl) rfl
theorem q2766 : (Jvm.Cond.fieldLink "KernelGymModel" (43 : Nat) "KernelGymModel" "seconds" "[I") ∈ lw_all := lw_g (lw_at lw_m12 9 rfl) rfl
theorem q2767 : (Jvm.Cond.fieldLink "KernelGymModel" (164 : Nat) "KernelGymModel" "depth" "I") ∈ lw_all := lw_g (lw_at lw_m12 10 rfl) rfl
theorem q2768 : (Jvm.Cond.fieldLink "KernelGymModel" (191 : Nat) "KernelGymModel" "present" "I") ∈ lw_all := lw_g (lw_at lw_m12 11 rfl) rfl
theorem q2769 : (Jvm.Cond.fieldLink "KernelGymModel" (198 : Nat) "KernelGymModel" "gone" "I") ∈ lw_all := lw_g (lw_at lw_m12 12 rfl) rfl
theorem q2770 : (Jvm.Cond.fieldLink "KernelGymModel" (188 : Nat) "KernelGymModel" "uses" "I") ∈ lw_all := lw_g (lw_at lw_m12 13 rfl) rfl
theorem q2771 : (Jvm.Cond.fieldLink "KernelGymModel" (177 : Nat) "KernelGymModel" "base" "I") ∈ lw_all := lw_g (lw_at lw_m12 14 rfl) rfl
theorem q2772 : (Jvm.Cond.fieldLink "KernelGymModel" (171 : Nat) "KernelGymModel" "operandError" "I") ∈ lw_all := lw_g (lw_at lw_m12 15 rfl) rfl
theorem q2773 : (Jvm.Cond.fieldLink "KernelGymModel" (46 : Nat) "KernelGymModel" "built" "[I") ∈ lw_all := lw_g (lw_at lw_m12 16 rfl) rfl
theorem q2774 : (Jvm.Cond.fieldLink "KernelGymModel" (49 : Nat) "KernelGymModel" "image" "[I") ∈ lw_all := lw_g (lw_at lw_m12 17 rfl) rfl
theorem q2775 : (Jvm.Cond.fieldLink "KernelGymModel" (228 : Nat) "KernelGymModel" "isAssembled" "Z") ∈ lw_all := lw_g (lw_at lw_m12 18 rfl) rfl
theorem q2776 : (Jvm.Cond.fieldLink "KernelGymModel" (232 : Nat) "KernelGymModel" "state" "I") ∈ lw_all := lw_g (lw_at lw_m12 19 rfl) rfl
theorem q2777 : (Jvm.Cond.fieldLink "KernelGymModel" (248 : Nat) "KernelGymModel" "fault" "I") ∈ lw_all := lw_g (lw_at lw_m12 20 rfl) rfl
theorem q2778 : (Jvm.Cond.fieldLink "KernelGymModel" (52 : Nat) "KernelGymModel" "memory" "[I") ∈ lw_all := lw_g (lw_at lw_m12 21 rfl) rfl
theorem q2779 : (Jvm.Cond.fieldLink "KernelGymModel" (55 : Nat) "KernelGymModel" "registers" "[I") ∈ lw_all := lw_g (lw_at lw_m12 22 rfl) rfl
theorem q2780 : (Jvm.Cond.fieldLink "KernelGymModel" (254 : Nat) "KernelGymModel" "counter" "I") ∈ lw_all := lw_g (lw_at lw_m12 23 rfl) rfl
theorem q2781 : (Jvm.Cond.fieldLink "KernelGymModel" (241 : Nat) "KernelGymModel" "stack" "I") ∈ lw_all := lw_g (lw_at lw_m12 24 rfl) rfl
theorem q2782 : (Jvm.Cond.fieldLink "KernelGymModel" (257 : Nat) "KernelGymModel" "isZero" "Z") ∈ lw_all := lw_g (lw_at lw_m12 25 rfl) rfl
theorem q2783 : (Jvm.Cond.fieldLink "KernelGymModel" (260 : Nat) "KernelGymModel" "isLess" "Z") ∈ lw_all := lw_g (lw_at lw_m12 26 rfl) rfl
theorem q2784 : (Jvm.Cond.fieldLink "KernelGymModel" (263 : Nat) "KernelGymModel" "isOn" "Z") ∈ lw_all := lw_g (lw_at lw_m12 27 rfl) rfl
theorem q2785 : (Jvm.Cond.fieldLink "KernelGymModel" (266 : Nat) "KernelGymModel" "isTimer" "Z") ∈ lw_all := lw_g (lw_at lw_m12 28 rfl) rfl
theorem q2786 : (Jvm.Cond.fieldLink "KernelGymModel" (269 : Nat) "KernelGymModel" "isKey" "Z") ∈ lw_all := lw_g (lw_at lw_m12 29 rfl) rfl
theorem q2787 : (Jvm.Cond.fieldLink "KernelGymModel" (272 : Nat) "KernelGymModel" "interval" "I") ∈ lw_all := lw_g (lw_at lw_m12 30 rfl) rfl
theorem q2788 : (Jvm.Cond.fieldLink "KernelGymModel" (275 : Nat) "KernelGymModel" "time" "I") ∈ lw_all := lw_g (lw_at lw_m12 31 rfl) rfl
theorem q2789 : (Jvm.Cond.fieldLink "KernelGymModel" (58 : Nat) "KernelGymModel" "tape" "[I") ∈ lw_all := lw_g (lw_at lw_m12 32 rfl) rfl
theorem q2790 : (Jvm.Cond.fieldLink "KernelGymModel" (278 : Nat) "KernelGymModel" "taped" "I") ∈ lw_all := lw_g (lw_at lw_m12 33 rfl) rfl
theorem q2791 : (Jvm.Cond.fieldLink "KernelGymModel" (235 : Nat) "KernelGymModel" "steps" "I") ∈ lw_all := lw_g (lw_at lw_m12 34 rfl) rfl
theorem q2792 : (Jvm.Cond.fieldLink "KernelGymModel" (281 : Nat) "KernelGymModel" "read" "I") ∈ lw_all := lw_g (lw_at lw_m12 35 rfl) rfl
theorem q2793 : (Jvm.Cond.fieldLink "KernelGymModel" (420 : Nat) "KernelGymModel" "kept" "I") ∈ lw_all := lw_g (lw_at lw_m12 36 rfl) rfl
theorem q2794 : (Jvm.Cond.fieldLink "KernelGymModel" (61 : Nat) "KernelGymModel" "keyTimes" "[I") ∈ lw_all := lw_g (lw_at lw_m12 37 rfl) rfl
theorem q2795 : (Jvm.Cond.fieldLink "KernelGymModel" (64 : Nat) "KernelGymModel" "keys" "[I") ∈ lw_all := lw_g (lw_at lw_m12 38 rfl) rfl
theorem q2796 : (Jvm.Cond.fieldLink "KernelGymModel" (287 : Nat) "KernelGymModel" "told" "I") ∈ lw_all := lw_g (lw_at lw_m12 39 rfl) rfl
theorem q2797 : (Jvm.Cond.fieldLink "KernelGymModel" (67 : Nat) "KernelGymModel" "wroteOne" "[I") ∈ lw_all := lw_g (lw_at lw_m12 40 rfl) rfl
theorem q2798 : (Jvm.Cond.fieldLink "KernelGymModel" (70 : Nat) "KernelGymModel" "wroteOther" "[I") ∈ lw_all := lw_g (lw_at lw_m12 41 rfl) rfl
theorem q2799 : (Jvm.Cond.fieldLink "KernelGymModel" (284 : Nat) "KernelGymModel" "left" "I") ∈ lw_all := lw_g (lw_at lw_m12 42 rfl) rfl
theorem q2800 : (Jvm.Cond.fieldLink "KernelGymModel" (386 : Nat) "KernelGymModel" "many" "I") ∈ lw_all := lw_g (lw_at lw_m12 43 rfl) rfl
theorem q2801 : (Jvm.Cond.fieldLink "KernelGymModel" (73 : Nat) "KernelGymModel" "changed" "[I") ∈ lw_all := lw_g (lw_at lw_m12 44 rfl) rfl
theorem q2802 : (Jvm.Cond.fieldLink "KernelGymModel" (76 : Nat) "KernelGymModel" "contents" "[I") ∈ lw_all := lw_g (lw_at lw_m12 45 rfl) rfl
theorem q2803 : (Jvm.Cond.fieldLink "KernelGymModel" (79 : Nat) "KernelGymModel" "disk" "[I") ∈ lw_all := lw_g (lw_at lw_m12 46 rfl) rfl
theorem q2804 : (Jvm.Cond.fieldLink "KernelGymModel" (82 : Nat) "KernelGymModel" "will" "[I") ∈ lw_all := lw_g (lw_at lw_m12 47 rfl) rfl
theorem q2805 : (Jvm.Cond.fieldLink "KernelGymModel" (389 : Nat) "KernelGymModel" "written" "I") ∈ lw_all := lw_g (lw_at lw_m12 48 rfl) rfl
theorem q2806 : (Jvm.Cond.fieldLink "KernelGymModel" (85 : Nat) "KernelGymModel" "startMemory" "[I") ∈ lw_all := lw_g (lw_at lw_m12 49 rfl) rfl
theorem q2807 : (Jvm.Cond.fieldLink "KernelGymModel" (88 : Nat) "KernelGymModel" "startDisk" "[I") ∈ lw_all := lw_g (lw_at lw_m12 50 rfl) rfl
theorem q2808 : (Jvm.Cond.fieldLink "KernelGymModel" (403 : Nat) "KernelGymModel" "startWritten" "I") ∈ lw_all := lw_g (lw_at lw_m12 51 rfl) rfl
theorem q2809 : (Jvm.Cond.fieldLink "KernelGymModel" (91 : Nat) "KernelGymModel" "draftKeys" "[I") ∈ lw_all := lw_g (lw_at lw_m12 52 rfl) rfl
theorem q2810 : (Jvm.Cond.fieldLink "KernelGymModel" (94 : Nat) "KernelGymModel" "draftWords" "[I") ∈ lw_all := lw_g (lw_at lw_m12 53 rfl) rfl
theorem q2811 : (Jvm.Cond.fieldLink "KernelGymModel" (460 : Nat) "KernelGymModel" "draftedKeys" "I") ∈ lw_all := lw_g (lw_at lw_m12 54 rfl) rfl
theorem q2812 : (Jvm.Cond.fieldLink "KernelGymModel" (463 : Nat) "KernelGymModel" "draftedWords" "I") ∈ lw_all := lw_g (lw_at lw_m12 55 rfl) rfl
theorem q2813 : (Jvm.Cond.fieldLink "KernelGymModel" (466 : Nat) "KernelGymModel" "tests" "I") ∈ lw_all := lw_g (lw_at lw_m12 56 rfl) rfl
theorem q2814 : (Jvm.Cond.fieldLink "KernelGymModel" (97 : Nat) "KernelGymModel" "testKeys" "[I") ∈ lw_all := lw_g (lw_at lw_m12 57 rfl) rfl
theorem q2815 : (Jvm.Cond.fieldLink "KernelGymModel" (100 : Nat) "KernelGymModel" "testKeyCounts" "[I") ∈ lw_all := lw_g (lw_at lw_m12 58 rfl) rfl
theorem q2816 : (Jvm.Cond.fieldLink "KernelGymModel" (103 : Nat) "KernelGymModel" "testWords" "[I") ∈ lw_all := lw_g (lw_at lw_m12 59 rfl) rfl
theorem q2817 : (Jvm.Cond.fieldLink "KernelGymModel" (106 : Nat) "KernelGymModel" "testWordCounts" "[I") ∈ lw_all := lw_g (lw_at lw_m12 60 rfl) rfl
theorem q2818 : (Jvm.Cond.fieldLink "KernelGymModel" (109 : Nat) "KernelGymModel" "budgets" "[I") ∈ lw_all := lw_g (lw_at lw_m12 61 rfl) rfl
theorem q2819 : (Jvm.Cond.fieldLink "KernelGymModel" (112 : Nat) "KernelGymModel" "blockBudgets" "[I") ∈ lw_all := lw_g (lw_at lw_m12 62 rfl) rfl
theorem q2820 : (Jvm.Cond.fieldLink "KernelGymModel" (115 : Nat) "KernelGymModel" "points" "[I") ∈ lw_all := lw_g (lw_at lw_m12 63 rfl) rfl
theorem q2821 : (Jvm.Cond.fieldLink "KernelGymModel" (118 : Nat) "KernelGymModel" "crashes" "[I") ∈ lw_all := lw_g (lw_at lw_m12 64 rfl) rfl
theorem q2822 : (Jvm.Cond.fieldLink "KernelGymModel" (121 : Nat) "KernelGymModel" "results" "[I") ∈ lw_all := lw_g (lw_at lw_m12 65 rfl) rfl
theorem q2823 : (Jvm.Cond.fieldLink "KernelGymModel" (124 : Nat) "KernelGymModel" "havePassed" "[Z") ∈ lw_all := lw_g (lw_at lw_m12 66 rfl) rfl
theorem q2824 : (Jvm.Cond.fieldLink "KernelGymModel" (128 : Nat) "KernelGymModel" "asideDisk" "[I") ∈ lw_all := lw_g (lw_at lw_m12 67 rfl) rfl
theorem q2825 : (Jvm.Cond.fieldLink "KernelGymModel" (131 : Nat) "KernelGymModel" "asideTimes" "[I") ∈ lw_all := lw_g (lw_at lw_m12 68 rfl) rfl
theorem q2826 : (Jvm.Cond.fieldLink "KernelGymModel" (134 : Nat) "KernelGymModel" "asideKeys" "[I") ∈ lw_all := lw_g (lw_at lw_m12 69 rfl) rfl
theorem q2827 : (Jvm.Cond.lays "KernelGymModel" "KernelGymModel" "thrown" "I") ∈ lw_all := lw_g (lw_at lw_m12 70 rfl) rfl
theorem q2828 : (Jvm.Cond.soleField "KernelGymModel" "thrown") ∈ lw_all := lw_g (lw_at lw_m12 71 rfl) rfl
theorem q2829 : (Jvm.Cond.lays "KernelGymModel" "KernelGymModel" "lines" "I") ∈ lw_all := lw_g (lw_at lw_m12 72 rfl) rfl
theorem q2830 : (Jvm.Cond.soleField "KernelGymModel" "lines") ∈ lw_all := lw_g (lw_at lw_m12 73 rfl) rfl
theorem q2831 : (Jvm.Cond.laysFinal "KernelGymModel" "KernelGymModel" "kinds" "[I") ∈ lw_all := lw_g (lw_at lw_m12 74 rfl) rfl
theorem q2832 : (Jvm.Cond.soleField "KernelGymModel" "kinds") ∈ lw_all := lw_g (lw_at lw_m12 75 rfl) rfl
theorem q2833 : (Jvm.Cond.laysFinal "KernelGymModel" "KernelGymModel" "numbers" "[I") ∈ lw_all := lw_g (lw_at lw_m12 76 rfl) rfl
theorem q2834 : (Jvm.Cond.soleField "KernelGymModel" "numbers") ∈ lw_all := lw_g (lw_at lw_m12 77 rfl) rfl
theorem q2835 : (Jvm.Cond.laysFinal "KernelGymModel" "KernelGymModel" "labels" "[I") ∈ lw_all := lw_g (lw_at lw_m12 78 rfl) rfl
theorem q2836 : (Jvm.Cond.soleField "KernelGymModel" "labels") ∈ lw_all := lw_g (lw_at lw_m12 79 rfl) rfl
theorem q2837 : (Jvm.Cond.laysFinal "KernelGymModel" "KernelGymModel" "sizes" "[I") ∈ lw_all := lw_g (lw_at lw_m12 80 rfl) rfl
theorem q2838 : (Jvm.Cond.soleField "KernelGymModel" "sizes") ∈ lw_all := lw_g (lw_at lw_m12 81 rfl) rfl
theorem q2839 : (Jvm.Cond.laysFinal "KernelGymModel" "KernelGymModel" "macroFrom" "[I") ∈ lw_all := lw_g (lw_at lw_m12 82 rfl) rfl
theorem q2840 : (Jvm.Cond.soleField "KernelGymModel" "macroFrom") ∈ lw_all := lw_g (lw_at lw_m12 83 rfl) rfl
theorem q2841 : (Jvm.Cond.laysFinal "KernelGymModel" "KernelGymModel" "macroTo" "[I") ∈ lw_all := lw_g (lw_at lw_m12 84 rfl) rfl
theorem q2842 : (Jvm.Cond.soleField "KernelGymModel" "macroTo") ∈ lw_all := lw_g (lw_at lw_m12 85 rfl) rfl
theorem q2843 : (Jvm.Cond.laysFinal "KernelGymModel" "KernelGymModel" "at" "[I") ∈ lw_all := lw_g (lw_at lw_m12 86 rfl) rfl
theorem q2844 : (Jvm.Cond.soleField "KernelGymModel" "at") ∈ lw_all := lw_g (lw_at lw_m12 87 rfl) rfl
theorem q2845 : (Jvm.Cond.laysFinal "KernelGymModel" "KernelGymModel" "to" "[I") ∈ lw_all := lw_g (lw_at lw_m12 88 rfl) rfl
theorem q2846 : (Jvm.Cond.soleField "KernelGymModel" "to") ∈ lw_all := lw_g (lw_at lw_m12 89 rfl) rfl
theorem q2847 : (Jvm.Cond.laysFinal "KernelGymModel" "KernelGymModel" "useOf" "[I") ∈ lw_all := lw_g (lw_at lw_m12 90 rfl) rfl
theorem q2848 : (Jvm.Cond.soleField "KernelGymModel" "useOf") ∈ lw_all := lw_g (lw_at lw_m12 91 rfl) rfl
theorem q2849 : (Jvm.Cond.laysFinal "KernelGymModel" "KernelGymModel" "macroOf" "[I") ∈ lw_all := lw_g (lw_at lw_m12 92 rfl) rfl
theorem q2850 : (Jvm.Cond.soleField "KernelGymModel" "macroOf") ∈ lw_all := lw_g (lw_at lw_m12 93 rfl) rfl
theorem q2851 : (Jvm.Cond.laysFinal "KernelGymModel" "KernelGymModel" "firsts" "[I") ∈ lw_all := lw_g (lw_at lw_m12 94 rfl) rfl
theorem q2852 : (Jvm.Cond.soleField "KernelGymModel" "firsts") ∈ lw_all := lw_g (lw_at lw_m12 95 rfl) rfl
theorem q2853 : (Jvm.Cond.laysFinal "KernelGymModel" "KernelGymModel" "seconds" "[I") ∈ lw_all := lw_g (lw_at lw_m12 96 rfl) rfl
theorem q2854 : (Jvm.Cond.soleField "KernelGymModel" "seconds") ∈ lw_all := lw_g (lw_at lw_m12 97 rfl) rfl
theorem q2855 : (Jvm.Cond.lays "KernelGymModel" "KernelGymModel" "depth" "I") ∈ lw_all := lw_g (lw_at lw_m12 98 rfl) rfl
theorem q2856 : (Jvm.Cond.soleField "KernelGymModel" "depth") ∈ lw_all := lw_g (lw_at lw_m12 99 rfl) rfl
theorem q2857 : (Jvm.Cond.lays "KernelGymModel" "KernelGymModel" "present" "I") ∈ lw_all := lw_g (lw_at lw_m12 100 rfl) rfl
theorem q2858 : (Jvm.Cond.soleField "KernelGymModel" "present") ∈ lw_all := lw_g (lw_at lw_m12 101 rfl) rfl
theorem q2859 : (Jvm.Cond.lays "KernelGymModel" "KernelGymModel" "gone" "I") ∈ lw_all := lw_g (lw_at lw_m12 102 rfl) rfl
theorem q2860 : (Jvm.Cond.soleField "KernelGymModel" "gone") ∈ lw_all := lw_g (lw_at lw_m12 103 rfl) rfl
theorem q2861 : (Jvm.Cond.lays "KernelGymModel" "KernelGymModel" "uses" "I") ∈ lw_all := lw_g (lw_at lw_m12 104 rfl) rfl
theorem q2862 : (Jvm.Cond.soleField "KernelGymModel" "uses") ∈ lw_all := lw_g (lw_at lw_m12 105 rfl) rfl
theorem q2863 : (Jvm.Cond.lays "KernelGymModel" "KernelGymModel" "base" "I") ∈ lw_all := lw_g (lw_at lw_m12 106 rfl) rfl
theorem q2864 : (Jvm.Cond.soleField "KernelGymModel" "base") ∈ lw_all := lw_g (lw_at lw_m12 107 rfl) rfl
theorem q2865 : (Jvm.Cond.lays "KernelGymModel" "KernelGymModel" "operandError" "I") ∈ lw_all := lw_g (lw_at lw_m12 108 rfl) rfl
theorem q2866 : (Jvm.Cond.soleField "KernelGymModel" "operandError") ∈ lw_all := lw_g (lw_at lw_m12 109 rfl) rfl
theorem q2867 : (Jvm.Cond.laysFinal "KernelGymModel" "KernelGymModel" "built" "[I") ∈ lw_all := lw_g (lw_at lw_m12 110 rfl) rfl
theorem q2868 : (Jvm.Cond.soleField "KernelGymModel" "built") ∈ lw_all := lw_g (lw_at lw_m12 111 rfl) rfl
theorem q2869 : (Jvm.Cond.laysFinal "KernelGymModel" "KernelGymModel" "image" "[I") ∈ lw_all := lw_g (lw_at lw_m12 112 rfl) rfl
theorem q2870 : (Jvm.Cond.soleField "KernelGymModel" "image") ∈ lw_all := lw_g (lw_at lw_m12 113 rfl) rfl
theorem q2871 : (Jvm.Cond.lays "KernelGymModel" "KernelGymModel" "isAssembled" "Z") ∈ lw_all := lw_g (lw_at lw_m12 114 rfl) rfl
theorem q2872 : (Jvm.Cond.soleField "KernelGymModel" "isAssembled") ∈ lw_all := lw_g (lw_at lw_m12 115 rfl) rfl
theorem q2873 : (Jvm.Cond.lays "KernelGymModel" "KernelGymModel" "state" "I") ∈ lw_all := lw_g (lw_at lw_m12 116 rfl) rfl
theorem q2874 : (Jvm.Cond.soleField "KernelGymModel" "state") ∈ lw_all := lw_g (lw_at lw_m12 117 rfl) rfl
theorem q2875 : (Jvm.Cond.lays "KernelGymModel" "KernelGymModel" "fault" "I") ∈ lw_all := lw_g (lw_at lw_m12 118 rfl) rfl
theorem q2876 : (Jvm.Cond.soleField "KernelGymModel" "fault") ∈ lw_all := lw_g (lw_at lw_m12 119 rfl) rfl
theorem q2877 : (Jvm.Cond.laysFinal "KernelGymModel" "KernelGymModel" "memory" "[I") ∈ lw_all := lw_g (lw_at lw_m12 120 rfl) rfl
theorem q2878 : (Jvm.Cond.soleField "KernelGymModel" "memory") ∈ lw_all := lw_g (lw_at lw_m12 121 rfl) rfl
theorem q2879 : (Jvm.Cond.laysFinal "KernelGymModel" "KernelGymModel" "registers" "[I") ∈ lw_all := lw_g (lw_at lw_m12 122 rfl) rfl
theorem q2880 : (Jvm.Cond.soleField "KernelGymModel" "registers") ∈ lw_all := lw_g (lw_at lw_m12 123 rfl) rfl
theorem q2881 : (Jvm.Cond.lays "KernelGymModel" "KernelGymModel" "counter" "I") ∈ lw_all := lw_g (lw_at lw_m12 124 rfl) rfl
theorem q2882 : (Jvm.Cond.soleField "KernelGymModel" "counter") ∈ lw_all := lw_g (lw_at lw_m12 125 rfl) rfl
theorem q2883 : (Jvm.Cond.lays "KernelGymModel" "KernelGymModel" "stack" "I") ∈ lw_all := lw_g (lw_at lw_m12 126 rfl) rfl
theorem q2884 : (Jvm.Cond.soleField "KernelGymModel" "stack") ∈ lw_all := lw_g (lw_at lw_m12 127 rfl) rfl
theorem q2885 : (Jvm.Cond.lays "KernelGymModel" "KernelGymModel" "isZero" "Z") ∈ lw_all := lw_g (lw_at lw_m12 128 rfl) rfl
theorem q2886 : (Jvm.Cond.soleField "KernelGymModel" "isZero") ∈ lw_all := lw_g (lw_at lw_m12 129 rfl) rfl
theorem q2887 : (Jvm.Cond.lays "KernelGymModel" "KernelGymModel" "isLess" "Z") ∈ lw_all := lw_g (lw_at lw_m12 130 rfl) rfl
theorem q2888 : (Jvm.Cond.soleField "KernelGymModel" "isLess") ∈ lw_all := lw_g (lw_at lw_m12 131 rfl) rfl
theorem q2889 : (Jvm.Cond.lays "KernelGymModel" "KernelGymModel" "isOn" "Z") ∈ lw_all := lw_g (lw_at lw_m12 132 rfl) rfl
theorem q2890 : (Jvm.Cond.soleField "KernelGymModel" "isOn") ∈ lw_all := lw_g (lw_at lw_m12 133 rfl) rfl
theorem q2891 : (Jvm.Cond.lays "KernelGymModel" "KernelGymModel" "isTimer" "Z") ∈ lw_all := lw_g (lw_at lw_m12 134 rfl) rfl
theorem q2892 : (Jvm.Cond.soleField "KernelGymModel" "isTimer") ∈ lw_all := lw_g (lw_at lw_m12 135 rfl) rfl
theorem q2893 : (Jvm.Cond.lays "KernelGymModel" "KernelGymModel" "isKey" "Z") ∈ lw_all := lw_g (lw_at lw_m12 136 rfl) rfl
theorem q2894 : (Jvm.Cond.soleField "KernelGymModel" "isKey") ∈ lw_all := lw_g (lw_at lw_m12 137 rfl) rfl
theorem q2895 : (Jvm.Cond.lays "KernelGymModel" "KernelGymModel" "interval" "I") ∈ lw_all := lw_g (lw_at lw_m12 138 rfl) rfl
theorem q2896 : (Jvm.Cond.soleField "KernelGymModel" "interval") ∈ lw_all := lw_g (lw_at lw_m12 139 rfl) rfl
theorem q2897 : (Jvm.Cond.lays "KernelGymModel" "KernelGymModel" "time" "I") ∈ lw_all := lw_g (lw_at lw_m12 140 rfl) rfl
theorem q2898 : (Jvm.Cond.soleField "KernelGymModel" "time") ∈ lw_all := lw_g (lw_at lw_m12 141 rfl) rfl
theorem q2899 : (Jvm.Cond.laysFinal "KernelGymModel" "KernelGymModel" "tape" "[I") ∈ lw_all := lw_g (lw_at lw_m12 142 rfl) rfl
theorem q2900 : (Jvm.Cond.soleField "KernelGymModel" "tape") ∈ lw_all := lw_g (lw_at lw_m12 143 rfl) rfl
theorem q2901 : (Jvm.Cond.lays "KernelGymModel" "KernelGymModel" "taped" "I") ∈ lw_all := lw_g (lw_at lw_m12 144 rfl) rfl
theorem q2902 : (Jvm.Cond.soleField "KernelGymModel" "taped") ∈ lw_all := lw_g (lw_at lw_m12 145 rfl) rfl
theorem q2903 : (Jvm.Cond.lays "KernelGymModel" "KernelGymModel" "steps" "I") ∈ lw_all := lw_g (lw_at lw_m12 146 rfl) rfl
theorem q2904 : (Jvm.Cond.soleField "KernelGymModel" "steps") ∈ lw_all := lw_g (lw_at lw_m12 147 rfl) rfl
theorem q2905 : (Jvm.Cond.lays "KernelGymModel" "KernelGymModel" "read" "I") ∈ lw_all := lw_g (lw_at lw_m12 148 rfl) rfl
theorem q2906 : (Jvm.Cond.soleField "KernelGymModel" "read") ∈ lw_all := lw_g (lw_at lw_m12 149 rfl) rfl
theorem q2907 : (Jvm.Cond.lays "KernelGymModel" "KernelGymModel" "kept" "I") ∈ lw_all := lw_g (lw_at lw_m12 150 rfl) rfl
theorem q2908 : (Jvm.Cond.soleField "KernelGymModel" "kept") ∈ lw_all := lw_g (lw_at lw_m12 151 rfl) rfl
theorem q2909 : (Jvm.Cond.laysFinal "KernelGymModel" "KernelGymModel" "keyTimes" "[I") ∈ lw_all := lw_g (lw_at lw_m12 152 rfl) rfl
theorem q2910 : (Jvm.Cond.soleField "KernelGymModel" "keyTimes") ∈ lw_all := lw_g (lw_at lw_m12 153 rfl) rfl
theorem q2911 : (Jvm.Cond.laysFinal "KernelGymModel" "KernelGymModel" "keys" "[I") ∈ lw_all := lw_g (lw_at lw_m12 154 rfl) rfl
theorem q2912 : (Jvm.Cond.soleField "KernelGymModel" "keys") ∈ lw_all := lw_g (lw_at lw_m12 155 rfl) rfl
theorem q2913 : (Jvm.Cond.lays "KernelGymModel" "KernelGymModel" "told" "I") ∈ lw_all := lw_g (lw_at lw_m12 156 rfl) rfl
theorem q2914 : (Jvm.Cond.soleField "KernelGymModel" "told") ∈ lw_all := lw_g (lw_at lw_m12 157 rfl) rfl
theorem q2915 : (Jvm.Cond.laysFinal "KernelGymModel" "KernelGymModel" "wroteOne" "[I") ∈ lw_all := lw_g (lw_at lw_m12 158 rfl) rfl
theorem q2916 : (Jvm.Cond.soleField "KernelGymModel" "wroteOne") ∈ lw_all := lw_g (lw_at lw_m12 159 rfl) rfl
theorem q2917 : (Jvm.Cond.laysFinal "KernelGymModel" "KernelGymModel" "wroteOther" "[I") ∈ lw_all := lw_g (lw_at lw_m12 160 rfl) rfl
theorem q2918 : (Jvm.Cond.soleField "KernelGymModel" "wroteOther") ∈ lw_all := lw_g (lw_at lw_m12 161 rfl) rfl
theorem q2919 : (Jvm.Cond.lays "KernelGymModel" "KernelGymModel" "left" "I") ∈ lw_all := lw_g (lw_at lw_m12 162 rfl) rfl
theorem q2920 : (Jvm.Cond.soleField "KernelGymModel" "left") ∈ lw_all := lw_g (lw_at lw_m12 163 rfl) rfl
theorem q2921 : (Jvm.Cond.lays "KernelGymModel" "KernelGymModel" "many" "I") ∈ lw_all := lw_g (lw_at lw_m12 164 rfl) rfl
theorem q2922 : (Jvm.Cond.soleField "KernelGymModel" "many") ∈ lw_all := lw_g (lw_at lw_m12 165 rfl) rfl
theorem q2923 : (Jvm.Cond.laysFinal "KernelGymModel" "KernelGymModel" "changed" "[I") ∈ lw_all := lw_g (lw_at lw_m12 166 rfl) rfl
theorem q2924 : (Jvm.Cond.soleField "KernelGymModel" "changed") ∈ lw_all := lw_g (lw_at lw_m12 167 rfl) rfl
theorem q2925 : (Jvm.Cond.laysFinal "KernelGymModel" "KernelGymModel" "contents" "[I") ∈ lw_all := lw_g (lw_at lw_m12 168 rfl) rfl
theorem q2926 : (Jvm.Cond.soleField "KernelGymModel" "contents") ∈ lw_all := lw_g (lw_at lw_m12 169 rfl) rfl
theorem q2927 : (Jvm.Cond.laysFinal "KernelGymModel" "KernelGymModel" "disk" "[I") ∈ lw_all := lw_g (lw_at lw_m12 170 rfl) rfl
theorem q2928 : (Jvm.Cond.soleField "KernelGymModel" "disk") ∈ lw_all := lw_g (lw_at lw_m12 171 rfl) rfl
theorem q2929 : (Jvm.Cond.laysFinal "KernelGymModel" "KernelGymModel" "will" "[I") ∈ lw_all := lw_g (lw_at lw_m12 172 rfl) rfl
theorem q2930 : (Jvm.Cond.soleField "KernelGymModel" "will") ∈ lw_all := lw_g (lw_at lw_m12 173 rfl) rfl
theorem q2931 : (Jvm.Cond.lays "KernelGymModel" "KernelGymModel" "written" "I") ∈ lw_all := lw_g (lw_at lw_m12 174 rfl) rfl
theorem q2932 : (Jvm.Cond.soleField "KernelGymModel" "written") ∈ lw_all := lw_g (lw_at lw_m12 175 rfl) rfl
theorem q2933 : (Jvm.Cond.laysFinal "KernelGymModel" "KernelGymModel" "startMemory" "[I") ∈ lw_all := lw_g (lw_at lw_m12 176 rfl) rfl
theorem q2934 : (Jvm.Cond.soleField "KernelGymModel" "startMemory") ∈ lw_all := lw_g (lw_at lw_m12 177 rfl) rfl
theorem q2935 : (Jvm.Cond.laysFinal "KernelGymModel" "KernelGymModel" "startDisk" "[I") ∈ lw_all := lw_g (lw_at lw_m12 178 rfl) rfl
theorem q2936 : (Jvm.Cond.soleField "KernelGymModel" "startDisk") ∈ lw_all := lw_g (lw_at lw_m12 179 rfl) rfl
theorem q2937 : (Jvm.Cond.lays "KernelGymModel" "KernelGymModel" "startWritten" "I") ∈ lw_all := lw_g (lw_at lw_m12 180 rfl) rfl
theorem q2938 : (Jvm.Cond.soleField "KernelGymModel" "startWritten") ∈ lw_all := lw_g (lw_at lw_m12 181 rfl) rfl
theorem q2939 : (Jvm.Cond.laysFinal "KernelGymModel" "KernelGymModel" "draftKeys" "[I") ∈ lw_all := lw_g (lw_at lw_m12 182 rfl) rfl
theorem q2940 : (Jvm.Cond.soleField "KernelGymModel" "draftKeys") ∈ lw_all := lw_g (lw_at lw_m12 183 rfl) rfl
theorem q2941 : (Jvm.Cond.laysFinal "KernelGymModel" "KernelGymModel" "draftWords" "[I") ∈ lw_all := lw_g (lw_at lw_m12 184 rfl) rfl
theorem q2942 : (Jvm.Cond.soleField "KernelGymModel" "draftWords") ∈ lw_all := lw_g (lw_at lw_m12 185 rfl) rfl
theorem q2943 : (Jvm.Cond.lays "KernelGymModel" "KernelGymModel" "draftedKeys" "I") ∈ lw_all := lw_g (lw_at lw_m12 186 rfl) rfl
theorem q2944 : (Jvm.Cond.soleField "KernelGymModel" "draftedKeys") ∈ lw_all := lw_g (lw_at lw_m12 187 rfl) rfl
theorem q2945 : (Jvm.Cond.lays "KernelGymModel" "KernelGymModel" "draftedWords" "I") ∈ lw_all := lw_g (lw_at lw_m12 188 rfl) rfl
theorem q2946 : (Jvm.Cond.soleField "KernelGymModel" "draftedWords") ∈ lw_all := lw_g (lw_at lw_m12 189 rfl) rfl
theorem q2947 : (Jvm.Cond.lays "KernelGymModel" "KernelGymModel" "tests" "I") ∈ lw_all := lw_g (lw_at lw_m12 190 rfl) rfl
theorem q2948 : (Jvm.Cond.soleField "KernelGymModel" "tests") ∈ lw_all := lw_g (lw_at lw_m12 191 rfl) rfl
theorem q2949 : (Jvm.Cond.laysFinal "KernelGymModel" "KernelGymModel" "testKeys" "[I") ∈ lw_all := lw_g (lw_at lw_m12 192 rfl) rfl
theorem q2950 : (Jvm.Cond.soleField "KernelGymModel" "testKeys") ∈ lw_all := lw_g (lw_at lw_m12 193 rfl) rfl
theorem q2951 : (Jvm.Cond.laysFinal "KernelGymModel" "KernelGymModel" "testKeyCounts" "[I") ∈ lw_all := lw_g (lw_at lw_m12 194 rfl) rfl
theorem q2952 : (Jvm.Cond.soleField "KernelGymModel" "testKeyCounts") ∈ lw_all := lw_g (lw_at lw_m12 195 rfl) rfl
theorem q2953 : (Jvm.Cond.laysFinal "KernelGymModel" "KernelGymModel" "testWords" "[I") ∈ lw_all := lw_g (lw_at lw_m12 196 rfl) rfl
theorem q2954 : (Jvm.Cond.soleField "KernelGymModel" "testWords") ∈ lw_all := lw_g (lw_at lw_m12 197 rfl) rfl
theorem q2955 : (Jvm.Cond.laysFinal "KernelGymModel" "KernelGymModel" "testWordCounts" "[I") ∈ lw_all := lw_g (lw_at lw_m12 198 rfl) rfl
theorem q2956 : (Jvm.Cond.soleField "KernelGymModel" "testWordCounts") ∈ lw_all := lw_g (lw_at lw_m12 199 rfl) rfl
theorem q2957 : (Jvm.Cond.laysFinal "KernelGymModel" "KernelGymModel" "budgets" "[I") ∈ lw_all := lw_g (lw_at lw_m12 200 rfl) rfl
theorem q2958 : (Jvm.Cond.soleField "KernelGymModel" "budgets") ∈ lw_all := lw_g (lw_at lw_m12 201 rfl) rfl
theorem q2959 : (Jvm.Cond.laysFinal "KernelGymModel" "KernelGymModel" "blockBudgets" "[I") ∈ lw_all := lw_g (lw_at lw_m12 202 rfl) rfl
theorem q2960 : (Jvm.Cond.soleField "KernelGymModel" "blockBudgets") ∈ lw_all := lw_g (lw_at lw_m12 203 rfl) rfl
theorem q2961 : (Jvm.Cond.laysFinal "KernelGymModel" "KernelGymModel" "points" "[I") ∈ lw_all := lw_g (lw_at lw_m12 204 rfl) rfl
theorem q2962 : (Jvm.Cond.soleField "KernelGymModel" "points") ∈ lw_all := lw_g (lw_at lw_m12 205 rfl) rfl
theorem q2963 : (Jvm.Cond.laysFinal "KernelGymModel" "KernelGymModel" "crashes" "[I") ∈ lw_all := lw_g (lw_at lw_m12 206 rfl) rfl
theorem q2964 : (Jvm.Cond.soleField "KernelGymModel" "crashes") ∈ lw_all := lw_g (lw_at lw_m12 207 rfl) rfl
theorem q2965 : (Jvm.Cond.laysFinal "KernelGymModel" "KernelGymModel" "results" "[I") ∈ lw_all := lw_g (lw_at lw_m12 208 rfl) rfl
theorem q2966 : (Jvm.Cond.soleField "KernelGymModel" "results") ∈ lw_all := lw_g (lw_at lw_m12 209 rfl) rfl
theorem q2967 : (Jvm.Cond.laysFinal "KernelGymModel" "KernelGymModel" "havePassed" "[Z") ∈ lw_all := lw_g (lw_at lw_m12 210 rfl) rfl
theorem q2968 : (Jvm.Cond.soleField "KernelGymModel" "havePassed") ∈ lw_all := lw_g (lw_at lw_m12 211 rfl) rfl
theorem q2969 : (Jvm.Cond.laysFinal "KernelGymModel" "KernelGymModel" "asideDisk" "[I") ∈ lw_all := lw_g (lw_at lw_m12 212 rfl) rfl
theorem q2970 : (Jvm.Cond.soleField "KernelGymModel" "asideDisk") ∈ lw_all := lw_g (lw_at lw_m12 213 rfl) rfl
theorem q2971 : (Jvm.Cond.laysFinal "KernelGymModel" "KernelGymModel" "asideTimes" "[I") ∈ lw_all := lw_g (lw_at lw_m12 214 rfl) rfl
theorem q2972 : (Jvm.Cond.soleField "KernelGymModel" "asideTimes") ∈ lw_all := lw_g (lw_at lw_m12 215 rfl) rfl
theorem q2973 : (Jvm.Cond.laysFinal "KernelGymModel" "KernelGymModel" "asideKeys" "[I") ∈ lw_all := lw_g (lw_at lw_m12 216 rfl) rfl
theorem q2974 : (Jvm.Cond.soleField "KernelGymModel" "asideKeys") ∈ lw_all := lw_g (lw_at lw_m12 217 rfl) rfl
theorem q2975 : (Jvm.Cond.superclass "KernelGymModel" "java/lang/Object") ∈ lw_all := lw_g (lw_at lw_m12 218 rfl) rfl
theorem q2977 : (Jvm.Cond.instanceMethod ({ cls := "KernelGymModel", name := "thrown", desc := "()I" } : Jvm.MethodName)) ∈ lw_all := lw_g (lw_at lw_m12 220 rfl) rfl
theorem q2978 : (Jvm.Cond.selects "KernelGymModel" ({ cls := "KernelGymModel", name := "thrown", desc := "()I" } : Jvm.MethodName) ({ cls := "KernelGymModel", name := "thrown", desc := "()I" } : Jvm.MethodName)) ∈ lw_all := lw_g (lw_at lw_m12 221 rfl) rfl
theorem q2979 : (Jvm.Cond.code ({ cls := "KernelGymModel", name := "thrown", desc := "()I" } : Jvm.MethodName) prog_28_method_2_code (1 : Nat) (Option.some Jvm.ClassFile.FieldType.int)) ∈ lw_all := lw_g (lw_at lw_m12 222 rfl) rfl
theorem q2981 : (Jvm.Cond.instanceMethod ({ cls := "KernelGymModel", name := "clear", desc := "()I" } : Jvm.MethodName)) ∈ lw_all := lw_g (lw_at lw_m12 224 rfl) rfl
theorem q2982 : (Jvm.Cond.selects "KernelGymModel" ({ cls := "KernelGymModel", name := "clear", desc := "()I" } : Jvm.MethodName) ({ cls := "KernelGymModel", name := "clear", desc := "()I" } : Jvm.MethodName)) ∈ lw_all := lw_g (lw_at lw_m12 225 rfl) rfl
theorem q2983 : (Jvm.Cond.code ({ cls := "KernelGymModel", name := "clear", desc := "()I" } : Jvm.MethodName) prog_28_method_5_code (2 : Nat) (Option.some Jvm.ClassFile.FieldType.int)) ∈ lw_all := lw_g (lw_at lw_m12 226 rfl) rfl
theorem q2985 : (Jvm.Cond.instanceMethod ({ cls := "KernelGymModel", name := "lines", desc := "()I" } : Jvm.MethodName)) ∈ lw_all := lw_g (lw_at lw_m12 228 rfl) rfl
theorem q2986 : (Jvm.Cond.selects "KernelGymModel" ({ cls := "KernelGymModel", name := "lines", desc := "()I" } : Jvm.MethodName) ({ cls := "KernelGymModel", name := "lines", desc := "()I" } : Jvm.MethodName)) ∈ lw_all := lw_g (lw_at lw_m12 229 rfl) rfl
theorem q2987 : (Jvm.Cond.code ({ cls := "KernelGymModel", name := "lines", desc := "()I" } : Jvm.MethodName) prog_28_method_6_code (1 : Nat) (Option.some Jvm.ClassFile.FieldType.int)) ∈ lw_all := lw_g (lw_at lw_m12 230 rfl) rfl
theorem q2989 : (Jvm.Cond.instanceMethod ({ cls := "KernelGymModel", name := "section", desc := "(I)I" } : Jvm.MethodName)) ∈ lw_all := lw_g (lw_at lw_m12 232 rfl) rfl
theorem q2990 : (Jvm.Cond.selects "KernelGymModel" ({ cls := "KernelGymModel", name := "section", desc := "(I)I" } : Jvm.MethodName) ({ cls := "KernelGymModel", name := "section", desc := "(I)I" } : Jvm.MethodName)) ∈ lw_all := lw_g (lw_at lw_m12 233 rfl) rfl
theorem q2991 : (Jvm.Cond.code ({ cls := "KernelGymModel", name := "section", desc := "(I)I" } : Jvm.MethodName) prog_28_method_9_code (2 : Nat) (Option.some Jvm.ClassFile.FieldType.int)) ∈ lw_all := lw_g (lw_at lw_m12 234 rfl) rfl
theorem q2992 : (Jvm.Cond.methodLink "KernelGymModel" (147 : Nat) ({ cls := "KernelGymModel", name := "in", desc := "(III)Z" } : Jvm.MethodName)) ∈ lw_all := lw_g (lw_at lw_m12 235 rfl) rfl
theorem q2993 : (Jvm.Cond.static ({ cls := "KernelGymModel", name := "in", desc := "(III)Z" } : Jvm.MethodName)) ∈ lw_all := lw_g (lw_at lw_m12 236 rfl) rfl
theorem q2994 : (Jvm.Cond.code ({ cls := "KernelGymModel", name := "in", desc := "(III)Z" } : Jvm.MethodName) prog_28_method_4_code (3 : Nat) (Option.some Jvm.ClassFile.FieldType.boolean)) ∈ lw_all := lw_g (lw_at lw_m12 237 rfl) rfl
theorem q2995 : (Jvm.Cond.methodLink "KernelGymModel" (156 : Nat) ({ cls := "KernelGymModel", name := "adds", desc := "(ZIIIIII)I" } : Jvm.MethodName)) ∈ lw_all := lw_g (lw_at lw_m12 238 rfl) rfl
theorem q2996 : (Jvm.Cond.privateMethod ({ cls := "KernelGymModel", name := "adds", desc := "(ZIIIIII)I" } : Jvm.MethodName)) ∈ lw_tbl := lw_at lw_m12 239 rfl
theorem q2997 : (Jvm.Cond.instanceMethod ({ cls := "KernelGymModel", name := "adds", desc := "(ZIIIIII)I" } : Jvm.MethodName)) ∈ lw_all := lw_g (lw_at lw_m13 0 rfl) rfl
theorem q2998 : (Jvm.Cond.code ({ cls := "KernelGymModel", name := "adds", desc := "(ZIIIIII)I" } : Jvm.MethodName) prog_28_method_8_code (8 : Nat) (Option.some Jvm.ClassFile.FieldType.int)) ∈ lw_all := lw_g (lw_at lw_m13 1 rfl) rfl
theorem q2999 : (Jvm.Cond.methodLink "KernelGymModel" (152 : Nat) ({ cls := "KernelGymModel", name := "holds", desc := "(I)Z" } : Jvm.MethodName)) ∈ lw_all := lw_g (lw_at lw_m13 2 rfl) rfl
theorem q3000 : (Jvm.Cond.privateMethod ({ cls := "KernelGymModel", name := "holds", desc := "(I)Z" } : Jvm.MethodName)) ∈ lw_tbl := lw_at lw_m13 3 rfl
theorem q3001 : (Jvm.Cond.instanceMethod ({ cls := "KernelGymModel", name := "holds", desc := "(I)Z" } : Jvm.MethodName)) ∈ lw_all := lw_g (lw_at lw_m13 4 rfl) rfl
theorem q3002 : (Jvm.Cond.code ({ cls := "KernelGymModel", name := "holds", desc := "(I)Z" } : Jvm.MethodName) prog_28_method_3_code (2 : Nat) (Option.some Jvm.ClassFile.FieldType.boolean)) ∈ lw_all := lw_g (lw_at lw_m13 5 rfl) rfl
theorem q3004 : (Jvm.Cond.instanceMethod ({ cls := "KernelGymModel", name := "label", desc := "(I)I" } : Jvm.MethodName)) ∈ lw_all := lw_g (lw_at lw_m13 7 rfl) rfl
theorem q3005 : (Jvm.Cond.selects "KernelGymModel" ({ cls := "KernelGymModel", name := "label", desc := "(I)I" } : Jvm.MethodName) ({ cls := "KernelGymModel", name := "label", desc := "(I)I" } : Jvm.MethodName)) ∈ lw_all := lw_g (lw_at lw_m13 8 rfl) rfl
theorem q3006 : (Jvm.Cond.code ({ cls := "KernelGymModel", name := "label", desc := "(I)I" } : Jvm.MethodName) prog_28_method_10_code (2 : Nat) (Option.some Jvm.ClassFile.FieldType.int)) ∈ lw_all := lw_g (lw_at lw_m13 9 rfl) rfl
theorem q3008 : (Jvm.Cond.instanceMethod ({ cls := "KernelGymModel", name := "code", desc := "(IIIII)I" } : Jvm.MethodName)) ∈ lw_all := lw_g (lw_at lw_m13 11 rfl) rfl
theorem q3009 : (Jvm.Cond.selects "KernelGymModel" ({ cls := "KernelGymModel", name := "code", desc := "(IIIII)I" } : Jvm.MethodName) ({ cls := "KernelGymModel", name := "code", desc := "(IIIII)I" } : Jvm.MethodName)) ∈ lw_all := lw_g (lw_at lw_m13 12 rfl) rfl
theorem q3010 : (Jvm.Cond.code ({ cls := "KernelGymModel", name := "code", desc := "(IIIII)I" } : Jvm.MethodName) prog_28_method_11_code (7 : Nat) (Option.some Jvm.ClassFile.FieldType.int)) ∈ lw_all := lw_g (lw_at lw_m13 13 rfl) rfl
theorem q3011 : (Jvm.Cond.methodLink "KernelGymModel" (160 : Nat) ({ cls := "KernelGymModel", name := "isOperand", desc := "(II)Z" } : Jvm.MethodName)) ∈ lw_all := lw_g (lw_at lw_m13 14 rfl) rfl
theorem q3012 : (Jvm.Cond.static ({ cls := "KernelGymModel", name := "isOperand", desc := "(II)Z" } : Jvm.MethodName)) ∈ lw_all := lw_g (lw_at lw_m13 15 rfl) rfl
theorem q3013 : (Jvm.Cond.code ({ cls := "KernelGymModel", name := "isOperand", desc := "(II)Z" } : Jvm.MethodName) prog_28_method_7_code (2 : Nat) (Option.some Jvm.ClassFile.FieldType.boolean)) ∈ lw_all := lw_g (lw_at lw_m13 16 rfl) rfl
theorem q3014 : (Jvm.Cond.constant "KernelGymModel" (151 : Nat) (65535 : Int32)) ∈ lw_all := lw_g (lw_at lw_m13 17 rfl) rfl
theorem q3016 : (Jvm.Cond.instanceMethod ({ cls := "KernelGymModel", name := "word", desc := "(II)I" } : Jvm.MethodName)) ∈ lw_all := lw_g (lw_at lw_m13 19 rfl) rfl
theorem q3017 : (Jvm.Cond.selects "KernelGymModel" ({ cls := "KernelGymModel", name := "word", desc := "(II)I" } : Jvm.MethodName) ({ cls := "KernelGymModel", name := "word", desc := "(II)I" } : Jvm.MethodName)) ∈ lw_all := lw_g (lw_at lw_m13 20 rfl) rfl
theorem q3018 : (Jvm.Cond.code ({ cls := "KernelGymModel", name := "word", desc := "(II)I" } : Jvm.MethodName) prog_28_method_12_code (3 : Nat) (Option.some Jvm.ClassFile.FieldType.int)) ∈ lw_all := lw_g (lw_at lw_m13 21 rfl) rfl
theorem q3020 : (Jvm.Cond.instanceMethod ({ cls := "KernelGymModel", name := "space", desc := "(I)I" } : Jvm.MethodName)) ∈ lw_all := lw_g (lw_at lw_m13 23 rfl) rfl
theorem q3021 : (Jvm.Cond.selects "KernelGymModel" ({ cls := "KernelGymModel", name := "space", desc := "(I)I" } : Jvm.MethodName) ({ cls := "KernelGymModel", name := "space", desc := "(I)I" } : Jvm.MethodName)) ∈ lw_all := lw_g (lw_at lw_m13 24 rfl) rfl
theorem q3022 : (Jvm.Cond.code ({ cls := "KernelGymModel", name := "space", desc := "(I)I" } : Jvm.MethodName) prog_28_method_13_code (2 : Nat) (Option.some Jvm.ClassFile.FieldType.int)) ∈ lw_all := lw_g (lw_at lw_m13 25 rfl) rfl
theorem q3024 : (Jvm.Cond.instanceMethod ({ cls := "KernelGymModel", name := "vector", desc := "(III)I" } : Jvm.MethodName)) ∈ lw_all := lw_g (lw_at lw_m13 27 rfl) rfl
theorem q3025 : (Jvm.Cond.selects "KernelGymModel" ({ cls := "KernelGymModel", name := "vector", desc := "(III)I" } : Jvm.MethodName) ({ cls := "KernelGymModel", name := "vector", desc := "(III)I" } : Jvm.MethodName)) ∈ lw_all := lw_g (lw_at lw_m13 28 rfl) rfl
theorem q3026 : (Jvm.Cond.code ({ cls := "KernelGymModel", name := "vector", desc := "(III)I" } : Jvm.MethodName) prog_28_method_14_code (4 : Nat) (Option.some Jvm.ClassFile.FieldType.int)) ∈ lw_all := lw_g (lw_at lw_m13 29 rfl) rfl
theorem q3028 : (Jvm.Cond.instanceMethod ({ cls := "KernelGymModel", name := "macro", desc := "(I)I" } : Jvm.MethodName)) ∈ lw_all := lw_g (lw_at lw_m13 31 rfl) rfl
theorem q3029 : (Jvm.Cond.selects "KernelGymModel" ({ cls := "KernelGymModel", name := "macro", desc := "(I)I" } : Jvm.MethodName) ({ cls := "KernelGymModel", name := "macro", desc := "(I)I" } : Jvm.MethodName)) ∈ lw_all := lw_g (lw_at lw_m13 32 rfl) rfl
theorem q3030 : (Jvm.Cond.code ({ cls := "KernelGymModel", name := "macro", desc := "(I)I" } : Jvm.MethodName) prog_28_method_15_code (2 : Nat) (Option.some Jvm.ClassFile.FieldType.int)) ∈ lw_all := lw_g (lw_at lw_m13 33 rfl) rfl
theorem q3032 : (Jvm.Cond.instanceMethod ({ cls := "KernelGymModel", name := "endMacro", desc := "()I" } : Jvm.MethodName)) ∈ lw_all := lw_g (lw_at lw_m13 35 rfl) rfl
theorem q3033 : (Jvm.Cond.selects "KernelGymModel" ({ cls := "KernelGymModel", name := "endMacro", desc := "()I" } : Jvm.MethodName) ({ cls := "KernelGymModel", name := "endMacro", desc := "()I" } : Jvm.MethodName)) ∈ lw_all := lw_g (lw_at lw_m13 36 rfl) rfl
theorem q3034 : (Jvm.Cond.code ({ cls := "KernelGymModel", name := "endMacro", desc := "()I" } : Jvm.MethodName) prog_28_method_16_code (1 : Nat) (Option.some Jvm.ClassFile.FieldType.int)) ∈ lw_all := lw_g (lw_at lw_m13 37 rfl) rfl
theorem q3036 : (Jvm.Cond.instanceMethod ({ cls := "KernelGymModel", name := "use", desc := "(IIIII)I" } : Jvm.MethodName)) ∈ lw_all := lw_g (lw_at lw_m13 39 rfl) rfl
theorem q3037 : (Jvm.Cond.selects "KernelGymModel" ({ cls := "KernelGymModel", name := "use", desc := "(IIIII)I" } : Jvm.MethodName) ({ cls := "KernelGymModel", name := "use", desc := "(IIIII)I" } : Jvm.MethodName)) ∈ lw_all := lw_g (lw_at lw_m13 40 rfl) rfl
theorem q3038 : (Jvm.Cond.code ({ cls := "KernelGymModel", name := "use", desc := "(IIIII)I" } : Jvm.MethodName) prog_28_method_17_code (7 : Nat) (Option.some Jvm.ClassFile.FieldType.int)) ∈ lw_all := lw_g (lw_at lw_m13 41 rfl) rfl
theorem q3040 : (Jvm.Cond.instanceMethod ({ cls := "KernelGymModel", name := "error", desc := "()I" } : Jvm.MethodName)) ∈ lw_all := lw_g (lw_at lw_m13 43 rfl) rfl
theorem q3041 : (Jvm.Cond.selects "KernelGymModel" ({ cls := "KernelGymModel", name := "error", desc := "()I" } : Jvm.MethodName) ({ cls := "KernelGymModel", name := "error", desc := "()I" } : Jvm.MethodName)) ∈ lw_all := lw_g (lw_at lw_m13 44 rfl) rfl
theorem q3042 : (Jvm.Cond.code ({ cls := "KernelGymModel", name := "error", desc := "()I" } : Jvm.MethodName) prog_28_method_31_code (1 : Nat) (Option.some Jvm.ClassFile.FieldType.int)) ∈ lw_all := lw_g (lw_at lw_m13 45 rfl) rfl
theorem q3043 : (Jvm.Cond.methodLink "KernelGymModel" (224 : Nat) ({ cls := "KernelGymModel", name := "errorOfSource", desc := "()I" } : Jvm.MethodName)) ∈ lw_all := lw_g (lw_at lw_m13 46 rfl) rfl
theorem q3044 : (Jvm.Cond.privateMethod ({ cls := "KernelGymModel", name := "errorOfSource", desc := "()I" } : Jvm.MethodName)) ∈ lw_tbl := lw_at lw_m13 47 rfl
theorem q3045 : (Jvm.Cond.instanceMethod ({ cls := "KernelGymModel", name := "errorOfSource", desc := "()I" } : Jvm.MethodName)) ∈ lw_all := lw_g (lw_at lw_m13 48 rfl) rfl
theorem q3046 : (Jvm.Cond.code ({ cls := "KernelGymModel", name := "errorOfSource", desc := "()I" } : Jvm.MethodName) prog_28_method_30_code (2 : Nat) (Option.some Jvm.ClassFile.FieldType.int)) ∈ lw_all := lw_g (lw_at lw_m13 49 rfl) rfl
theorem q3047 : (Jvm.Cond.methodLink "KernelGymModel" (220 : Nat) ({ cls := "KernelGymModel", name := "goesThrough", desc := "(Z)I" } : Jvm.MethodName)) ∈ lw_all := lw_g (lw_at lw_m13 50 rfl) rfl
theorem q3048 : (Jvm.Cond.privateMethod ({ cls := "KernelGymModel", name := "goesThrough", desc := "(Z)I" } : Jvm.MethodName)) ∈ lw_tbl := lw_at lw_m13 51 rfl
theorem q3049 : (Jvm.Cond.instanceMethod ({ cls := "KernelGymModel", name := "goesThrough", desc := "(Z)I" } : Jvm.MethodName)) ∈ lw_all := lw_g (lw_at lw_m13 52 rfl) rfl
theorem q3050 : (Jvm.Cond.code ({ cls := "KernelGymModel", name := "goesThrough", desc := "(Z)I" } : Jvm.MethodName) prog_28_method_29_code (4 : Nat) (Option.some Jvm.ClassFile.FieldType.int)) ∈ lw_all := lw_g (lw_at lw_m13 53 rfl) rfl
theorem q3051 : (Jvm.Cond.methodLink "KernelGymModel" (217 : Nat) ({ cls := "KernelGymModel", name := "goes", desc := "(IZ)I" } : Jvm.MethodName)) ∈ lw_all := lw_g (lw_at lw_m13 54 rfl) rfl
theorem q3052 : (Jvm.Cond.privateMethod ({ cls := "KernelGymModel", name := "goes", desc := "(IZ)I" } : Jvm.MethodName)) ∈ lw_tbl := lw_at lw_m13 55 rfl
theorem q3053 : (Jvm.Cond.instanceMethod ({ cls := "KernelGymModel", name := "goes", desc := "(IZ)I" } : Jvm.MethodName)) ∈ lw_all := lw_g (lw_at lw_m13 56 rfl) rfl
theorem q3054 : (Jvm.Cond.code ({ cls := "KernelGymModel", name := "goes", desc := "(IZ)I" } : Jvm.MethodName) prog_28_method_28_code (5 : Nat) (Option.some Jvm.ClassFile.FieldType.int)) ∈ lw_all := lw_g (lw_at lw_m13 57 rfl) rfl
theorem q3055 : (Jvm.Cond.methodLink "KernelGymModel" (201 : Nat) ({ cls := "KernelGymModel", name := "wordsOf", desc := "(I)I" } : Jvm.MethodName)) ∈ lw_all := lw_g (lw_at lw_m13 58 rfl) rfl
theorem q3056 : (Jvm.Cond.privateMethod ({ cls := "KernelGymModel", name := "wordsOf", desc := "(I)I" } : Jvm.MethodName)) ∈ lw_tbl := lw_at lw_m13 59 rfl
theorem q3057 : (Jvm.Cond.instanceMethod ({ cls := "KernelGymModel", name := "wordsOf", desc := "(I)I" } : Jvm.MethodName)) ∈ lw_all := lw_g (lw_at lw_m13 60 rfl) rfl
theorem q3058 : (Jvm.Cond.code ({ cls := "KernelGymModel", name := "wordsOf", desc := "(I)I" } : Jvm.MethodName) prog_28_method_19_code (3 : Nat) (Option.some Jvm.ClassFile.FieldType.int)) ∈ lw_all := lw_g (lw_at lw_m13 61 rfl) rfl
theorem q3059 : (Jvm.Cond.methodLink "KernelGymModel" (204 : Nat) ({ cls := "KernelGymModel", name := "begins", desc := "(I)I" } : Jvm.MethodName)) ∈ lw_all := lw_g (lw_at lw_m13 62 rfl) rfl
theorem q3060 : (Jvm.Cond.privateMethod ({ cls := "KernelGymModel", name := "begins", desc := "(I)I" } : Jvm.MethodName)) ∈ lw_tbl := lw_at lw_m13 63 rfl
theorem q3061 : (Jvm.Cond.instanceMethod ({ cls := "KernelGymModel", name := "begins", desc := "(I)I" } : Jvm.MethodName)) ∈ lw_all := lw_g (lw_at lw_m13 64 rfl) rfl
theorem q3062 : (Jvm.Cond.code ({ cls := "KernelGymModel", name := "begins", desc := "(I)I" } : Jvm.MethodName) prog_28_method_21_code (4 : Nat) (Option.some Jvm.ClassFile.FieldType.int)) ∈ lw_all := lw_g (lw_at lw_m13 65 rfl) rfl
theorem q3063 : (Jvm.Cond.methodLink "KernelGymModel" (167 : Nat) ({ cls := "KernelGymModel", name := "nextOf", desc := "(I)I" } : Jvm.MethodName)) ∈ lw_all := lw_g (lw_at lw_m13 66 rfl) rfl
theorem q3064 : (Jvm.Cond.privateMethod ({ cls := "KernelGymModel", name := "nextOf", desc := "(I)I" } : Jvm.MethodName)) ∈ lw_tbl := lw_at lw_m13 67 rfl
theorem q3065 : (Jvm.Cond.instanceMethod ({ cls := "KernelGymModel", name := "nextOf", desc := "(I)I" } : Jvm.MethodName)) ∈ lw_all := lw_g (lw_at lw_m13 68 rfl) rfl
theorem q3066 : (Jvm.Cond.code ({ cls := "KernelGymModel", name := "nextOf", desc := "(I)I" } : Jvm.MethodName) prog_28_method_20_code (3 : Nat) (Option.some Jvm.ClassFile.FieldType.int)) ∈ lw_all := lw_g (lw_at lw_m13 69 rfl) rfl
theorem q3067 : (Jvm.Cond.methodLink "KernelGymModel" (207 : Nat) ({ cls := "KernelGymModel", name := "usesMacro", desc := "(IZ)I" } : Jvm.MethodName)) ∈ lw_all := lw_g (lw_at lw_m13 70 rfl) rfl
theorem q3068 : (Jvm.Cond.privateMethod ({ cls := "KernelGymModel", name := "usesMacro", desc := "(IZ)I" } : Jvm.MethodName)) ∈ lw_tbl := lw_at lw_m13 71 rfl
theorem q3069 : (Jvm.Cond.instanceMethod ({ cls := "KernelGymModel", name := "usesMacro", desc := "(IZ)I" } : Jvm.MethodName)) ∈ lw_all := lw_g (lw_at lw_m13 72 rfl) rfl
theorem q3070 : (Jvm.Cond.code ({ cls := "KernelGymModel", name := "usesMacro", desc := "(IZ)I" } : Jvm.MethodName) prog_28_method_24_code (8 : Nat) (Option.some Jvm.ClassFile.FieldType.int)) ∈ lw_all := lw_g (lw_at lw_m13 73 rfl) rfl
theorem q3071 : (Jvm.Cond.methodLink "KernelGymModel" (181 : Nat) ({ cls := "KernelGymModel", name := "isGoneThrough", desc := "(I)Z" } : Jvm.MethodName)) ∈ lw_all := lw_g (lw_at lw_m13 74 rfl) rfl
theorem q3072 : (Jvm.Cond.privateMethod ({ cls := "KernelGymModel", name := "isGoneThrough", desc := "(I)Z" } : Jvm.MethodName)) ∈ lw_tbl := lw_at lw_m13 75 rfl
theorem q3073 : (Jvm.Cond.instanceMethod ({ cls := "KernelGymModel", name := "isGoneThrough", desc := "(I)Z" } : Jvm.MethodName)) ∈ lw_all := lw_g (lw_at lw_m13 76 rfl) rfl
theorem q3074 : (Jvm.Cond.code ({ cls := "KernelGymModel", name := "isGoneThrough", desc := "(I)Z" } : Jvm.MethodName) prog_28_method_22_code (3 : Nat) (Option.some Jvm.ClassFile.FieldType.boolean)) ∈ lw_all := lw_g (lw_at lw_m13 77 rfl) rfl
theorem q3075 : (Jvm.Cond.methodLink "KernelGymModel" (184 : Nat) ({ cls := "KernelGymModel", name := "value", desc := "(II)I" } : Jvm.MethodName)) ∈ lw_all := lw_g (lw_at lw_m13 78 rfl) rfl
theorem q3076 : (Jvm.Cond.privateMethod ({ cls := "KernelGymModel", name := "value", desc := "(II)I" } : Jvm.MethodName)) ∈ lw_tbl := lw_at lw_m13 79 rfl
theorem q3077 : (Jvm.Cond.instanceMethod ({ cls := "KernelGymModel", name := "value", desc := "(II)I" } : Jvm.MethodName)) ∈ lw_all := lw_g (lw_at lw_m13 80 rfl) rfl
theorem q3078 : (Jvm.Cond.code ({ cls := "KernelGymModel", name := "value", desc := "(II)I" } : Jvm.MethodName) prog_28_method_23_code (4 : Nat) (Option.some Jvm.ClassFile.FieldType.int)) ∈ lw_all := lw_g (lw_at lw_m13 81 rfl) rfl
theorem q3079 : (Jvm.Cond.methodLink "KernelGymModel" (174 : Nat) ({ cls := "KernelGymModel", name := "placeOf", desc := "(I)I" } : Jvm.MethodName)) ∈ lw_all := lw_g (lw_at lw_m13 82 rfl) rfl
theorem q3080 : (Jvm.Cond.privateMethod ({ cls := "KernelGymModel", name := "placeOf", desc := "(I)I" } : Jvm.MethodName)) ∈ lw_tbl := lw_at lw_m13 83 rfl
theorem q3081 : (Jvm.Cond.instanceMethod ({ cls := "KernelGymModel", name := "placeOf", desc := "(I)I" } : Jvm.MethodName)) ∈ lw_all := lw_g (lw_at lw_m13 84 rfl) rfl
theorem q3082 : (Jvm.Cond.code ({ cls := "KernelGymModel", name := "placeOf", desc := "(I)I" } : Jvm.MethodName) prog_28_method_18_code (2 : Nat) (Option.some Jvm.ClassFile.FieldType.int)) ∈ lw_all := lw_g (lw_at lw_m13 85 rfl) rfl
theorem q3083 : (Jvm.Cond.constant "KernelGymModel" (180 : Nat) (65536 : Int32)) ∈ lw_all := lw_g (lw_at lw_m13 86 rfl) rfl
theorem q3084 : (Jvm.Cond.methodLink "KernelGymModel" (211 : Nat) ({ cls := "KernelGymModel", name := "builds", desc := "(I)I" } : Jvm.MethodName)) ∈ lw_all := lw_g (lw_at lw_m13 87 rfl) rfl
theorem q3085 : (Jvm.Cond.privateMethod ({ cls := "KernelGymModel", name := "builds", desc := "(I)I" } : Jvm.MethodName)) ∈ lw_tbl := lw_at lw_m13 88 rfl
theorem q3086 : (Jvm.Cond.instanceMethod ({ cls := "KernelGymModel", name := "builds", desc := "(I)I" } : Jvm.MethodName)) ∈ lw_all := lw_g (lw_at lw_m13 89 rfl) rfl
theorem q3087 : (Jvm.Cond.code ({ cls := "KernelGymModel", name := "builds", desc := "(I)I" } : Jvm.MethodName) prog_28_method_27_code (5 : Nat) (Option.some Jvm.ClassFile.FieldType.int)) ∈ lw_all := lw_g (lw_at lw_m13 90 rfl) rfl
theorem q3088 : (Jvm.Cond.methodLink "KernelGymModel" (194 : Nat) ({ cls := "KernelGymModel", name := "puts", desc := "(I)V" } : Jvm.MethodName)) ∈ lw_all := lw_g (lw_at lw_m13 91 rfl) rfl
theorem q3089 : (Jvm.Cond.privateMethod ({ cls := "KernelGymModel", name := "puts", desc := "(I)V" } : Jvm.MethodName)) ∈ lw_tbl := lw_at lw_m13 92 rfl
theorem q3090 : (Jvm.Cond.instanceMethod ({ cls := "KernelGymModel", name := "puts", desc := "(I)V" } : Jvm.MethodName)) ∈ lw_all := lw_g (lw_at lw_m13 93 rfl) rfl
theorem q3091 : (Jvm.Cond.code ({ cls := "KernelGymModel", name := "puts", desc := "(I)V" } : Jvm.MethodName) prog_28_method_26_code (2 : Nat) (Option.none : Option Jvm.ClassFile.FieldType)) ∈ lw_all := lw_g (lw_at lw_m13 94 rfl) rfl
theorem q3092 : (Jvm.Cond.methodLink "KernelGymModel" (214 : Nat) ({ cls := "KernelGymModel", name := "setsLabel", desc := "(I)I" } : Jvm.MethodName)) ∈ lw_all := lw_g (lw_at lw_m13 95 rfl) rfl
theorem q3093 : (Jvm.Cond.privateMethod ({ cls := "KernelGymModel", name := "setsLabel", desc := "(I)I" } : Jvm.MethodName)) ∈ lw_tbl := lw_at lw_m13 96 rfl
theorem q3094 : (Jvm.Cond.instanceMethod ({ cls := "KernelGymModel", name := "setsLabel", desc := "(I)I" } : Jvm.MethodName)) ∈ lw_all := lw_g (lw_at lw_m13 97 rfl) rfl
theorem q3095 : (Jvm.Cond.code ({ cls := "KernelGymModel", name := "setsLabel", desc := "(I)I" } : Jvm.MethodName) prog_28_method_25_code (3 : Nat) (Option.some Jvm.ClassFile.FieldType.int)) ∈ lw_all := lw_g (lw_at lw_m13 98 rfl) rfl
theorem q3097 : (Jvm.Cond.instanceMethod ({ cls := "KernelGymModel", name := "assemble", desc := "()I" } : Jvm.MethodName)) ∈ lw_all := lw_g (lw_at lw_m13 100 rfl) rfl
theorem q3098 : (Jvm.Cond.selects "KernelGymModel" ({ cls := "KernelGymModel", name := "assemble", desc := "()I" } : Jvm.MethodName) ({ cls := "KernelGymModel", name := "assemble", desc := "()I" } : Jvm.MethodName)) ∈ lw_all := lw_g (lw_at lw_m13 101 rfl) rfl
theorem q3099 : (Jvm.Cond.code ({ cls := "KernelGymModel", name := "assemble", desc := "()I" } : Jvm.MethodName) prog_28_method_32_code (2 : Nat) (Option.some Jvm.ClassFile.FieldType.int)) ∈ lw_all := lw_g (lw_at lw_m13 102 rfl) rfl
theorem q3101 : (Jvm.Cond.instanceMethod ({ cls := "KernelGymModel", name := "image", desc := "(I)I" } : Jvm.MethodName)) ∈ lw_all := lw_g (lw_at lw_m13 104 rfl) rfl
theorem q3102 : (Jvm.Cond.selects "KernelGymModel" ({ cls := "KernelGymModel", name := "image", desc := "(I)I" } : Jvm.MethodName) ({ cls := "KernelGymModel", name := "image", desc := "(I)I" } : Jvm.MethodName)) ∈ lw_all := lw_g (lw_at lw_m13 105 rfl) rfl
theorem q3103 : (Jvm.Cond.code ({ cls := "KernelGymModel", name := "image", desc := "(I)I" } : Jvm.MethodName) prog_28_method_33_code (2 : Nat) (Option.some Jvm.ClassFile.FieldType.int)) ∈ lw_all := lw_g (lw_at lw_m13 106 rfl) rfl
theorem q3105 : (Jvm.Cond.instanceMethod ({ cls := "KernelGymModel", name := "start", desc := "()I" } : Jvm.MethodName)) ∈ lw_all := lw_g (lw_at lw_m13 108 rfl) rfl
theorem q3106 : (Jvm.Cond.selects "KernelGymModel" ({ cls := "KernelGymModel", name := "start", desc := "()I" } : Jvm.MethodName) ({ cls := "KernelGymModel", name := "start", desc := "()I" } : Jvm.MethodName)) ∈ lw_all := lw_g (lw_at lw_m13 109 rfl) rfl
theorem q3107 : (Jvm.Cond.code ({ cls := "KernelGymModel", name := "start", desc := "()I" } : Jvm.MethodName) prog_28_method_75_code (2 : Nat) (Option.some Jvm.ClassFile.FieldType.int)) ∈ lw_all := lw_g (lw_at lw_m13 110 rfl) rfl
theorem q3108 : (Jvm.Cond.methodLink "KernelGymModel" (413 : Nat) ({ cls := "KernelGymModel", name := "isMachine", desc := "()Z" } : Jvm.MethodName)) ∈ lw_all := lw_g (lw_at lw_m13 111 rfl) rfl
theorem q3109 : (Jvm.Cond.privateMethod ({ cls := "KernelGymModel", name := "isMachine", desc := "()Z" } : Jvm.MethodName)) ∈ lw_tbl := lw_at lw_m13 112 rfl
theorem q3110 : (Jvm.Cond.instanceMethod ({ cls := "KernelGymModel", name := "isMachine", desc := "()Z" } : Jvm.MethodName)) ∈ lw_all := lw_g (lw_at lw_m13 113 rfl) rfl
theorem q3111 : (Jvm.Cond.code ({ cls := "KernelGymModel", name := "isMachine", desc := "()Z" } : Jvm.MethodName) prog_28_method_34_code (1 : Nat) (Option.some Jvm.ClassFile.FieldType.boolean)) ∈ lw_all := lw_g (lw_at lw_m13 114 rfl) rfl
theorem q3112 : (Jvm.Cond.methodLink "KernelGymModel" (417 : Nat) ({ cls := "KernelGymModel", name := "mends", desc := "()I" } : Jvm.MethodName)) ∈ lw_all := lw_g (lw_at lw_m13 115 rfl) rfl
theorem q3113 : (Jvm.Cond.privateMethod ({ cls := "KernelGymModel", name := "mends", desc := "()I" } : Jvm.MethodName)) ∈ lw_tbl := lw_at lw_m13 116 rfl
theorem q3114 : (Jvm.Cond.instanceMethod ({ cls := "KernelGymModel", name := "mends", desc := "()I" } : Jvm.MethodName)) ∈ lw_all := lw_g (lw_at lw_m13 117 rfl) rfl
theorem q3115 : (Jvm.Cond.code ({ cls := "KernelGymModel", name := "mends", desc := "()I" } : Jvm.MethodName) prog_28_method_71_code (3 : Nat) (Option.some Jvm.ClassFile.FieldType.int)) ∈ lw_all := lw_g (lw_at lw_m13 118 rfl) rfl
theorem q3116 : (Jvm.Cond.methodLink "KernelGymModel" (396 : Nat) ({ cls := "KernelGymModel", name := "checkOfLog", desc := "()I" } : Jvm.MethodName)) ∈ lw_all := lw_g (lw_at lw_m13 119 rfl) rfl
theorem q3117 : (Jvm.Cond.privateMethod ({ cls := "KernelGymModel", name := "checkOfLog", desc := "()I" } : Jvm.MethodName)) ∈ lw_tbl := lw_at lw_m13 120 rfl
theorem q3118 : (Jvm.Cond.instanceMethod ({ cls := "KernelGymModel", name := "checkOfLog", desc := "()I" } : Jvm.MethodName)) ∈ lw_all := lw_g (lw_at lw_m13 121 rfl) rfl
theorem q3119 : (Jvm.Cond.code ({ cls := "KernelGymModel", name := "checkOfLog", desc := "()I" } : Jvm.MethodName) prog_28_method_70_code (3 : Nat) (Option.some Jvm.ClassFile.FieldType.int)) ∈ lw_all := lw_g (lw_at lw_m13 122 rfl) rfl
theorem q3120 : (Jvm.Cond.methodLink "KernelGymModel" (392 : Nat) ({ cls := "KernelGymModel", name := "writesHead", desc := "(Z)V" } : Jvm.MethodName)) ∈ lw_all := lw_g (lw_at lw_m13 123 rfl) rfl
theorem q3121 : (Jvm.Cond.privateMethod ({ cls := "KernelGymModel", name := "writesHead", desc := "(Z)V" } : Jvm.MethodName)) ∈ lw_tbl := lw_at lw_m13 124 rfl
theorem q3122 : (Jvm.Cond.instanceMethod ({ cls := "KernelGymModel", name := "writesHead", desc := "(Z)V" } : Jvm.MethodName)) ∈ lw_all := lw_g (lw_at lw_m13 125 rfl) rfl
theorem q3123 : (Jvm.Cond.code ({ cls := "KernelGymModel", name := "writesHead", desc := "(Z)V" } : Jvm.MethodName) prog_28_method_69_code (4 : Nat) (Option.none : Option Jvm.ClassFile.FieldType)) ∈ lw_all := lw_g (lw_at lw_m13 126 rfl) rfl
theorem q3124 : (Jvm.Cond.methodLink "KernelGymModel" (399 : Nat) ({ cls := "KernelGymModel", name := "copies", desc := "([I[I)V" } : Jvm.MethodName)) ∈ lw_all := lw_g (lw_at lw_m13 127 rfl) rfl
theorem q3125 : (Jvm.Cond.static ({ cls := "KernelGymModel", name := "copies", desc := "([I[I)V" } : Jvm.MethodName)) ∈ lw_all := lw_g (lw_at lw_m13 128 rfl) rfl
theorem q3126 : (Jvm.Cond.code ({ cls := "KernelGymModel", name := "copies", desc := "([I[I)V" } : Jvm.MethodName) prog_28_method_73_code (3 : Nat) (Option.none : Option Jvm.ClassFile.FieldType)) ∈ lw_all := lw_g (lw_at lw_m13 129 rfl) rfl
theorem q3127 : (Jvm.Cond.methodLink "KernelGymModel" (406 : Nat) ({ cls := "KernelGymModel", name := "wakes", desc := "([I)V" } : Jvm.MethodName)) ∈ lw_all := lw_g (lw_at lw_m13 130 rfl) rfl
theorem q3128 : (Jvm.Cond.privateMethod ({ cls := "KernelGymModel", name := "wakes", desc := "([I)V" } : Jvm.MethodName)) ∈ lw_tbl := lw_at lw_m13 131 rfl
theorem q3129 : (Jvm.Cond.instanceMethod ({ cls := "KernelGymModel", name := "wakes", desc := "([I)V" } : Jvm.MethodName)) ∈ lw_all := lw_g (lw_at lw_m13 132 rfl) rfl
theorem q3130 : (Jvm.Cond.code ({ cls := "KernelGymModel", name := "wakes", desc := "([I)V" } : Jvm.MethodName) prog_28_method_40_code (3 : Nat) (Option.none : Option Jvm.ClassFile.FieldType)) ∈ lw_all := lw_g (lw_at lw_m13 133 rfl) rfl
theorem q3131 : (Jvm.Cond.methodLink "KernelGymModel" (251 : Nat) ({ cls := "KernelGymModel", name := "sleeps", desc := "()V" } : Jvm.MethodName)) ∈ lw_all := lw_g (lw_at lw_m13 134 rfl) rfl
theorem q3132 : (Jvm.Cond.privateMethod ({ cls := "KernelGymModel", name := "sleeps", desc := "()V" } : Jvm.MethodName)) ∈ lw_tbl := lw_at lw_m13 135 rfl
theorem q3133 : (Jvm.Cond.instanceMethod ({ cls := "KernelGymModel", name := "sleeps", desc := "()V" } : Jvm.MethodName)) ∈ lw_all := lw_g (lw_at lw_m13 136 rfl) rfl
theorem q3134 : (Jvm.Cond.code ({ cls := "KernelGymModel", name := "sleeps", desc := "()V" } : Jvm.MethodName) prog_28_method_41_code (2 : Nat) (Option.none : Option Jvm.ClassFile.FieldType)) ∈ lw_all := lw_g (lw_at lw_m13 137 rfl) rfl
theorem q3136 : (Jvm.Cond.instanceMethod ({ cls := "KernelGymModel", name := "crash", desc := "()I" } : Jvm.MethodName)) ∈ lw_all := lw_g (lw_at lw_m13 139 rfl) rfl
theorem q3137 : (Jvm.Cond.selects "KernelGymModel" ({ cls := "KernelGymModel", name := "crash", desc := "()I" } : Jvm.MethodName) ({ cls := "KernelGymModel", name := "crash", desc := "()I" } : Jvm.MethodName)) ∈ lw_all := lw_g (lw_at lw_m13 140 rfl) rfl
theorem q3138 : (Jvm.Cond.code ({ cls := "KernelGymModel", name := "crash", desc := "()I" } : Jvm.MethodName) prog_28_method_76_code (2 : Nat) (Option.some Jvm.ClassFile.FieldType.int)) ∈ lw_all := lw_g (lw_at lw_m13 141 rfl) rfl
theorem q3140 : (Jvm.Cond.instanceMethod ({ cls := "KernelGymModel", name := "format", desc := "()I" } : Jvm.MethodName)) ∈ lw_all := lw_g (lw_at lw_m13 143 rfl) rfl
theorem q3141 : (Jvm.Cond.selects "KernelGymModel" ({ cls := "KernelGymModel", name := "format", desc := "()I" } : Jvm.MethodName) ({ cls := "KernelGymModel", name := "format", desc := "()I" } : Jvm.MethodName)) ∈ lw_all := lw_g (lw_at lw_m13 144 rfl) rfl
theorem q3142 : (Jvm.Cond.code ({ cls := "KernelGymModel", name := "format", desc := "()I" } : Jvm.MethodName) prog_28_method_77_code (2 : Nat) (Option.some Jvm.ClassFile.FieldType.int)) ∈ lw_all := lw_g (lw_at lw_m13 145 rfl) rfl
theorem q3143 : (Jvm.Cond.methodLink "KernelGymModel" (423 : Nat) ({ cls := "KernelGymModel", name := "filesOf", desc := "()I" } : Jvm.MethodName)) ∈ lw_all := lw_g (lw_at lw_m13 146 rfl) rfl
theorem q3144 : (Jvm.Cond.privateMethod ({ cls := "KernelGymModel", name := "filesOf", desc := "()I" } : Jvm.MethodName)) ∈ lw_tbl := lw_at lw_m13 147 rfl
theorem q3145 : (Jvm.Cond.instanceMethod ({ cls := "KernelGymModel", name := "filesOf", desc := "()I" } : Jvm.MethodName)) ∈ lw_all := lw_g (lw_at lw_m13 148 rfl) rfl
theorem q3146 : (Jvm.Cond.code ({ cls := "KernelGymModel", name := "filesOf", desc := "()I" } : Jvm.MethodName) prog_28_method_103_code (3 : Nat) (Option.some Jvm.ClassFile.FieldType.int)) ∈ lw_all := lw_g (lw_at lw_m13 149 rfl) rfl
theorem q3147 : (Jvm.Cond.methodLink "KernelGymModel" (340 : Nat) ({ cls := "KernelGymModel", name := "entry", desc := "(I)I" } : Jvm.MethodName)) ∈ lw_all := lw_g (lw_at lw_m13 150 rfl) rfl
theorem q3148 : (Jvm.Cond.static ({ cls := "KernelGymModel", name := "entry", desc := "(I)I" } : Jvm.MethodName)) ∈ lw_all := lw_g (lw_at lw_m13 151 rfl) rfl
theorem q3149 : (Jvm.Cond.code ({ cls := "KernelGymModel", name := "entry", desc := "(I)I" } : Jvm.MethodName) prog_28_method_53_code (1 : Nat) (Option.some Jvm.ClassFile.FieldType.int)) ∈ lw_all := lw_g (lw_at lw_m13 152 rfl) rfl
theorem q3151 : (Jvm.Cond.instanceMethod ({ cls := "KernelGymModel", name := "step", desc := "(I)I" } : Jvm.MethodName)) ∈ lw_all := lw_g (lw_at lw_m13 154 rfl) rfl
theorem q3152 : (Jvm.Cond.selects "KernelGymModel" ({ cls := "KernelGymModel", name := "step", desc := "(I)I" } : Jvm.MethodName) ({ cls := "KernelGymModel", name := "step", desc := "(I)I" } : Jvm.MethodName)) ∈ lw_all := lw_g (lw_at lw_m13 155 rfl) rfl
theorem q3153 : (Jvm.Cond.code ({ cls := "KernelGymModel", name := "step", desc := "(I)I" } : Jvm.MethodName) prog_28_method_80_code (3 : Nat) (Option.some Jvm.ClassFile.FieldType.int)) ∈ lw_all := lw_g (lw_at lw_m13 156 rfl) rfl
theorem q3154 : (Jvm.Cond.methodLink "KernelGymModel" (426 : Nat) ({ cls := "KernelGymModel", name := "canStep", desc := "()Z" } : Jvm.MethodName)) ∈ lw_all := lw_g (lw_at lw_m13 157 rfl) rfl
theorem q3155 : (Jvm.Cond.privateMethod ({ cls := "KernelGymModel", name := "canStep", desc := "()Z" } : Jvm.MethodName)) ∈ lw_tbl := lw_at lw_m13 158 rfl
theorem q3156 : (Jvm.Cond.instanceMethod ({ cls := "KernelGymModel", name := "canStep", desc := "()Z" } : Jvm.MethodName)) ∈ lw_all := lw_g (lw_at lw_m13 159 rfl) rfl
theorem q3157 : (Jvm.Cond.code ({ cls := "KernelGymModel", name := "canStep", desc := "()Z" } : Jvm.MethodName) prog_28_method_78_code (1 : Nat) (Option.some Jvm.ClassFile.FieldType.boolean)) ∈ lw_all := lw_g (lw_at lw_m13 160 rfl) rfl
theorem q3158 : (Jvm.Cond.methodLink "KernelGymModel" (429 : Nat) ({ cls := "KernelGymModel", name := "stepsAndKeeps", desc := "()V" } : Jvm.MethodName)) ∈ lw_all := lw_g (lw_at lw_m13 161 rfl) rfl
theorem q3159 : (Jvm.Cond.privateMethod ({ cls := "KernelGymModel", name := "stepsAndKeeps", desc := "()V" } : Jvm.MethodName)) ∈ lw_tbl := lw_at lw_m13 162 rfl
theorem q3160 : (Jvm.Cond.instanceMethod ({ cls := "KernelGymModel", name := "stepsAndKeeps", desc := "()V" } : Jvm.MethodName)) ∈ lw_all := lw_g (lw_at lw_m13 163 rfl) rfl
theorem q3161 : (Jvm.Cond.code ({ cls := "KernelGymModel", name := "stepsAndKeeps", desc := "()V" } : Jvm.MethodName) prog_28_method_79_code (1 : Nat) (Option.none : Option Jvm.ClassFile.FieldType)) ∈ lw_all := lw_g (lw_at lw_m13 164 rfl) rfl
theorem q3162 : (Jvm.Cond.methodLink "KernelGymModel" (410 : Nat) ({ cls := "KernelGymModel", name := "stepsOnce", desc := "()V" } : Jvm.MethodName)) ∈ lw_all := lw_g (lw_at lw_m13 165 rfl) rfl
theorem q3163 : (Jvm.Cond.privateMethod ({ cls := "KernelGymModel", name := "stepsOnce", desc := "()V" } : Jvm.MethodName)) ∈ lw_tbl := lw_at lw_m13 166 rfl
theorem q3164 : (Jvm.Cond.instanceMethod ({ cls := "KernelGymModel", name := "stepsOnce", desc := "()V" } : Jvm.MethodName)) ∈ lw_all := lw_g (lw_at lw_m13 167 rfl) rfl
theorem q3165 : (Jvm.Cond.code ({ cls := "KernelGymModel", name := "stepsOnce", desc := "()V" } : Jvm.MethodName) prog_28_method_52_code (1 : Nat) (Option.none : Option Jvm.ClassFile.FieldType)) ∈ lw_all := lw_g (lw_at lw_m13 168 rfl) rfl
theorem q3166 : (Jvm.Cond.methodLink "KernelGymModel" (328 : Nat) ({ cls := "KernelGymModel", name := "writesBlock", desc := "()V" } : Jvm.MethodName)) ∈ lw_all := lw_g (lw_at lw_m13 169 rfl) rfl
theorem q3167 : (Jvm.Cond.privateMethod ({ cls := "KernelGymModel", name := "writesBlock", desc := "()V" } : Jvm.MethodName)) ∈ lw_tbl := lw_at lw_m13 170 rfl
theorem q3168 : (Jvm.Cond.instanceMethod ({ cls := "KernelGymModel", name := "writesBlock", desc := "()V" } : Jvm.MethodName)) ∈ lw_all := lw_g (lw_at lw_m13 171 rfl) rfl
theorem q3169 : (Jvm.Cond.code ({ cls := "KernelGymModel", name := "writesBlock", desc := "()V" } : Jvm.MethodName) prog_28_method_68_code (5 : Nat) (Option.none : Option Jvm.ClassFile.FieldType)) ∈ lw_all := lw_g (lw_at lw_m13 172 rfl) rfl
theorem q3170 : (Jvm.Cond.methodLink "KernelGymModel" (331 : Nat) ({ cls := "KernelGymModel", name := "interrupts", desc := "()V" } : Jvm.MethodName)) ∈ lw_all := lw_g (lw_at lw_m13 173 rfl) rfl
theorem q3171 : (Jvm.Cond.privateMethod ({ cls := "KernelGymModel", name := "interrupts", desc := "()V" } : Jvm.MethodName)) ∈ lw_tbl := lw_at lw_m13 174 rfl
theorem q3172 : (Jvm.Cond.instanceMethod ({ cls := "KernelGymModel", name := "interrupts", desc := "()V" } : Jvm.MethodName)) ∈ lw_all := lw_g (lw_at lw_m13 175 rfl) rfl
theorem q3173 : (Jvm.Cond.code ({ cls := "KernelGymModel", name := "interrupts", desc := "()V" } : Jvm.MethodName) prog_28_method_44_code (2 : Nat) (Option.none : Option Jvm.ClassFile.FieldType)) ∈ lw_all := lw_g (lw_at lw_m13 176 rfl) rfl
theorem q3174 : (Jvm.Cond.methodLink "KernelGymModel" (290 : Nat) ({ cls := "KernelGymModel", name := "faults", desc := "(I)V" } : Jvm.MethodName)) ∈ lw_all := lw_g (lw_at lw_m13 177 rfl) rfl
theorem q3175 : (Jvm.Cond.privateMethod ({ cls := "KernelGymModel", name := "faults", desc := "(I)V" } : Jvm.MethodName)) ∈ lw_tbl := lw_at lw_m13 178 rfl
theorem q3176 : (Jvm.Cond.instanceMethod ({ cls := "KernelGymModel", name := "faults", desc := "(I)V" } : Jvm.MethodName)) ∈ lw_all := lw_g (lw_at lw_m13 179 rfl) rfl
theorem q3177 : (Jvm.Cond.code ({ cls := "KernelGymModel", name := "faults", desc := "(I)V" } : Jvm.MethodName) prog_28_method_39_code (2 : Nat) (Option.none : Option Jvm.ClassFile.FieldType)) ∈ lw_all := lw_g (lw_at lw_m13 180 rfl) rfl
theorem q3178 : (Jvm.Cond.methodLink "KernelGymModel" (293 : Nat) ({ cls := "KernelGymModel", name := "pushes", desc := "(I)V" } : Jvm.MethodName)) ∈ lw_all := lw_g (lw_at lw_m13 181 rfl) rfl
theorem q3179 : (Jvm.Cond.privateMethod ({ cls := "KernelGymModel", name := "pushes", desc := "(I)V" } : Jvm.MethodName)) ∈ lw_tbl := lw_at lw_m13 182 rfl
theorem q3180 : (Jvm.Cond.instanceMethod ({ cls := "KernelGymModel", name := "pushes", desc := "(I)V" } : Jvm.MethodName)) ∈ lw_all := lw_g (lw_at lw_m13 183 rfl) rfl
theorem q3181 : (Jvm.Cond.code ({ cls := "KernelGymModel", name := "pushes", desc := "(I)V" } : Jvm.MethodName) prog_28_method_37_code (2 : Nat) (Option.none : Option Jvm.ClassFile.FieldType)) ∈ lw_all := lw_g (lw_at lw_m13 184 rfl) rfl
theorem q3182 : (Jvm.Cond.methodLink "KernelGymModel" (244 : Nat) ({ cls := "KernelGymModel", name := "writes", desc := "(II)V" } : Jvm.MethodName)) ∈ lw_all := lw_g (lw_at lw_m13 185 rfl) rfl
theorem q3183 : (Jvm.Cond.privateMethod ({ cls := "KernelGymModel", name := "writes", desc := "(II)V" } : Jvm.MethodName)) ∈ lw_tbl := lw_at lw_m13 186 rfl
theorem q3184 : (Jvm.Cond.instanceMethod ({ cls := "KernelGymModel", name := "writes", desc := "(II)V" } : Jvm.MethodName)) ∈ lw_all := lw_g (lw_at lw_m13 187 rfl) rfl
theorem q3185 : (Jvm.Cond.code ({ cls := "KernelGymModel", name := "writes", desc := "(II)V" } : Jvm.MethodName) prog_28_method_36_code (3 : Nat) (Option.none : Option Jvm.ClassFile.FieldType)) ∈ lw_all := lw_g (lw_at lw_m13 188 rfl) rfl
theorem q3186 : (Jvm.Cond.methodLink "KernelGymModel" (238 : Nat) ({ cls := "KernelGymModel", name := "keepsWrite", desc := "(I)V" } : Jvm.MethodName)) ∈ lw_all := lw_g (lw_at lw_m13 189 rfl) rfl
theorem q3187 : (Jvm.Cond.privateMethod ({ cls := "KernelGymModel", name := "keepsWrite", desc := "(I)V" } : Jvm.MethodName)) ∈ lw_tbl := lw_at lw_m13 190 rfl
theorem q3188 : (Jvm.Cond.instanceMethod ({ cls := "KernelGymModel", name := "keepsWrite", desc := "(I)V" } : Jvm.MethodName)) ∈ lw_all := lw_g (lw_at lw_m13 191 rfl) rfl
theorem q3189 : (Jvm.Cond.code ({ cls := "KernelGymModel", name := "keepsWrite", desc := "(I)V" } : Jvm.MethodName) prog_28_method_35_code (2 : Nat) (Option.none : Option Jvm.ClassFile.FieldType)) ∈ lw_all := lw_g (lw_at lw_m13 192 rfl) rfl
theorem q3190 : (Jvm.Cond.methodLink "KernelGymModel" (334 : Nat) ({ cls := "KernelGymModel", name := "instructs", desc := "()V" } : Jvm.MethodName)) ∈ lw_all := lw_g (lw_at lw_m13 193 rfl) rfl
theorem q3191 : (Jvm.Cond.privateMethod ({ cls := "KernelGymModel", name := "instructs", desc := "()V" } : Jvm.MethodName)) ∈ lw_tbl := lw_at lw_m13 194 rfl
theorem q3192 : (Jvm.Cond.instanceMethod ({ cls := "KernelGymModel", name := "instructs", desc := "()V" } : Jvm.MethodName)) ∈ lw_all := lw_g (lw_at lw_m13 195 rfl) rfl
theorem q3193 : (Jvm.Cond.code ({ cls := "KernelGymModel", name := "instructs", desc := "()V" } : Jvm.MethodName) prog_28_method_46_code (6 : Nat) (Option.none : Option Jvm.ClassFile.FieldType)) ∈ lw_all := lw_g (lw_at lw_m13 196 rfl) rfl
theorem q3194 : (Jvm.Cond.methodLink "KernelGymModel" (296 : Nat) ({ cls := "KernelGymModel", name := "faultOf", desc := "(II)I" } : Jvm.MethodName)) ∈ lw_all := lw_g (lw_at lw_m13 197 rfl) rfl
theorem q3195 : (Jvm.Cond.privateMethod ({ cls := "KernelGymModel", name := "faultOf", desc := "(II)I" } : Jvm.MethodName)) ∈ lw_tbl := lw_at lw_m13 198 rfl
theorem q3196 : (Jvm.Cond.instanceMethod ({ cls := "KernelGymModel", name := "faultOf", desc := "(II)I" } : Jvm.MethodName)) ∈ lw_all := lw_g (lw_at lw_m13 199 rfl) rfl
theorem q3197 : (Jvm.Cond.code ({ cls := "KernelGymModel", name := "faultOf", desc := "(II)I" } : Jvm.MethodName) prog_28_method_45_code (5 : Nat) (Option.some Jvm.ClassFile.FieldType.int)) ∈ lw_all := lw_g (lw_at lw_m13 200 rfl) rfl
theorem q3198 : (Jvm.Cond.methodLink "KernelGymModel" (299 : Nat) ({ cls := "KernelGymModel", name := "reckons", desc := "(III)V" } : Jvm.MethodName)) ∈ lw_all := lw_g (lw_at lw_m13 201 rfl) rfl
theorem q3199 : (Jvm.Cond.privateMethod ({ cls := "KernelGymModel", name := "reckons", desc := "(III)V" } : Jvm.MethodName)) ∈ lw_tbl := lw_at lw_m13 202 rfl
theorem q3200 : (Jvm.Cond.instanceMethod ({ cls := "KernelGymModel", name := "reckons", desc := "(III)V" } : Jvm.MethodName)) ∈ lw_all := lw_g (lw_at lw_m13 203 rfl) rfl
theorem q3201 : (Jvm.Cond.code ({ cls := "KernelGymModel", name := "reckons", desc := "(III)V" } : Jvm.MethodName) prog_28_method_49_code (7 : Nat) (Option.none : Option Jvm.ClassFile.FieldType)) ∈ lw_all := lw_g (lw_at lw_m13 204 rfl) rfl
theorem q3202 : (Jvm.Cond.methodLink "KernelGymModel" (313 : Nat) ({ cls := "KernelGymModel", name := "made", desc := "(III)J" } : Jvm.MethodName)) ∈ lw_all := lw_g (lw_at lw_m13 205 rfl) rfl
theorem q3203 : (Jvm.Cond.static ({ cls := "KernelGymModel", name := "made", desc := "(III)J" } : Jvm.MethodName)) ∈ lw_all := lw_g (lw_at lw_m13 206 rfl) rfl
theorem q3204 : (Jvm.Cond.code ({ cls := "KernelGymModel", name := "made", desc := "(III)J" } : Jvm.MethodName) prog_28_method_48_code (3 : Nat) (Option.some Jvm.ClassFile.FieldType.long)) ∈ lw_all := lw_g (lw_at lw_m13 207 rfl) rfl
theorem q3205 : (Jvm.Cond.methodLink "KernelGymModel" (309 : Nat) ({ cls := "KernelGymModel", name := "shifted", desc := "(IIZ)I" } : Jvm.MethodName)) ∈ lw_all := lw_g (lw_at lw_m13 208 rfl) rfl
theorem q3206 : (Jvm.Cond.static ({ cls := "KernelGymModel", name := "shifted", desc := "(IIZ)I" } : Jvm.MethodName)) ∈ lw_all := lw_g (lw_at lw_m13 209 rfl) rfl
theorem q3207 : (Jvm.Cond.code ({ cls := "KernelGymModel", name := "shifted", desc := "(IIZ)I" } : Jvm.MethodName) prog_28_method_47_code (3 : Nat) (Option.some Jvm.ClassFile.FieldType.int)) ∈ lw_all := lw_g (lw_at lw_m13 210 rfl) rfl
theorem q3208 : (Jvm.Cond.constantLong "KernelGymModel" (317 : Nat) (65536 : Int64)) ∈ lw_all := lw_g (lw_at lw_m13 211 rfl) rfl
theorem q3209 : (Jvm.Cond.methodLink "KernelGymModel" (303 : Nat) ({ cls := "KernelGymModel", name := "jumps", desc := "(III)V" } : Jvm.MethodName)) ∈ lw_all := lw_g (lw_at lw_m13 212 rfl) rfl
theorem q3210 : (Jvm.Cond.privateMethod ({ cls := "KernelGymModel", name := "jumps", desc := "(III)V" } : Jvm.MethodName)) ∈ lw_tbl := lw_at lw_m13 213 rfl
theorem q3211 : (Jvm.Cond.instanceMethod ({ cls := "KernelGymModel", name := "jumps", desc := "(III)V" } : Jvm.MethodName)) ∈ lw_all := lw_g (lw_at lw_m13 214 rfl) rfl
theorem q3212 : (Jvm.Cond.code ({ cls := "KernelGymModel", name := "jumps", desc := "(III)V" } : Jvm.MethodName) prog_28_method_50_code (6 : Nat) (Option.none : Option Jvm.ClassFile.FieldType)) ∈ lw_all := lw_g (lw_at lw_m13 215 rfl) rfl
theorem q3213 : (Jvm.Cond.methodLink "KernelGymModel" (319 : Nat) ({ cls := "KernelGymModel", name := "pulls", desc := "()I" } : Jvm.MethodName)) ∈ lw_all := lw_g (lw_at lw_m13 216 rfl) rfl
theorem q3214 : (Jvm.Cond.privateMethod ({ cls := "KernelGymModel", name := "pulls", desc := "()I" } : Jvm.MethodName)) ∈ lw_tbl := lw_at lw_m13 217 rfl
theorem q3215 : (Jvm.Cond.instanceMethod ({ cls := "KernelGymModel", name := "pulls", desc := "()I" } : Jvm.MethodName)) ∈ lw_all := lw_g (lw_at lw_m13 218 rfl) rfl
theorem q3216 : (Jvm.Cond.code ({ cls := "KernelGymModel", name := "pulls", desc := "()I" } : Jvm.MethodName) prog_28_method_38_code (1 : Nat) (Option.some Jvm.ClassFile.FieldType.int)) ∈ lw_all := lw_g (lw_at lw_m13 219 rfl) rfl
theorem q3217 : (Jvm.Cond.methodLink "KernelGymModel" (306 : Nat) ({ cls := "KernelGymModel", name := "others", desc := "(III)V" } : Jvm.MethodName)) ∈ lw_all := lw_g (lw_at lw_m13 220 rfl) rfl
theorem q3218 : (Jvm.Cond.privateMethod ({ cls := "KernelGymModel", name := "others", desc := "(III)V" } : Jvm.MethodName)) ∈ lw_tbl := lw_at lw_m13 221 rfl
theorem q3219 : (Jvm.Cond.instanceMethod ({ cls := "KernelGymModel", name := "others", desc := "(III)V" } : Jvm.MethodName)) ∈ lw_all := lw_g (lw_at lw_m13 222 rfl) rfl
theorem q3220 : (Jvm.Cond.code ({ cls := "KernelGymModel", name := "others", desc := "(III)V" } : Jvm.MethodName) prog_28_method_51_code (5 : Nat) (Option.none : Option Jvm.ClassFile.FieldType)) ∈ lw_all := lw_g (lw_at lw_m13 223 rfl) rfl
theorem q3221 : (Jvm.Cond.methodLink "KernelGymModel" (322 : Nat) ({ cls := "KernelGymModel", name := "calls", desc := "(I)V" } : Jvm.MethodName)) ∈ lw_all := lw_g (lw_at lw_m13 224 rfl) rfl
theorem q3222 : (Jvm.Cond.privateMethod ({ cls := "KernelGymModel", name := "calls", desc := "(I)V" } : Jvm.MethodName)) ∈ lw_tbl := lw_at lw_m13 225 rfl
theorem q3223 : (Jvm.Cond.instanceMethod ({ cls := "KernelGymModel", name := "calls", desc := "(I)V" } : Jvm.MethodName)) ∈ lw_all := lw_g (lw_at lw_m13 226 rfl) rfl
theorem q3224 : (Jvm.Cond.code ({ cls := "KernelGymModel", name := "calls", desc := "(I)V" } : Jvm.MethodName) prog_28_method_60_code (6 : Nat) (Option.none : Option Jvm.ClassFile.FieldType)) ∈ lw_all := lw_g (lw_at lw_m13 227 rfl) rfl
theorem q3225 : (Jvm.Cond.methodLink "KernelGymModel" (347 : Nat) ({ cls := "KernelGymModel", name := "find", desc := "([II)I" } : Jvm.MethodName)) ∈ lw_all := lw_g (lw_at lw_m13 228 rfl) rfl
theorem q3226 : (Jvm.Cond.static ({ cls := "KernelGymModel", name := "find", desc := "([II)I" } : Jvm.MethodName)) ∈ lw_all := lw_g (lw_at lw_m13 229 rfl) rfl
theorem q3227 : (Jvm.Cond.code ({ cls := "KernelGymModel", name := "find", desc := "([II)I" } : Jvm.MethodName) prog_28_method_54_code (3 : Nat) (Option.some Jvm.ClassFile.FieldType.int)) ∈ lw_all := lw_g (lw_at lw_m13 230 rfl) rfl
theorem q3228 : (Jvm.Cond.methodLink "KernelGymModel" (354 : Nat) ({ cls := "KernelGymModel", name := "resultOf", desc := "(II)I" } : Jvm.MethodName)) ∈ lw_all := lw_g (lw_at lw_m13 231 rfl) rfl
theorem q3229 : (Jvm.Cond.privateMethod ({ cls := "KernelGymModel", name := "resultOf", desc := "(II)I" } : Jvm.MethodName)) ∈ lw_tbl := lw_at lw_m13 232 rfl
theorem q3230 : (Jvm.Cond.instanceMethod ({ cls := "KernelGymModel", name := "resultOf", desc := "(II)I" } : Jvm.MethodName)) ∈ lw_all := lw_g (lw_at lw_m13 233 rfl) rfl
theorem q3231 : (Jvm.Cond.code ({ cls := "KernelGymModel", name := "resultOf", desc := "(II)I" } : Jvm.MethodName) prog_28_method_58_code (5 : Nat) (Option.some Jvm.ClassFile.FieldType.int)) ∈ lw_all := lw_g (lw_at lw_m13 234 rfl) rfl
theorem q3232 : (Jvm.Cond.methodLink "KernelGymModel" (351 : Nat) ({ cls := "KernelGymModel", name := "freeBlock", desc := "()I" } : Jvm.MethodName)) ∈ lw_all := lw_g (lw_at lw_m13 235 rfl) rfl
theorem q3233 : (Jvm.Cond.privateMethod ({ cls := "KernelGymModel", name := "freeBlock", desc := "()I" } : Jvm.MethodName)) ∈ lw_tbl := lw_at lw_m13 236 rfl
theorem q3234 : (Jvm.Cond.instanceMethod ({ cls := "KernelGymModel", name := "freeBlock", desc := "()I" } : Jvm.MethodName)) ∈ lw_all := lw_g (lw_at lw_m13 237 rfl) rfl
theorem q3235 : (Jvm.Cond.code ({ cls := "KernelGymModel", name := "freeBlock", desc := "()I" } : Jvm.MethodName) prog_28_method_57_code (2 : Nat) (Option.some Jvm.ClassFile.FieldType.int)) ∈ lw_all := lw_g (lw_at lw_m13 238 rfl) rfl
theorem q3236 : (Jvm.Cond.methodLink "KernelGymModel" (343 : Nat) ({ cls := "KernelGymModel", name := "isUsed", desc := "([II)Z" } : Jvm.MethodName)) ∈ lw_all := lw_g (lw_at lw_m13 239 rfl) rfl
theorem q3237 : (Jvm.Cond.static ({ cls := "KernelGymModel", name := "isUsed", desc := "([II)Z" } : Jvm.MethodName)) ∈ lw_all := lw_g (lw_at lw_m14 0 rfl) rfl
theorem q3238 : (Jvm.Cond.code ({ cls := "KernelGymModel", name := "isUsed", desc := "([II)Z" } : Jvm.MethodName) prog_28_method_55_code (2 : Nat) (Option.some Jvm.ClassFile.FieldType.boolean)) ∈ lw_all := lw_g (lw_at lw_m14 1 rfl) rfl
theorem q3239 : (Jvm.Cond.methodLink "KernelGymModel" (357 : Nat) ({ cls := "KernelGymModel", name := "blockOf", desc := "([III)I" } : Jvm.MethodName)) ∈ lw_all := lw_g (lw_at lw_m14 2 rfl) rfl
theorem q3240 : (Jvm.Cond.privateMethod ({ cls := "KernelGymModel", name := "blockOf", desc := "([III)I" } : Jvm.MethodName)) ∈ lw_tbl := lw_at lw_m14 3 rfl
theorem q3241 : (Jvm.Cond.instanceMethod ({ cls := "KernelGymModel", name := "blockOf", desc := "([III)I" } : Jvm.MethodName)) ∈ lw_all := lw_g (lw_at lw_m14 4 rfl) rfl
theorem q3242 : (Jvm.Cond.code ({ cls := "KernelGymModel", name := "blockOf", desc := "([III)I" } : Jvm.MethodName) prog_28_method_59_code (4 : Nat) (Option.some Jvm.ClassFile.FieldType.int)) ∈ lw_all := lw_g (lw_at lw_m14 5 rfl) rfl
theorem q3243 : (Jvm.Cond.methodLink "KernelGymModel" (361 : Nat) ({ cls := "KernelGymModel", name := "makesFile", desc := "()I" } : Jvm.MethodName)) ∈ lw_all := lw_g (lw_at lw_m14 6 rfl) rfl
theorem q3244 : (Jvm.Cond.privateMethod ({ cls := "KernelGymModel", name := "makesFile", desc := "()I" } : Jvm.MethodName)) ∈ lw_tbl := lw_at lw_m14 7 rfl
theorem q3245 : (Jvm.Cond.instanceMethod ({ cls := "KernelGymModel", name := "makesFile", desc := "()I" } : Jvm.MethodName)) ∈ lw_all := lw_g (lw_at lw_m14 8 rfl) rfl
theorem q3246 : (Jvm.Cond.code ({ cls := "KernelGymModel", name := "makesFile", desc := "()I" } : Jvm.MethodName) prog_28_method_62_code (2 : Nat) (Option.some Jvm.ClassFile.FieldType.int)) ∈ lw_all := lw_g (lw_at lw_m14 9 rfl) rfl
theorem q3247 : (Jvm.Cond.methodLink "KernelGymModel" (379 : Nat) ({ cls := "KernelGymModel", name := "blockOfEntry", desc := "(I)I" } : Jvm.MethodName)) ∈ lw_all := lw_g (lw_at lw_m14 10 rfl) rfl
theorem q3248 : (Jvm.Cond.static ({ cls := "KernelGymModel", name := "blockOfEntry", desc := "(I)I" } : Jvm.MethodName)) ∈ lw_all := lw_g (lw_at lw_m14 11 rfl) rfl
theorem q3249 : (Jvm.Cond.code ({ cls := "KernelGymModel", name := "blockOfEntry", desc := "(I)I" } : Jvm.MethodName) prog_28_method_61_code (1 : Nat) (Option.some Jvm.ClassFile.FieldType.int)) ∈ lw_all := lw_g (lw_at lw_m14 12 rfl) rfl
theorem q3250 : (Jvm.Cond.methodLink "KernelGymModel" (364 : Nat) ({ cls := "KernelGymModel", name := "appends", desc := "(I)I" } : Jvm.MethodName)) ∈ lw_all := lw_g (lw_at lw_m14 13 rfl) rfl
theorem q3251 : (Jvm.Cond.privateMethod ({ cls := "KernelGymModel", name := "appends", desc := "(I)I" } : Jvm.MethodName)) ∈ lw_tbl := lw_at lw_m14 14 rfl
theorem q3252 : (Jvm.Cond.instanceMethod ({ cls := "KernelGymModel", name := "appends", desc := "(I)I" } : Jvm.MethodName)) ∈ lw_all := lw_g (lw_at lw_m14 15 rfl) rfl
theorem q3253 : (Jvm.Cond.code ({ cls := "KernelGymModel", name := "appends", desc := "(I)I" } : Jvm.MethodName) prog_28_method_63_code (6 : Nat) (Option.some Jvm.ClassFile.FieldType.int)) ∈ lw_all := lw_g (lw_at lw_m14 16 rfl) rfl
theorem q3254 : (Jvm.Cond.methodLink "KernelGymModel" (382 : Nat) ({ cls := "KernelGymModel", name := "turns", desc := "([II)V" } : Jvm.MethodName)) ∈ lw_all := lw_g (lw_at lw_m14 17 rfl) rfl
theorem q3255 : (Jvm.Cond.static ({ cls := "KernelGymModel", name := "turns", desc := "([II)V" } : Jvm.MethodName)) ∈ lw_all := lw_g (lw_at lw_m14 18 rfl) rfl
theorem q3256 : (Jvm.Cond.code ({ cls := "KernelGymModel", name := "turns", desc := "([II)V" } : Jvm.MethodName) prog_28_method_56_code (2 : Nat) (Option.none : Option Jvm.ClassFile.FieldType)) ∈ lw_all := lw_g (lw_at lw_m14 19 rfl) rfl
theorem q3257 : (Jvm.Cond.methodLink "KernelGymModel" (367 : Nat) ({ cls := "KernelGymModel", name := "replaces", desc := "(I)I" } : Jvm.MethodName)) ∈ lw_all := lw_g (lw_at lw_m14 20 rfl) rfl
theorem q3258 : (Jvm.Cond.privateMethod ({ cls := "KernelGymModel", name := "replaces", desc := "(I)I" } : Jvm.MethodName)) ∈ lw_tbl := lw_at lw_m14 21 rfl
theorem q3259 : (Jvm.Cond.instanceMethod ({ cls := "KernelGymModel", name := "replaces", desc := "(I)I" } : Jvm.MethodName)) ∈ lw_all := lw_g (lw_at lw_m14 22 rfl) rfl
theorem q3260 : (Jvm.Cond.code ({ cls := "KernelGymModel", name := "replaces", desc := "(I)I" } : Jvm.MethodName) prog_28_method_64_code (3 : Nat) (Option.some Jvm.ClassFile.FieldType.int)) ∈ lw_all := lw_g (lw_at lw_m14 23 rfl) rfl
theorem q3261 : (Jvm.Cond.methodLink "KernelGymModel" (370 : Nat) ({ cls := "KernelGymModel", name := "removes", desc := "(I)I" } : Jvm.MethodName)) ∈ lw_all := lw_g (lw_at lw_m14 24 rfl) rfl
theorem q3262 : (Jvm.Cond.privateMethod ({ cls := "KernelGymModel", name := "removes", desc := "(I)I" } : Jvm.MethodName)) ∈ lw_tbl := lw_at lw_m14 25 rfl
theorem q3263 : (Jvm.Cond.instanceMethod ({ cls := "KernelGymModel", name := "removes", desc := "(I)I" } : Jvm.MethodName)) ∈ lw_all := lw_g (lw_at lw_m14 26 rfl) rfl
theorem q3264 : (Jvm.Cond.code ({ cls := "KernelGymModel", name := "removes", desc := "(I)I" } : Jvm.MethodName) prog_28_method_65_code (5 : Nat) (Option.some Jvm.ClassFile.FieldType.int)) ∈ lw_all := lw_g (lw_at lw_m14 27 rfl) rfl
theorem q3265 : (Jvm.Cond.methodLink "KernelGymModel" (373 : Nat) ({ cls := "KernelGymModel", name := "renames", desc := "(I)I" } : Jvm.MethodName)) ∈ lw_all := lw_g (lw_at lw_m14 28 rfl) rfl
theorem q3266 : (Jvm.Cond.privateMethod ({ cls := "KernelGymModel", name := "renames", desc := "(I)I" } : Jvm.MethodName)) ∈ lw_tbl := lw_at lw_m14 29 rfl
theorem q3267 : (Jvm.Cond.instanceMethod ({ cls := "KernelGymModel", name := "renames", desc := "(I)I" } : Jvm.MethodName)) ∈ lw_all := lw_g (lw_at lw_m14 30 rfl) rfl
theorem q3268 : (Jvm.Cond.code ({ cls := "KernelGymModel", name := "renames", desc := "(I)I" } : Jvm.MethodName) prog_28_method_66_code (4 : Nat) (Option.some Jvm.ClassFile.FieldType.int)) ∈ lw_all := lw_g (lw_at lw_m14 31 rfl) rfl
theorem q3269 : (Jvm.Cond.methodLink "KernelGymModel" (376 : Nat) ({ cls := "KernelGymModel", name := "prepares", desc := "(I)V" } : Jvm.MethodName)) ∈ lw_all := lw_g (lw_at lw_m14 32 rfl) rfl
theorem q3270 : (Jvm.Cond.privateMethod ({ cls := "KernelGymModel", name := "prepares", desc := "(I)V" } : Jvm.MethodName)) ∈ lw_tbl := lw_at lw_m14 33 rfl
theorem q3271 : (Jvm.Cond.instanceMethod ({ cls := "KernelGymModel", name := "prepares", desc := "(I)V" } : Jvm.MethodName)) ∈ lw_all := lw_g (lw_at lw_m14 34 rfl) rfl
theorem q3272 : (Jvm.Cond.code ({ cls := "KernelGymModel", name := "prepares", desc := "(I)V" } : Jvm.MethodName) prog_28_method_67_code (4 : Nat) (Option.none : Option Jvm.ClassFile.FieldType)) ∈ lw_all := lw_g (lw_at lw_m14 35 rfl) rfl
theorem q3273 : (Jvm.Cond.methodLink "KernelGymModel" (325 : Nat) ({ cls := "KernelGymModel", name := "come", desc := "()I" } : Jvm.MethodName)) ∈ lw_all := lw_g (lw_at lw_m14 36 rfl) rfl
theorem q3274 : (Jvm.Cond.privateMethod ({ cls := "KernelGymModel", name := "come", desc := "()I" } : Jvm.MethodName)) ∈ lw_tbl := lw_at lw_m14 37 rfl
theorem q3275 : (Jvm.Cond.instanceMethod ({ cls := "KernelGymModel", name := "come", desc := "()I" } : Jvm.MethodName)) ∈ lw_all := lw_g (lw_at lw_m14 38 rfl) rfl
theorem q3276 : (Jvm.Cond.code ({ cls := "KernelGymModel", name := "come", desc := "()I" } : Jvm.MethodName) prog_28_method_43_code (3 : Nat) (Option.some Jvm.ClassFile.FieldType.int)) ∈ lw_all := lw_g (lw_at lw_m14 39 rfl) rfl
theorem q3277 : (Jvm.Cond.methodLink "KernelGymModel" (337 : Nat) ({ cls := "KernelGymModel", name := "keysCome", desc := "()V" } : Jvm.MethodName)) ∈ lw_all := lw_g (lw_at lw_m14 40 rfl) rfl
theorem q3278 : (Jvm.Cond.privateMethod ({ cls := "KernelGymModel", name := "keysCome", desc := "()V" } : Jvm.MethodName)) ∈ lw_tbl := lw_at lw_m14 41 rfl
theorem q3279 : (Jvm.Cond.instanceMethod ({ cls := "KernelGymModel", name := "keysCome", desc := "()V" } : Jvm.MethodName)) ∈ lw_all := lw_g (lw_at lw_m14 42 rfl) rfl
theorem q3280 : (Jvm.Cond.code ({ cls := "KernelGymModel", name := "keysCome", desc := "()V" } : Jvm.MethodName) prog_28_method_42_code (2 : Nat) (Option.none : Option Jvm.ClassFile.FieldType)) ∈ lw_all := lw_g (lw_at lw_m14 43 rfl) rfl
theorem q3282 : (Jvm.Cond.instanceMethod ({ cls := "KernelGymModel", name := "runTo", desc := "(II)I" } : Jvm.MethodName)) ∈ lw_all := lw_g (lw_at lw_m14 45 rfl) rfl
theorem q3283 : (Jvm.Cond.selects "KernelGymModel" ({ cls := "KernelGymModel", name := "runTo", desc := "(II)I" } : Jvm.MethodName) ({ cls := "KernelGymModel", name := "runTo", desc := "(II)I" } : Jvm.MethodName)) ∈ lw_all := lw_g (lw_at lw_m14 46 rfl) rfl
theorem q3284 : (Jvm.Cond.code ({ cls := "KernelGymModel", name := "runTo", desc := "(II)I" } : Jvm.MethodName) prog_28_method_81_code (5 : Nat) (Option.some Jvm.ClassFile.FieldType.int)) ∈ lw_all := lw_g (lw_at lw_m14 47 rfl) rfl
theorem q3286 : (Jvm.Cond.instanceMethod ({ cls := "KernelGymModel", name := "back", desc := "(I)I" } : Jvm.MethodName)) ∈ lw_all := lw_g (lw_at lw_m14 49 rfl) rfl
theorem q3287 : (Jvm.Cond.selects "KernelGymModel" ({ cls := "KernelGymModel", name := "back", desc := "(I)I" } : Jvm.MethodName) ({ cls := "KernelGymModel", name := "back", desc := "(I)I" } : Jvm.MethodName)) ∈ lw_all := lw_g (lw_at lw_m14 50 rfl) rfl
theorem q3288 : (Jvm.Cond.code ({ cls := "KernelGymModel", name := "back", desc := "(I)I" } : Jvm.MethodName) prog_28_method_82_code (4 : Nat) (Option.some Jvm.ClassFile.FieldType.int)) ∈ lw_all := lw_g (lw_at lw_m14 51 rfl) rfl
theorem q3289 : (Jvm.Cond.methodLink "KernelGymModel" (432 : Nat) ({ cls := "KernelGymModel", name := "makesAnew", desc := "(I)V" } : Jvm.MethodName)) ∈ lw_all := lw_g (lw_at lw_m14 52 rfl) rfl
theorem q3290 : (Jvm.Cond.privateMethod ({ cls := "KernelGymModel", name := "makesAnew", desc := "(I)V" } : Jvm.MethodName)) ∈ lw_tbl := lw_at lw_m14 53 rfl
theorem q3291 : (Jvm.Cond.instanceMethod ({ cls := "KernelGymModel", name := "makesAnew", desc := "(I)V" } : Jvm.MethodName)) ∈ lw_all := lw_g (lw_at lw_m14 54 rfl) rfl
theorem q3292 : (Jvm.Cond.code ({ cls := "KernelGymModel", name := "makesAnew", desc := "(I)V" } : Jvm.MethodName) prog_28_method_74_code (3 : Nat) (Option.none : Option Jvm.ClassFile.FieldType)) ∈ lw_all := lw_g (lw_at lw_m14 55 rfl) rfl
theorem q3294 : (Jvm.Cond.instanceMethod ({ cls := "KernelGymModel", name := "press", desc := "(I)I" } : Jvm.MethodName)) ∈ lw_all := lw_g (lw_at lw_m14 57 rfl) rfl
theorem q3295 : (Jvm.Cond.selects "KernelGymModel" ({ cls := "KernelGymModel", name := "press", desc := "(I)I" } : Jvm.MethodName) ({ cls := "KernelGymModel", name := "press", desc := "(I)I" } : Jvm.MethodName)) ∈ lw_all := lw_g (lw_at lw_m14 58 rfl) rfl
theorem q3296 : (Jvm.Cond.code ({ cls := "KernelGymModel", name := "press", desc := "(I)I" } : Jvm.MethodName) prog_28_method_83_code (3 : Nat) (Option.some Jvm.ClassFile.FieldType.int)) ∈ lw_all := lw_g (lw_at lw_m14 59 rfl) rfl
theorem q3298 : (Jvm.Cond.instanceMethod ({ cls := "KernelGymModel", name := "state", desc := "()I" } : Jvm.MethodName)) ∈ lw_all := lw_g (lw_at lw_m14 61 rfl) rfl
theorem q3299 : (Jvm.Cond.selects "KernelGymModel" ({ cls := "KernelGymModel", name := "state", desc := "()I" } : Jvm.MethodName) ({ cls := "KernelGymModel", name := "state", desc := "()I" } : Jvm.MethodName)) ∈ lw_all := lw_g (lw_at lw_m14 62 rfl) rfl
theorem q3300 : (Jvm.Cond.code ({ cls := "KernelGymModel", name := "state", desc := "()I" } : Jvm.MethodName) prog_28_method_84_code (1 : Nat) (Option.some Jvm.ClassFile.FieldType.int)) ∈ lw_all := lw_g (lw_at lw_m14 63 rfl) rfl
theorem q3302 : (Jvm.Cond.instanceMethod ({ cls := "KernelGymModel", name := "fault", desc := "()I" } : Jvm.MethodName)) ∈ lw_all := lw_g (lw_at lw_m14 65 rfl) rfl
theorem q3303 : (Jvm.Cond.selects "KernelGymModel" ({ cls := "KernelGymModel", name := "fault", desc := "()I" } : Jvm.MethodName) ({ cls := "KernelGymModel", name := "fault", desc := "()I" } : Jvm.MethodName)) ∈ lw_all := lw_g (lw_at lw_m14 66 rfl) rfl
theorem q3304 : (Jvm.Cond.code ({ cls := "KernelGymModel", name := "fault", desc := "()I" } : Jvm.MethodName) prog_28_method_85_code (1 : Nat) (Option.some Jvm.ClassFile.FieldType.int)) ∈ lw_all := lw_g (lw_at lw_m14 67 rfl) rfl
theorem q3306 : (Jvm.Cond.instanceMethod ({ cls := "KernelGymModel", name := "steps", desc := "()I" } : Jvm.MethodName)) ∈ lw_all := lw_g (lw_at lw_m14 69 rfl) rfl
theorem q3307 : (Jvm.Cond.selects "KernelGymModel" ({ cls := "KernelGymModel", name := "steps", desc := "()I" } : Jvm.MethodName) ({ cls := "KernelGymModel", name := "steps", desc := "()I" } : Jvm.MethodName)) ∈ lw_all := lw_g (lw_at lw_m14 70 rfl) rfl
theorem q3308 : (Jvm.Cond.code ({ cls := "KernelGymModel", name := "steps", desc := "()I" } : Jvm.MethodName) prog_28_method_86_code (1 : Nat) (Option.some Jvm.ClassFile.FieldType.int)) ∈ lw_all := lw_g (lw_at lw_m14 71 rfl) rfl
theorem q3310 : (Jvm.Cond.instanceMethod ({ cls := "KernelGymModel", name := "kept", desc := "()I" } : Jvm.MethodName)) ∈ lw_all := lw_g (lw_at lw_m14 73 rfl) rfl
theorem q3311 : (Jvm.Cond.selects "KernelGymModel" ({ cls := "KernelGymModel", name := "kept", desc := "()I" } : Jvm.MethodName) ({ cls := "KernelGymModel", name := "kept", desc := "()I" } : Jvm.MethodName)) ∈ lw_all := lw_g (lw_at lw_m14 74 rfl) rfl
theorem q3312 : (Jvm.Cond.code ({ cls := "KernelGymModel", name := "kept", desc := "()I" } : Jvm.MethodName) prog_28_method_87_code (1 : Nat) (Option.some Jvm.ClassFile.FieldType.int)) ∈ lw_all := lw_g (lw_at lw_m14 75 rfl) rfl
theorem q3314 : (Jvm.Cond.instanceMethod ({ cls := "KernelGymModel", name := "counter", desc := "()I" } : Jvm.MethodName)) ∈ lw_all := lw_g (lw_at lw_m14 77 rfl) rfl
theorem q3315 : (Jvm.Cond.selects "KernelGymModel" ({ cls := "KernelGymModel", name := "counter", desc := "()I" } : Jvm.MethodName) ({ cls := "KernelGymModel", name := "counter", desc := "()I" } : Jvm.MethodName)) ∈ lw_all := lw_g (lw_at lw_m14 78 rfl) rfl
theorem q3316 : (Jvm.Cond.code ({ cls := "KernelGymModel", name := "counter", desc := "()I" } : Jvm.MethodName) prog_28_method_88_code (1 : Nat) (Option.some Jvm.ClassFile.FieldType.int)) ∈ lw_all := lw_g (lw_at lw_m14 79 rfl) rfl
theorem q3318 : (Jvm.Cond.instanceMethod ({ cls := "KernelGymModel", name := "stack", desc := "()I" } : Jvm.MethodName)) ∈ lw_all := lw_g (lw_at lw_m14 81 rfl) rfl
theorem q3319 : (Jvm.Cond.selects "KernelGymModel" ({ cls := "KernelGymModel", name := "stack", desc := "()I" } : Jvm.MethodName) ({ cls := "KernelGymModel", name := "stack", desc := "()I" } : Jvm.MethodName)) ∈ lw_all := lw_g (lw_at lw_m14 82 rfl) rfl
theorem q3320 : (Jvm.Cond.code ({ cls := "KernelGymModel", name := "stack", desc := "()I" } : Jvm.MethodName) prog_28_method_89_code (1 : Nat) (Option.some Jvm.ClassFile.FieldType.int)) ∈ lw_all := lw_g (lw_at lw_m14 83 rfl) rfl
theorem q3322 : (Jvm.Cond.instanceMethod ({ cls := "KernelGymModel", name := "flags", desc := "()I" } : Jvm.MethodName)) ∈ lw_all := lw_g (lw_at lw_m14 85 rfl) rfl
theorem q3323 : (Jvm.Cond.selects "KernelGymModel" ({ cls := "KernelGymModel", name := "flags", desc := "()I" } : Jvm.MethodName) ({ cls := "KernelGymModel", name := "flags", desc := "()I" } : Jvm.MethodName)) ∈ lw_all := lw_g (lw_at lw_m14 86 rfl) rfl
theorem q3324 : (Jvm.Cond.code ({ cls := "KernelGymModel", name := "flags", desc := "()I" } : Jvm.MethodName) prog_28_method_91_code (1 : Nat) (Option.some Jvm.ClassFile.FieldType.int)) ∈ lw_all := lw_g (lw_at lw_m14 87 rfl) rfl
theorem q3325 : (Jvm.Cond.methodLink "KernelGymModel" (435 : Nat) ({ cls := "KernelGymModel", name := "flagsOf", desc := "()I" } : Jvm.MethodName)) ∈ lw_all := lw_g (lw_at lw_m14 88 rfl) rfl
theorem q3326 : (Jvm.Cond.privateMethod ({ cls := "KernelGymModel", name := "flagsOf", desc := "()I" } : Jvm.MethodName)) ∈ lw_tbl := lw_at lw_m14 89 rfl
theorem q3327 : (Jvm.Cond.instanceMethod ({ cls := "KernelGymModel", name := "flagsOf", desc := "()I" } : Jvm.MethodName)) ∈ lw_all := lw_g (lw_at lw_m14 90 rfl) rfl
theorem q3328 : (Jvm.Cond.code ({ cls := "KernelGymModel", name := "flagsOf", desc := "()I" } : Jvm.MethodName) prog_28_method_90_code (1 : Nat) (Option.some Jvm.ClassFile.FieldType.int)) ∈ lw_all := lw_g (lw_at lw_m14 91 rfl) rfl
theorem q3330 : (Jvm.Cond.instanceMethod ({ cls := "KernelGymModel", name := "writesLeft", desc := "()I" } : Jvm.MethodName)) ∈ lw_all := lw_g (lw_at lw_m14 93 rfl) rfl
theorem q3331 : (Jvm.Cond.selects "KernelGymModel" ({ cls := "KernelGymModel", name := "writesLeft", desc := "()I" } : Jvm.MethodName) ({ cls := "KernelGymModel", name := "writesLeft", desc := "()I" } : Jvm.MethodName)) ∈ lw_all := lw_g (lw_at lw_m14 94 rfl) rfl
theorem q3332 : (Jvm.Cond.code ({ cls := "KernelGymModel", name := "writesLeft", desc := "()I" } : Jvm.MethodName) prog_28_method_92_code (1 : Nat) (Option.some Jvm.ClassFile.FieldType.int)) ∈ lw_all := lw_g (lw_at lw_m14 95 rfl) rfl
theorem q3334 : (Jvm.Cond.instanceMethod ({ cls := "KernelGymModel", name := "register", desc := "(I)I" } : Jvm.MethodName)) ∈ lw_all := lw_g (lw_at lw_m14 97 rfl) rfl
theorem q3335 : (Jvm.Cond.selects "KernelGymModel" ({ cls := "KernelGymModel", name := "register", desc := "(I)I" } : Jvm.MethodName) ({ cls := "KernelGymModel", name := "register", desc := "(I)I" } : Jvm.MethodName)) ∈ lw_all := lw_g (lw_at lw_m14 98 rfl) rfl
theorem q3336 : (Jvm.Cond.code ({ cls := "KernelGymModel", name := "register", desc := "(I)I" } : Jvm.MethodName) prog_28_method_93_code (2 : Nat) (Option.some Jvm.ClassFile.FieldType.int)) ∈ lw_all := lw_g (lw_at lw_m14 99 rfl) rfl
theorem q3338 : (Jvm.Cond.instanceMethod ({ cls := "KernelGymModel", name := "memory", desc := "(I)I" } : Jvm.MethodName)) ∈ lw_all := lw_g (lw_at lw_m14 101 rfl) rfl
theorem q3339 : (Jvm.Cond.selects "KernelGymModel" ({ cls := "KernelGymModel", name := "memory", desc := "(I)I" } : Jvm.MethodName) ({ cls := "KernelGymModel", name := "memory", desc := "(I)I" } : Jvm.MethodName)) ∈ lw_all := lw_g (lw_at lw_m14 102 rfl) rfl
theorem q3340 : (Jvm.Cond.code ({ cls := "KernelGymModel", name := "memory", desc := "(I)I" } : Jvm.MethodName) prog_28_method_95_code (2 : Nat) (Option.some Jvm.ClassFile.FieldType.int)) ∈ lw_all := lw_g (lw_at lw_m14 103 rfl) rfl
theorem q3341 : (Jvm.Cond.methodLink "KernelGymModel" (438 : Nat) ({ cls := "KernelGymModel", name := "isAddress", desc := "(I)Z" } : Jvm.MethodName)) ∈ lw_all := lw_g (lw_at lw_m14 104 rfl) rfl
theorem q3342 : (Jvm.Cond.static ({ cls := "KernelGymModel", name := "isAddress", desc := "(I)Z" } : Jvm.MethodName)) ∈ lw_all := lw_g (lw_at lw_m14 105 rfl) rfl
theorem q3343 : (Jvm.Cond.code ({ cls := "KernelGymModel", name := "isAddress", desc := "(I)Z" } : Jvm.MethodName) prog_28_method_94_code (1 : Nat) (Option.some Jvm.ClassFile.FieldType.boolean)) ∈ lw_all := lw_g (lw_at lw_m14 106 rfl) rfl
theorem q3345 : (Jvm.Cond.instanceMethod ({ cls := "KernelGymModel", name := "changedAt", desc := "(I)I" } : Jvm.MethodName)) ∈ lw_all := lw_g (lw_at lw_m14 108 rfl) rfl
theorem q3346 : (Jvm.Cond.selects "KernelGymModel" ({ cls := "KernelGymModel", name := "changedAt", desc := "(I)I" } : Jvm.MethodName) ({ cls := "KernelGymModel", name := "changedAt", desc := "(I)I" } : Jvm.MethodName)) ∈ lw_all := lw_g (lw_at lw_m14 109 rfl) rfl
theorem q3347 : (Jvm.Cond.code ({ cls := "KernelGymModel", name := "changedAt", desc := "(I)I" } : Jvm.MethodName) prog_28_method_96_code (3 : Nat) (Option.some Jvm.ClassFile.FieldType.int)) ∈ lw_all := lw_g (lw_at lw_m14 110 rfl) rfl
theorem q3349 : (Jvm.Cond.instanceMethod ({ cls := "KernelGymModel", name := "tape", desc := "()I" } : Jvm.MethodName)) ∈ lw_all := lw_g (lw_at lw_m14 112 rfl) rfl
theorem q3350 : (Jvm.Cond.selects "KernelGymModel" ({ cls := "KernelGymModel", name := "tape", desc := "()I" } : Jvm.MethodName) ({ cls := "KernelGymModel", name := "tape", desc := "()I" } : Jvm.MethodName)) ∈ lw_all := lw_g (lw_at lw_m14 113 rfl) rfl
theorem q3351 : (Jvm.Cond.code ({ cls := "KernelGymModel", name := "tape", desc := "()I" } : Jvm.MethodName) prog_28_method_97_code (1 : Nat) (Option.some Jvm.ClassFile.FieldType.int)) ∈ lw_all := lw_g (lw_at lw_m14 114 rfl) rfl
theorem q3353 : (Jvm.Cond.instanceMethod ({ cls := "KernelGymModel", name := "tapeAt", desc := "(I)I" } : Jvm.MethodName)) ∈ lw_all := lw_g (lw_at lw_m14 116 rfl) rfl
theorem q3354 : (Jvm.Cond.selects "KernelGymModel" ({ cls := "KernelGymModel", name := "tapeAt", desc := "(I)I" } : Jvm.MethodName) ({ cls := "KernelGymModel", name := "tapeAt", desc := "(I)I" } : Jvm.MethodName)) ∈ lw_all := lw_g (lw_at lw_m14 117 rfl) rfl
theorem q3355 : (Jvm.Cond.code ({ cls := "KernelGymModel", name := "tapeAt", desc := "(I)I" } : Jvm.MethodName) prog_28_method_98_code (2 : Nat) (Option.some Jvm.ClassFile.FieldType.int)) ∈ lw_all := lw_g (lw_at lw_m14 118 rfl) rfl
theorem q3357 : (Jvm.Cond.instanceMethod ({ cls := "KernelGymModel", name := "sum", desc := "()I" } : Jvm.MethodName)) ∈ lw_all := lw_g (lw_at lw_m14 120 rfl) rfl
theorem q3358 : (Jvm.Cond.selects "KernelGymModel" ({ cls := "KernelGymModel", name := "sum", desc := "()I" } : Jvm.MethodName) ({ cls := "KernelGymModel", name := "sum", desc := "()I" } : Jvm.MethodName)) ∈ lw_all := lw_g (lw_at lw_m14 121 rfl) rfl
theorem q3359 : (Jvm.Cond.code ({ cls := "KernelGymModel", name := "sum", desc := "()I" } : Jvm.MethodName) prog_28_method_101_code (1 : Nat) (Option.some Jvm.ClassFile.FieldType.int)) ∈ lw_all := lw_g (lw_at lw_m14 122 rfl) rfl
theorem q3360 : (Jvm.Cond.methodLink "KernelGymModel" (448 : Nat) ({ cls := "KernelGymModel", name := "sumOf", desc := "()I" } : Jvm.MethodName)) ∈ lw_all := lw_g (lw_at lw_m14 123 rfl) rfl
theorem q3361 : (Jvm.Cond.privateMethod ({ cls := "KernelGymModel", name := "sumOf", desc := "()I" } : Jvm.MethodName)) ∈ lw_tbl := lw_at lw_m14 124 rfl
theorem q3362 : (Jvm.Cond.instanceMethod ({ cls := "KernelGymModel", name := "sumOf", desc := "()I" } : Jvm.MethodName)) ∈ lw_all := lw_g (lw_at lw_m14 125 rfl) rfl
theorem q3363 : (Jvm.Cond.code ({ cls := "KernelGymModel", name := "sumOf", desc := "()I" } : Jvm.MethodName) prog_28_method_100_code (3 : Nat) (Option.some Jvm.ClassFile.FieldType.int)) ∈ lw_all := lw_g (lw_at lw_m14 126 rfl) rfl
theorem q3364 : (Jvm.Cond.methodLink "KernelGymModel" (445 : Nat) ({ cls := "KernelGymModel", name := "added", desc := "(II)I" } : Jvm.MethodName)) ∈ lw_all := lw_g (lw_at lw_m14 127 rfl) rfl
theorem q3365 : (Jvm.Cond.static ({ cls := "KernelGymModel", name := "added", desc := "(II)I" } : Jvm.MethodName)) ∈ lw_all := lw_g (lw_at lw_m14 128 rfl) rfl
theorem q3366 : (Jvm.Cond.code ({ cls := "KernelGymModel", name := "added", desc := "(II)I" } : Jvm.MethodName) prog_28_method_99_code (2 : Nat) (Option.some Jvm.ClassFile.FieldType.int)) ∈ lw_all := lw_g (lw_at lw_m14 129 rfl) rfl
theorem q3367 : (Jvm.Cond.constantLong "KernelGymModel" (441 : Nat) (31 : Int64)) ∈ lw_all := lw_g (lw_at lw_m14 130 rfl) rfl
theorem q3368 : (Jvm.Cond.constantLong "KernelGymModel" (443 : Nat) (1000003 : Int64)) ∈ lw_all := lw_g (lw_at lw_m14 131 rfl) rfl
theorem q3370 : (Jvm.Cond.instanceMethod ({ cls := "KernelGymModel", name := "sumAnew", desc := "(I)I" } : Jvm.MethodName)) ∈ lw_all := lw_g (lw_at lw_m14 133 rfl) rfl
theorem q3371 : (Jvm.Cond.selects "KernelGymModel" ({ cls := "KernelGymModel", name := "sumAnew", desc := "(I)I" } : Jvm.MethodName) ({ cls := "KernelGymModel", name := "sumAnew", desc := "(I)I" } : Jvm.MethodName)) ∈ lw_all := lw_g (lw_at lw_m14 134 rfl) rfl
theorem q3372 : (Jvm.Cond.code ({ cls := "KernelGymModel", name := "sumAnew", desc := "(I)I" } : Jvm.MethodName) prog_28_method_102_code (4 : Nat) (Option.some Jvm.ClassFile.FieldType.int)) ∈ lw_all := lw_g (lw_at lw_m14 135 rfl) rfl
theorem q3374 : (Jvm.Cond.instanceMethod ({ cls := "KernelGymModel", name := "written", desc := "()I" } : Jvm.MethodName)) ∈ lw_all := lw_g (lw_at lw_m14 137 rfl) rfl
theorem q3375 : (Jvm.Cond.selects "KernelGymModel" ({ cls := "KernelGymModel", name := "written", desc := "()I" } : Jvm.MethodName) ({ cls := "KernelGymModel", name := "written", desc := "()I" } : Jvm.MethodName)) ∈ lw_all := lw_g (lw_at lw_m14 138 rfl) rfl
theorem q3376 : (Jvm.Cond.code ({ cls := "KernelGymModel", name := "written", desc := "()I" } : Jvm.MethodName) prog_28_method_104_code (1 : Nat) (Option.some Jvm.ClassFile.FieldType.int)) ∈ lw_all := lw_g (lw_at lw_m14 139 rfl) rfl
theorem q3378 : (Jvm.Cond.instanceMethod ({ cls := "KernelGymModel", name := "disk", desc := "(II)I" } : Jvm.MethodName)) ∈ lw_all := lw_g (lw_at lw_m14 141 rfl) rfl
theorem q3379 : (Jvm.Cond.selects "KernelGymModel" ({ cls := "KernelGymModel", name := "disk", desc := "(II)I" } : Jvm.MethodName) ({ cls := "KernelGymModel", name := "disk", desc := "(II)I" } : Jvm.MethodName)) ∈ lw_all := lw_g (lw_at lw_m14 142 rfl) rfl
theorem q3380 : (Jvm.Cond.code ({ cls := "KernelGymModel", name := "disk", desc := "(II)I" } : Jvm.MethodName) prog_28_method_105_code (3 : Nat) (Option.some Jvm.ClassFile.FieldType.int)) ∈ lw_all := lw_g (lw_at lw_m14 143 rfl) rfl
theorem q3382 : (Jvm.Cond.instanceMethod ({ cls := "KernelGymModel", name := "files", desc := "()I" } : Jvm.MethodName)) ∈ lw_all := lw_g (lw_at lw_m14 145 rfl) rfl
theorem q3383 : (Jvm.Cond.selects "KernelGymModel" ({ cls := "KernelGymModel", name := "files", desc := "()I" } : Jvm.MethodName) ({ cls := "KernelGymModel", name := "files", desc := "()I" } : Jvm.MethodName)) ∈ lw_all := lw_g (lw_at lw_m14 146 rfl) rfl
theorem q3384 : (Jvm.Cond.code ({ cls := "KernelGymModel", name := "files", desc := "()I" } : Jvm.MethodName) prog_28_method_106_code (1 : Nat) (Option.some Jvm.ClassFile.FieldType.int)) ∈ lw_all := lw_g (lw_at lw_m14 147 rfl) rfl
theorem q3386 : (Jvm.Cond.instanceMethod ({ cls := "KernelGymModel", name := "size", desc := "(I)I" } : Jvm.MethodName)) ∈ lw_all := lw_g (lw_at lw_m14 149 rfl) rfl
theorem q3387 : (Jvm.Cond.selects "KernelGymModel" ({ cls := "KernelGymModel", name := "size", desc := "(I)I" } : Jvm.MethodName) ({ cls := "KernelGymModel", name := "size", desc := "(I)I" } : Jvm.MethodName)) ∈ lw_all := lw_g (lw_at lw_m14 150 rfl) rfl
theorem q3388 : (Jvm.Cond.code ({ cls := "KernelGymModel", name := "size", desc := "(I)I" } : Jvm.MethodName) prog_28_method_108_code (2 : Nat) (Option.some Jvm.ClassFile.FieldType.int)) ∈ lw_all := lw_g (lw_at lw_m14 151 rfl) rfl
theorem q3389 : (Jvm.Cond.methodLink "KernelGymModel" (451 : Nat) ({ cls := "KernelGymModel", name := "errorOfName", desc := "(I)I" } : Jvm.MethodName)) ∈ lw_all := lw_g (lw_at lw_m14 152 rfl) rfl
theorem q3390 : (Jvm.Cond.privateMethod ({ cls := "KernelGymModel", name := "errorOfName", desc := "(I)I" } : Jvm.MethodName)) ∈ lw_tbl := lw_at lw_m14 153 rfl
theorem q3391 : (Jvm.Cond.instanceMethod ({ cls := "KernelGymModel", name := "errorOfName", desc := "(I)I" } : Jvm.MethodName)) ∈ lw_all := lw_g (lw_at lw_m14 154 rfl) rfl
theorem q3392 : (Jvm.Cond.code ({ cls := "KernelGymModel", name := "errorOfName", desc := "(I)I" } : Jvm.MethodName) prog_28_method_107_code (2 : Nat) (Option.some Jvm.ClassFile.FieldType.int)) ∈ lw_all := lw_g (lw_at lw_m14 155 rfl) rfl
theorem q3394 : (Jvm.Cond.instanceMethod ({ cls := "KernelGymModel", name := "wordOf", desc := "(II)I" } : Jvm.MethodName)) ∈ lw_all := lw_g (lw_at lw_m14 157 rfl) rfl
theorem q3395 : (Jvm.Cond.selects "KernelGymModel" ({ cls := "KernelGymModel", name := "wordOf", desc := "(II)I" } : Jvm.MethodName) ({ cls := "KernelGymModel", name := "wordOf", desc := "(II)I" } : Jvm.MethodName)) ∈ lw_all := lw_g (lw_at lw_m14 158 rfl) rfl
theorem q3396 : (Jvm.Cond.code ({ cls := "KernelGymModel", name := "wordOf", desc := "(II)I" } : Jvm.MethodName) prog_28_method_109_code (5 : Nat) (Option.some Jvm.ClassFile.FieldType.int)) ∈ lw_all := lw_g (lw_at lw_m14 159 rfl) rfl
theorem q3398 : (Jvm.Cond.instanceMethod ({ cls := "KernelGymModel", name := "freeBlocks", desc := "()I" } : Jvm.MethodName)) ∈ lw_all := lw_g (lw_at lw_m14 161 rfl) rfl
theorem q3399 : (Jvm.Cond.selects "KernelGymModel" ({ cls := "KernelGymModel", name := "freeBlocks", desc := "()I" } : Jvm.MethodName) ({ cls := "KernelGymModel", name := "freeBlocks", desc := "()I" } : Jvm.MethodName)) ∈ lw_all := lw_g (lw_at lw_m14 162 rfl) rfl
theorem q3400 : (Jvm.Cond.code ({ cls := "KernelGymModel", name := "freeBlocks", desc := "()I" } : Jvm.MethodName) prog_28_method_110_code (3 : Nat) (Option.some Jvm.ClassFile.FieldType.int)) ∈ lw_all := lw_g (lw_at lw_m14 163 rfl) rfl
theorem q3402 : (Jvm.Cond.instanceMethod ({ cls := "KernelGymModel", name := "isWhole", desc := "()Z" } : Jvm.MethodName)) ∈ lw_all := lw_g (lw_at lw_m14 165 rfl) rfl
theorem q3403 : (Jvm.Cond.selects "KernelGymModel" ({ cls := "KernelGymModel", name := "isWhole", desc := "()Z" } : Jvm.MethodName) ({ cls := "KernelGymModel", name := "isWhole", desc := "()Z" } : Jvm.MethodName)) ∈ lw_all := lw_g (lw_at lw_m14 166 rfl) rfl
theorem q3404 : (Jvm.Cond.code ({ cls := "KernelGymModel", name := "isWhole", desc := "()Z" } : Jvm.MethodName) prog_28_method_113_code (1 : Nat) (Option.some Jvm.ClassFile.FieldType.boolean)) ∈ lw_all := lw_g (lw_at lw_m14 167 rfl) rfl
theorem q3405 : (Jvm.Cond.methodLink "KernelGymModel" (457 : Nat) ({ cls := "KernelGymModel", name := "isWholeNow", desc := "()Z" } : Jvm.MethodName)) ∈ lw_all := lw_g (lw_at lw_m14 168 rfl) rfl
theorem q3406 : (Jvm.Cond.privateMethod ({ cls := "KernelGymModel", name := "isWholeNow", desc := "()Z" } : Jvm.MethodName)) ∈ lw_tbl := lw_at lw_m14 169 rfl
theorem q3407 : (Jvm.Cond.instanceMethod ({ cls := "KernelGymModel", name := "isWholeNow", desc := "()Z" } : Jvm.MethodName)) ∈ lw_all := lw_g (lw_at lw_m14 170 rfl) rfl
theorem q3408 : (Jvm.Cond.code ({ cls := "KernelGymModel", name := "isWholeNow", desc := "()Z" } : Jvm.MethodName) prog_28_method_112_code (6 : Nat) (Option.some Jvm.ClassFile.FieldType.boolean)) ∈ lw_all := lw_g (lw_at lw_m14 171 rfl) rfl
theorem q3409 : (Jvm.Cond.methodLink "KernelGymModel" (454 : Nat) ({ cls := "KernelGymModel", name := "isEntrySo", desc := "(I)Z" } : Jvm.MethodName)) ∈ lw_all := lw_g (lw_at lw_m14 172 rfl) rfl
theorem q3410 : (Jvm.Cond.privateMethod ({ cls := "KernelGymModel", name := "isEntrySo", desc := "(I)Z" } : Jvm.MethodName)) ∈ lw_tbl := lw_at lw_m14 173 rfl
theorem q3411 : (Jvm.Cond.instanceMethod ({ cls := "KernelGymModel", name := "isEntrySo", desc := "(I)Z" } : Jvm.MethodName)) ∈ lw_all := lw_g (lw_at lw_m14 174 rfl) rfl
theorem q3412 : (Jvm.Cond.code ({ cls := "KernelGymModel", name := "isEntrySo", desc := "(I)Z" } : Jvm.MethodName) prog_28_method_111_code (6 : Nat) (Option.some Jvm.ClassFile.FieldType.boolean)) ∈ lw_all := lw_g (lw_at lw_m14 175 rfl) rfl
theorem q3414 : (Jvm.Cond.instanceMethod ({ cls := "KernelGymModel", name := "testKey", desc := "(I)I" } : Jvm.MethodName)) ∈ lw_all := lw_g (lw_at lw_m14 177 rfl) rfl
theorem q3415 : (Jvm.Cond.selects "KernelGymModel" ({ cls := "KernelGymModel", name := "testKey", desc := "(I)I" } : Jvm.MethodName) ({ cls := "KernelGymModel", name := "testKey", desc := "(I)I" } : Jvm.MethodName)) ∈ lw_all := lw_g (lw_at lw_m14 178 rfl) rfl
theorem q3416 : (Jvm.Cond.code ({ cls := "KernelGymModel", name := "testKey", desc := "(I)I" } : Jvm.MethodName) prog_28_method_114_code (2 : Nat) (Option.some Jvm.ClassFile.FieldType.int)) ∈ lw_all := lw_g (lw_at lw_m14 179 rfl) rfl
theorem q3418 : (Jvm.Cond.instanceMethod ({ cls := "KernelGymModel", name := "testWord", desc := "(I)I" } : Jvm.MethodName)) ∈ lw_all := lw_g (lw_at lw_m14 181 rfl) rfl
theorem q3419 : (Jvm.Cond.selects "KernelGymModel" ({ cls := "KernelGymModel", name := "testWord", desc := "(I)I" } : Jvm.MethodName) ({ cls := "KernelGymModel", name := "testWord", desc := "(I)I" } : Jvm.MethodName)) ∈ lw_all := lw_g (lw_at lw_m14 182 rfl) rfl
theorem q3420 : (Jvm.Cond.code ({ cls := "KernelGymModel", name := "testWord", desc := "(I)I" } : Jvm.MethodName) prog_28_method_115_code (2 : Nat) (Option.some Jvm.ClassFile.FieldType.int)) ∈ lw_all := lw_g (lw_at lw_m14 183 rfl) rfl
theorem q3422 : (Jvm.Cond.instanceMethod ({ cls := "KernelGymModel", name := "addTest", desc := "(IIII)I" } : Jvm.MethodName)) ∈ lw_all := lw_g (lw_at lw_m14 185 rfl) rfl
theorem q3423 : (Jvm.Cond.selects "KernelGymModel" ({ cls := "KernelGymModel", name := "addTest", desc := "(IIII)I" } : Jvm.MethodName) ({ cls := "KernelGymModel", name := "addTest", desc := "(IIII)I" } : Jvm.MethodName)) ∈ lw_all := lw_g (lw_at lw_m14 186 rfl) rfl
theorem q3424 : (Jvm.Cond.code ({ cls := "KernelGymModel", name := "addTest", desc := "(IIII)I" } : Jvm.MethodName) prog_28_method_116_code (7 : Nat) (Option.some Jvm.ClassFile.FieldType.int)) ∈ lw_all := lw_g (lw_at lw_m14 187 rfl) rfl
theorem q3426 : (Jvm.Cond.instanceMethod ({ cls := "KernelGymModel", name := "tests", desc := "()I" } : Jvm.MethodName)) ∈ lw_all := lw_g (lw_at lw_m14 189 rfl) rfl
theorem q3427 : (Jvm.Cond.selects "KernelGymModel" ({ cls := "KernelGymModel", name := "tests", desc := "()I" } : Jvm.MethodName) ({ cls := "KernelGymModel", name := "tests", desc := "()I" } : Jvm.MethodName)) ∈ lw_all := lw_g (lw_at lw_m14 190 rfl) rfl
theorem q3428 : (Jvm.Cond.code ({ cls := "KernelGymModel", name := "tests", desc := "()I" } : Jvm.MethodName) prog_28_method_117_code (1 : Nat) (Option.some Jvm.ClassFile.FieldType.int)) ∈ lw_all := lw_g (lw_at lw_m14 191 rfl) rfl
theorem q3430 : (Jvm.Cond.instanceMethod ({ cls := "KernelGymModel", name := "submit", desc := "()I" } : Jvm.MethodName)) ∈ lw_all := lw_g (lw_at lw_m14 193 rfl) rfl
theorem q3431 : (Jvm.Cond.selects "KernelGymModel" ({ cls := "KernelGymModel", name := "submit", desc := "()I" } : Jvm.MethodName) ({ cls := "KernelGymModel", name := "submit", desc := "()I" } : Jvm.MethodName)) ∈ lw_all := lw_g (lw_at lw_m14 194 rfl) rfl
theorem q3432 : (Jvm.Cond.code ({ cls := "KernelGymModel", name := "submit", desc := "()I" } : Jvm.MethodName) prog_28_method_120_code (7 : Nat) (Option.some Jvm.ClassFile.FieldType.int)) ∈ lw_all := lw_g (lw_at lw_m14 195 rfl) rfl
theorem q3433 : (Jvm.Cond.methodLink "KernelGymModel" (472 : Nat) ({ cls := "KernelGymModel", name := "madeTest", desc := "(I)I" } : Jvm.MethodName)) ∈ lw_all := lw_g (lw_at lw_m14 196 rfl) rfl
theorem q3434 : (Jvm.Cond.privateMethod ({ cls := "KernelGymModel", name := "madeTest", desc := "(I)I" } : Jvm.MethodName)) ∈ lw_tbl := lw_at lw_m14 197 rfl
theorem q3435 : (Jvm.Cond.instanceMethod ({ cls := "KernelGymModel", name := "madeTest", desc := "(I)I" } : Jvm.MethodName)) ∈ lw_all := lw_g (lw_at lw_m14 198 rfl) rfl
theorem q3436 : (Jvm.Cond.code ({ cls := "KernelGymModel", name := "madeTest", desc := "(I)I" } : Jvm.MethodName) prog_28_method_119_code (3 : Nat) (Option.some Jvm.ClassFile.FieldType.int)) ∈ lw_all := lw_g (lw_at lw_m14 199 rfl) rfl
theorem q3437 : (Jvm.Cond.methodLink "KernelGymModel" (469 : Nat) ({ cls := "KernelGymModel", name := "isTapeOf", desc := "(I)Z" } : Jvm.MethodName)) ∈ lw_all := lw_g (lw_at lw_m14 200 rfl) rfl
theorem q3438 : (Jvm.Cond.privateMethod ({ cls := "KernelGymModel", name := "isTapeOf", desc := "(I)Z" } : Jvm.MethodName)) ∈ lw_tbl := lw_at lw_m14 201 rfl
theorem q3439 : (Jvm.Cond.instanceMethod ({ cls := "KernelGymModel", name := "isTapeOf", desc := "(I)Z" } : Jvm.MethodName)) ∈ lw_all := lw_g (lw_at lw_m14 202 rfl) rfl
theorem q3440 : (Jvm.Cond.code ({ cls := "KernelGymModel", name := "isTapeOf", desc := "(I)Z" } : Jvm.MethodName) prog_28_method_118_code (4 : Nat) (Option.some Jvm.ClassFile.FieldType.boolean)) ∈ lw_all := lw_g (lw_at lw_m14 203 rfl) rfl
theorem q3442 : (Jvm.Cond.instanceMethod ({ cls := "KernelGymModel", name := "result", desc := "(I)I" } : Jvm.MethodName)) ∈ lw_all := lw_g (lw_at lw_m14 205 rfl) rfl
theorem q3443 : (Jvm.Cond.selects "KernelGymModel" ({ cls := "KernelGymModel", name := "result", desc := "(I)I" } : Jvm.MethodName) ({ cls := "KernelGymModel", name := "result", desc := "(I)I" } : Jvm.MethodName)) ∈ lw_all := lw_g (lw_at lw_m14 206 rfl) rfl
theorem q3444 : (Jvm.Cond.code ({ cls := "KernelGymModel", name := "result", desc := "(I)I" } : Jvm.MethodName) prog_28_method_121_code (2 : Nat) (Option.some Jvm.ClassFile.FieldType.int)) ∈ lw_all := lw_g (lw_at lw_m14 207 rfl) rfl
theorem q3446 : (Jvm.Cond.instanceMethod ({ cls := "KernelGymModel", name := "mark", desc := "()I" } : Jvm.MethodName)) ∈ lw_all := lw_g (lw_at lw_m14 209 rfl) rfl
theorem q3447 : (Jvm.Cond.selects "KernelGymModel" ({ cls := "KernelGymModel", name := "mark", desc := "()I" } : Jvm.MethodName) ({ cls := "KernelGymModel", name := "mark", desc := "()I" } : Jvm.MethodName)) ∈ lw_all := lw_g (lw_at lw_m14 210 rfl) rfl
theorem q3448 : (Jvm.Cond.code ({ cls := "KernelGymModel", name := "mark", desc := "()I" } : Jvm.MethodName) prog_28_method_122_code (3 : Nat) (Option.some Jvm.ClassFile.FieldType.int)) ∈ lw_all := lw_g (lw_at lw_m14 211 rfl) rfl
theorem q3481 : (Jvm.Cond.castable "KernelGymModel" "java/lang/Object") ∈ lw_tbl := lw_at lw_m15 4 rfl
theorem in_X3 : ∀ w ∈ wsX30, w ∈ lw_all := lw_in wsX30 [2827, 2829, 2831, 2833, 2835, 2837, 2839, 2841, 2843, 2845, 2847, 2849, 2851, 2853, 2855, 2857, 2859, 2861, 2863, 2865, 2867, 2869, 2871, 2873, 2875, 2877, 2879, 2881, 2883, 2885, 2887, 2889, 2891, 2893, 2895, 2897, 2899, 2901, 2903, 2905, 2907, 2909, 2911, 2913, 2915, 2917, 2919, 2921, 2923, 2925, 2927, 2929, 2931, 2933, 2935, 2937, 2939, 2941, 2943, 2945, 2947, 2949, 2951, 2953, 2955, 2957, 2959, 2961, 2963, 2965, 2967, 2969, 2971, 2973] (by decide +kernel) (by decide +kernel)

