set_option maxRecDepth 100000
/-! KernelGym -/
def RX1 : String := "KernelGym"
def TX1 : u_T := fun k => match k with
  | 0 => ("KernelGym", "lines", "Ljava/util/List;", true)
  | 1 => ("KernelGym", "machine", "LKernelGym$Machine;", true)
  | 2 => ("KernelGym", "tests", "Ljava/util/List;", true)
  | 3 => ("KernelGym", "draftKeys", "Ljava/util/LinkedList;", true)
  | 4 => ("KernelGym", "draftWords", "Ljava/util/LinkedList;", true)
  | _ => ("KernelGym", "image", "[I", false)
def tyX1 : Nat → FieldType := fun k => match k with
  | 0 => .object "java/util/List"
  | 1 => .object "KernelGym$Machine"
  | 2 => .object "java/util/List"
  | 3 => .object "java/util/LinkedList"
  | 4 => .object "java/util/LinkedList"
  | _ => .array .int
abbrev wsX10 : List Cond := u_ws RX1 TX1 6
theorem nmX1 : ∀ a, a < 6 → ∀ b, b < 6 → a ≠ b → (TX1 a).2.1 ≠ (TX1 b).2.1 := by decide +kernel
theorem tyX1_ok : ∀ k, k < 6 → parseFieldDescriptor (TX1 k).2.2.1 = some (tyX1 k) := by decide +kernel
abbrev cX1_init : ByteArray := prog_1_method_3_code
def yX1_init : MethodName := ⟨RX1, "<init>", "()V"⟩
def dkwX1_init_2 : List UInt8 := [181, 0, 36, 42, 187, 0, 33, 89, 183, 0, 35, 181, 0, 40, 177]
abbrev dktX1_init_2 : List UInt8 := dkwX1_init_2 ++ []
def dkwX1_init_1 : List UInt8 := [181, 0, 26, 42, 187, 0, 12, 89, 183, 0, 14, 181, 0, 30, 42, 187, 0, 33, 89, 183, 0, 35]
abbrev dktX1_init_1 : List UInt8 := dkwX1_init_1 ++ dktX1_init_2
def dkwX1_init_0 : List UInt8 := [42, 183, 0, 7, 42, 187, 0, 12, 89, 183, 0, 14, 181, 0, 15, 42, 187, 0, 21, 89, 4, 183, 0, 23]
abbrev dktX1_init_0 : List UInt8 := dkwX1_init_0 ++ dktX1_init_1
theorem dksX1_init_0 : cX1_init.data.toList.drop 0 = dktX1_init_0 := by decide +kernel
theorem dksX1_init_1 : cX1_init.data.toList.drop 24 = dktX1_init_1 := dk_seg dksX1_init_0 24 rfl rfl
theorem dksX1_init_2 : cX1_init.data.toList.drop 46 = dktX1_init_2 := dk_seg dksX1_init_1 22 rfl rfl
theorem dX1_init_0 : decode cX1_init 0 = .ok (.aload_n 0, 1) := dk_42 (dk_at dksX1_init_0 0 rfl rfl)
theorem dX1_init_1 : decode cX1_init 1 = .ok (.invokespecial 7, 3) := dk_183 0 7 (dk_at dksX1_init_0 1 rfl rfl)
theorem dX1_init_4 : decode cX1_init 4 = .ok (.aload_n 0, 1) := dk_42 (dk_at dksX1_init_0 4 rfl rfl)
theorem dX1_init_5 : decode cX1_init 5 = .ok (.new 12, 3) := dk_187 0 12 (dk_at dksX1_init_0 5 rfl rfl)
theorem dX1_init_8 : decode cX1_init 8 = .ok (.dup, 1) := dk_89 (dk_at dksX1_init_0 8 rfl rfl)
theorem dX1_init_9 : decode cX1_init 9 = .ok (.invokespecial 14, 3) := dk_183 0 14 (dk_at dksX1_init_0 9 rfl rfl)
theorem dX1_init_12 : decode cX1_init 12 = .ok (.putfield 15, 3) := dk_181 0 15 (dk_at dksX1_init_0 12 rfl rfl)
theorem dX1_init_15 : decode cX1_init 15 = .ok (.aload_n 0, 1) := dk_42 (dk_at dksX1_init_0 15 rfl rfl)
theorem dX1_init_16 : decode cX1_init 16 = .ok (.new 21, 3) := dk_187 0 21 (dk_at dksX1_init_0 16 rfl rfl)
theorem dX1_init_19 : decode cX1_init 19 = .ok (.dup, 1) := dk_89 (dk_at dksX1_init_0 19 rfl rfl)
theorem dX1_init_20 : decode cX1_init 20 = .ok (.iconst 1, 1) := dk_4 (dk_at dksX1_init_0 20 rfl rfl)
theorem dX1_init_21 : decode cX1_init 21 = .ok (.invokespecial 23, 3) := dk_183 0 23 (dk_at dksX1_init_0 21 rfl rfl)
theorem dX1_init_24 : decode cX1_init 24 = .ok (.putfield 26, 3) := dk_181 0 26 (dk_at dksX1_init_1 0 rfl rfl)
theorem dX1_init_27 : decode cX1_init 27 = .ok (.aload_n 0, 1) := dk_42 (dk_at dksX1_init_1 3 rfl rfl)
theorem dX1_init_28 : decode cX1_init 28 = .ok (.new 12, 3) := dk_187 0 12 (dk_at dksX1_init_1 4 rfl rfl)
theorem dX1_init_31 : decode cX1_init 31 = .ok (.dup, 1) := dk_89 (dk_at dksX1_init_1 7 rfl rfl)
theorem dX1_init_32 : decode cX1_init 32 = .ok (.invokespecial 14, 3) := dk_183 0 14 (dk_at dksX1_init_1 8 rfl rfl)
theorem dX1_init_35 : decode cX1_init 35 = .ok (.putfield 30, 3) := dk_181 0 30 (dk_at dksX1_init_1 11 rfl rfl)
theorem dX1_init_38 : decode cX1_init 38 = .ok (.aload_n 0, 1) := dk_42 (dk_at dksX1_init_1 14 rfl rfl)
theorem dX1_init_39 : decode cX1_init 39 = .ok (.new 33, 3) := dk_187 0 33 (dk_at dksX1_init_1 15 rfl rfl)
theorem dX1_init_42 : decode cX1_init 42 = .ok (.dup, 1) := dk_89 (dk_at dksX1_init_1 18 rfl rfl)
theorem dX1_init_43 : decode cX1_init 43 = .ok (.invokespecial 35, 3) := dk_183 0 35 (dk_at dksX1_init_1 19 rfl rfl)
theorem dX1_init_46 : decode cX1_init 46 = .ok (.putfield 36, 3) := dk_181 0 36 (dk_at dksX1_init_2 0 rfl rfl)
theorem dX1_init_49 : decode cX1_init 49 = .ok (.aload_n 0, 1) := dk_42 (dk_at dksX1_init_2 3 rfl rfl)
theorem dX1_init_50 : decode cX1_init 50 = .ok (.new 33, 3) := dk_187 0 33 (dk_at dksX1_init_2 4 rfl rfl)
theorem dX1_init_53 : decode cX1_init 53 = .ok (.dup, 1) := dk_89 (dk_at dksX1_init_2 7 rfl rfl)
theorem dX1_init_54 : decode cX1_init 54 = .ok (.invokespecial 35, 3) := dk_183 0 35 (dk_at dksX1_init_2 8 rfl rfl)
theorem dX1_init_57 : decode cX1_init 57 = .ok (.putfield 40, 3) := dk_181 0 40 (dk_at dksX1_init_2 11 rfl rfl)
theorem dX1_init_60 : decode cX1_init 60 = .ok (.return_, 1) := dk_177 (dk_at dksX1_init_2 14 rfl rfl)
abbrev cX1_clear : ByteArray := prog_1_method_8_code
def yX1_clear : MethodName := ⟨RX1, "clear", "()I"⟩
def dkwX1_clear_0 : List UInt8 := [42, 180, 0, 15, 185, 0, 63, 1, 0, 60, 42, 180, 0, 15, 185, 0, 76, 1, 0, 27, 172]
abbrev dktX1_clear_0 : List UInt8 := dkwX1_clear_0 ++ []
theorem dksX1_clear_0 : cX1_clear.data.toList.drop 0 = dktX1_clear_0 := by decide +kernel
theorem dX1_clear_0 : decode cX1_clear 0 = .ok (.aload_n 0, 1) := dk_42 (dk_at dksX1_clear_0 0 rfl rfl)
theorem dX1_clear_1 : decode cX1_clear 1 = .ok (.getfield 15, 3) := dk_180 0 15 (dk_at dksX1_clear_0 1 rfl rfl)
theorem dX1_clear_4 : decode cX1_clear 4 = .ok (.invokeinterface 63 1, 5) := by decide +kernel
theorem dX1_clear_9 : decode cX1_clear 9 = .ok (.istore_n 1, 1) := dk_60 (dk_at dksX1_clear_0 9 rfl rfl)
theorem dX1_clear_10 : decode cX1_clear 10 = .ok (.aload_n 0, 1) := dk_42 (dk_at dksX1_clear_0 10 rfl rfl)
theorem dX1_clear_11 : decode cX1_clear 11 = .ok (.getfield 15, 3) := dk_180 0 15 (dk_at dksX1_clear_0 11 rfl rfl)
theorem dX1_clear_14 : decode cX1_clear 14 = .ok (.invokeinterface 76 1, 5) := by decide +kernel
theorem dX1_clear_19 : decode cX1_clear 19 = .ok (.iload_n 1, 1) := dk_27 (dk_at dksX1_clear_0 19 rfl rfl)
theorem dX1_clear_20 : decode cX1_clear 20 = .ok (.ireturn, 1) := dk_172 (dk_at dksX1_clear_0 20 rfl rfl)
abbrev cX1_lines : ByteArray := prog_1_method_9_code
def yX1_lines : MethodName := ⟨RX1, "lines", "()I"⟩
def dkwX1_lines_0 : List UInt8 := [42, 180, 0, 15, 185, 0, 63, 1, 0, 172]
abbrev dktX1_lines_0 : List UInt8 := dkwX1_lines_0 ++ []
theorem dksX1_lines_0 : cX1_lines.data.toList.drop 0 = dktX1_lines_0 := by decide +kernel
theorem dX1_lines_0 : decode cX1_lines 0 = .ok (.aload_n 0, 1) := dk_42 (dk_at dksX1_lines_0 0 rfl rfl)
theorem dX1_lines_1 : decode cX1_lines 1 = .ok (.getfield 15, 3) := dk_180 0 15 (dk_at dksX1_lines_0 1 rfl rfl)
theorem dX1_lines_4 : decode cX1_lines 4 = .ok (.invokeinterface 63 1, 5) := by decide +kernel
theorem dX1_lines_9 : decode cX1_lines 9 = .ok (.ireturn, 1) := dk_172 (dk_at dksX1_lines_0 9 rfl rfl)
abbrev cX1_error : ByteArray := prog_1_method_19_code
def yX1_error : MethodName := ⟨RX1, "error", "()I"⟩
def dkwX1_error_1 : List UInt8 := [182, 0, 132, 172]
abbrev dktX1_error_1 : List UInt8 := dkwX1_error_1 ++ []
def dkwX1_error_0 : List UInt8 := [187, 0, 125, 89, 42, 183, 0, 127, 180, 0, 128, 156, 0, 7, 2, 167, 0, 4, 3, 172, 76, 43]
abbrev dktX1_error_0 : List UInt8 := dkwX1_error_0 ++ dktX1_error_1
theorem dksX1_error_0 : cX1_error.data.toList.drop 0 = dktX1_error_0 := by decide +kernel
theorem dksX1_error_1 : cX1_error.data.toList.drop 22 = dktX1_error_1 := dk_seg dksX1_error_0 22 rfl rfl
theorem dX1_error_0 : decode cX1_error 0 = .ok (.new 125, 3) := dk_187 0 125 (dk_at dksX1_error_0 0 rfl rfl)
theorem dX1_error_3 : decode cX1_error 3 = .ok (.dup, 1) := dk_89 (dk_at dksX1_error_0 3 rfl rfl)
theorem dX1_error_4 : decode cX1_error 4 = .ok (.aload_n 0, 1) := dk_42 (dk_at dksX1_error_0 4 rfl rfl)
theorem dX1_error_5 : decode cX1_error 5 = .ok (.invokespecial 127, 3) := dk_183 0 127 (dk_at dksX1_error_0 5 rfl rfl)
theorem dX1_error_8 : decode cX1_error 8 = .ok (.getfield 128, 3) := dk_180 0 128 (dk_at dksX1_error_0 8 rfl rfl)
theorem dX1_error_11 : decode cX1_error 11 = .ok (.ifCond .ge 7, 3) := dk_156 0 7 (dk_at dksX1_error_0 11 rfl rfl)
theorem dX1_error_14 : decode cX1_error 14 = .ok (.iconst (-1), 1) := dk_2 (dk_at dksX1_error_0 14 rfl rfl)
theorem dX1_error_15 : decode cX1_error 15 = .ok (.goto 4, 3) := dk_167 0 4 (dk_at dksX1_error_0 15 rfl rfl)
theorem dX1_error_18 : decode cX1_error 18 = .ok (.iconst 0, 1) := dk_3 (dk_at dksX1_error_0 18 rfl rfl)
theorem dX1_error_19 : decode cX1_error 19 = .ok (.ireturn, 1) := dk_172 (dk_at dksX1_error_0 19 rfl rfl)
theorem dX1_error_20 : decode cX1_error 20 = .ok (.astore_n 1, 1) := dk_76 (dk_at dksX1_error_0 20 rfl rfl)
theorem dX1_error_21 : decode cX1_error 21 = .ok (.aload_n 1, 1) := dk_43 (dk_at dksX1_error_0 21 rfl rfl)
theorem dX1_error_22 : decode cX1_error 22 = .ok (.invokevirtual 132, 3) := dk_182 0 132 (dk_at dksX1_error_1 0 rfl rfl)
theorem dX1_error_25 : decode cX1_error 25 = .ok (.ireturn, 1) := dk_172 (dk_at dksX1_error_1 3 rfl rfl)
abbrev cX1_check : ByteArray := prog_1_method_1_code
def yX1_check : MethodName := ⟨RX1, "check", "(ZII)V"⟩
def dkwX1_check_0 : List UInt8 := [26, 154, 0, 13, 187, 0, 1, 89, 27, 28, 183, 0, 3, 191, 177]
abbrev dktX1_check_0 : List UInt8 := dkwX1_check_0 ++ []
theorem dksX1_check_0 : cX1_check.data.toList.drop 0 = dktX1_check_0 := by decide +kernel
theorem dX1_check_0 : decode cX1_check 0 = .ok (.iload_n 0, 1) := dk_26 (dk_at dksX1_check_0 0 rfl rfl)
theorem dX1_check_1 : decode cX1_check 1 = .ok (.ifCond .ne 13, 3) := dk_154 0 13 (dk_at dksX1_check_0 1 rfl rfl)
theorem dX1_check_4 : decode cX1_check 4 = .ok (.new 1, 3) := dk_187 0 1 (dk_at dksX1_check_0 4 rfl rfl)
theorem dX1_check_7 : decode cX1_check 7 = .ok (.dup, 1) := dk_89 (dk_at dksX1_check_0 7 rfl rfl)
theorem dX1_check_8 : decode cX1_check 8 = .ok (.iload_n 1, 1) := dk_27 (dk_at dksX1_check_0 8 rfl rfl)
theorem dX1_check_9 : decode cX1_check 9 = .ok (.iload_n 2, 1) := dk_28 (dk_at dksX1_check_0 9 rfl rfl)
theorem dX1_check_10 : decode cX1_check 10 = .ok (.invokespecial 3, 3) := dk_183 0 3 (dk_at dksX1_check_0 10 rfl rfl)
theorem dX1_check_13 : decode cX1_check 13 = .ok (.athrow, 1) := dk_191 (dk_at dksX1_check_0 13 rfl rfl)
theorem dX1_check_14 : decode cX1_check 14 = .ok (.return_, 1) := dk_177 (dk_at dksX1_check_0 14 rfl rfl)
abbrev cX1_cut : ByteArray := prog_1_method_2_code
def yX1_cut : MethodName := ⟨RX1, "cut", "(J)I"⟩
def dkwX1_cut_0 : List UInt8 := [30, 136, 146, 172]
abbrev dktX1_cut_0 : List UInt8 := dkwX1_cut_0 ++ []
theorem dksX1_cut_0 : cX1_cut.data.toList.drop 0 = dktX1_cut_0 := by decide +kernel
theorem dX1_cut_0 : decode cX1_cut 0 = .ok (.lload_n 0, 1) := dk_30 (dk_at dksX1_cut_0 0 rfl rfl)
theorem dX1_cut_1 : decode cX1_cut 1 = .ok (.l2i, 1) := dk_136 (dk_at dksX1_cut_0 1 rfl rfl)
theorem dX1_cut_2 : decode cX1_cut 2 = .ok (.i2c, 1) := dk_146 (dk_at dksX1_cut_0 2 rfl rfl)
theorem dX1_cut_3 : decode cX1_cut 3 = .ok (.ireturn, 1) := dk_172 (dk_at dksX1_cut_0 3 rfl rfl)
abbrev cX1_state : ByteArray := prog_1_method_29_code
def yX1_state : MethodName := ⟨RX1, "state", "()I"⟩
def dkwX1_state_0 : List UInt8 := [42, 180, 0, 26, 180, 0, 170, 3, 46, 172]
abbrev dktX1_state_0 : List UInt8 := dkwX1_state_0 ++ []
theorem dksX1_state_0 : cX1_state.data.toList.drop 0 = dktX1_state_0 := by decide +kernel
theorem dX1_state_0 : decode cX1_state 0 = .ok (.aload_n 0, 1) := dk_42 (dk_at dksX1_state_0 0 rfl rfl)
theorem dX1_state_1 : decode cX1_state 1 = .ok (.getfield 26, 3) := dk_180 0 26 (dk_at dksX1_state_0 1 rfl rfl)
theorem dX1_state_4 : decode cX1_state 4 = .ok (.getfield 170, 3) := dk_180 0 170 (dk_at dksX1_state_0 4 rfl rfl)
theorem dX1_state_7 : decode cX1_state 7 = .ok (.iconst 0, 1) := dk_3 (dk_at dksX1_state_0 7 rfl rfl)
theorem dX1_state_8 : decode cX1_state 8 = .ok (.iaload, 1) := dk_46 (dk_at dksX1_state_0 8 rfl rfl)
theorem dX1_state_9 : decode cX1_state 9 = .ok (.ireturn, 1) := dk_172 (dk_at dksX1_state_0 9 rfl rfl)
abbrev cX1_fault : ByteArray := prog_1_method_30_code
def yX1_fault : MethodName := ⟨RX1, "fault", "()I"⟩
def dkwX1_fault_0 : List UInt8 := [42, 180, 0, 26, 180, 0, 170, 4, 46, 172]
abbrev dktX1_fault_0 : List UInt8 := dkwX1_fault_0 ++ []
theorem dksX1_fault_0 : cX1_fault.data.toList.drop 0 = dktX1_fault_0 := by decide +kernel
theorem dX1_fault_0 : decode cX1_fault 0 = .ok (.aload_n 0, 1) := dk_42 (dk_at dksX1_fault_0 0 rfl rfl)
theorem dX1_fault_1 : decode cX1_fault 1 = .ok (.getfield 26, 3) := dk_180 0 26 (dk_at dksX1_fault_0 1 rfl rfl)
theorem dX1_fault_4 : decode cX1_fault 4 = .ok (.getfield 170, 3) := dk_180 0 170 (dk_at dksX1_fault_0 4 rfl rfl)
theorem dX1_fault_7 : decode cX1_fault 7 = .ok (.iconst 1, 1) := dk_4 (dk_at dksX1_fault_0 7 rfl rfl)
theorem dX1_fault_8 : decode cX1_fault 8 = .ok (.iaload, 1) := dk_46 (dk_at dksX1_fault_0 8 rfl rfl)
theorem dX1_fault_9 : decode cX1_fault 9 = .ok (.ireturn, 1) := dk_172 (dk_at dksX1_fault_0 9 rfl rfl)
abbrev cX1_steps : ByteArray := prog_1_method_31_code
def yX1_steps : MethodName := ⟨RX1, "steps", "()I"⟩
def dkwX1_steps_0 : List UInt8 := [42, 180, 0, 26, 180, 0, 170, 5, 46, 172]
abbrev dktX1_steps_0 : List UInt8 := dkwX1_steps_0 ++ []
theorem dksX1_steps_0 : cX1_steps.data.toList.drop 0 = dktX1_steps_0 := by decide +kernel
theorem dX1_steps_0 : decode cX1_steps 0 = .ok (.aload_n 0, 1) := dk_42 (dk_at dksX1_steps_0 0 rfl rfl)
theorem dX1_steps_1 : decode cX1_steps 1 = .ok (.getfield 26, 3) := dk_180 0 26 (dk_at dksX1_steps_0 1 rfl rfl)
theorem dX1_steps_4 : decode cX1_steps 4 = .ok (.getfield 170, 3) := dk_180 0 170 (dk_at dksX1_steps_0 4 rfl rfl)
theorem dX1_steps_7 : decode cX1_steps 7 = .ok (.iconst 2, 1) := dk_5 (dk_at dksX1_steps_0 7 rfl rfl)
theorem dX1_steps_8 : decode cX1_steps 8 = .ok (.iaload, 1) := dk_46 (dk_at dksX1_steps_0 8 rfl rfl)
theorem dX1_steps_9 : decode cX1_steps 9 = .ok (.ireturn, 1) := dk_172 (dk_at dksX1_steps_0 9 rfl rfl)
abbrev cX1_kept : ByteArray := prog_1_method_32_code
def yX1_kept : MethodName := ⟨RX1, "kept", "()I"⟩
def dkwX1_kept_0 : List UInt8 := [42, 180, 0, 26, 180, 0, 185, 182, 0, 189, 172]
abbrev dktX1_kept_0 : List UInt8 := dkwX1_kept_0 ++ []
theorem dksX1_kept_0 : cX1_kept.data.toList.drop 0 = dktX1_kept_0 := by decide +kernel
theorem dX1_kept_0 : decode cX1_kept 0 = .ok (.aload_n 0, 1) := dk_42 (dk_at dksX1_kept_0 0 rfl rfl)
theorem dX1_kept_1 : decode cX1_kept 1 = .ok (.getfield 26, 3) := dk_180 0 26 (dk_at dksX1_kept_0 1 rfl rfl)
theorem dX1_kept_4 : decode cX1_kept 4 = .ok (.getfield 185, 3) := dk_180 0 185 (dk_at dksX1_kept_0 4 rfl rfl)
theorem dX1_kept_7 : decode cX1_kept 7 = .ok (.invokevirtual 189, 3) := dk_182 0 189 (dk_at dksX1_kept_0 7 rfl rfl)
theorem dX1_kept_10 : decode cX1_kept 10 = .ok (.ireturn, 1) := dk_172 (dk_at dksX1_kept_0 10 rfl rfl)
abbrev cX1_counter : ByteArray := prog_1_method_33_code
def yX1_counter : MethodName := ⟨RX1, "counter", "()I"⟩
def dkwX1_counter_0 : List UInt8 := [42, 180, 0, 26, 180, 0, 170, 6, 46, 172]
abbrev dktX1_counter_0 : List UInt8 := dkwX1_counter_0 ++ []
theorem dksX1_counter_0 : cX1_counter.data.toList.drop 0 = dktX1_counter_0 := by decide +kernel
theorem dX1_counter_0 : decode cX1_counter 0 = .ok (.aload_n 0, 1) := dk_42 (dk_at dksX1_counter_0 0 rfl rfl)
theorem dX1_counter_1 : decode cX1_counter 1 = .ok (.getfield 26, 3) := dk_180 0 26 (dk_at dksX1_counter_0 1 rfl rfl)
theorem dX1_counter_4 : decode cX1_counter 4 = .ok (.getfield 170, 3) := dk_180 0 170 (dk_at dksX1_counter_0 4 rfl rfl)
theorem dX1_counter_7 : decode cX1_counter 7 = .ok (.iconst 3, 1) := dk_6 (dk_at dksX1_counter_0 7 rfl rfl)
theorem dX1_counter_8 : decode cX1_counter 8 = .ok (.iaload, 1) := dk_46 (dk_at dksX1_counter_0 8 rfl rfl)
theorem dX1_counter_9 : decode cX1_counter 9 = .ok (.ireturn, 1) := dk_172 (dk_at dksX1_counter_0 9 rfl rfl)
abbrev cX1_stack : ByteArray := prog_1_method_34_code
def yX1_stack : MethodName := ⟨RX1, "stack", "()I"⟩
def dkwX1_stack_0 : List UInt8 := [42, 180, 0, 26, 180, 0, 170, 7, 46, 172]
abbrev dktX1_stack_0 : List UInt8 := dkwX1_stack_0 ++ []
theorem dksX1_stack_0 : cX1_stack.data.toList.drop 0 = dktX1_stack_0 := by decide +kernel
theorem dX1_stack_0 : decode cX1_stack 0 = .ok (.aload_n 0, 1) := dk_42 (dk_at dksX1_stack_0 0 rfl rfl)
theorem dX1_stack_1 : decode cX1_stack 1 = .ok (.getfield 26, 3) := dk_180 0 26 (dk_at dksX1_stack_0 1 rfl rfl)
theorem dX1_stack_4 : decode cX1_stack 4 = .ok (.getfield 170, 3) := dk_180 0 170 (dk_at dksX1_stack_0 4 rfl rfl)
theorem dX1_stack_7 : decode cX1_stack 7 = .ok (.iconst 4, 1) := dk_7 (dk_at dksX1_stack_0 7 rfl rfl)
theorem dX1_stack_8 : decode cX1_stack 8 = .ok (.iaload, 1) := dk_46 (dk_at dksX1_stack_0 8 rfl rfl)
theorem dX1_stack_9 : decode cX1_stack 9 = .ok (.ireturn, 1) := dk_172 (dk_at dksX1_stack_0 9 rfl rfl)
abbrev cX1_flags : ByteArray := prog_1_method_35_code
def yX1_flags : MethodName := ⟨RX1, "flags", "()I"⟩
def dkwX1_flags_0 : List UInt8 := [42, 180, 0, 26, 182, 0, 192, 172]
abbrev dktX1_flags_0 : List UInt8 := dkwX1_flags_0 ++ []
theorem dksX1_flags_0 : cX1_flags.data.toList.drop 0 = dktX1_flags_0 := by decide +kernel
theorem dX1_flags_0 : decode cX1_flags 0 = .ok (.aload_n 0, 1) := dk_42 (dk_at dksX1_flags_0 0 rfl rfl)
theorem dX1_flags_1 : decode cX1_flags 1 = .ok (.getfield 26, 3) := dk_180 0 26 (dk_at dksX1_flags_0 1 rfl rfl)
theorem dX1_flags_4 : decode cX1_flags 4 = .ok (.invokevirtual 192, 3) := dk_182 0 192 (dk_at dksX1_flags_0 4 rfl rfl)
theorem dX1_flags_7 : decode cX1_flags 7 = .ok (.ireturn, 1) := dk_172 (dk_at dksX1_flags_0 7 rfl rfl)
abbrev cX1_writesLeft : ByteArray := prog_1_method_36_code
def yX1_writesLeft : MethodName := ⟨RX1, "writesLeft", "()I"⟩
def dkwX1_writesLeft_0 : List UInt8 := [42, 180, 0, 26, 182, 0, 195, 172]
abbrev dktX1_writesLeft_0 : List UInt8 := dkwX1_writesLeft_0 ++ []
theorem dksX1_writesLeft_0 : cX1_writesLeft.data.toList.drop 0 = dktX1_writesLeft_0 := by decide +kernel
theorem dX1_writesLeft_0 : decode cX1_writesLeft 0 = .ok (.aload_n 0, 1) := dk_42 (dk_at dksX1_writesLeft_0 0 rfl rfl)
theorem dX1_writesLeft_1 : decode cX1_writesLeft 1 = .ok (.getfield 26, 3) := dk_180 0 26 (dk_at dksX1_writesLeft_0 1 rfl rfl)
theorem dX1_writesLeft_4 : decode cX1_writesLeft 4 = .ok (.invokevirtual 195, 3) := dk_182 0 195 (dk_at dksX1_writesLeft_0 4 rfl rfl)
theorem dX1_writesLeft_7 : decode cX1_writesLeft 7 = .ok (.ireturn, 1) := dk_172 (dk_at dksX1_writesLeft_0 7 rfl rfl)
abbrev cX1_tape : ByteArray := prog_1_method_40_code
def yX1_tape : MethodName := ⟨RX1, "tape", "()I"⟩
def dkwX1_tape_0 : List UInt8 := [42, 180, 0, 26, 180, 0, 170, 16, 17, 46, 172]
abbrev dktX1_tape_0 : List UInt8 := dkwX1_tape_0 ++ []
theorem dksX1_tape_0 : cX1_tape.data.toList.drop 0 = dktX1_tape_0 := by decide +kernel
theorem dX1_tape_0 : decode cX1_tape 0 = .ok (.aload_n 0, 1) := dk_42 (dk_at dksX1_tape_0 0 rfl rfl)
theorem dX1_tape_1 : decode cX1_tape 1 = .ok (.getfield 26, 3) := dk_180 0 26 (dk_at dksX1_tape_0 1 rfl rfl)
theorem dX1_tape_4 : decode cX1_tape 4 = .ok (.getfield 170, 3) := dk_180 0 170 (dk_at dksX1_tape_0 4 rfl rfl)
theorem dX1_tape_7 : decode cX1_tape 7 = .ok (.bipush 17, 2) := dk_16 17 (dk_at dksX1_tape_0 7 rfl rfl)
theorem dX1_tape_9 : decode cX1_tape 9 = .ok (.iaload, 1) := dk_46 (dk_at dksX1_tape_0 9 rfl rfl)
theorem dX1_tape_10 : decode cX1_tape 10 = .ok (.ireturn, 1) := dk_172 (dk_at dksX1_tape_0 10 rfl rfl)
abbrev cX1_sum : ByteArray := prog_1_method_42_code
def yX1_sum : MethodName := ⟨RX1, "sum", "()I"⟩
def dkwX1_sum_0 : List UInt8 := [42, 180, 0, 26, 182, 0, 206, 172]
abbrev dktX1_sum_0 : List UInt8 := dkwX1_sum_0 ++ []
theorem dksX1_sum_0 : cX1_sum.data.toList.drop 0 = dktX1_sum_0 := by decide +kernel
theorem dX1_sum_0 : decode cX1_sum 0 = .ok (.aload_n 0, 1) := dk_42 (dk_at dksX1_sum_0 0 rfl rfl)
theorem dX1_sum_1 : decode cX1_sum 1 = .ok (.getfield 26, 3) := dk_180 0 26 (dk_at dksX1_sum_0 1 rfl rfl)
theorem dX1_sum_4 : decode cX1_sum 4 = .ok (.invokevirtual 206, 3) := dk_182 0 206 (dk_at dksX1_sum_0 4 rfl rfl)
theorem dX1_sum_7 : decode cX1_sum 7 = .ok (.ireturn, 1) := dk_172 (dk_at dksX1_sum_0 7 rfl rfl)
abbrev cX1_written : ByteArray := prog_1_method_44_code
def yX1_written : MethodName := ⟨RX1, "written", "()I"⟩
def dkwX1_written_0 : List UInt8 := [42, 180, 0, 26, 180, 0, 170, 17, 1, 108, 46, 172]
abbrev dktX1_written_0 : List UInt8 := dkwX1_written_0 ++ []
theorem dksX1_written_0 : cX1_written.data.toList.drop 0 = dktX1_written_0 := by decide +kernel
theorem dX1_written_0 : decode cX1_written 0 = .ok (.aload_n 0, 1) := dk_42 (dk_at dksX1_written_0 0 rfl rfl)
theorem dX1_written_1 : decode cX1_written 1 = .ok (.getfield 26, 3) := dk_180 0 26 (dk_at dksX1_written_0 1 rfl rfl)
theorem dX1_written_4 : decode cX1_written 4 = .ok (.getfield 170, 3) := dk_180 0 170 (dk_at dksX1_written_0 4 rfl rfl)
theorem dX1_written_7 : decode cX1_written 7 = .ok (.sipush 364, 3) := dk_17 1 108 (dk_at dksX1_written_0 7 rfl rfl)
theorem dX1_written_10 : decode cX1_written 10 = .ok (.iaload, 1) := dk_46 (dk_at dksX1_written_0 10 rfl rfl)
theorem dX1_written_11 : decode cX1_written 11 = .ok (.ireturn, 1) := dk_172 (dk_at dksX1_written_0 11 rfl rfl)
abbrev cX1_files : ByteArray := prog_1_method_46_code
def yX1_files : MethodName := ⟨RX1, "files", "()I"⟩
def dkwX1_files_1 : List UInt8 := [167, 0, 4, 4, 96, 60, 132, 2, 1, 167, 255, 227, 27, 172]
abbrev dktX1_files_1 : List UInt8 := dkwX1_files_1 ++ []
def dkwX1_files_0 : List UInt8 := [3, 60, 3, 61, 28, 16, 6, 162, 0, 29, 27, 42, 180, 0, 26, 28, 3, 182, 0, 212, 154, 0, 7, 3]
abbrev dktX1_files_0 : List UInt8 := dkwX1_files_0 ++ dktX1_files_1
theorem dksX1_files_0 : cX1_files.data.toList.drop 0 = dktX1_files_0 := by decide +kernel
theorem dksX1_files_1 : cX1_files.data.toList.drop 24 = dktX1_files_1 := dk_seg dksX1_files_0 24 rfl rfl
theorem dX1_files_0 : decode cX1_files 0 = .ok (.iconst 0, 1) := dk_3 (dk_at dksX1_files_0 0 rfl rfl)
theorem dX1_files_1 : decode cX1_files 1 = .ok (.istore_n 1, 1) := dk_60 (dk_at dksX1_files_0 1 rfl rfl)
theorem dX1_files_2 : decode cX1_files 2 = .ok (.iconst 0, 1) := dk_3 (dk_at dksX1_files_0 2 rfl rfl)
theorem dX1_files_3 : decode cX1_files 3 = .ok (.istore_n 2, 1) := dk_61 (dk_at dksX1_files_0 3 rfl rfl)
theorem dX1_files_4 : decode cX1_files 4 = .ok (.iload_n 2, 1) := dk_28 (dk_at dksX1_files_0 4 rfl rfl)
theorem dX1_files_5 : decode cX1_files 5 = .ok (.bipush 6, 2) := dk_16 6 (dk_at dksX1_files_0 5 rfl rfl)
theorem dX1_files_7 : decode cX1_files 7 = .ok (.if_icmp .ge 29, 3) := dk_162 0 29 (dk_at dksX1_files_0 7 rfl rfl)
theorem dX1_files_10 : decode cX1_files 10 = .ok (.iload_n 1, 1) := dk_27 (dk_at dksX1_files_0 10 rfl rfl)
theorem dX1_files_11 : decode cX1_files 11 = .ok (.aload_n 0, 1) := dk_42 (dk_at dksX1_files_0 11 rfl rfl)
theorem dX1_files_12 : decode cX1_files 12 = .ok (.getfield 26, 3) := dk_180 0 26 (dk_at dksX1_files_0 12 rfl rfl)
theorem dX1_files_15 : decode cX1_files 15 = .ok (.iload_n 2, 1) := dk_28 (dk_at dksX1_files_0 15 rfl rfl)
theorem dX1_files_16 : decode cX1_files 16 = .ok (.iconst 0, 1) := dk_3 (dk_at dksX1_files_0 16 rfl rfl)
theorem dX1_files_17 : decode cX1_files 17 = .ok (.invokevirtual 212, 3) := dk_182 0 212 (dk_at dksX1_files_0 17 rfl rfl)
theorem dX1_files_20 : decode cX1_files 20 = .ok (.ifCond .ne 7, 3) := dk_154 0 7 (dk_at dksX1_files_0 20 rfl rfl)
theorem dX1_files_23 : decode cX1_files 23 = .ok (.iconst 0, 1) := dk_3 (dk_at dksX1_files_0 23 rfl rfl)
theorem dX1_files_24 : decode cX1_files 24 = .ok (.goto 4, 3) := dk_167 0 4 (dk_at dksX1_files_1 0 rfl rfl)
theorem dX1_files_27 : decode cX1_files 27 = .ok (.iconst 1, 1) := dk_4 (dk_at dksX1_files_1 3 rfl rfl)
theorem dX1_files_28 : decode cX1_files 28 = .ok (.iadd, 1) := dk_96 (dk_at dksX1_files_1 4 rfl rfl)
theorem dX1_files_29 : decode cX1_files 29 = .ok (.istore_n 1, 1) := dk_60 (dk_at dksX1_files_1 5 rfl rfl)
theorem dX1_files_30 : decode cX1_files 30 = .ok (.iinc 2 1, 3) := dk_132 2 1 (dk_at dksX1_files_1 6 rfl rfl)
theorem dX1_files_33 : decode cX1_files 33 = .ok (.goto (-29), 3) := dk_167 255 227 (dk_at dksX1_files_1 9 rfl rfl)
theorem dX1_files_36 : decode cX1_files 36 = .ok (.iload_n 1, 1) := dk_27 (dk_at dksX1_files_1 12 rfl rfl)
theorem dX1_files_37 : decode cX1_files 37 = .ok (.ireturn, 1) := dk_172 (dk_at dksX1_files_1 13 rfl rfl)
abbrev cX1_freeBlocks : ByteArray := prog_1_method_50_code
def yX1_freeBlocks : MethodName := ⟨RX1, "freeBlocks", "()I"⟩
def dkwX1_freeBlocks_1 : List UInt8 := [167, 0, 4, 4, 96, 60, 132, 2, 1, 167, 255, 228, 27, 172]
abbrev dktX1_freeBlocks_1 : List UInt8 := dkwX1_freeBlocks_1 ++ []
def dkwX1_freeBlocks_0 : List UInt8 := [3, 60, 16, 8, 61, 28, 16, 32, 162, 0, 28, 27, 42, 180, 0, 26, 28, 182, 0, 232, 153, 0, 7, 3]
abbrev dktX1_freeBlocks_0 : List UInt8 := dkwX1_freeBlocks_0 ++ dktX1_freeBlocks_1
theorem dksX1_freeBlocks_0 : cX1_freeBlocks.data.toList.drop 0 = dktX1_freeBlocks_0 := by decide +kernel
theorem dksX1_freeBlocks_1 : cX1_freeBlocks.data.toList.drop 24 = dktX1_freeBlocks_1 := dk_seg dksX1_freeBlocks_0 24 rfl rfl
theorem dX1_freeBlocks_0 : decode cX1_freeBlocks 0 = .ok (.iconst 0, 1) := dk_3 (dk_at dksX1_freeBlocks_0 0 rfl rfl)
theorem dX1_freeBlocks_1 : decode cX1_freeBlocks 1 = .ok (.istore_n 1, 1) := dk_60 (dk_at dksX1_freeBlocks_0 1 rfl rfl)
theorem dX1_freeBlocks_2 : decode cX1_freeBlocks 2 = .ok (.bipush 8, 2) := dk_16 8 (dk_at dksX1_freeBlocks_0 2 rfl rfl)
theorem dX1_freeBlocks_4 : decode cX1_freeBlocks 4 = .ok (.istore_n 2, 1) := dk_61 (dk_at dksX1_freeBlocks_0 4 rfl rfl)
theorem dX1_freeBlocks_5 : decode cX1_freeBlocks 5 = .ok (.iload_n 2, 1) := dk_28 (dk_at dksX1_freeBlocks_0 5 rfl rfl)
theorem dX1_freeBlocks_6 : decode cX1_freeBlocks 6 = .ok (.bipush 32, 2) := dk_16 32 (dk_at dksX1_freeBlocks_0 6 rfl rfl)
theorem dX1_freeBlocks_8 : decode cX1_freeBlocks 8 = .ok (.if_icmp .ge 28, 3) := dk_162 0 28 (dk_at dksX1_freeBlocks_0 8 rfl rfl)
theorem dX1_freeBlocks_11 : decode cX1_freeBlocks 11 = .ok (.iload_n 1, 1) := dk_27 (dk_at dksX1_freeBlocks_0 11 rfl rfl)
theorem dX1_freeBlocks_12 : decode cX1_freeBlocks 12 = .ok (.aload_n 0, 1) := dk_42 (dk_at dksX1_freeBlocks_0 12 rfl rfl)
theorem dX1_freeBlocks_13 : decode cX1_freeBlocks 13 = .ok (.getfield 26, 3) := dk_180 0 26 (dk_at dksX1_freeBlocks_0 13 rfl rfl)
theorem dX1_freeBlocks_16 : decode cX1_freeBlocks 16 = .ok (.iload_n 2, 1) := dk_28 (dk_at dksX1_freeBlocks_0 16 rfl rfl)
theorem dX1_freeBlocks_17 : decode cX1_freeBlocks 17 = .ok (.invokevirtual 232, 3) := dk_182 0 232 (dk_at dksX1_freeBlocks_0 17 rfl rfl)
theorem dX1_freeBlocks_20 : decode cX1_freeBlocks 20 = .ok (.ifCond .eq 7, 3) := dk_153 0 7 (dk_at dksX1_freeBlocks_0 20 rfl rfl)
theorem dX1_freeBlocks_23 : decode cX1_freeBlocks 23 = .ok (.iconst 0, 1) := dk_3 (dk_at dksX1_freeBlocks_0 23 rfl rfl)
theorem dX1_freeBlocks_24 : decode cX1_freeBlocks 24 = .ok (.goto 4, 3) := dk_167 0 4 (dk_at dksX1_freeBlocks_1 0 rfl rfl)
theorem dX1_freeBlocks_27 : decode cX1_freeBlocks 27 = .ok (.iconst 1, 1) := dk_4 (dk_at dksX1_freeBlocks_1 3 rfl rfl)
theorem dX1_freeBlocks_28 : decode cX1_freeBlocks 28 = .ok (.iadd, 1) := dk_96 (dk_at dksX1_freeBlocks_1 4 rfl rfl)
theorem dX1_freeBlocks_29 : decode cX1_freeBlocks 29 = .ok (.istore_n 1, 1) := dk_60 (dk_at dksX1_freeBlocks_1 5 rfl rfl)
theorem dX1_freeBlocks_30 : decode cX1_freeBlocks 30 = .ok (.iinc 2 1, 3) := dk_132 2 1 (dk_at dksX1_freeBlocks_1 6 rfl rfl)
theorem dX1_freeBlocks_33 : decode cX1_freeBlocks 33 = .ok (.goto (-28), 3) := dk_167 255 228 (dk_at dksX1_freeBlocks_1 9 rfl rfl)
theorem dX1_freeBlocks_36 : decode cX1_freeBlocks 36 = .ok (.iload_n 1, 1) := dk_27 (dk_at dksX1_freeBlocks_1 12 rfl rfl)
theorem dX1_freeBlocks_37 : decode cX1_freeBlocks 37 = .ok (.ireturn, 1) := dk_172 (dk_at dksX1_freeBlocks_1 13 rfl rfl)
abbrev cX1_isWhole : ByteArray := prog_1_method_51_code
def yX1_isWhole : MethodName := ⟨RX1, "isWhole", "()Z"⟩
def dkwX1_isWhole_0 : List UInt8 := [42, 180, 0, 26, 182, 0, 236, 172]
abbrev dktX1_isWhole_0 : List UInt8 := dkwX1_isWhole_0 ++ []
theorem dksX1_isWhole_0 : cX1_isWhole.data.toList.drop 0 = dktX1_isWhole_0 := by decide +kernel
theorem dX1_isWhole_0 : decode cX1_isWhole 0 = .ok (.aload_n 0, 1) := dk_42 (dk_at dksX1_isWhole_0 0 rfl rfl)
theorem dX1_isWhole_1 : decode cX1_isWhole 1 = .ok (.getfield 26, 3) := dk_180 0 26 (dk_at dksX1_isWhole_0 1 rfl rfl)
theorem dX1_isWhole_4 : decode cX1_isWhole 4 = .ok (.invokevirtual 236, 3) := dk_182 0 236 (dk_at dksX1_isWhole_0 4 rfl rfl)
theorem dX1_isWhole_7 : decode cX1_isWhole 7 = .ok (.ireturn, 1) := dk_172 (dk_at dksX1_isWhole_0 7 rfl rfl)
abbrev cX1_tests : ByteArray := prog_1_method_57_code
def yX1_tests : MethodName := ⟨RX1, "tests", "()I"⟩
def dkwX1_tests_0 : List UInt8 := [42, 180, 0, 30, 185, 0, 63, 1, 0, 172]
abbrev dktX1_tests_0 : List UInt8 := dkwX1_tests_0 ++ []
theorem dksX1_tests_0 : cX1_tests.data.toList.drop 0 = dktX1_tests_0 := by decide +kernel
theorem dX1_tests_0 : decode cX1_tests 0 = .ok (.aload_n 0, 1) := dk_42 (dk_at dksX1_tests_0 0 rfl rfl)
theorem dX1_tests_1 : decode cX1_tests 1 = .ok (.getfield 30, 3) := dk_180 0 30 (dk_at dksX1_tests_0 1 rfl rfl)
theorem dX1_tests_4 : decode cX1_tests 4 = .ok (.invokeinterface 63 1, 5) := by decide +kernel
theorem dX1_tests_9 : decode cX1_tests 9 = .ok (.ireturn, 1) := dk_172 (dk_at dksX1_tests_0 9 rfl rfl)
abbrev cX1_mark : ByteArray := prog_1_method_60_code
def yX1_mark : MethodName := ⟨RX1, "mark", "()I"⟩
def dkwX1_mark_2 : List UInt8 := [172]
abbrev dktX1_mark_2 : List UInt8 := dkwX1_mark_2 ++ []
def dkwX1_mark_1 : List UInt8 := [185, 1, 22, 1, 0, 192, 1, 4, 78, 27, 45, 182, 1, 37, 96, 60, 167, 255, 230, 3, 27, 184, 1, 40]
abbrev dktX1_mark_1 : List UInt8 := dkwX1_mark_1 ++ dktX1_mark_2
def dkwX1_mark_0 : List UInt8 := [3, 60, 42, 180, 0, 30, 185, 1, 13, 1, 0, 77, 44, 185, 1, 17, 1, 0, 153, 0, 23, 44]
abbrev dktX1_mark_0 : List UInt8 := dkwX1_mark_0 ++ dktX1_mark_1
theorem dksX1_mark_0 : cX1_mark.data.toList.drop 0 = dktX1_mark_0 := by decide +kernel
theorem dksX1_mark_1 : cX1_mark.data.toList.drop 22 = dktX1_mark_1 := dk_seg dksX1_mark_0 22 rfl rfl
theorem dksX1_mark_2 : cX1_mark.data.toList.drop 46 = dktX1_mark_2 := dk_seg dksX1_mark_1 24 rfl rfl
theorem dX1_mark_0 : decode cX1_mark 0 = .ok (.iconst 0, 1) := dk_3 (dk_at dksX1_mark_0 0 rfl rfl)
theorem dX1_mark_1 : decode cX1_mark 1 = .ok (.istore_n 1, 1) := dk_60 (dk_at dksX1_mark_0 1 rfl rfl)
theorem dX1_mark_2 : decode cX1_mark 2 = .ok (.aload_n 0, 1) := dk_42 (dk_at dksX1_mark_0 2 rfl rfl)
theorem dX1_mark_3 : decode cX1_mark 3 = .ok (.getfield 30, 3) := dk_180 0 30 (dk_at dksX1_mark_0 3 rfl rfl)
theorem dX1_mark_6 : decode cX1_mark 6 = .ok (.invokeinterface 269 1, 5) := by decide +kernel
theorem dX1_mark_11 : decode cX1_mark 11 = .ok (.astore_n 2, 1) := dk_77 (dk_at dksX1_mark_0 11 rfl rfl)
theorem dX1_mark_12 : decode cX1_mark 12 = .ok (.aload_n 2, 1) := dk_44 (dk_at dksX1_mark_0 12 rfl rfl)
theorem dX1_mark_13 : decode cX1_mark 13 = .ok (.invokeinterface 273 1, 5) := by decide +kernel
theorem dX1_mark_18 : decode cX1_mark 18 = .ok (.ifCond .eq 23, 3) := dk_153 0 23 (dk_at dksX1_mark_0 18 rfl rfl)
theorem dX1_mark_21 : decode cX1_mark 21 = .ok (.aload_n 2, 1) := dk_44 (dk_at dksX1_mark_0 21 rfl rfl)
theorem dX1_mark_22 : decode cX1_mark 22 = .ok (.invokeinterface 278 1, 5) := by decide +kernel
theorem dX1_mark_27 : decode cX1_mark 27 = .ok (.checkcast 260, 3) := dk_192 1 4 (dk_at dksX1_mark_1 5 rfl rfl)
theorem dX1_mark_30 : decode cX1_mark 30 = .ok (.astore_n 3, 1) := dk_78 (dk_at dksX1_mark_1 8 rfl rfl)
theorem dX1_mark_31 : decode cX1_mark 31 = .ok (.iload_n 1, 1) := dk_27 (dk_at dksX1_mark_1 9 rfl rfl)
theorem dX1_mark_32 : decode cX1_mark 32 = .ok (.aload_n 3, 1) := dk_45 (dk_at dksX1_mark_1 10 rfl rfl)
theorem dX1_mark_33 : decode cX1_mark 33 = .ok (.invokevirtual 293, 3) := dk_182 1 37 (dk_at dksX1_mark_1 11 rfl rfl)
theorem dX1_mark_36 : decode cX1_mark 36 = .ok (.iadd, 1) := dk_96 (dk_at dksX1_mark_1 14 rfl rfl)
theorem dX1_mark_37 : decode cX1_mark 37 = .ok (.istore_n 1, 1) := dk_60 (dk_at dksX1_mark_1 15 rfl rfl)
theorem dX1_mark_38 : decode cX1_mark 38 = .ok (.goto (-26), 3) := dk_167 255 230 (dk_at dksX1_mark_1 16 rfl rfl)
theorem dX1_mark_41 : decode cX1_mark 41 = .ok (.iconst 0, 1) := dk_3 (dk_at dksX1_mark_1 19 rfl rfl)
theorem dX1_mark_42 : decode cX1_mark 42 = .ok (.iload_n 1, 1) := dk_27 (dk_at dksX1_mark_1 20 rfl rfl)
theorem dX1_mark_43 : decode cX1_mark 43 = .ok (.invokestatic 296, 3) := dk_184 1 40 (dk_at dksX1_mark_1 21 rfl rfl)
theorem dX1_mark_46 : decode cX1_mark 46 = .ok (.ireturn, 1) := dk_172 (dk_at dksX1_mark_2 0 rfl rfl)
abbrev cX1_section : ByteArray := prog_1_method_10_code
def yX1_section : MethodName := ⟨RX1, "section", "(I)I"⟩
def dkwX1_section_0 : List UInt8 := [27, 3, 4, 184, 0, 55, 87, 42, 187, 0, 79, 89, 42, 27, 183, 0, 81, 182, 0, 84, 172]
abbrev dktX1_section_0 : List UInt8 := dkwX1_section_0 ++ []
theorem dksX1_section_0 : cX1_section.data.toList.drop 0 = dktX1_section_0 := by decide +kernel
theorem dX1_section_0 : decode cX1_section 0 = .ok (.iload_n 1, 1) := dk_27 (dk_at dksX1_section_0 0 rfl rfl)
theorem dX1_section_1 : decode cX1_section 1 = .ok (.iconst 0, 1) := dk_3 (dk_at dksX1_section_0 1 rfl rfl)
theorem dX1_section_2 : decode cX1_section 2 = .ok (.iconst 1, 1) := dk_4 (dk_at dksX1_section_0 2 rfl rfl)
theorem dX1_section_3 : decode cX1_section 3 = .ok (.invokestatic 55, 3) := dk_184 0 55 (dk_at dksX1_section_0 3 rfl rfl)
theorem dX1_section_6 : decode cX1_section 6 = .ok (.pop, 1) := dk_87 (dk_at dksX1_section_0 6 rfl rfl)
theorem dX1_section_7 : decode cX1_section 7 = .ok (.aload_n 0, 1) := dk_42 (dk_at dksX1_section_0 7 rfl rfl)
theorem dX1_section_8 : decode cX1_section 8 = .ok (.new 79, 3) := dk_187 0 79 (dk_at dksX1_section_0 8 rfl rfl)
theorem dX1_section_11 : decode cX1_section 11 = .ok (.dup, 1) := dk_89 (dk_at dksX1_section_0 11 rfl rfl)
theorem dX1_section_12 : decode cX1_section 12 = .ok (.aload_n 0, 1) := dk_42 (dk_at dksX1_section_0 12 rfl rfl)
theorem dX1_section_13 : decode cX1_section 13 = .ok (.iload_n 1, 1) := dk_27 (dk_at dksX1_section_0 13 rfl rfl)
theorem dX1_section_14 : decode cX1_section 14 = .ok (.invokespecial 81, 3) := dk_183 0 81 (dk_at dksX1_section_0 14 rfl rfl)
theorem dX1_section_17 : decode cX1_section 17 = .ok (.invokevirtual 84, 3) := dk_182 0 84 (dk_at dksX1_section_0 17 rfl rfl)
theorem dX1_section_20 : decode cX1_section 20 = .ok (.ireturn, 1) := dk_172 (dk_at dksX1_section_0 20 rfl rfl)
abbrev cX1_in : ByteArray := prog_1_method_4_code
def yX1_in : MethodName := ⟨RX1, "in", "(III)I"⟩
def dkwX1_in_0 : List UInt8 := [26, 27, 161, 0, 8, 26, 28, 164, 0, 13, 187, 0, 43, 89, 18, 45, 183, 0, 47, 191, 26, 172]
abbrev dktX1_in_0 : List UInt8 := dkwX1_in_0 ++ []
theorem dksX1_in_0 : cX1_in.data.toList.drop 0 = dktX1_in_0 := by decide +kernel
theorem dX1_in_0 : decode cX1_in 0 = .ok (.iload_n 0, 1) := dk_26 (dk_at dksX1_in_0 0 rfl rfl)
theorem dX1_in_1 : decode cX1_in 1 = .ok (.iload_n 1, 1) := dk_27 (dk_at dksX1_in_0 1 rfl rfl)
theorem dX1_in_2 : decode cX1_in 2 = .ok (.if_icmp .lt 8, 3) := dk_161 0 8 (dk_at dksX1_in_0 2 rfl rfl)
theorem dX1_in_5 : decode cX1_in 5 = .ok (.iload_n 0, 1) := dk_26 (dk_at dksX1_in_0 5 rfl rfl)
theorem dX1_in_6 : decode cX1_in 6 = .ok (.iload_n 2, 1) := dk_28 (dk_at dksX1_in_0 6 rfl rfl)
theorem dX1_in_7 : decode cX1_in 7 = .ok (.if_icmp .le 13, 3) := dk_164 0 13 (dk_at dksX1_in_0 7 rfl rfl)
theorem dX1_in_10 : decode cX1_in 10 = .ok (.new 43, 3) := dk_187 0 43 (dk_at dksX1_in_0 10 rfl rfl)
theorem dX1_in_13 : decode cX1_in 13 = .ok (.dup, 1) := dk_89 (dk_at dksX1_in_0 13 rfl rfl)
theorem dX1_in_14 : decode cX1_in 14 = .ok (.ldc 45, 2) := dk_18 45 (dk_at dksX1_in_0 14 rfl rfl)
theorem dX1_in_16 : decode cX1_in 16 = .ok (.invokespecial 47, 3) := dk_183 0 47 (dk_at dksX1_in_0 16 rfl rfl)
theorem dX1_in_19 : decode cX1_in 19 = .ok (.athrow, 1) := dk_191 (dk_at dksX1_in_0 19 rfl rfl)
theorem dX1_in_20 : decode cX1_in 20 = .ok (.iload_n 0, 1) := dk_26 (dk_at dksX1_in_0 20 rfl rfl)
theorem dX1_in_21 : decode cX1_in 21 = .ok (.ireturn, 1) := dk_172 (dk_at dksX1_in_0 21 rfl rfl)
abbrev cX1_add : ByteArray := prog_1_method_7_code
def yX1_add : MethodName := ⟨RX1, "add", "(LKernelGym$Line;)I"⟩
def dkwX1_add_1 : List UInt8 := [180, 0, 15, 43, 185, 0, 72, 2, 0, 87, 42, 180, 0, 15, 185, 0, 63, 1, 0, 172]
abbrev dktX1_add_1 : List UInt8 := dkwX1_add_1 ++ []
def dkwX1_add_0 : List UInt8 := [42, 180, 0, 15, 185, 0, 63, 1, 0, 16, 100, 162, 0, 7, 4, 167, 0, 4, 3, 184, 0, 69, 42]
abbrev dktX1_add_0 : List UInt8 := dkwX1_add_0 ++ dktX1_add_1
theorem dksX1_add_0 : cX1_add.data.toList.drop 0 = dktX1_add_0 := by decide +kernel
theorem dksX1_add_1 : cX1_add.data.toList.drop 23 = dktX1_add_1 := dk_seg dksX1_add_0 23 rfl rfl
theorem dX1_add_0 : decode cX1_add 0 = .ok (.aload_n 0, 1) := dk_42 (dk_at dksX1_add_0 0 rfl rfl)
theorem dX1_add_1 : decode cX1_add 1 = .ok (.getfield 15, 3) := dk_180 0 15 (dk_at dksX1_add_0 1 rfl rfl)
theorem dX1_add_4 : decode cX1_add 4 = .ok (.invokeinterface 63 1, 5) := by decide +kernel
theorem dX1_add_9 : decode cX1_add 9 = .ok (.bipush 100, 2) := dk_16 100 (dk_at dksX1_add_0 9 rfl rfl)
theorem dX1_add_11 : decode cX1_add 11 = .ok (.if_icmp .ge 7, 3) := dk_162 0 7 (dk_at dksX1_add_0 11 rfl rfl)
theorem dX1_add_14 : decode cX1_add 14 = .ok (.iconst 1, 1) := dk_4 (dk_at dksX1_add_0 14 rfl rfl)
theorem dX1_add_15 : decode cX1_add 15 = .ok (.goto 4, 3) := dk_167 0 4 (dk_at dksX1_add_0 15 rfl rfl)
theorem dX1_add_18 : decode cX1_add 18 = .ok (.iconst 0, 1) := dk_3 (dk_at dksX1_add_0 18 rfl rfl)
theorem dX1_add_19 : decode cX1_add 19 = .ok (.invokestatic 69, 3) := dk_184 0 69 (dk_at dksX1_add_0 19 rfl rfl)
theorem dX1_add_22 : decode cX1_add 22 = .ok (.aload_n 0, 1) := dk_42 (dk_at dksX1_add_0 22 rfl rfl)
theorem dX1_add_23 : decode cX1_add 23 = .ok (.getfield 15, 3) := dk_180 0 15 (dk_at dksX1_add_1 0 rfl rfl)
theorem dX1_add_26 : decode cX1_add 26 = .ok (.aload_n 1, 1) := dk_43 (dk_at dksX1_add_1 3 rfl rfl)
theorem dX1_add_27 : decode cX1_add 27 = .ok (.invokeinterface 72 2, 5) := by decide +kernel
theorem dX1_add_32 : decode cX1_add 32 = .ok (.pop, 1) := dk_87 (dk_at dksX1_add_1 9 rfl rfl)
theorem dX1_add_33 : decode cX1_add 33 = .ok (.aload_n 0, 1) := dk_42 (dk_at dksX1_add_1 10 rfl rfl)
theorem dX1_add_34 : decode cX1_add 34 = .ok (.getfield 15, 3) := dk_180 0 15 (dk_at dksX1_add_1 11 rfl rfl)
theorem dX1_add_37 : decode cX1_add 37 = .ok (.invokeinterface 63 1, 5) := by decide +kernel
theorem dX1_add_42 : decode cX1_add 42 = .ok (.ireturn, 1) := dk_172 (dk_at dksX1_add_1 19 rfl rfl)
abbrev cX1_must : ByteArray := prog_1_method_5_code
def yX1_must : MethodName := ⟨RX1, "must", "(Z)V"⟩
def dkwX1_must_0 : List UInt8 := [26, 154, 0, 13, 187, 0, 50, 89, 18, 52, 183, 0, 54, 191, 177]
abbrev dktX1_must_0 : List UInt8 := dkwX1_must_0 ++ []
theorem dksX1_must_0 : cX1_must.data.toList.drop 0 = dktX1_must_0 := by decide +kernel
theorem dX1_must_0 : decode cX1_must 0 = .ok (.iload_n 0, 1) := dk_26 (dk_at dksX1_must_0 0 rfl rfl)
theorem dX1_must_1 : decode cX1_must 1 = .ok (.ifCond .ne 13, 3) := dk_154 0 13 (dk_at dksX1_must_0 1 rfl rfl)
theorem dX1_must_4 : decode cX1_must 4 = .ok (.new 50, 3) := dk_187 0 50 (dk_at dksX1_must_0 4 rfl rfl)
theorem dX1_must_7 : decode cX1_must 7 = .ok (.dup, 1) := dk_89 (dk_at dksX1_must_0 7 rfl rfl)
theorem dX1_must_8 : decode cX1_must 8 = .ok (.ldc 52, 2) := dk_18 52 (dk_at dksX1_must_0 8 rfl rfl)
theorem dX1_must_10 : decode cX1_must 10 = .ok (.invokespecial 54, 3) := dk_183 0 54 (dk_at dksX1_must_0 10 rfl rfl)
theorem dX1_must_13 : decode cX1_must 13 = .ok (.athrow, 1) := dk_191 (dk_at dksX1_must_0 13 rfl rfl)
theorem dX1_must_14 : decode cX1_must 14 = .ok (.return_, 1) := dk_177 (dk_at dksX1_must_0 14 rfl rfl)
abbrev cX1_label : ByteArray := prog_1_method_11_code
def yX1_label : MethodName := ⟨RX1, "label", "(I)I"⟩
def dkwX1_label_0 : List UInt8 := [27, 3, 16, 19, 184, 0, 55, 87, 42, 187, 0, 87, 89, 42, 27, 183, 0, 89, 182, 0, 84, 172]
abbrev dktX1_label_0 : List UInt8 := dkwX1_label_0 ++ []
theorem dksX1_label_0 : cX1_label.data.toList.drop 0 = dktX1_label_0 := by decide +kernel
theorem dX1_label_0 : decode cX1_label 0 = .ok (.iload_n 1, 1) := dk_27 (dk_at dksX1_label_0 0 rfl rfl)
theorem dX1_label_1 : decode cX1_label 1 = .ok (.iconst 0, 1) := dk_3 (dk_at dksX1_label_0 1 rfl rfl)
theorem dX1_label_2 : decode cX1_label 2 = .ok (.bipush 19, 2) := dk_16 19 (dk_at dksX1_label_0 2 rfl rfl)
theorem dX1_label_4 : decode cX1_label 4 = .ok (.invokestatic 55, 3) := dk_184 0 55 (dk_at dksX1_label_0 4 rfl rfl)
theorem dX1_label_7 : decode cX1_label 7 = .ok (.pop, 1) := dk_87 (dk_at dksX1_label_0 7 rfl rfl)
theorem dX1_label_8 : decode cX1_label 8 = .ok (.aload_n 0, 1) := dk_42 (dk_at dksX1_label_0 8 rfl rfl)
theorem dX1_label_9 : decode cX1_label 9 = .ok (.new 87, 3) := dk_187 0 87 (dk_at dksX1_label_0 9 rfl rfl)
theorem dX1_label_12 : decode cX1_label 12 = .ok (.dup, 1) := dk_89 (dk_at dksX1_label_0 12 rfl rfl)
theorem dX1_label_13 : decode cX1_label 13 = .ok (.aload_n 0, 1) := dk_42 (dk_at dksX1_label_0 13 rfl rfl)
theorem dX1_label_14 : decode cX1_label 14 = .ok (.iload_n 1, 1) := dk_27 (dk_at dksX1_label_0 14 rfl rfl)
theorem dX1_label_15 : decode cX1_label 15 = .ok (.invokespecial 89, 3) := dk_183 0 89 (dk_at dksX1_label_0 15 rfl rfl)
theorem dX1_label_18 : decode cX1_label 18 = .ok (.invokevirtual 84, 3) := dk_182 0 84 (dk_at dksX1_label_0 18 rfl rfl)
theorem dX1_label_21 : decode cX1_label 21 = .ok (.ireturn, 1) := dk_172 (dk_at dksX1_label_0 21 rfl rfl)
abbrev cX1_code : ByteArray := prog_1_method_12_code
def yX1_code : MethodName := ⟨RX1, "code", "(IIIII)I"⟩
def dkwX1_code_2 : List UInt8 := [172]
abbrev dktX1_code_2 : List UInt8 := dkwX1_code_2 ++ []
def dkwX1_code_1 : List UInt8 := [21, 5, 184, 0, 90, 58, 6, 42, 187, 0, 94, 89, 42, 27, 28, 29, 25, 6, 183, 0, 96, 182, 0, 84]
abbrev dktX1_code_1 : List UInt8 := dkwX1_code_1 ++ dktX1_code_2
def dkwX1_code_0 : List UInt8 := [27, 3, 16, 26, 184, 0, 55, 87, 28, 3, 6, 184, 0, 55, 87, 29, 3, 6, 184, 0, 55, 87, 21, 4]
abbrev dktX1_code_0 : List UInt8 := dkwX1_code_0 ++ dktX1_code_1
theorem dksX1_code_0 : cX1_code.data.toList.drop 0 = dktX1_code_0 := by decide +kernel
theorem dksX1_code_1 : cX1_code.data.toList.drop 24 = dktX1_code_1 := dk_seg dksX1_code_0 24 rfl rfl
theorem dksX1_code_2 : cX1_code.data.toList.drop 48 = dktX1_code_2 := dk_seg dksX1_code_1 24 rfl rfl
theorem dX1_code_0 : decode cX1_code 0 = .ok (.iload_n 1, 1) := dk_27 (dk_at dksX1_code_0 0 rfl rfl)
theorem dX1_code_1 : decode cX1_code 1 = .ok (.iconst 0, 1) := dk_3 (dk_at dksX1_code_0 1 rfl rfl)
theorem dX1_code_2 : decode cX1_code 2 = .ok (.bipush 26, 2) := dk_16 26 (dk_at dksX1_code_0 2 rfl rfl)
theorem dX1_code_4 : decode cX1_code 4 = .ok (.invokestatic 55, 3) := dk_184 0 55 (dk_at dksX1_code_0 4 rfl rfl)
theorem dX1_code_7 : decode cX1_code 7 = .ok (.pop, 1) := dk_87 (dk_at dksX1_code_0 7 rfl rfl)
theorem dX1_code_8 : decode cX1_code 8 = .ok (.iload_n 2, 1) := dk_28 (dk_at dksX1_code_0 8 rfl rfl)
theorem dX1_code_9 : decode cX1_code 9 = .ok (.iconst 0, 1) := dk_3 (dk_at dksX1_code_0 9 rfl rfl)
theorem dX1_code_10 : decode cX1_code 10 = .ok (.iconst 3, 1) := dk_6 (dk_at dksX1_code_0 10 rfl rfl)
theorem dX1_code_11 : decode cX1_code 11 = .ok (.invokestatic 55, 3) := dk_184 0 55 (dk_at dksX1_code_0 11 rfl rfl)
theorem dX1_code_14 : decode cX1_code 14 = .ok (.pop, 1) := dk_87 (dk_at dksX1_code_0 14 rfl rfl)
theorem dX1_code_15 : decode cX1_code 15 = .ok (.iload_n 3, 1) := dk_29 (dk_at dksX1_code_0 15 rfl rfl)
theorem dX1_code_16 : decode cX1_code 16 = .ok (.iconst 0, 1) := dk_3 (dk_at dksX1_code_0 16 rfl rfl)
theorem dX1_code_17 : decode cX1_code 17 = .ok (.iconst 3, 1) := dk_6 (dk_at dksX1_code_0 17 rfl rfl)
theorem dX1_code_18 : decode cX1_code 18 = .ok (.invokestatic 55, 3) := dk_184 0 55 (dk_at dksX1_code_0 18 rfl rfl)
theorem dX1_code_21 : decode cX1_code 21 = .ok (.pop, 1) := dk_87 (dk_at dksX1_code_0 21 rfl rfl)
theorem dX1_code_22 : decode cX1_code 22 = .ok (.iload 4, 2) := dk_21 4 (dk_at dksX1_code_0 22 rfl rfl)
theorem dX1_code_24 : decode cX1_code 24 = .ok (.iload 5, 2) := dk_21 5 (dk_at dksX1_code_1 0 rfl rfl)
theorem dX1_code_26 : decode cX1_code 26 = .ok (.invokestatic 90, 3) := dk_184 0 90 (dk_at dksX1_code_1 2 rfl rfl)
theorem dX1_code_29 : decode cX1_code 29 = .ok (.astore 6, 2) := dk_58 6 (dk_at dksX1_code_1 5 rfl rfl)
theorem dX1_code_31 : decode cX1_code 31 = .ok (.aload_n 0, 1) := dk_42 (dk_at dksX1_code_1 7 rfl rfl)
theorem dX1_code_32 : decode cX1_code 32 = .ok (.new 94, 3) := dk_187 0 94 (dk_at dksX1_code_1 8 rfl rfl)
theorem dX1_code_35 : decode cX1_code 35 = .ok (.dup, 1) := dk_89 (dk_at dksX1_code_1 11 rfl rfl)
theorem dX1_code_36 : decode cX1_code 36 = .ok (.aload_n 0, 1) := dk_42 (dk_at dksX1_code_1 12 rfl rfl)
theorem dX1_code_37 : decode cX1_code 37 = .ok (.iload_n 1, 1) := dk_27 (dk_at dksX1_code_1 13 rfl rfl)
theorem dX1_code_38 : decode cX1_code 38 = .ok (.iload_n 2, 1) := dk_28 (dk_at dksX1_code_1 14 rfl rfl)
theorem dX1_code_39 : decode cX1_code 39 = .ok (.iload_n 3, 1) := dk_29 (dk_at dksX1_code_1 15 rfl rfl)
theorem dX1_code_40 : decode cX1_code 40 = .ok (.aload 6, 2) := dk_25 6 (dk_at dksX1_code_1 16 rfl rfl)
theorem dX1_code_42 : decode cX1_code 42 = .ok (.invokespecial 96, 3) := dk_183 0 96 (dk_at dksX1_code_1 18 rfl rfl)
theorem dX1_code_45 : decode cX1_code 45 = .ok (.invokevirtual 84, 3) := dk_182 0 84 (dk_at dksX1_code_1 21 rfl rfl)
theorem dX1_code_48 : decode cX1_code 48 = .ok (.ireturn, 1) := dk_172 (dk_at dksX1_code_2 0 rfl rfl)
abbrev cX1_operand : ByteArray := prog_1_method_6_code
def yX1_operand : MethodName := ⟨RX1, "operand", "(II)LKernelGym$Operand;"⟩
def dkwX1_operand_1 : List UInt8 := [18, 61, 184, 0, 55, 183, 0, 62, 176]
abbrev dktX1_operand_1 : List UInt8 := dkwX1_operand_1 ++ []
def dkwX1_operand_0 : List UInt8 := [26, 3, 6, 184, 0, 55, 87, 187, 0, 59, 89, 26, 27, 3, 26, 4, 160, 0, 8, 16, 19, 167, 0, 5]
abbrev dktX1_operand_0 : List UInt8 := dkwX1_operand_0 ++ dktX1_operand_1
theorem dksX1_operand_0 : cX1_operand.data.toList.drop 0 = dktX1_operand_0 := by decide +kernel
theorem dksX1_operand_1 : cX1_operand.data.toList.drop 24 = dktX1_operand_1 := dk_seg dksX1_operand_0 24 rfl rfl
theorem dX1_operand_0 : decode cX1_operand 0 = .ok (.iload_n 0, 1) := dk_26 (dk_at dksX1_operand_0 0 rfl rfl)
theorem dX1_operand_1 : decode cX1_operand 1 = .ok (.iconst 0, 1) := dk_3 (dk_at dksX1_operand_0 1 rfl rfl)
theorem dX1_operand_2 : decode cX1_operand 2 = .ok (.iconst 3, 1) := dk_6 (dk_at dksX1_operand_0 2 rfl rfl)
theorem dX1_operand_3 : decode cX1_operand 3 = .ok (.invokestatic 55, 3) := dk_184 0 55 (dk_at dksX1_operand_0 3 rfl rfl)
theorem dX1_operand_6 : decode cX1_operand 6 = .ok (.pop, 1) := dk_87 (dk_at dksX1_operand_0 6 rfl rfl)
theorem dX1_operand_7 : decode cX1_operand 7 = .ok (.new 59, 3) := dk_187 0 59 (dk_at dksX1_operand_0 7 rfl rfl)
theorem dX1_operand_10 : decode cX1_operand 10 = .ok (.dup, 1) := dk_89 (dk_at dksX1_operand_0 10 rfl rfl)
theorem dX1_operand_11 : decode cX1_operand 11 = .ok (.iload_n 0, 1) := dk_26 (dk_at dksX1_operand_0 11 rfl rfl)
theorem dX1_operand_12 : decode cX1_operand 12 = .ok (.iload_n 1, 1) := dk_27 (dk_at dksX1_operand_0 12 rfl rfl)
theorem dX1_operand_13 : decode cX1_operand 13 = .ok (.iconst 0, 1) := dk_3 (dk_at dksX1_operand_0 13 rfl rfl)
theorem dX1_operand_14 : decode cX1_operand 14 = .ok (.iload_n 0, 1) := dk_26 (dk_at dksX1_operand_0 14 rfl rfl)
theorem dX1_operand_15 : decode cX1_operand 15 = .ok (.iconst 1, 1) := dk_4 (dk_at dksX1_operand_0 15 rfl rfl)
theorem dX1_operand_16 : decode cX1_operand 16 = .ok (.if_icmp .ne 8, 3) := dk_160 0 8 (dk_at dksX1_operand_0 16 rfl rfl)
theorem dX1_operand_19 : decode cX1_operand 19 = .ok (.bipush 19, 2) := dk_16 19 (dk_at dksX1_operand_0 19 rfl rfl)
theorem dX1_operand_21 : decode cX1_operand 21 = .ok (.goto 5, 3) := dk_167 0 5 (dk_at dksX1_operand_0 21 rfl rfl)
theorem dX1_operand_24 : decode cX1_operand 24 = .ok (.ldc 61, 2) := dk_18 61 (dk_at dksX1_operand_1 0 rfl rfl)
theorem dX1_operand_26 : decode cX1_operand 26 = .ok (.invokestatic 55, 3) := dk_184 0 55 (dk_at dksX1_operand_1 2 rfl rfl)
theorem dX1_operand_29 : decode cX1_operand 29 = .ok (.invokespecial 62, 3) := dk_183 0 62 (dk_at dksX1_operand_1 5 rfl rfl)
theorem dX1_operand_32 : decode cX1_operand 32 = .ok (.areturn, 1) := dk_176 (dk_at dksX1_operand_1 8 rfl rfl)
abbrev cX1_word : ByteArray := prog_1_method_13_code
def yX1_word : MethodName := ⟨RX1, "word", "(II)I"⟩
def dkwX1_word_0 : List UInt8 := [27, 28, 184, 0, 90, 78, 42, 187, 0, 99, 89, 42, 45, 183, 0, 101, 182, 0, 84, 172]
abbrev dktX1_word_0 : List UInt8 := dkwX1_word_0 ++ []
theorem dksX1_word_0 : cX1_word.data.toList.drop 0 = dktX1_word_0 := by decide +kernel
theorem dX1_word_0 : decode cX1_word 0 = .ok (.iload_n 1, 1) := dk_27 (dk_at dksX1_word_0 0 rfl rfl)
theorem dX1_word_1 : decode cX1_word 1 = .ok (.iload_n 2, 1) := dk_28 (dk_at dksX1_word_0 1 rfl rfl)
theorem dX1_word_2 : decode cX1_word 2 = .ok (.invokestatic 90, 3) := dk_184 0 90 (dk_at dksX1_word_0 2 rfl rfl)
theorem dX1_word_5 : decode cX1_word 5 = .ok (.astore_n 3, 1) := dk_78 (dk_at dksX1_word_0 5 rfl rfl)
theorem dX1_word_6 : decode cX1_word 6 = .ok (.aload_n 0, 1) := dk_42 (dk_at dksX1_word_0 6 rfl rfl)
theorem dX1_word_7 : decode cX1_word 7 = .ok (.new 99, 3) := dk_187 0 99 (dk_at dksX1_word_0 7 rfl rfl)
theorem dX1_word_10 : decode cX1_word 10 = .ok (.dup, 1) := dk_89 (dk_at dksX1_word_0 10 rfl rfl)
theorem dX1_word_11 : decode cX1_word 11 = .ok (.aload_n 0, 1) := dk_42 (dk_at dksX1_word_0 11 rfl rfl)
theorem dX1_word_12 : decode cX1_word 12 = .ok (.aload_n 3, 1) := dk_45 (dk_at dksX1_word_0 12 rfl rfl)
theorem dX1_word_13 : decode cX1_word 13 = .ok (.invokespecial 101, 3) := dk_183 0 101 (dk_at dksX1_word_0 13 rfl rfl)
theorem dX1_word_16 : decode cX1_word 16 = .ok (.invokevirtual 84, 3) := dk_182 0 84 (dk_at dksX1_word_0 16 rfl rfl)
theorem dX1_word_19 : decode cX1_word 19 = .ok (.ireturn, 1) := dk_172 (dk_at dksX1_word_0 19 rfl rfl)
abbrev cX1_space : ByteArray := prog_1_method_14_code
def yX1_space : MethodName := ⟨RX1, "space", "(I)I"⟩
def dkwX1_space_0 : List UInt8 := [27, 4, 16, 32, 184, 0, 55, 87, 42, 187, 0, 104, 89, 42, 27, 183, 0, 106, 182, 0, 84, 172]
abbrev dktX1_space_0 : List UInt8 := dkwX1_space_0 ++ []
theorem dksX1_space_0 : cX1_space.data.toList.drop 0 = dktX1_space_0 := by decide +kernel
theorem dX1_space_0 : decode cX1_space 0 = .ok (.iload_n 1, 1) := dk_27 (dk_at dksX1_space_0 0 rfl rfl)
theorem dX1_space_1 : decode cX1_space 1 = .ok (.iconst 1, 1) := dk_4 (dk_at dksX1_space_0 1 rfl rfl)
theorem dX1_space_2 : decode cX1_space 2 = .ok (.bipush 32, 2) := dk_16 32 (dk_at dksX1_space_0 2 rfl rfl)
theorem dX1_space_4 : decode cX1_space 4 = .ok (.invokestatic 55, 3) := dk_184 0 55 (dk_at dksX1_space_0 4 rfl rfl)
theorem dX1_space_7 : decode cX1_space 7 = .ok (.pop, 1) := dk_87 (dk_at dksX1_space_0 7 rfl rfl)
theorem dX1_space_8 : decode cX1_space 8 = .ok (.aload_n 0, 1) := dk_42 (dk_at dksX1_space_0 8 rfl rfl)
theorem dX1_space_9 : decode cX1_space 9 = .ok (.new 104, 3) := dk_187 0 104 (dk_at dksX1_space_0 9 rfl rfl)
theorem dX1_space_12 : decode cX1_space 12 = .ok (.dup, 1) := dk_89 (dk_at dksX1_space_0 12 rfl rfl)
theorem dX1_space_13 : decode cX1_space 13 = .ok (.aload_n 0, 1) := dk_42 (dk_at dksX1_space_0 13 rfl rfl)
theorem dX1_space_14 : decode cX1_space 14 = .ok (.iload_n 1, 1) := dk_27 (dk_at dksX1_space_0 14 rfl rfl)
theorem dX1_space_15 : decode cX1_space 15 = .ok (.invokespecial 106, 3) := dk_183 0 106 (dk_at dksX1_space_0 15 rfl rfl)
theorem dX1_space_18 : decode cX1_space 18 = .ok (.invokevirtual 84, 3) := dk_182 0 84 (dk_at dksX1_space_0 18 rfl rfl)
theorem dX1_space_21 : decode cX1_space 21 = .ok (.ireturn, 1) := dk_172 (dk_at dksX1_space_0 21 rfl rfl)
abbrev cX1_vector : ByteArray := prog_1_method_15_code
def yX1_vector : MethodName := ⟨RX1, "vector", "(III)I"⟩
def dkwX1_vector_1 : List UInt8 := [183, 0, 109, 182, 0, 84, 172]
abbrev dktX1_vector_1 : List UInt8 := dkwX1_vector_1 ++ []
def dkwX1_vector_0 : List UInt8 := [27, 3, 4, 184, 0, 55, 87, 28, 29, 184, 0, 90, 58, 4, 42, 187, 0, 107, 89, 42, 27, 25, 4]
abbrev dktX1_vector_0 : List UInt8 := dkwX1_vector_0 ++ dktX1_vector_1
theorem dksX1_vector_0 : cX1_vector.data.toList.drop 0 = dktX1_vector_0 := by decide +kernel
theorem dksX1_vector_1 : cX1_vector.data.toList.drop 23 = dktX1_vector_1 := dk_seg dksX1_vector_0 23 rfl rfl
theorem dX1_vector_0 : decode cX1_vector 0 = .ok (.iload_n 1, 1) := dk_27 (dk_at dksX1_vector_0 0 rfl rfl)
theorem dX1_vector_1 : decode cX1_vector 1 = .ok (.iconst 0, 1) := dk_3 (dk_at dksX1_vector_0 1 rfl rfl)
theorem dX1_vector_2 : decode cX1_vector 2 = .ok (.iconst 1, 1) := dk_4 (dk_at dksX1_vector_0 2 rfl rfl)
theorem dX1_vector_3 : decode cX1_vector 3 = .ok (.invokestatic 55, 3) := dk_184 0 55 (dk_at dksX1_vector_0 3 rfl rfl)
theorem dX1_vector_6 : decode cX1_vector 6 = .ok (.pop, 1) := dk_87 (dk_at dksX1_vector_0 6 rfl rfl)
theorem dX1_vector_7 : decode cX1_vector 7 = .ok (.iload_n 2, 1) := dk_28 (dk_at dksX1_vector_0 7 rfl rfl)
theorem dX1_vector_8 : decode cX1_vector 8 = .ok (.iload_n 3, 1) := dk_29 (dk_at dksX1_vector_0 8 rfl rfl)
theorem dX1_vector_9 : decode cX1_vector 9 = .ok (.invokestatic 90, 3) := dk_184 0 90 (dk_at dksX1_vector_0 9 rfl rfl)
theorem dX1_vector_12 : decode cX1_vector 12 = .ok (.astore 4, 2) := dk_58 4 (dk_at dksX1_vector_0 12 rfl rfl)
theorem dX1_vector_14 : decode cX1_vector 14 = .ok (.aload_n 0, 1) := dk_42 (dk_at dksX1_vector_0 14 rfl rfl)
theorem dX1_vector_15 : decode cX1_vector 15 = .ok (.new 107, 3) := dk_187 0 107 (dk_at dksX1_vector_0 15 rfl rfl)
theorem dX1_vector_18 : decode cX1_vector 18 = .ok (.dup, 1) := dk_89 (dk_at dksX1_vector_0 18 rfl rfl)
theorem dX1_vector_19 : decode cX1_vector 19 = .ok (.aload_n 0, 1) := dk_42 (dk_at dksX1_vector_0 19 rfl rfl)
theorem dX1_vector_20 : decode cX1_vector 20 = .ok (.iload_n 1, 1) := dk_27 (dk_at dksX1_vector_0 20 rfl rfl)
theorem dX1_vector_21 : decode cX1_vector 21 = .ok (.aload 4, 2) := dk_25 4 (dk_at dksX1_vector_0 21 rfl rfl)
theorem dX1_vector_23 : decode cX1_vector 23 = .ok (.invokespecial 109, 3) := dk_183 0 109 (dk_at dksX1_vector_1 0 rfl rfl)
theorem dX1_vector_26 : decode cX1_vector 26 = .ok (.invokevirtual 84, 3) := dk_182 0 84 (dk_at dksX1_vector_1 3 rfl rfl)
theorem dX1_vector_29 : decode cX1_vector 29 = .ok (.ireturn, 1) := dk_172 (dk_at dksX1_vector_1 6 rfl rfl)
abbrev cX1_macro : ByteArray := prog_1_method_16_code
def yX1_macro : MethodName := ⟨RX1, "macro", "(I)I"⟩
def dkwX1_macro_0 : List UInt8 := [27, 3, 7, 184, 0, 55, 87, 42, 187, 0, 112, 89, 42, 27, 183, 0, 114, 182, 0, 84, 172]
abbrev dktX1_macro_0 : List UInt8 := dkwX1_macro_0 ++ []
theorem dksX1_macro_0 : cX1_macro.data.toList.drop 0 = dktX1_macro_0 := by decide +kernel
theorem dX1_macro_0 : decode cX1_macro 0 = .ok (.iload_n 1, 1) := dk_27 (dk_at dksX1_macro_0 0 rfl rfl)
theorem dX1_macro_1 : decode cX1_macro 1 = .ok (.iconst 0, 1) := dk_3 (dk_at dksX1_macro_0 1 rfl rfl)
theorem dX1_macro_2 : decode cX1_macro 2 = .ok (.iconst 4, 1) := dk_7 (dk_at dksX1_macro_0 2 rfl rfl)
theorem dX1_macro_3 : decode cX1_macro 3 = .ok (.invokestatic 55, 3) := dk_184 0 55 (dk_at dksX1_macro_0 3 rfl rfl)
theorem dX1_macro_6 : decode cX1_macro 6 = .ok (.pop, 1) := dk_87 (dk_at dksX1_macro_0 6 rfl rfl)
theorem dX1_macro_7 : decode cX1_macro 7 = .ok (.aload_n 0, 1) := dk_42 (dk_at dksX1_macro_0 7 rfl rfl)
theorem dX1_macro_8 : decode cX1_macro 8 = .ok (.new 112, 3) := dk_187 0 112 (dk_at dksX1_macro_0 8 rfl rfl)
theorem dX1_macro_11 : decode cX1_macro 11 = .ok (.dup, 1) := dk_89 (dk_at dksX1_macro_0 11 rfl rfl)
theorem dX1_macro_12 : decode cX1_macro 12 = .ok (.aload_n 0, 1) := dk_42 (dk_at dksX1_macro_0 12 rfl rfl)
theorem dX1_macro_13 : decode cX1_macro 13 = .ok (.iload_n 1, 1) := dk_27 (dk_at dksX1_macro_0 13 rfl rfl)
theorem dX1_macro_14 : decode cX1_macro 14 = .ok (.invokespecial 114, 3) := dk_183 0 114 (dk_at dksX1_macro_0 14 rfl rfl)
theorem dX1_macro_17 : decode cX1_macro 17 = .ok (.invokevirtual 84, 3) := dk_182 0 84 (dk_at dksX1_macro_0 17 rfl rfl)
theorem dX1_macro_20 : decode cX1_macro 20 = .ok (.ireturn, 1) := dk_172 (dk_at dksX1_macro_0 20 rfl rfl)
abbrev cX1_endMacro : ByteArray := prog_1_method_17_code
def yX1_endMacro : MethodName := ⟨RX1, "endMacro", "()I"⟩
def dkwX1_endMacro_0 : List UInt8 := [42, 187, 0, 115, 89, 42, 183, 0, 117, 182, 0, 84, 172]
abbrev dktX1_endMacro_0 : List UInt8 := dkwX1_endMacro_0 ++ []
theorem dksX1_endMacro_0 : cX1_endMacro.data.toList.drop 0 = dktX1_endMacro_0 := by decide +kernel
theorem dX1_endMacro_0 : decode cX1_endMacro 0 = .ok (.aload_n 0, 1) := dk_42 (dk_at dksX1_endMacro_0 0 rfl rfl)
theorem dX1_endMacro_1 : decode cX1_endMacro 1 = .ok (.new 115, 3) := dk_187 0 115 (dk_at dksX1_endMacro_0 1 rfl rfl)
theorem dX1_endMacro_4 : decode cX1_endMacro 4 = .ok (.dup, 1) := dk_89 (dk_at dksX1_endMacro_0 4 rfl rfl)
theorem dX1_endMacro_5 : decode cX1_endMacro 5 = .ok (.aload_n 0, 1) := dk_42 (dk_at dksX1_endMacro_0 5 rfl rfl)
theorem dX1_endMacro_6 : decode cX1_endMacro 6 = .ok (.invokespecial 117, 3) := dk_183 0 117 (dk_at dksX1_endMacro_0 6 rfl rfl)
theorem dX1_endMacro_9 : decode cX1_endMacro 9 = .ok (.invokevirtual 84, 3) := dk_182 0 84 (dk_at dksX1_endMacro_0 9 rfl rfl)
theorem dX1_endMacro_12 : decode cX1_endMacro 12 = .ok (.ireturn, 1) := dk_172 (dk_at dksX1_endMacro_0 12 rfl rfl)
abbrev cX1_use : ByteArray := prog_1_method_18_code
def yX1_use : MethodName := ⟨RX1, "use", "(IIIII)I"⟩
def dkwX1_use_1 : List UInt8 := [187, 0, 120, 89, 42, 27, 25, 6, 25, 7, 183, 0, 122, 182, 0, 84, 172]
abbrev dktX1_use_1 : List UInt8 := dkwX1_use_1 ++ []
def dkwX1_use_0 : List UInt8 := [27, 3, 7, 184, 0, 55, 87, 28, 29, 184, 0, 90, 58, 6, 21, 4, 21, 5, 184, 0, 90, 58, 7, 42]
abbrev dktX1_use_0 : List UInt8 := dkwX1_use_0 ++ dktX1_use_1
theorem dksX1_use_0 : cX1_use.data.toList.drop 0 = dktX1_use_0 := by decide +kernel
theorem dksX1_use_1 : cX1_use.data.toList.drop 24 = dktX1_use_1 := dk_seg dksX1_use_0 24 rfl rfl
theorem dX1_use_0 : decode cX1_use 0 = .ok (.iload_n 1, 1) := dk_27 (dk_at dksX1_use_0 0 rfl rfl)
theorem dX1_use_1 : decode cX1_use 1 = .ok (.iconst 0, 1) := dk_3 (dk_at dksX1_use_0 1 rfl rfl)
theorem dX1_use_2 : decode cX1_use 2 = .ok (.iconst 4, 1) := dk_7 (dk_at dksX1_use_0 2 rfl rfl)
theorem dX1_use_3 : decode cX1_use 3 = .ok (.invokestatic 55, 3) := dk_184 0 55 (dk_at dksX1_use_0 3 rfl rfl)
theorem dX1_use_6 : decode cX1_use 6 = .ok (.pop, 1) := dk_87 (dk_at dksX1_use_0 6 rfl rfl)
theorem dX1_use_7 : decode cX1_use 7 = .ok (.iload_n 2, 1) := dk_28 (dk_at dksX1_use_0 7 rfl rfl)
theorem dX1_use_8 : decode cX1_use 8 = .ok (.iload_n 3, 1) := dk_29 (dk_at dksX1_use_0 8 rfl rfl)
theorem dX1_use_9 : decode cX1_use 9 = .ok (.invokestatic 90, 3) := dk_184 0 90 (dk_at dksX1_use_0 9 rfl rfl)
theorem dX1_use_12 : decode cX1_use 12 = .ok (.astore 6, 2) := dk_58 6 (dk_at dksX1_use_0 12 rfl rfl)
theorem dX1_use_14 : decode cX1_use 14 = .ok (.iload 4, 2) := dk_21 4 (dk_at dksX1_use_0 14 rfl rfl)
theorem dX1_use_16 : decode cX1_use 16 = .ok (.iload 5, 2) := dk_21 5 (dk_at dksX1_use_0 16 rfl rfl)
theorem dX1_use_18 : decode cX1_use 18 = .ok (.invokestatic 90, 3) := dk_184 0 90 (dk_at dksX1_use_0 18 rfl rfl)
theorem dX1_use_21 : decode cX1_use 21 = .ok (.astore 7, 2) := dk_58 7 (dk_at dksX1_use_0 21 rfl rfl)
theorem dX1_use_23 : decode cX1_use 23 = .ok (.aload_n 0, 1) := dk_42 (dk_at dksX1_use_0 23 rfl rfl)
theorem dX1_use_24 : decode cX1_use 24 = .ok (.new 120, 3) := dk_187 0 120 (dk_at dksX1_use_1 0 rfl rfl)
theorem dX1_use_27 : decode cX1_use 27 = .ok (.dup, 1) := dk_89 (dk_at dksX1_use_1 3 rfl rfl)
theorem dX1_use_28 : decode cX1_use 28 = .ok (.aload_n 0, 1) := dk_42 (dk_at dksX1_use_1 4 rfl rfl)
theorem dX1_use_29 : decode cX1_use 29 = .ok (.iload_n 1, 1) := dk_27 (dk_at dksX1_use_1 5 rfl rfl)
theorem dX1_use_30 : decode cX1_use 30 = .ok (.aload 6, 2) := dk_25 6 (dk_at dksX1_use_1 6 rfl rfl)
theorem dX1_use_32 : decode cX1_use 32 = .ok (.aload 7, 2) := dk_25 7 (dk_at dksX1_use_1 8 rfl rfl)
theorem dX1_use_34 : decode cX1_use 34 = .ok (.invokespecial 122, 3) := dk_183 0 122 (dk_at dksX1_use_1 10 rfl rfl)
theorem dX1_use_37 : decode cX1_use 37 = .ok (.invokevirtual 84, 3) := dk_182 0 84 (dk_at dksX1_use_1 13 rfl rfl)
theorem dX1_use_40 : decode cX1_use 40 = .ok (.ireturn, 1) := dk_172 (dk_at dksX1_use_1 16 rfl rfl)
abbrev cX1_assemble : ByteArray := prog_1_method_20_code
def yX1_assemble : MethodName := ⟨RX1, "assemble", "()I"⟩
def dkwX1_assemble_1 : List UInt8 := [187, 0, 50, 89, 18, 142, 43, 183, 0, 144, 191]
abbrev dktX1_assemble_1 : List UInt8 := dkwX1_assemble_1 ++ []
def dkwX1_assemble_0 : List UInt8 := [187, 0, 125, 89, 42, 183, 0, 127, 76, 42, 43, 180, 0, 135, 181, 0, 139, 43, 180, 0, 128, 172, 76]
abbrev dktX1_assemble_0 : List UInt8 := dkwX1_assemble_0 ++ dktX1_assemble_1
theorem dksX1_assemble_0 : cX1_assemble.data.toList.drop 0 = dktX1_assemble_0 := by decide +kernel
theorem dksX1_assemble_1 : cX1_assemble.data.toList.drop 23 = dktX1_assemble_1 := dk_seg dksX1_assemble_0 23 rfl rfl
theorem dX1_assemble_0 : decode cX1_assemble 0 = .ok (.new 125, 3) := dk_187 0 125 (dk_at dksX1_assemble_0 0 rfl rfl)
theorem dX1_assemble_3 : decode cX1_assemble 3 = .ok (.dup, 1) := dk_89 (dk_at dksX1_assemble_0 3 rfl rfl)
theorem dX1_assemble_4 : decode cX1_assemble 4 = .ok (.aload_n 0, 1) := dk_42 (dk_at dksX1_assemble_0 4 rfl rfl)
theorem dX1_assemble_5 : decode cX1_assemble 5 = .ok (.invokespecial 127, 3) := dk_183 0 127 (dk_at dksX1_assemble_0 5 rfl rfl)
theorem dX1_assemble_8 : decode cX1_assemble 8 = .ok (.astore_n 1, 1) := dk_76 (dk_at dksX1_assemble_0 8 rfl rfl)
theorem dX1_assemble_9 : decode cX1_assemble 9 = .ok (.aload_n 0, 1) := dk_42 (dk_at dksX1_assemble_0 9 rfl rfl)
theorem dX1_assemble_10 : decode cX1_assemble 10 = .ok (.aload_n 1, 1) := dk_43 (dk_at dksX1_assemble_0 10 rfl rfl)
theorem dX1_assemble_11 : decode cX1_assemble 11 = .ok (.getfield 135, 3) := dk_180 0 135 (dk_at dksX1_assemble_0 11 rfl rfl)
theorem dX1_assemble_14 : decode cX1_assemble 14 = .ok (.putfield 139, 3) := dk_181 0 139 (dk_at dksX1_assemble_0 14 rfl rfl)
theorem dX1_assemble_17 : decode cX1_assemble 17 = .ok (.aload_n 1, 1) := dk_43 (dk_at dksX1_assemble_0 17 rfl rfl)
theorem dX1_assemble_18 : decode cX1_assemble 18 = .ok (.getfield 128, 3) := dk_180 0 128 (dk_at dksX1_assemble_0 18 rfl rfl)
theorem dX1_assemble_21 : decode cX1_assemble 21 = .ok (.ireturn, 1) := dk_172 (dk_at dksX1_assemble_0 21 rfl rfl)
theorem dX1_assemble_22 : decode cX1_assemble 22 = .ok (.astore_n 1, 1) := dk_76 (dk_at dksX1_assemble_0 22 rfl rfl)
theorem dX1_assemble_23 : decode cX1_assemble 23 = .ok (.new 50, 3) := dk_187 0 50 (dk_at dksX1_assemble_1 0 rfl rfl)
theorem dX1_assemble_26 : decode cX1_assemble 26 = .ok (.dup, 1) := dk_89 (dk_at dksX1_assemble_1 3 rfl rfl)
theorem dX1_assemble_27 : decode cX1_assemble 27 = .ok (.ldc 142, 2) := dk_18 142 (dk_at dksX1_assemble_1 4 rfl rfl)
theorem dX1_assemble_29 : decode cX1_assemble 29 = .ok (.aload_n 1, 1) := dk_43 (dk_at dksX1_assemble_1 6 rfl rfl)
theorem dX1_assemble_30 : decode cX1_assemble 30 = .ok (.invokespecial 144, 3) := dk_183 0 144 (dk_at dksX1_assemble_1 7 rfl rfl)
theorem dX1_assemble_33 : decode cX1_assemble 33 = .ok (.athrow, 1) := dk_191 (dk_at dksX1_assemble_1 10 rfl rfl)
abbrev cX1_image : ByteArray := prog_1_method_21_code
def yX1_image : MethodName := ⟨RX1, "image", "(I)I"⟩
def dkwX1_image_1 : List UInt8 := [42, 180, 0, 139, 27, 46, 172]
abbrev dktX1_image_1 : List UInt8 := dkwX1_image_1 ++ []
def dkwX1_image_0 : List UInt8 := [27, 3, 17, 0, 255, 184, 0, 55, 87, 42, 180, 0, 139, 198, 0, 7, 4, 167, 0, 4, 3, 184, 0, 69]
abbrev dktX1_image_0 : List UInt8 := dkwX1_image_0 ++ dktX1_image_1
theorem dksX1_image_0 : cX1_image.data.toList.drop 0 = dktX1_image_0 := by decide +kernel
theorem dksX1_image_1 : cX1_image.data.toList.drop 24 = dktX1_image_1 := dk_seg dksX1_image_0 24 rfl rfl
theorem dX1_image_0 : decode cX1_image 0 = .ok (.iload_n 1, 1) := dk_27 (dk_at dksX1_image_0 0 rfl rfl)
theorem dX1_image_1 : decode cX1_image 1 = .ok (.iconst 0, 1) := dk_3 (dk_at dksX1_image_0 1 rfl rfl)
theorem dX1_image_2 : decode cX1_image 2 = .ok (.sipush 255, 3) := dk_17 0 255 (dk_at dksX1_image_0 2 rfl rfl)
theorem dX1_image_5 : decode cX1_image 5 = .ok (.invokestatic 55, 3) := dk_184 0 55 (dk_at dksX1_image_0 5 rfl rfl)
theorem dX1_image_8 : decode cX1_image 8 = .ok (.pop, 1) := dk_87 (dk_at dksX1_image_0 8 rfl rfl)
theorem dX1_image_9 : decode cX1_image 9 = .ok (.aload_n 0, 1) := dk_42 (dk_at dksX1_image_0 9 rfl rfl)
theorem dX1_image_10 : decode cX1_image 10 = .ok (.getfield 139, 3) := dk_180 0 139 (dk_at dksX1_image_0 10 rfl rfl)
theorem dX1_image_13 : decode cX1_image 13 = .ok (.ifnull 7, 3) := dk_198 0 7 (dk_at dksX1_image_0 13 rfl rfl)
theorem dX1_image_16 : decode cX1_image 16 = .ok (.iconst 1, 1) := dk_4 (dk_at dksX1_image_0 16 rfl rfl)
theorem dX1_image_17 : decode cX1_image 17 = .ok (.goto 4, 3) := dk_167 0 4 (dk_at dksX1_image_0 17 rfl rfl)
theorem dX1_image_20 : decode cX1_image 20 = .ok (.iconst 0, 1) := dk_3 (dk_at dksX1_image_0 20 rfl rfl)
theorem dX1_image_21 : decode cX1_image 21 = .ok (.invokestatic 69, 3) := dk_184 0 69 (dk_at dksX1_image_0 21 rfl rfl)
theorem dX1_image_24 : decode cX1_image 24 = .ok (.aload_n 0, 1) := dk_42 (dk_at dksX1_image_1 0 rfl rfl)
theorem dX1_image_25 : decode cX1_image 25 = .ok (.getfield 139, 3) := dk_180 0 139 (dk_at dksX1_image_1 1 rfl rfl)
theorem dX1_image_28 : decode cX1_image 28 = .ok (.iload_n 1, 1) := dk_27 (dk_at dksX1_image_1 4 rfl rfl)
theorem dX1_image_29 : decode cX1_image 29 = .ok (.iaload, 1) := dk_46 (dk_at dksX1_image_1 5 rfl rfl)
theorem dX1_image_30 : decode cX1_image 30 = .ok (.ireturn, 1) := dk_172 (dk_at dksX1_image_1 6 rfl rfl)
abbrev cX1_start : ByteArray := prog_1_method_22_code
def yX1_start : MethodName := ⟨RX1, "start", "()I"⟩
def dkwX1_start_1 : List UInt8 := [184, 0, 69, 42, 180, 0, 26, 42, 180, 0, 139, 182, 0, 151, 172]
abbrev dktX1_start_1 : List UInt8 := dkwX1_start_1 ++ []
def dkwX1_start_0 : List UInt8 := [42, 180, 0, 26, 182, 0, 147, 154, 0, 14, 42, 180, 0, 139, 198, 0, 7, 4, 167, 0, 4, 3]
abbrev dktX1_start_0 : List UInt8 := dkwX1_start_0 ++ dktX1_start_1
theorem dksX1_start_0 : cX1_start.data.toList.drop 0 = dktX1_start_0 := by decide +kernel
theorem dksX1_start_1 : cX1_start.data.toList.drop 22 = dktX1_start_1 := dk_seg dksX1_start_0 22 rfl rfl
theorem dX1_start_0 : decode cX1_start 0 = .ok (.aload_n 0, 1) := dk_42 (dk_at dksX1_start_0 0 rfl rfl)
theorem dX1_start_1 : decode cX1_start 1 = .ok (.getfield 26, 3) := dk_180 0 26 (dk_at dksX1_start_0 1 rfl rfl)
theorem dX1_start_4 : decode cX1_start 4 = .ok (.invokevirtual 147, 3) := dk_182 0 147 (dk_at dksX1_start_0 4 rfl rfl)
theorem dX1_start_7 : decode cX1_start 7 = .ok (.ifCond .ne 14, 3) := dk_154 0 14 (dk_at dksX1_start_0 7 rfl rfl)
theorem dX1_start_10 : decode cX1_start 10 = .ok (.aload_n 0, 1) := dk_42 (dk_at dksX1_start_0 10 rfl rfl)
theorem dX1_start_11 : decode cX1_start 11 = .ok (.getfield 139, 3) := dk_180 0 139 (dk_at dksX1_start_0 11 rfl rfl)
theorem dX1_start_14 : decode cX1_start 14 = .ok (.ifnull 7, 3) := dk_198 0 7 (dk_at dksX1_start_0 14 rfl rfl)
theorem dX1_start_17 : decode cX1_start 17 = .ok (.iconst 1, 1) := dk_4 (dk_at dksX1_start_0 17 rfl rfl)
theorem dX1_start_18 : decode cX1_start 18 = .ok (.goto 4, 3) := dk_167 0 4 (dk_at dksX1_start_0 18 rfl rfl)
theorem dX1_start_21 : decode cX1_start 21 = .ok (.iconst 0, 1) := dk_3 (dk_at dksX1_start_0 21 rfl rfl)
theorem dX1_start_22 : decode cX1_start 22 = .ok (.invokestatic 69, 3) := dk_184 0 69 (dk_at dksX1_start_1 0 rfl rfl)
theorem dX1_start_25 : decode cX1_start 25 = .ok (.aload_n 0, 1) := dk_42 (dk_at dksX1_start_1 3 rfl rfl)
theorem dX1_start_26 : decode cX1_start 26 = .ok (.getfield 26, 3) := dk_180 0 26 (dk_at dksX1_start_1 4 rfl rfl)
theorem dX1_start_29 : decode cX1_start 29 = .ok (.aload_n 0, 1) := dk_42 (dk_at dksX1_start_1 7 rfl rfl)
theorem dX1_start_30 : decode cX1_start 30 = .ok (.getfield 139, 3) := dk_180 0 139 (dk_at dksX1_start_1 8 rfl rfl)
theorem dX1_start_33 : decode cX1_start 33 = .ok (.invokevirtual 151, 3) := dk_182 0 151 (dk_at dksX1_start_1 11 rfl rfl)
theorem dX1_start_36 : decode cX1_start 36 = .ok (.ireturn, 1) := dk_172 (dk_at dksX1_start_1 14 rfl rfl)
abbrev cX1_crash : ByteArray := prog_1_method_23_code
def yX1_crash : MethodName := ⟨RX1, "crash", "()I"⟩
def dkwX1_crash_0 : List UInt8 := [42, 180, 0, 26, 182, 0, 147, 184, 0, 69, 42, 180, 0, 26, 182, 0, 155, 172]
abbrev dktX1_crash_0 : List UInt8 := dkwX1_crash_0 ++ []
theorem dksX1_crash_0 : cX1_crash.data.toList.drop 0 = dktX1_crash_0 := by decide +kernel
theorem dX1_crash_0 : decode cX1_crash 0 = .ok (.aload_n 0, 1) := dk_42 (dk_at dksX1_crash_0 0 rfl rfl)
theorem dX1_crash_1 : decode cX1_crash 1 = .ok (.getfield 26, 3) := dk_180 0 26 (dk_at dksX1_crash_0 1 rfl rfl)
theorem dX1_crash_4 : decode cX1_crash 4 = .ok (.invokevirtual 147, 3) := dk_182 0 147 (dk_at dksX1_crash_0 4 rfl rfl)
theorem dX1_crash_7 : decode cX1_crash 7 = .ok (.invokestatic 69, 3) := dk_184 0 69 (dk_at dksX1_crash_0 7 rfl rfl)
theorem dX1_crash_10 : decode cX1_crash 10 = .ok (.aload_n 0, 1) := dk_42 (dk_at dksX1_crash_0 10 rfl rfl)
theorem dX1_crash_11 : decode cX1_crash 11 = .ok (.getfield 26, 3) := dk_180 0 26 (dk_at dksX1_crash_0 11 rfl rfl)
theorem dX1_crash_14 : decode cX1_crash 14 = .ok (.invokevirtual 155, 3) := dk_182 0 155 (dk_at dksX1_crash_0 14 rfl rfl)
theorem dX1_crash_17 : decode cX1_crash 17 = .ok (.ireturn, 1) := dk_172 (dk_at dksX1_crash_0 17 rfl rfl)
abbrev cX1_format : ByteArray := prog_1_method_24_code
def yX1_format : MethodName := ⟨RX1, "format", "()I"⟩
def dkwX1_format_1 : List UInt8 := [180, 0, 26, 182, 0, 161, 27, 172]
abbrev dktX1_format_1 : List UInt8 := dkwX1_format_1 ++ []
def dkwX1_format_0 : List UInt8 := [42, 180, 0, 26, 182, 0, 147, 154, 0, 7, 4, 167, 0, 4, 3, 184, 0, 69, 42, 182, 0, 158, 60, 42]
abbrev dktX1_format_0 : List UInt8 := dkwX1_format_0 ++ dktX1_format_1
theorem dksX1_format_0 : cX1_format.data.toList.drop 0 = dktX1_format_0 := by decide +kernel
theorem dksX1_format_1 : cX1_format.data.toList.drop 24 = dktX1_format_1 := dk_seg dksX1_format_0 24 rfl rfl
theorem dX1_format_0 : decode cX1_format 0 = .ok (.aload_n 0, 1) := dk_42 (dk_at dksX1_format_0 0 rfl rfl)
theorem dX1_format_1 : decode cX1_format 1 = .ok (.getfield 26, 3) := dk_180 0 26 (dk_at dksX1_format_0 1 rfl rfl)
theorem dX1_format_4 : decode cX1_format 4 = .ok (.invokevirtual 147, 3) := dk_182 0 147 (dk_at dksX1_format_0 4 rfl rfl)
theorem dX1_format_7 : decode cX1_format 7 = .ok (.ifCond .ne 7, 3) := dk_154 0 7 (dk_at dksX1_format_0 7 rfl rfl)
theorem dX1_format_10 : decode cX1_format 10 = .ok (.iconst 1, 1) := dk_4 (dk_at dksX1_format_0 10 rfl rfl)
theorem dX1_format_11 : decode cX1_format 11 = .ok (.goto 4, 3) := dk_167 0 4 (dk_at dksX1_format_0 11 rfl rfl)
theorem dX1_format_14 : decode cX1_format 14 = .ok (.iconst 0, 1) := dk_3 (dk_at dksX1_format_0 14 rfl rfl)
theorem dX1_format_15 : decode cX1_format 15 = .ok (.invokestatic 69, 3) := dk_184 0 69 (dk_at dksX1_format_0 15 rfl rfl)
theorem dX1_format_18 : decode cX1_format 18 = .ok (.aload_n 0, 1) := dk_42 (dk_at dksX1_format_0 18 rfl rfl)
theorem dX1_format_19 : decode cX1_format 19 = .ok (.invokevirtual 158, 3) := dk_182 0 158 (dk_at dksX1_format_0 19 rfl rfl)
theorem dX1_format_22 : decode cX1_format 22 = .ok (.istore_n 1, 1) := dk_60 (dk_at dksX1_format_0 22 rfl rfl)
theorem dX1_format_23 : decode cX1_format 23 = .ok (.aload_n 0, 1) := dk_42 (dk_at dksX1_format_0 23 rfl rfl)
theorem dX1_format_24 : decode cX1_format 24 = .ok (.getfield 26, 3) := dk_180 0 26 (dk_at dksX1_format_1 0 rfl rfl)
theorem dX1_format_27 : decode cX1_format 27 = .ok (.invokevirtual 161, 3) := dk_182 0 161 (dk_at dksX1_format_1 3 rfl rfl)
theorem dX1_format_30 : decode cX1_format 30 = .ok (.iload_n 1, 1) := dk_27 (dk_at dksX1_format_1 6 rfl rfl)
theorem dX1_format_31 : decode cX1_format 31 = .ok (.ireturn, 1) := dk_172 (dk_at dksX1_format_1 7 rfl rfl)
abbrev cX1_step : ByteArray := prog_1_method_25_code
def yX1_step : MethodName := ⟨RX1, "step", "(I)I"⟩
def dkwX1_step_2 : List UInt8 := [167, 255, 231, 28, 172]
abbrev dktX1_step_2 : List UInt8 := dkwX1_step_2 ++ []
def dkwX1_step_1 : List UInt8 := [162, 0, 26, 42, 180, 0, 26, 182, 0, 164, 153, 0, 16, 42, 180, 0, 26, 182, 0, 167, 132, 2, 1]
abbrev dktX1_step_1 : List UInt8 := dkwX1_step_1 ++ dktX1_step_2
def dkwX1_step_0 : List UInt8 := [27, 4, 16, 100, 184, 0, 55, 87, 42, 180, 0, 26, 182, 0, 147, 184, 0, 69, 3, 61, 28, 27]
abbrev dktX1_step_0 : List UInt8 := dkwX1_step_0 ++ dktX1_step_1
theorem dksX1_step_0 : cX1_step.data.toList.drop 0 = dktX1_step_0 := by decide +kernel
theorem dksX1_step_1 : cX1_step.data.toList.drop 22 = dktX1_step_1 := dk_seg dksX1_step_0 22 rfl rfl
theorem dksX1_step_2 : cX1_step.data.toList.drop 45 = dktX1_step_2 := dk_seg dksX1_step_1 23 rfl rfl
theorem dX1_step_0 : decode cX1_step 0 = .ok (.iload_n 1, 1) := dk_27 (dk_at dksX1_step_0 0 rfl rfl)
theorem dX1_step_1 : decode cX1_step 1 = .ok (.iconst 1, 1) := dk_4 (dk_at dksX1_step_0 1 rfl rfl)
theorem dX1_step_2 : decode cX1_step 2 = .ok (.bipush 100, 2) := dk_16 100 (dk_at dksX1_step_0 2 rfl rfl)
theorem dX1_step_4 : decode cX1_step 4 = .ok (.invokestatic 55, 3) := dk_184 0 55 (dk_at dksX1_step_0 4 rfl rfl)
theorem dX1_step_7 : decode cX1_step 7 = .ok (.pop, 1) := dk_87 (dk_at dksX1_step_0 7 rfl rfl)
theorem dX1_step_8 : decode cX1_step 8 = .ok (.aload_n 0, 1) := dk_42 (dk_at dksX1_step_0 8 rfl rfl)
theorem dX1_step_9 : decode cX1_step 9 = .ok (.getfield 26, 3) := dk_180 0 26 (dk_at dksX1_step_0 9 rfl rfl)
theorem dX1_step_12 : decode cX1_step 12 = .ok (.invokevirtual 147, 3) := dk_182 0 147 (dk_at dksX1_step_0 12 rfl rfl)
theorem dX1_step_15 : decode cX1_step 15 = .ok (.invokestatic 69, 3) := dk_184 0 69 (dk_at dksX1_step_0 15 rfl rfl)
theorem dX1_step_18 : decode cX1_step 18 = .ok (.iconst 0, 1) := dk_3 (dk_at dksX1_step_0 18 rfl rfl)
theorem dX1_step_19 : decode cX1_step 19 = .ok (.istore_n 2, 1) := dk_61 (dk_at dksX1_step_0 19 rfl rfl)
theorem dX1_step_20 : decode cX1_step 20 = .ok (.iload_n 2, 1) := dk_28 (dk_at dksX1_step_0 20 rfl rfl)
theorem dX1_step_21 : decode cX1_step 21 = .ok (.iload_n 1, 1) := dk_27 (dk_at dksX1_step_0 21 rfl rfl)
theorem dX1_step_22 : decode cX1_step 22 = .ok (.if_icmp .ge 26, 3) := dk_162 0 26 (dk_at dksX1_step_1 0 rfl rfl)
theorem dX1_step_25 : decode cX1_step 25 = .ok (.aload_n 0, 1) := dk_42 (dk_at dksX1_step_1 3 rfl rfl)
theorem dX1_step_26 : decode cX1_step 26 = .ok (.getfield 26, 3) := dk_180 0 26 (dk_at dksX1_step_1 4 rfl rfl)
theorem dX1_step_29 : decode cX1_step 29 = .ok (.invokevirtual 164, 3) := dk_182 0 164 (dk_at dksX1_step_1 7 rfl rfl)
theorem dX1_step_32 : decode cX1_step 32 = .ok (.ifCond .eq 16, 3) := dk_153 0 16 (dk_at dksX1_step_1 10 rfl rfl)
theorem dX1_step_35 : decode cX1_step 35 = .ok (.aload_n 0, 1) := dk_42 (dk_at dksX1_step_1 13 rfl rfl)
theorem dX1_step_36 : decode cX1_step 36 = .ok (.getfield 26, 3) := dk_180 0 26 (dk_at dksX1_step_1 14 rfl rfl)
theorem dX1_step_39 : decode cX1_step 39 = .ok (.invokevirtual 167, 3) := dk_182 0 167 (dk_at dksX1_step_1 17 rfl rfl)
theorem dX1_step_42 : decode cX1_step 42 = .ok (.iinc 2 1, 3) := dk_132 2 1 (dk_at dksX1_step_1 20 rfl rfl)
theorem dX1_step_45 : decode cX1_step 45 = .ok (.goto (-25), 3) := dk_167 255 231 (dk_at dksX1_step_2 0 rfl rfl)
theorem dX1_step_48 : decode cX1_step 48 = .ok (.iload_n 2, 1) := dk_28 (dk_at dksX1_step_2 3 rfl rfl)
theorem dX1_step_49 : decode cX1_step 49 = .ok (.ireturn, 1) := dk_172 (dk_at dksX1_step_2 4 rfl rfl)
abbrev cX1_runTo : ByteArray := prog_1_method_26_code
def yX1_runTo : MethodName := ⟨RX1, "runTo", "(II)I"⟩
def dkwX1_runTo_4 : List UInt8 := [54, 4, 167, 255, 193, 29, 172]
abbrev dktX1_runTo_4 : List UInt8 := dkwX1_runTo_4 ++ []
def dkwX1_runTo_3 : List UInt8 := [46, 27, 160, 0, 20, 42, 180, 0, 26, 180, 0, 170, 16, 18, 46, 154, 0, 7, 4, 167, 0, 4, 3]
abbrev dktX1_runTo_3 : List UInt8 := dkwX1_runTo_3 ++ dktX1_runTo_4
def dkwX1_runTo_2 : List UInt8 := [182, 0, 164, 153, 0, 49, 42, 180, 0, 26, 182, 0, 167, 132, 3, 1, 42, 180, 0, 26, 180, 0, 170, 6]
abbrev dktX1_runTo_2 : List UInt8 := dkwX1_runTo_2 ++ dktX1_runTo_3
def dkwX1_runTo_1 : List UInt8 := [184, 0, 69, 3, 62, 3, 54, 4, 21, 4, 154, 0, 64, 29, 28, 162, 0, 59, 42, 180, 0, 26]
abbrev dktX1_runTo_1 : List UInt8 := dkwX1_runTo_1 ++ dktX1_runTo_2
def dkwX1_runTo_0 : List UInt8 := [27, 3, 17, 0, 255, 184, 0, 55, 87, 28, 4, 16, 100, 184, 0, 55, 87, 42, 180, 0, 26, 182, 0, 147]
abbrev dktX1_runTo_0 : List UInt8 := dkwX1_runTo_0 ++ dktX1_runTo_1
theorem dksX1_runTo_0 : cX1_runTo.data.toList.drop 0 = dktX1_runTo_0 := by decide +kernel
theorem dksX1_runTo_1 : cX1_runTo.data.toList.drop 24 = dktX1_runTo_1 := dk_seg dksX1_runTo_0 24 rfl rfl
theorem dksX1_runTo_2 : cX1_runTo.data.toList.drop 46 = dktX1_runTo_2 := dk_seg dksX1_runTo_1 22 rfl rfl
theorem dksX1_runTo_3 : cX1_runTo.data.toList.drop 70 = dktX1_runTo_3 := dk_seg dksX1_runTo_2 24 rfl rfl
theorem dksX1_runTo_4 : cX1_runTo.data.toList.drop 93 = dktX1_runTo_4 := dk_seg dksX1_runTo_3 23 rfl rfl
theorem dX1_runTo_0 : decode cX1_runTo 0 = .ok (.iload_n 1, 1) := dk_27 (dk_at dksX1_runTo_0 0 rfl rfl)
theorem dX1_runTo_1 : decode cX1_runTo 1 = .ok (.iconst 0, 1) := dk_3 (dk_at dksX1_runTo_0 1 rfl rfl)
theorem dX1_runTo_2 : decode cX1_runTo 2 = .ok (.sipush 255, 3) := dk_17 0 255 (dk_at dksX1_runTo_0 2 rfl rfl)
theorem dX1_runTo_5 : decode cX1_runTo 5 = .ok (.invokestatic 55, 3) := dk_184 0 55 (dk_at dksX1_runTo_0 5 rfl rfl)
theorem dX1_runTo_8 : decode cX1_runTo 8 = .ok (.pop, 1) := dk_87 (dk_at dksX1_runTo_0 8 rfl rfl)
theorem dX1_runTo_9 : decode cX1_runTo 9 = .ok (.iload_n 2, 1) := dk_28 (dk_at dksX1_runTo_0 9 rfl rfl)
theorem dX1_runTo_10 : decode cX1_runTo 10 = .ok (.iconst 1, 1) := dk_4 (dk_at dksX1_runTo_0 10 rfl rfl)
theorem dX1_runTo_11 : decode cX1_runTo 11 = .ok (.bipush 100, 2) := dk_16 100 (dk_at dksX1_runTo_0 11 rfl rfl)
theorem dX1_runTo_13 : decode cX1_runTo 13 = .ok (.invokestatic 55, 3) := dk_184 0 55 (dk_at dksX1_runTo_0 13 rfl rfl)
theorem dX1_runTo_16 : decode cX1_runTo 16 = .ok (.pop, 1) := dk_87 (dk_at dksX1_runTo_0 16 rfl rfl)
theorem dX1_runTo_17 : decode cX1_runTo 17 = .ok (.aload_n 0, 1) := dk_42 (dk_at dksX1_runTo_0 17 rfl rfl)
theorem dX1_runTo_18 : decode cX1_runTo 18 = .ok (.getfield 26, 3) := dk_180 0 26 (dk_at dksX1_runTo_0 18 rfl rfl)
theorem dX1_runTo_21 : decode cX1_runTo 21 = .ok (.invokevirtual 147, 3) := dk_182 0 147 (dk_at dksX1_runTo_0 21 rfl rfl)
theorem dX1_runTo_24 : decode cX1_runTo 24 = .ok (.invokestatic 69, 3) := dk_184 0 69 (dk_at dksX1_runTo_1 0 rfl rfl)
theorem dX1_runTo_27 : decode cX1_runTo 27 = .ok (.iconst 0, 1) := dk_3 (dk_at dksX1_runTo_1 3 rfl rfl)
theorem dX1_runTo_28 : decode cX1_runTo 28 = .ok (.istore_n 3, 1) := dk_62 (dk_at dksX1_runTo_1 4 rfl rfl)
theorem dX1_runTo_29 : decode cX1_runTo 29 = .ok (.iconst 0, 1) := dk_3 (dk_at dksX1_runTo_1 5 rfl rfl)
theorem dX1_runTo_30 : decode cX1_runTo 30 = .ok (.istore 4, 2) := dk_54 4 (dk_at dksX1_runTo_1 6 rfl rfl)
theorem dX1_runTo_32 : decode cX1_runTo 32 = .ok (.iload 4, 2) := dk_21 4 (dk_at dksX1_runTo_1 8 rfl rfl)
theorem dX1_runTo_34 : decode cX1_runTo 34 = .ok (.ifCond .ne 64, 3) := dk_154 0 64 (dk_at dksX1_runTo_1 10 rfl rfl)
theorem dX1_runTo_37 : decode cX1_runTo 37 = .ok (.iload_n 3, 1) := dk_29 (dk_at dksX1_runTo_1 13 rfl rfl)
theorem dX1_runTo_38 : decode cX1_runTo 38 = .ok (.iload_n 2, 1) := dk_28 (dk_at dksX1_runTo_1 14 rfl rfl)
theorem dX1_runTo_39 : decode cX1_runTo 39 = .ok (.if_icmp .ge 59, 3) := dk_162 0 59 (dk_at dksX1_runTo_1 15 rfl rfl)
theorem dX1_runTo_42 : decode cX1_runTo 42 = .ok (.aload_n 0, 1) := dk_42 (dk_at dksX1_runTo_1 18 rfl rfl)
theorem dX1_runTo_43 : decode cX1_runTo 43 = .ok (.getfield 26, 3) := dk_180 0 26 (dk_at dksX1_runTo_1 19 rfl rfl)
theorem dX1_runTo_46 : decode cX1_runTo 46 = .ok (.invokevirtual 164, 3) := dk_182 0 164 (dk_at dksX1_runTo_2 0 rfl rfl)
theorem dX1_runTo_49 : decode cX1_runTo 49 = .ok (.ifCond .eq 49, 3) := dk_153 0 49 (dk_at dksX1_runTo_2 3 rfl rfl)
theorem dX1_runTo_52 : decode cX1_runTo 52 = .ok (.aload_n 0, 1) := dk_42 (dk_at dksX1_runTo_2 6 rfl rfl)
theorem dX1_runTo_53 : decode cX1_runTo 53 = .ok (.getfield 26, 3) := dk_180 0 26 (dk_at dksX1_runTo_2 7 rfl rfl)
theorem dX1_runTo_56 : decode cX1_runTo 56 = .ok (.invokevirtual 167, 3) := dk_182 0 167 (dk_at dksX1_runTo_2 10 rfl rfl)
theorem dX1_runTo_59 : decode cX1_runTo 59 = .ok (.iinc 3 1, 3) := dk_132 3 1 (dk_at dksX1_runTo_2 13 rfl rfl)
theorem dX1_runTo_62 : decode cX1_runTo 62 = .ok (.aload_n 0, 1) := dk_42 (dk_at dksX1_runTo_2 16 rfl rfl)
theorem dX1_runTo_63 : decode cX1_runTo 63 = .ok (.getfield 26, 3) := dk_180 0 26 (dk_at dksX1_runTo_2 17 rfl rfl)
theorem dX1_runTo_66 : decode cX1_runTo 66 = .ok (.getfield 170, 3) := dk_180 0 170 (dk_at dksX1_runTo_2 20 rfl rfl)
theorem dX1_runTo_69 : decode cX1_runTo 69 = .ok (.iconst 3, 1) := dk_6 (dk_at dksX1_runTo_2 23 rfl rfl)
theorem dX1_runTo_70 : decode cX1_runTo 70 = .ok (.iaload, 1) := dk_46 (dk_at dksX1_runTo_3 0 rfl rfl)
theorem dX1_runTo_71 : decode cX1_runTo 71 = .ok (.iload_n 1, 1) := dk_27 (dk_at dksX1_runTo_3 1 rfl rfl)
theorem dX1_runTo_72 : decode cX1_runTo 72 = .ok (.if_icmp .ne 20, 3) := dk_160 0 20 (dk_at dksX1_runTo_3 2 rfl rfl)
theorem dX1_runTo_75 : decode cX1_runTo 75 = .ok (.aload_n 0, 1) := dk_42 (dk_at dksX1_runTo_3 5 rfl rfl)
theorem dX1_runTo_76 : decode cX1_runTo 76 = .ok (.getfield 26, 3) := dk_180 0 26 (dk_at dksX1_runTo_3 6 rfl rfl)
theorem dX1_runTo_79 : decode cX1_runTo 79 = .ok (.getfield 170, 3) := dk_180 0 170 (dk_at dksX1_runTo_3 9 rfl rfl)
theorem dX1_runTo_82 : decode cX1_runTo 82 = .ok (.bipush 18, 2) := dk_16 18 (dk_at dksX1_runTo_3 12 rfl rfl)
theorem dX1_runTo_84 : decode cX1_runTo 84 = .ok (.iaload, 1) := dk_46 (dk_at dksX1_runTo_3 14 rfl rfl)
theorem dX1_runTo_85 : decode cX1_runTo 85 = .ok (.ifCond .ne 7, 3) := dk_154 0 7 (dk_at dksX1_runTo_3 15 rfl rfl)
theorem dX1_runTo_88 : decode cX1_runTo 88 = .ok (.iconst 1, 1) := dk_4 (dk_at dksX1_runTo_3 18 rfl rfl)
theorem dX1_runTo_89 : decode cX1_runTo 89 = .ok (.goto 4, 3) := dk_167 0 4 (dk_at dksX1_runTo_3 19 rfl rfl)
theorem dX1_runTo_92 : decode cX1_runTo 92 = .ok (.iconst 0, 1) := dk_3 (dk_at dksX1_runTo_3 22 rfl rfl)
theorem dX1_runTo_93 : decode cX1_runTo 93 = .ok (.istore 4, 2) := dk_54 4 (dk_at dksX1_runTo_4 0 rfl rfl)
theorem dX1_runTo_95 : decode cX1_runTo 95 = .ok (.goto (-63), 3) := dk_167 255 193 (dk_at dksX1_runTo_4 2 rfl rfl)
theorem dX1_runTo_98 : decode cX1_runTo 98 = .ok (.iload_n 3, 1) := dk_29 (dk_at dksX1_runTo_4 5 rfl rfl)
theorem dX1_runTo_99 : decode cX1_runTo 99 = .ok (.ireturn, 1) := dk_172 (dk_at dksX1_runTo_4 6 rfl rfl)
abbrev cX1_back : ByteArray := prog_1_method_27_code
def yX1_back : MethodName := ⟨RX1, "back", "(I)I"⟩
def dkwX1_back_1 : List UInt8 := [182, 0, 173, 172]
abbrev dktX1_back_1 : List UInt8 := dkwX1_back_1 ++ []
def dkwX1_back_0 : List UInt8 := [27, 4, 17, 0, 200, 184, 0, 55, 87, 42, 180, 0, 26, 182, 0, 147, 184, 0, 69, 42, 180, 0, 26, 27]
abbrev dktX1_back_0 : List UInt8 := dkwX1_back_0 ++ dktX1_back_1
theorem dksX1_back_0 : cX1_back.data.toList.drop 0 = dktX1_back_0 := by decide +kernel
theorem dksX1_back_1 : cX1_back.data.toList.drop 24 = dktX1_back_1 := dk_seg dksX1_back_0 24 rfl rfl
theorem dX1_back_0 : decode cX1_back 0 = .ok (.iload_n 1, 1) := dk_27 (dk_at dksX1_back_0 0 rfl rfl)
theorem dX1_back_1 : decode cX1_back 1 = .ok (.iconst 1, 1) := dk_4 (dk_at dksX1_back_0 1 rfl rfl)
theorem dX1_back_2 : decode cX1_back 2 = .ok (.sipush 200, 3) := dk_17 0 200 (dk_at dksX1_back_0 2 rfl rfl)
theorem dX1_back_5 : decode cX1_back 5 = .ok (.invokestatic 55, 3) := dk_184 0 55 (dk_at dksX1_back_0 5 rfl rfl)
theorem dX1_back_8 : decode cX1_back 8 = .ok (.pop, 1) := dk_87 (dk_at dksX1_back_0 8 rfl rfl)
theorem dX1_back_9 : decode cX1_back 9 = .ok (.aload_n 0, 1) := dk_42 (dk_at dksX1_back_0 9 rfl rfl)
theorem dX1_back_10 : decode cX1_back 10 = .ok (.getfield 26, 3) := dk_180 0 26 (dk_at dksX1_back_0 10 rfl rfl)
theorem dX1_back_13 : decode cX1_back 13 = .ok (.invokevirtual 147, 3) := dk_182 0 147 (dk_at dksX1_back_0 13 rfl rfl)
theorem dX1_back_16 : decode cX1_back 16 = .ok (.invokestatic 69, 3) := dk_184 0 69 (dk_at dksX1_back_0 16 rfl rfl)
theorem dX1_back_19 : decode cX1_back 19 = .ok (.aload_n 0, 1) := dk_42 (dk_at dksX1_back_0 19 rfl rfl)
theorem dX1_back_20 : decode cX1_back 20 = .ok (.getfield 26, 3) := dk_180 0 26 (dk_at dksX1_back_0 20 rfl rfl)
theorem dX1_back_23 : decode cX1_back 23 = .ok (.iload_n 1, 1) := dk_27 (dk_at dksX1_back_0 23 rfl rfl)
theorem dX1_back_24 : decode cX1_back 24 = .ok (.invokevirtual 173, 3) := dk_182 0 173 (dk_at dksX1_back_1 0 rfl rfl)
theorem dX1_back_27 : decode cX1_back 27 = .ok (.ireturn, 1) := dk_172 (dk_at dksX1_back_1 3 rfl rfl)
abbrev cX1_press : ByteArray := prog_1_method_28_code
def yX1_press : MethodName := ⟨RX1, "press", "(I)I"⟩
def dkwX1_press_2 : List UInt8 := [180, 0, 26, 27, 182, 0, 181, 42, 180, 0, 26, 180, 0, 177, 182, 0, 180, 172]
abbrev dktX1_press_2 : List UInt8 := dkwX1_press_2 ++ []
def dkwX1_press_1 : List UInt8 := [180, 0, 26, 180, 0, 177, 182, 0, 180, 16, 20, 162, 0, 7, 4, 167, 0, 4, 3, 184, 0, 69, 42]
abbrev dktX1_press_1 : List UInt8 := dkwX1_press_1 ++ dktX1_press_2
def dkwX1_press_0 : List UInt8 := [27, 3, 18, 61, 184, 0, 55, 87, 42, 180, 0, 26, 180, 0, 170, 3, 46, 4, 160, 0, 22, 42]
abbrev dktX1_press_0 : List UInt8 := dkwX1_press_0 ++ dktX1_press_1
theorem dksX1_press_0 : cX1_press.data.toList.drop 0 = dktX1_press_0 := by decide +kernel
theorem dksX1_press_1 : cX1_press.data.toList.drop 22 = dktX1_press_1 := dk_seg dksX1_press_0 22 rfl rfl
theorem dksX1_press_2 : cX1_press.data.toList.drop 45 = dktX1_press_2 := dk_seg dksX1_press_1 23 rfl rfl
theorem dX1_press_0 : decode cX1_press 0 = .ok (.iload_n 1, 1) := dk_27 (dk_at dksX1_press_0 0 rfl rfl)
theorem dX1_press_1 : decode cX1_press 1 = .ok (.iconst 0, 1) := dk_3 (dk_at dksX1_press_0 1 rfl rfl)
theorem dX1_press_2 : decode cX1_press 2 = .ok (.ldc 61, 2) := dk_18 61 (dk_at dksX1_press_0 2 rfl rfl)
theorem dX1_press_4 : decode cX1_press 4 = .ok (.invokestatic 55, 3) := dk_184 0 55 (dk_at dksX1_press_0 4 rfl rfl)
theorem dX1_press_7 : decode cX1_press 7 = .ok (.pop, 1) := dk_87 (dk_at dksX1_press_0 7 rfl rfl)
theorem dX1_press_8 : decode cX1_press 8 = .ok (.aload_n 0, 1) := dk_42 (dk_at dksX1_press_0 8 rfl rfl)
theorem dX1_press_9 : decode cX1_press 9 = .ok (.getfield 26, 3) := dk_180 0 26 (dk_at dksX1_press_0 9 rfl rfl)
theorem dX1_press_12 : decode cX1_press 12 = .ok (.getfield 170, 3) := dk_180 0 170 (dk_at dksX1_press_0 12 rfl rfl)
theorem dX1_press_15 : decode cX1_press 15 = .ok (.iconst 0, 1) := dk_3 (dk_at dksX1_press_0 15 rfl rfl)
theorem dX1_press_16 : decode cX1_press 16 = .ok (.iaload, 1) := dk_46 (dk_at dksX1_press_0 16 rfl rfl)
theorem dX1_press_17 : decode cX1_press 17 = .ok (.iconst 1, 1) := dk_4 (dk_at dksX1_press_0 17 rfl rfl)
theorem dX1_press_18 : decode cX1_press 18 = .ok (.if_icmp .ne 22, 3) := dk_160 0 22 (dk_at dksX1_press_0 18 rfl rfl)
theorem dX1_press_21 : decode cX1_press 21 = .ok (.aload_n 0, 1) := dk_42 (dk_at dksX1_press_0 21 rfl rfl)
theorem dX1_press_22 : decode cX1_press 22 = .ok (.getfield 26, 3) := dk_180 0 26 (dk_at dksX1_press_1 0 rfl rfl)
theorem dX1_press_25 : decode cX1_press 25 = .ok (.getfield 177, 3) := dk_180 0 177 (dk_at dksX1_press_1 3 rfl rfl)
theorem dX1_press_28 : decode cX1_press 28 = .ok (.invokevirtual 180, 3) := dk_182 0 180 (dk_at dksX1_press_1 6 rfl rfl)
theorem dX1_press_31 : decode cX1_press 31 = .ok (.bipush 20, 2) := dk_16 20 (dk_at dksX1_press_1 9 rfl rfl)
theorem dX1_press_33 : decode cX1_press 33 = .ok (.if_icmp .ge 7, 3) := dk_162 0 7 (dk_at dksX1_press_1 11 rfl rfl)
theorem dX1_press_36 : decode cX1_press 36 = .ok (.iconst 1, 1) := dk_4 (dk_at dksX1_press_1 14 rfl rfl)
theorem dX1_press_37 : decode cX1_press 37 = .ok (.goto 4, 3) := dk_167 0 4 (dk_at dksX1_press_1 15 rfl rfl)
theorem dX1_press_40 : decode cX1_press 40 = .ok (.iconst 0, 1) := dk_3 (dk_at dksX1_press_1 18 rfl rfl)
theorem dX1_press_41 : decode cX1_press 41 = .ok (.invokestatic 69, 3) := dk_184 0 69 (dk_at dksX1_press_1 19 rfl rfl)
theorem dX1_press_44 : decode cX1_press 44 = .ok (.aload_n 0, 1) := dk_42 (dk_at dksX1_press_1 22 rfl rfl)
theorem dX1_press_45 : decode cX1_press 45 = .ok (.getfield 26, 3) := dk_180 0 26 (dk_at dksX1_press_2 0 rfl rfl)
theorem dX1_press_48 : decode cX1_press 48 = .ok (.iload_n 1, 1) := dk_27 (dk_at dksX1_press_2 3 rfl rfl)
theorem dX1_press_49 : decode cX1_press 49 = .ok (.invokevirtual 181, 3) := dk_182 0 181 (dk_at dksX1_press_2 4 rfl rfl)
theorem dX1_press_52 : decode cX1_press 52 = .ok (.aload_n 0, 1) := dk_42 (dk_at dksX1_press_2 7 rfl rfl)
theorem dX1_press_53 : decode cX1_press 53 = .ok (.getfield 26, 3) := dk_180 0 26 (dk_at dksX1_press_2 8 rfl rfl)
theorem dX1_press_56 : decode cX1_press 56 = .ok (.getfield 177, 3) := dk_180 0 177 (dk_at dksX1_press_2 11 rfl rfl)
theorem dX1_press_59 : decode cX1_press 59 = .ok (.invokevirtual 180, 3) := dk_182 0 180 (dk_at dksX1_press_2 14 rfl rfl)
theorem dX1_press_62 : decode cX1_press 62 = .ok (.ireturn, 1) := dk_172 (dk_at dksX1_press_2 17 rfl rfl)
abbrev cX1_register : ByteArray := prog_1_method_37_code
def yX1_register : MethodName := ⟨RX1, "register", "(I)I"⟩
def dkwX1_register_0 : List UInt8 := [42, 180, 0, 26, 180, 0, 170, 16, 12, 27, 3, 6, 184, 0, 55, 96, 46, 172]
abbrev dktX1_register_0 : List UInt8 := dkwX1_register_0 ++ []
theorem dksX1_register_0 : cX1_register.data.toList.drop 0 = dktX1_register_0 := by decide +kernel
theorem dX1_register_0 : decode cX1_register 0 = .ok (.aload_n 0, 1) := dk_42 (dk_at dksX1_register_0 0 rfl rfl)
theorem dX1_register_1 : decode cX1_register 1 = .ok (.getfield 26, 3) := dk_180 0 26 (dk_at dksX1_register_0 1 rfl rfl)
theorem dX1_register_4 : decode cX1_register 4 = .ok (.getfield 170, 3) := dk_180 0 170 (dk_at dksX1_register_0 4 rfl rfl)
theorem dX1_register_7 : decode cX1_register 7 = .ok (.bipush 12, 2) := dk_16 12 (dk_at dksX1_register_0 7 rfl rfl)
theorem dX1_register_9 : decode cX1_register 9 = .ok (.iload_n 1, 1) := dk_27 (dk_at dksX1_register_0 9 rfl rfl)
theorem dX1_register_10 : decode cX1_register 10 = .ok (.iconst 0, 1) := dk_3 (dk_at dksX1_register_0 10 rfl rfl)
theorem dX1_register_11 : decode cX1_register 11 = .ok (.iconst 3, 1) := dk_6 (dk_at dksX1_register_0 11 rfl rfl)
theorem dX1_register_12 : decode cX1_register 12 = .ok (.invokestatic 55, 3) := dk_184 0 55 (dk_at dksX1_register_0 12 rfl rfl)
theorem dX1_register_15 : decode cX1_register 15 = .ok (.iadd, 1) := dk_96 (dk_at dksX1_register_0 15 rfl rfl)
theorem dX1_register_16 : decode cX1_register 16 = .ok (.iaload, 1) := dk_46 (dk_at dksX1_register_0 16 rfl rfl)
theorem dX1_register_17 : decode cX1_register 17 = .ok (.ireturn, 1) := dk_172 (dk_at dksX1_register_0 17 rfl rfl)
abbrev cX1_memory : ByteArray := prog_1_method_38_code
def yX1_memory : MethodName := ⟨RX1, "memory", "(I)I"⟩
def dkwX1_memory_0 : List UInt8 := [42, 180, 0, 26, 180, 0, 170, 16, 108, 27, 3, 17, 0, 255, 184, 0, 55, 96, 46, 172]
abbrev dktX1_memory_0 : List UInt8 := dkwX1_memory_0 ++ []
theorem dksX1_memory_0 : cX1_memory.data.toList.drop 0 = dktX1_memory_0 := by decide +kernel
theorem dX1_memory_0 : decode cX1_memory 0 = .ok (.aload_n 0, 1) := dk_42 (dk_at dksX1_memory_0 0 rfl rfl)
theorem dX1_memory_1 : decode cX1_memory 1 = .ok (.getfield 26, 3) := dk_180 0 26 (dk_at dksX1_memory_0 1 rfl rfl)
theorem dX1_memory_4 : decode cX1_memory 4 = .ok (.getfield 170, 3) := dk_180 0 170 (dk_at dksX1_memory_0 4 rfl rfl)
theorem dX1_memory_7 : decode cX1_memory 7 = .ok (.bipush 108, 2) := dk_16 108 (dk_at dksX1_memory_0 7 rfl rfl)
theorem dX1_memory_9 : decode cX1_memory 9 = .ok (.iload_n 1, 1) := dk_27 (dk_at dksX1_memory_0 9 rfl rfl)
theorem dX1_memory_10 : decode cX1_memory 10 = .ok (.iconst 0, 1) := dk_3 (dk_at dksX1_memory_0 10 rfl rfl)
theorem dX1_memory_11 : decode cX1_memory 11 = .ok (.sipush 255, 3) := dk_17 0 255 (dk_at dksX1_memory_0 11 rfl rfl)
theorem dX1_memory_14 : decode cX1_memory 14 = .ok (.invokestatic 55, 3) := dk_184 0 55 (dk_at dksX1_memory_0 14 rfl rfl)
theorem dX1_memory_17 : decode cX1_memory 17 = .ok (.iadd, 1) := dk_96 (dk_at dksX1_memory_0 17 rfl rfl)
theorem dX1_memory_18 : decode cX1_memory 18 = .ok (.iaload, 1) := dk_46 (dk_at dksX1_memory_0 18 rfl rfl)
theorem dX1_memory_19 : decode cX1_memory 19 = .ok (.ireturn, 1) := dk_172 (dk_at dksX1_memory_0 19 rfl rfl)
abbrev cX1_changedAt : ByteArray := prog_1_method_39_code
def yX1_changedAt : MethodName := ⟨RX1, "changedAt", "(I)I"⟩
def dkwX1_changedAt_0 : List UInt8 := [42, 180, 0, 26, 27, 3, 17, 0, 255, 184, 0, 55, 182, 0, 198, 172]
abbrev dktX1_changedAt_0 : List UInt8 := dkwX1_changedAt_0 ++ []
theorem dksX1_changedAt_0 : cX1_changedAt.data.toList.drop 0 = dktX1_changedAt_0 := by decide +kernel
theorem dX1_changedAt_0 : decode cX1_changedAt 0 = .ok (.aload_n 0, 1) := dk_42 (dk_at dksX1_changedAt_0 0 rfl rfl)
theorem dX1_changedAt_1 : decode cX1_changedAt 1 = .ok (.getfield 26, 3) := dk_180 0 26 (dk_at dksX1_changedAt_0 1 rfl rfl)
theorem dX1_changedAt_4 : decode cX1_changedAt 4 = .ok (.iload_n 1, 1) := dk_27 (dk_at dksX1_changedAt_0 4 rfl rfl)
theorem dX1_changedAt_5 : decode cX1_changedAt 5 = .ok (.iconst 0, 1) := dk_3 (dk_at dksX1_changedAt_0 5 rfl rfl)
theorem dX1_changedAt_6 : decode cX1_changedAt 6 = .ok (.sipush 255, 3) := dk_17 0 255 (dk_at dksX1_changedAt_0 6 rfl rfl)
theorem dX1_changedAt_9 : decode cX1_changedAt 9 = .ok (.invokestatic 55, 3) := dk_184 0 55 (dk_at dksX1_changedAt_0 9 rfl rfl)
theorem dX1_changedAt_12 : decode cX1_changedAt 12 = .ok (.invokevirtual 198, 3) := dk_182 0 198 (dk_at dksX1_changedAt_0 12 rfl rfl)
theorem dX1_changedAt_15 : decode cX1_changedAt 15 = .ok (.ireturn, 1) := dk_172 (dk_at dksX1_changedAt_0 15 rfl rfl)
abbrev cX1_tapeAt : ByteArray := prog_1_method_41_code
def yX1_tapeAt : MethodName := ⟨RX1, "tapeAt", "(I)I"⟩
def dkwX1_tapeAt_1 : List UInt8 := [183, 0, 205, 191, 42, 180, 0, 26, 180, 0, 170, 16, 48, 27, 96, 46, 172]
abbrev dktX1_tapeAt_1 : List UInt8 := dkwX1_tapeAt_1 ++ []
def dkwX1_tapeAt_0 : List UInt8 := [27, 155, 0, 17, 27, 42, 180, 0, 26, 180, 0, 170, 16, 17, 46, 161, 0, 13, 187, 0, 201, 89, 18, 203]
abbrev dktX1_tapeAt_0 : List UInt8 := dkwX1_tapeAt_0 ++ dktX1_tapeAt_1
theorem dksX1_tapeAt_0 : cX1_tapeAt.data.toList.drop 0 = dktX1_tapeAt_0 := by decide +kernel
theorem dksX1_tapeAt_1 : cX1_tapeAt.data.toList.drop 24 = dktX1_tapeAt_1 := dk_seg dksX1_tapeAt_0 24 rfl rfl
theorem dX1_tapeAt_0 : decode cX1_tapeAt 0 = .ok (.iload_n 1, 1) := dk_27 (dk_at dksX1_tapeAt_0 0 rfl rfl)
theorem dX1_tapeAt_1 : decode cX1_tapeAt 1 = .ok (.ifCond .lt 17, 3) := dk_155 0 17 (dk_at dksX1_tapeAt_0 1 rfl rfl)
theorem dX1_tapeAt_4 : decode cX1_tapeAt 4 = .ok (.iload_n 1, 1) := dk_27 (dk_at dksX1_tapeAt_0 4 rfl rfl)
theorem dX1_tapeAt_5 : decode cX1_tapeAt 5 = .ok (.aload_n 0, 1) := dk_42 (dk_at dksX1_tapeAt_0 5 rfl rfl)
theorem dX1_tapeAt_6 : decode cX1_tapeAt 6 = .ok (.getfield 26, 3) := dk_180 0 26 (dk_at dksX1_tapeAt_0 6 rfl rfl)
theorem dX1_tapeAt_9 : decode cX1_tapeAt 9 = .ok (.getfield 170, 3) := dk_180 0 170 (dk_at dksX1_tapeAt_0 9 rfl rfl)
theorem dX1_tapeAt_12 : decode cX1_tapeAt 12 = .ok (.bipush 17, 2) := dk_16 17 (dk_at dksX1_tapeAt_0 12 rfl rfl)
theorem dX1_tapeAt_14 : decode cX1_tapeAt 14 = .ok (.iaload, 1) := dk_46 (dk_at dksX1_tapeAt_0 14 rfl rfl)
theorem dX1_tapeAt_15 : decode cX1_tapeAt 15 = .ok (.if_icmp .lt 13, 3) := dk_161 0 13 (dk_at dksX1_tapeAt_0 15 rfl rfl)
theorem dX1_tapeAt_18 : decode cX1_tapeAt 18 = .ok (.new 201, 3) := dk_187 0 201 (dk_at dksX1_tapeAt_0 18 rfl rfl)
theorem dX1_tapeAt_21 : decode cX1_tapeAt 21 = .ok (.dup, 1) := dk_89 (dk_at dksX1_tapeAt_0 21 rfl rfl)
theorem dX1_tapeAt_22 : decode cX1_tapeAt 22 = .ok (.ldc 203, 2) := dk_18 203 (dk_at dksX1_tapeAt_0 22 rfl rfl)
theorem dX1_tapeAt_24 : decode cX1_tapeAt 24 = .ok (.invokespecial 205, 3) := dk_183 0 205 (dk_at dksX1_tapeAt_1 0 rfl rfl)
theorem dX1_tapeAt_27 : decode cX1_tapeAt 27 = .ok (.athrow, 1) := dk_191 (dk_at dksX1_tapeAt_1 3 rfl rfl)
theorem dX1_tapeAt_28 : decode cX1_tapeAt 28 = .ok (.aload_n 0, 1) := dk_42 (dk_at dksX1_tapeAt_1 4 rfl rfl)
theorem dX1_tapeAt_29 : decode cX1_tapeAt 29 = .ok (.getfield 26, 3) := dk_180 0 26 (dk_at dksX1_tapeAt_1 5 rfl rfl)
theorem dX1_tapeAt_32 : decode cX1_tapeAt 32 = .ok (.getfield 170, 3) := dk_180 0 170 (dk_at dksX1_tapeAt_1 8 rfl rfl)
theorem dX1_tapeAt_35 : decode cX1_tapeAt 35 = .ok (.bipush 48, 2) := dk_16 48 (dk_at dksX1_tapeAt_1 11 rfl rfl)
theorem dX1_tapeAt_37 : decode cX1_tapeAt 37 = .ok (.iload_n 1, 1) := dk_27 (dk_at dksX1_tapeAt_1 13 rfl rfl)
theorem dX1_tapeAt_38 : decode cX1_tapeAt 38 = .ok (.iadd, 1) := dk_96 (dk_at dksX1_tapeAt_1 14 rfl rfl)
theorem dX1_tapeAt_39 : decode cX1_tapeAt 39 = .ok (.iaload, 1) := dk_46 (dk_at dksX1_tapeAt_1 15 rfl rfl)
theorem dX1_tapeAt_40 : decode cX1_tapeAt 40 = .ok (.ireturn, 1) := dk_172 (dk_at dksX1_tapeAt_1 16 rfl rfl)
abbrev cX1_sumAnew : ByteArray := prog_1_method_43_code
def yX1_sumAnew : MethodName := ⟨RX1, "sumAnew", "(I)I"⟩
def dkwX1_sumAnew_1 : List UInt8 := [46, 184, 0, 55, 182, 0, 209, 172]
abbrev dktX1_sumAnew_1 : List UInt8 := dkwX1_sumAnew_1 ++ []
def dkwX1_sumAnew_0 : List UInt8 := [42, 180, 0, 26, 182, 0, 147, 184, 0, 69, 42, 180, 0, 26, 27, 3, 42, 180, 0, 26, 180, 0, 170, 5]
abbrev dktX1_sumAnew_0 : List UInt8 := dkwX1_sumAnew_0 ++ dktX1_sumAnew_1
theorem dksX1_sumAnew_0 : cX1_sumAnew.data.toList.drop 0 = dktX1_sumAnew_0 := by decide +kernel
theorem dksX1_sumAnew_1 : cX1_sumAnew.data.toList.drop 24 = dktX1_sumAnew_1 := dk_seg dksX1_sumAnew_0 24 rfl rfl
theorem dX1_sumAnew_0 : decode cX1_sumAnew 0 = .ok (.aload_n 0, 1) := dk_42 (dk_at dksX1_sumAnew_0 0 rfl rfl)
theorem dX1_sumAnew_1 : decode cX1_sumAnew 1 = .ok (.getfield 26, 3) := dk_180 0 26 (dk_at dksX1_sumAnew_0 1 rfl rfl)
theorem dX1_sumAnew_4 : decode cX1_sumAnew 4 = .ok (.invokevirtual 147, 3) := dk_182 0 147 (dk_at dksX1_sumAnew_0 4 rfl rfl)
theorem dX1_sumAnew_7 : decode cX1_sumAnew 7 = .ok (.invokestatic 69, 3) := dk_184 0 69 (dk_at dksX1_sumAnew_0 7 rfl rfl)
theorem dX1_sumAnew_10 : decode cX1_sumAnew 10 = .ok (.aload_n 0, 1) := dk_42 (dk_at dksX1_sumAnew_0 10 rfl rfl)
theorem dX1_sumAnew_11 : decode cX1_sumAnew 11 = .ok (.getfield 26, 3) := dk_180 0 26 (dk_at dksX1_sumAnew_0 11 rfl rfl)
theorem dX1_sumAnew_14 : decode cX1_sumAnew 14 = .ok (.iload_n 1, 1) := dk_27 (dk_at dksX1_sumAnew_0 14 rfl rfl)
theorem dX1_sumAnew_15 : decode cX1_sumAnew 15 = .ok (.iconst 0, 1) := dk_3 (dk_at dksX1_sumAnew_0 15 rfl rfl)
theorem dX1_sumAnew_16 : decode cX1_sumAnew 16 = .ok (.aload_n 0, 1) := dk_42 (dk_at dksX1_sumAnew_0 16 rfl rfl)
theorem dX1_sumAnew_17 : decode cX1_sumAnew 17 = .ok (.getfield 26, 3) := dk_180 0 26 (dk_at dksX1_sumAnew_0 17 rfl rfl)
theorem dX1_sumAnew_20 : decode cX1_sumAnew 20 = .ok (.getfield 170, 3) := dk_180 0 170 (dk_at dksX1_sumAnew_0 20 rfl rfl)
theorem dX1_sumAnew_23 : decode cX1_sumAnew 23 = .ok (.iconst 2, 1) := dk_5 (dk_at dksX1_sumAnew_0 23 rfl rfl)
theorem dX1_sumAnew_24 : decode cX1_sumAnew 24 = .ok (.iaload, 1) := dk_46 (dk_at dksX1_sumAnew_1 0 rfl rfl)
theorem dX1_sumAnew_25 : decode cX1_sumAnew 25 = .ok (.invokestatic 55, 3) := dk_184 0 55 (dk_at dksX1_sumAnew_1 1 rfl rfl)
theorem dX1_sumAnew_28 : decode cX1_sumAnew 28 = .ok (.invokevirtual 209, 3) := dk_182 0 209 (dk_at dksX1_sumAnew_1 4 rfl rfl)
theorem dX1_sumAnew_31 : decode cX1_sumAnew 31 = .ok (.ireturn, 1) := dk_172 (dk_at dksX1_sumAnew_1 7 rfl rfl)
abbrev cX1_disk : ByteArray := prog_1_method_45_code
def yX1_disk : MethodName := ⟨RX1, "disk", "(II)I"⟩
def dkwX1_disk_1 : List UInt8 := [3, 16, 7, 184, 0, 55, 96, 46, 172]
abbrev dktX1_disk_1 : List UInt8 := dkwX1_disk_1 ++ []
def dkwX1_disk_0 : List UInt8 := [27, 3, 16, 31, 184, 0, 55, 87, 42, 180, 0, 26, 180, 0, 170, 17, 1, 109, 16, 8, 27, 104, 96, 28]
abbrev dktX1_disk_0 : List UInt8 := dkwX1_disk_0 ++ dktX1_disk_1
theorem dksX1_disk_0 : cX1_disk.data.toList.drop 0 = dktX1_disk_0 := by decide +kernel
theorem dksX1_disk_1 : cX1_disk.data.toList.drop 24 = dktX1_disk_1 := dk_seg dksX1_disk_0 24 rfl rfl
theorem dX1_disk_0 : decode cX1_disk 0 = .ok (.iload_n 1, 1) := dk_27 (dk_at dksX1_disk_0 0 rfl rfl)
theorem dX1_disk_1 : decode cX1_disk 1 = .ok (.iconst 0, 1) := dk_3 (dk_at dksX1_disk_0 1 rfl rfl)
theorem dX1_disk_2 : decode cX1_disk 2 = .ok (.bipush 31, 2) := dk_16 31 (dk_at dksX1_disk_0 2 rfl rfl)
theorem dX1_disk_4 : decode cX1_disk 4 = .ok (.invokestatic 55, 3) := dk_184 0 55 (dk_at dksX1_disk_0 4 rfl rfl)
theorem dX1_disk_7 : decode cX1_disk 7 = .ok (.pop, 1) := dk_87 (dk_at dksX1_disk_0 7 rfl rfl)
theorem dX1_disk_8 : decode cX1_disk 8 = .ok (.aload_n 0, 1) := dk_42 (dk_at dksX1_disk_0 8 rfl rfl)
theorem dX1_disk_9 : decode cX1_disk 9 = .ok (.getfield 26, 3) := dk_180 0 26 (dk_at dksX1_disk_0 9 rfl rfl)
theorem dX1_disk_12 : decode cX1_disk 12 = .ok (.getfield 170, 3) := dk_180 0 170 (dk_at dksX1_disk_0 12 rfl rfl)
theorem dX1_disk_15 : decode cX1_disk 15 = .ok (.sipush 365, 3) := dk_17 1 109 (dk_at dksX1_disk_0 15 rfl rfl)
theorem dX1_disk_18 : decode cX1_disk 18 = .ok (.bipush 8, 2) := dk_16 8 (dk_at dksX1_disk_0 18 rfl rfl)
theorem dX1_disk_20 : decode cX1_disk 20 = .ok (.iload_n 1, 1) := dk_27 (dk_at dksX1_disk_0 20 rfl rfl)
theorem dX1_disk_21 : decode cX1_disk 21 = .ok (.imul, 1) := dk_104 (dk_at dksX1_disk_0 21 rfl rfl)
theorem dX1_disk_22 : decode cX1_disk 22 = .ok (.iadd, 1) := dk_96 (dk_at dksX1_disk_0 22 rfl rfl)
theorem dX1_disk_23 : decode cX1_disk 23 = .ok (.iload_n 2, 1) := dk_28 (dk_at dksX1_disk_0 23 rfl rfl)
theorem dX1_disk_24 : decode cX1_disk 24 = .ok (.iconst 0, 1) := dk_3 (dk_at dksX1_disk_1 0 rfl rfl)
theorem dX1_disk_25 : decode cX1_disk 25 = .ok (.bipush 7, 2) := dk_16 7 (dk_at dksX1_disk_1 1 rfl rfl)
theorem dX1_disk_27 : decode cX1_disk 27 = .ok (.invokestatic 55, 3) := dk_184 0 55 (dk_at dksX1_disk_1 3 rfl rfl)
theorem dX1_disk_30 : decode cX1_disk 30 = .ok (.iadd, 1) := dk_96 (dk_at dksX1_disk_1 6 rfl rfl)
theorem dX1_disk_31 : decode cX1_disk 31 = .ok (.iaload, 1) := dk_46 (dk_at dksX1_disk_1 7 rfl rfl)
theorem dX1_disk_32 : decode cX1_disk 32 = .ok (.ireturn, 1) := dk_172 (dk_at dksX1_disk_1 8 rfl rfl)
abbrev cX1_size : ByteArray := prog_1_method_48_code
def yX1_size : MethodName := ⟨RX1, "size", "(I)I"⟩
def dkwX1_size_0 : List UInt8 := [42, 180, 0, 26, 42, 27, 182, 0, 224, 4, 182, 0, 212, 172]
abbrev dktX1_size_0 : List UInt8 := dkwX1_size_0 ++ []
theorem dksX1_size_0 : cX1_size.data.toList.drop 0 = dktX1_size_0 := by decide +kernel
theorem dX1_size_0 : decode cX1_size 0 = .ok (.aload_n 0, 1) := dk_42 (dk_at dksX1_size_0 0 rfl rfl)
theorem dX1_size_1 : decode cX1_size 1 = .ok (.getfield 26, 3) := dk_180 0 26 (dk_at dksX1_size_0 1 rfl rfl)
theorem dX1_size_4 : decode cX1_size 4 = .ok (.aload_n 0, 1) := dk_42 (dk_at dksX1_size_0 4 rfl rfl)
theorem dX1_size_5 : decode cX1_size 5 = .ok (.iload_n 1, 1) := dk_27 (dk_at dksX1_size_0 5 rfl rfl)
theorem dX1_size_6 : decode cX1_size 6 = .ok (.invokevirtual 224, 3) := dk_182 0 224 (dk_at dksX1_size_0 6 rfl rfl)
theorem dX1_size_9 : decode cX1_size 9 = .ok (.iconst 1, 1) := dk_4 (dk_at dksX1_size_0 9 rfl rfl)
theorem dX1_size_10 : decode cX1_size 10 = .ok (.invokevirtual 212, 3) := dk_182 0 212 (dk_at dksX1_size_0 10 rfl rfl)
theorem dX1_size_13 : decode cX1_size 13 = .ok (.ireturn, 1) := dk_172 (dk_at dksX1_size_0 13 rfl rfl)
abbrev cX1_file : ByteArray := prog_1_method_47_code
def yX1_file : MethodName := ⟨RX1, "file", "(I)I"⟩
def dkwX1_file_1 : List UInt8 := [18, 221, 183, 0, 223, 191, 28, 172]
abbrev dktX1_file_1 : List UInt8 := dkwX1_file_1 ++ []
def dkwX1_file_0 : List UInt8 := [42, 180, 0, 26, 27, 4, 18, 61, 184, 0, 55, 182, 0, 216, 61, 28, 2, 160, 0, 13, 187, 0, 219, 89]
abbrev dktX1_file_0 : List UInt8 := dkwX1_file_0 ++ dktX1_file_1
theorem dksX1_file_0 : cX1_file.data.toList.drop 0 = dktX1_file_0 := by decide +kernel
theorem dksX1_file_1 : cX1_file.data.toList.drop 24 = dktX1_file_1 := dk_seg dksX1_file_0 24 rfl rfl
theorem dX1_file_0 : decode cX1_file 0 = .ok (.aload_n 0, 1) := dk_42 (dk_at dksX1_file_0 0 rfl rfl)
theorem dX1_file_1 : decode cX1_file 1 = .ok (.getfield 26, 3) := dk_180 0 26 (dk_at dksX1_file_0 1 rfl rfl)
theorem dX1_file_4 : decode cX1_file 4 = .ok (.iload_n 1, 1) := dk_27 (dk_at dksX1_file_0 4 rfl rfl)
theorem dX1_file_5 : decode cX1_file 5 = .ok (.iconst 1, 1) := dk_4 (dk_at dksX1_file_0 5 rfl rfl)
theorem dX1_file_6 : decode cX1_file 6 = .ok (.ldc 61, 2) := dk_18 61 (dk_at dksX1_file_0 6 rfl rfl)
theorem dX1_file_8 : decode cX1_file 8 = .ok (.invokestatic 55, 3) := dk_184 0 55 (dk_at dksX1_file_0 8 rfl rfl)
theorem dX1_file_11 : decode cX1_file 11 = .ok (.invokevirtual 216, 3) := dk_182 0 216 (dk_at dksX1_file_0 11 rfl rfl)
theorem dX1_file_14 : decode cX1_file 14 = .ok (.istore_n 2, 1) := dk_61 (dk_at dksX1_file_0 14 rfl rfl)
theorem dX1_file_15 : decode cX1_file 15 = .ok (.iload_n 2, 1) := dk_28 (dk_at dksX1_file_0 15 rfl rfl)
theorem dX1_file_16 : decode cX1_file 16 = .ok (.iconst (-1), 1) := dk_2 (dk_at dksX1_file_0 16 rfl rfl)
theorem dX1_file_17 : decode cX1_file 17 = .ok (.if_icmp .ne 13, 3) := dk_160 0 13 (dk_at dksX1_file_0 17 rfl rfl)
theorem dX1_file_20 : decode cX1_file 20 = .ok (.new 219, 3) := dk_187 0 219 (dk_at dksX1_file_0 20 rfl rfl)
theorem dX1_file_23 : decode cX1_file 23 = .ok (.dup, 1) := dk_89 (dk_at dksX1_file_0 23 rfl rfl)
theorem dX1_file_24 : decode cX1_file 24 = .ok (.ldc 221, 2) := dk_18 221 (dk_at dksX1_file_1 0 rfl rfl)
theorem dX1_file_26 : decode cX1_file 26 = .ok (.invokespecial 223, 3) := dk_183 0 223 (dk_at dksX1_file_1 2 rfl rfl)
theorem dX1_file_29 : decode cX1_file 29 = .ok (.athrow, 1) := dk_191 (dk_at dksX1_file_1 5 rfl rfl)
theorem dX1_file_30 : decode cX1_file 30 = .ok (.iload_n 2, 1) := dk_28 (dk_at dksX1_file_1 6 rfl rfl)
theorem dX1_file_31 : decode cX1_file 31 = .ok (.ireturn, 1) := dk_172 (dk_at dksX1_file_1 7 rfl rfl)
abbrev cX1_wordOf : ByteArray := prog_1_method_49_code
def yX1_wordOf : MethodName := ⟨RX1, "wordOf", "(II)I"⟩
def dkwX1_wordOf_1 : List UInt8 := [187, 0, 201, 89, 18, 227, 183, 0, 205, 191, 42, 180, 0, 26, 29, 28, 182, 0, 229, 172]
abbrev dktX1_wordOf_1 : List UInt8 := dkwX1_wordOf_1 ++ []
def dkwX1_wordOf_0 : List UInt8 := [42, 27, 182, 0, 224, 62, 28, 155, 0, 16, 28, 42, 180, 0, 26, 29, 4, 182, 0, 212, 161, 0, 13]
abbrev dktX1_wordOf_0 : List UInt8 := dkwX1_wordOf_0 ++ dktX1_wordOf_1
theorem dksX1_wordOf_0 : cX1_wordOf.data.toList.drop 0 = dktX1_wordOf_0 := by decide +kernel
theorem dksX1_wordOf_1 : cX1_wordOf.data.toList.drop 23 = dktX1_wordOf_1 := dk_seg dksX1_wordOf_0 23 rfl rfl
theorem dX1_wordOf_0 : decode cX1_wordOf 0 = .ok (.aload_n 0, 1) := dk_42 (dk_at dksX1_wordOf_0 0 rfl rfl)
theorem dX1_wordOf_1 : decode cX1_wordOf 1 = .ok (.iload_n 1, 1) := dk_27 (dk_at dksX1_wordOf_0 1 rfl rfl)
theorem dX1_wordOf_2 : decode cX1_wordOf 2 = .ok (.invokevirtual 224, 3) := dk_182 0 224 (dk_at dksX1_wordOf_0 2 rfl rfl)
theorem dX1_wordOf_5 : decode cX1_wordOf 5 = .ok (.istore_n 3, 1) := dk_62 (dk_at dksX1_wordOf_0 5 rfl rfl)
theorem dX1_wordOf_6 : decode cX1_wordOf 6 = .ok (.iload_n 2, 1) := dk_28 (dk_at dksX1_wordOf_0 6 rfl rfl)
theorem dX1_wordOf_7 : decode cX1_wordOf 7 = .ok (.ifCond .lt 16, 3) := dk_155 0 16 (dk_at dksX1_wordOf_0 7 rfl rfl)
theorem dX1_wordOf_10 : decode cX1_wordOf 10 = .ok (.iload_n 2, 1) := dk_28 (dk_at dksX1_wordOf_0 10 rfl rfl)
theorem dX1_wordOf_11 : decode cX1_wordOf 11 = .ok (.aload_n 0, 1) := dk_42 (dk_at dksX1_wordOf_0 11 rfl rfl)
theorem dX1_wordOf_12 : decode cX1_wordOf 12 = .ok (.getfield 26, 3) := dk_180 0 26 (dk_at dksX1_wordOf_0 12 rfl rfl)
theorem dX1_wordOf_15 : decode cX1_wordOf 15 = .ok (.iload_n 3, 1) := dk_29 (dk_at dksX1_wordOf_0 15 rfl rfl)
theorem dX1_wordOf_16 : decode cX1_wordOf 16 = .ok (.iconst 1, 1) := dk_4 (dk_at dksX1_wordOf_0 16 rfl rfl)
theorem dX1_wordOf_17 : decode cX1_wordOf 17 = .ok (.invokevirtual 212, 3) := dk_182 0 212 (dk_at dksX1_wordOf_0 17 rfl rfl)
theorem dX1_wordOf_20 : decode cX1_wordOf 20 = .ok (.if_icmp .lt 13, 3) := dk_161 0 13 (dk_at dksX1_wordOf_0 20 rfl rfl)
theorem dX1_wordOf_23 : decode cX1_wordOf 23 = .ok (.new 201, 3) := dk_187 0 201 (dk_at dksX1_wordOf_1 0 rfl rfl)
theorem dX1_wordOf_26 : decode cX1_wordOf 26 = .ok (.dup, 1) := dk_89 (dk_at dksX1_wordOf_1 3 rfl rfl)
theorem dX1_wordOf_27 : decode cX1_wordOf 27 = .ok (.ldc 227, 2) := dk_18 227 (dk_at dksX1_wordOf_1 4 rfl rfl)
theorem dX1_wordOf_29 : decode cX1_wordOf 29 = .ok (.invokespecial 205, 3) := dk_183 0 205 (dk_at dksX1_wordOf_1 6 rfl rfl)
theorem dX1_wordOf_32 : decode cX1_wordOf 32 = .ok (.athrow, 1) := dk_191 (dk_at dksX1_wordOf_1 9 rfl rfl)
theorem dX1_wordOf_33 : decode cX1_wordOf 33 = .ok (.aload_n 0, 1) := dk_42 (dk_at dksX1_wordOf_1 10 rfl rfl)
theorem dX1_wordOf_34 : decode cX1_wordOf 34 = .ok (.getfield 26, 3) := dk_180 0 26 (dk_at dksX1_wordOf_1 11 rfl rfl)
theorem dX1_wordOf_37 : decode cX1_wordOf 37 = .ok (.iload_n 3, 1) := dk_29 (dk_at dksX1_wordOf_1 14 rfl rfl)
theorem dX1_wordOf_38 : decode cX1_wordOf 38 = .ok (.iload_n 2, 1) := dk_28 (dk_at dksX1_wordOf_1 15 rfl rfl)
theorem dX1_wordOf_39 : decode cX1_wordOf 39 = .ok (.invokevirtual 229, 3) := dk_182 0 229 (dk_at dksX1_wordOf_1 16 rfl rfl)
theorem dX1_wordOf_42 : decode cX1_wordOf 42 = .ok (.ireturn, 1) := dk_172 (dk_at dksX1_wordOf_1 19 rfl rfl)
abbrev cX1_testKey : ByteArray := prog_1_method_54_code
def yX1_testKey : MethodName := ⟨RX1, "testKey", "(I)I"⟩
def dkwX1_testKey_0 : List UInt8 := [42, 180, 0, 36, 27, 184, 1, 0, 172]
abbrev dktX1_testKey_0 : List UInt8 := dkwX1_testKey_0 ++ []
theorem dksX1_testKey_0 : cX1_testKey.data.toList.drop 0 = dktX1_testKey_0 := by decide +kernel
theorem dX1_testKey_0 : decode cX1_testKey 0 = .ok (.aload_n 0, 1) := dk_42 (dk_at dksX1_testKey_0 0 rfl rfl)
theorem dX1_testKey_1 : decode cX1_testKey 1 = .ok (.getfield 36, 3) := dk_180 0 36 (dk_at dksX1_testKey_0 1 rfl rfl)
theorem dX1_testKey_4 : decode cX1_testKey 4 = .ok (.iload_n 1, 1) := dk_27 (dk_at dksX1_testKey_0 4 rfl rfl)
theorem dX1_testKey_5 : decode cX1_testKey 5 = .ok (.invokestatic 256, 3) := dk_184 1 0 (dk_at dksX1_testKey_0 5 rfl rfl)
theorem dX1_testKey_8 : decode cX1_testKey 8 = .ok (.ireturn, 1) := dk_172 (dk_at dksX1_testKey_0 8 rfl rfl)
abbrev cX1_draft : ByteArray := prog_1_method_52_code
def yX1_draft : MethodName := ⟨RX1, "draft", "(Ljava/util/LinkedList;I)I"⟩
def dkwX1_draft_1 : List UInt8 := [184, 0, 69, 42, 27, 184, 0, 239, 182, 0, 245, 42, 182, 0, 180, 172]
abbrev dktX1_draft_1 : List UInt8 := dkwX1_draft_1 ++ []
def dkwX1_draft_0 : List UInt8 := [27, 3, 18, 61, 184, 0, 55, 87, 42, 182, 0, 180, 16, 6, 162, 0, 7, 4, 167, 0, 4, 3]
abbrev dktX1_draft_0 : List UInt8 := dkwX1_draft_0 ++ dktX1_draft_1
theorem dksX1_draft_0 : cX1_draft.data.toList.drop 0 = dktX1_draft_0 := by decide +kernel
theorem dksX1_draft_1 : cX1_draft.data.toList.drop 22 = dktX1_draft_1 := dk_seg dksX1_draft_0 22 rfl rfl
theorem dX1_draft_0 : decode cX1_draft 0 = .ok (.iload_n 1, 1) := dk_27 (dk_at dksX1_draft_0 0 rfl rfl)
theorem dX1_draft_1 : decode cX1_draft 1 = .ok (.iconst 0, 1) := dk_3 (dk_at dksX1_draft_0 1 rfl rfl)
theorem dX1_draft_2 : decode cX1_draft 2 = .ok (.ldc 61, 2) := dk_18 61 (dk_at dksX1_draft_0 2 rfl rfl)
theorem dX1_draft_4 : decode cX1_draft 4 = .ok (.invokestatic 55, 3) := dk_184 0 55 (dk_at dksX1_draft_0 4 rfl rfl)
theorem dX1_draft_7 : decode cX1_draft 7 = .ok (.pop, 1) := dk_87 (dk_at dksX1_draft_0 7 rfl rfl)
theorem dX1_draft_8 : decode cX1_draft 8 = .ok (.aload_n 0, 1) := dk_42 (dk_at dksX1_draft_0 8 rfl rfl)
theorem dX1_draft_9 : decode cX1_draft 9 = .ok (.invokevirtual 180, 3) := dk_182 0 180 (dk_at dksX1_draft_0 9 rfl rfl)
theorem dX1_draft_12 : decode cX1_draft 12 = .ok (.bipush 6, 2) := dk_16 6 (dk_at dksX1_draft_0 12 rfl rfl)
theorem dX1_draft_14 : decode cX1_draft 14 = .ok (.if_icmp .ge 7, 3) := dk_162 0 7 (dk_at dksX1_draft_0 14 rfl rfl)
theorem dX1_draft_17 : decode cX1_draft 17 = .ok (.iconst 1, 1) := dk_4 (dk_at dksX1_draft_0 17 rfl rfl)
theorem dX1_draft_18 : decode cX1_draft 18 = .ok (.goto 4, 3) := dk_167 0 4 (dk_at dksX1_draft_0 18 rfl rfl)
theorem dX1_draft_21 : decode cX1_draft 21 = .ok (.iconst 0, 1) := dk_3 (dk_at dksX1_draft_0 21 rfl rfl)
theorem dX1_draft_22 : decode cX1_draft 22 = .ok (.invokestatic 69, 3) := dk_184 0 69 (dk_at dksX1_draft_1 0 rfl rfl)
theorem dX1_draft_25 : decode cX1_draft 25 = .ok (.aload_n 0, 1) := dk_42 (dk_at dksX1_draft_1 3 rfl rfl)
theorem dX1_draft_26 : decode cX1_draft 26 = .ok (.iload_n 1, 1) := dk_27 (dk_at dksX1_draft_1 4 rfl rfl)
theorem dX1_draft_27 : decode cX1_draft 27 = .ok (.invokestatic 239, 3) := dk_184 0 239 (dk_at dksX1_draft_1 5 rfl rfl)
theorem dX1_draft_30 : decode cX1_draft 30 = .ok (.invokevirtual 245, 3) := dk_182 0 245 (dk_at dksX1_draft_1 8 rfl rfl)
theorem dX1_draft_33 : decode cX1_draft 33 = .ok (.aload_n 0, 1) := dk_42 (dk_at dksX1_draft_1 11 rfl rfl)
theorem dX1_draft_34 : decode cX1_draft 34 = .ok (.invokevirtual 180, 3) := dk_182 0 180 (dk_at dksX1_draft_1 12 rfl rfl)
theorem dX1_draft_37 : decode cX1_draft 37 = .ok (.ireturn, 1) := dk_172 (dk_at dksX1_draft_1 15 rfl rfl)
abbrev cX1_testWord : ByteArray := prog_1_method_55_code
def yX1_testWord : MethodName := ⟨RX1, "testWord", "(I)I"⟩
def dkwX1_testWord_0 : List UInt8 := [42, 180, 0, 40, 27, 184, 1, 0, 172]
abbrev dktX1_testWord_0 : List UInt8 := dkwX1_testWord_0 ++ []
theorem dksX1_testWord_0 : cX1_testWord.data.toList.drop 0 = dktX1_testWord_0 := by decide +kernel
theorem dX1_testWord_0 : decode cX1_testWord 0 = .ok (.aload_n 0, 1) := dk_42 (dk_at dksX1_testWord_0 0 rfl rfl)
theorem dX1_testWord_1 : decode cX1_testWord 1 = .ok (.getfield 40, 3) := dk_180 0 40 (dk_at dksX1_testWord_0 1 rfl rfl)
theorem dX1_testWord_4 : decode cX1_testWord 4 = .ok (.iload_n 1, 1) := dk_27 (dk_at dksX1_testWord_0 4 rfl rfl)
theorem dX1_testWord_5 : decode cX1_testWord 5 = .ok (.invokestatic 256, 3) := dk_184 1 0 (dk_at dksX1_testWord_0 5 rfl rfl)
theorem dX1_testWord_8 : decode cX1_testWord 8 = .ok (.ireturn, 1) := dk_172 (dk_at dksX1_testWord_0 8 rfl rfl)
abbrev cX1_addTest : ByteArray := prog_1_method_56_code
def yX1_addTest : MethodName := ⟨RX1, "addTest", "(IIII)I"⟩
def dkwX1_addTest_4 : List UInt8 := [185, 0, 63, 1, 0, 4, 100, 172]
abbrev dktX1_addTest_4 : List UInt8 := dkwX1_addTest_4 ++ []
def dkwX1_addTest_3 : List UInt8 := [180, 0, 40, 184, 1, 6, 27, 28, 29, 21, 4, 183, 1, 10, 185, 0, 72, 2, 0, 87, 42, 180, 0, 30]
abbrev dktX1_addTest_3 : List UInt8 := dkwX1_addTest_3 ++ dktX1_addTest_4
def dkwX1_addTest_2 : List UInt8 := [4, 167, 0, 4, 3, 184, 0, 69, 42, 180, 0, 30, 187, 1, 4, 89, 42, 180, 0, 36, 184, 1, 6, 42]
abbrev dktX1_addTest_2 : List UInt8 := dkwX1_addTest_2 ++ dktX1_addTest_3
def dkwX1_addTest_1 : List UInt8 := [87, 21, 4, 3, 17, 1, 244, 184, 0, 55, 87, 42, 180, 0, 30, 185, 0, 63, 1, 0, 8, 162, 0, 7]
abbrev dktX1_addTest_1 : List UInt8 := dkwX1_addTest_1 ++ dktX1_addTest_2
def dkwX1_addTest_0 : List UInt8 := [27, 4, 17, 1, 244, 184, 0, 55, 87, 28, 3, 16, 100, 184, 0, 55, 87, 29, 4, 16, 20, 184, 0, 55]
abbrev dktX1_addTest_0 : List UInt8 := dkwX1_addTest_0 ++ dktX1_addTest_1
theorem dksX1_addTest_0 : cX1_addTest.data.toList.drop 0 = dktX1_addTest_0 := by decide +kernel
theorem dksX1_addTest_1 : cX1_addTest.data.toList.drop 24 = dktX1_addTest_1 := dk_seg dksX1_addTest_0 24 rfl rfl
theorem dksX1_addTest_2 : cX1_addTest.data.toList.drop 48 = dktX1_addTest_2 := dk_seg dksX1_addTest_1 24 rfl rfl
theorem dksX1_addTest_3 : cX1_addTest.data.toList.drop 72 = dktX1_addTest_3 := dk_seg dksX1_addTest_2 24 rfl rfl
theorem dksX1_addTest_4 : cX1_addTest.data.toList.drop 96 = dktX1_addTest_4 := dk_seg dksX1_addTest_3 24 rfl rfl
theorem dX1_addTest_0 : decode cX1_addTest 0 = .ok (.iload_n 1, 1) := dk_27 (dk_at dksX1_addTest_0 0 rfl rfl)
theorem dX1_addTest_1 : decode cX1_addTest 1 = .ok (.iconst 1, 1) := dk_4 (dk_at dksX1_addTest_0 1 rfl rfl)
theorem dX1_addTest_2 : decode cX1_addTest 2 = .ok (.sipush 500, 3) := dk_17 1 244 (dk_at dksX1_addTest_0 2 rfl rfl)
theorem dX1_addTest_5 : decode cX1_addTest 5 = .ok (.invokestatic 55, 3) := dk_184 0 55 (dk_at dksX1_addTest_0 5 rfl rfl)
theorem dX1_addTest_8 : decode cX1_addTest 8 = .ok (.pop, 1) := dk_87 (dk_at dksX1_addTest_0 8 rfl rfl)
theorem dX1_addTest_9 : decode cX1_addTest 9 = .ok (.iload_n 2, 1) := dk_28 (dk_at dksX1_addTest_0 9 rfl rfl)
theorem dX1_addTest_10 : decode cX1_addTest 10 = .ok (.iconst 0, 1) := dk_3 (dk_at dksX1_addTest_0 10 rfl rfl)
theorem dX1_addTest_11 : decode cX1_addTest 11 = .ok (.bipush 100, 2) := dk_16 100 (dk_at dksX1_addTest_0 11 rfl rfl)
theorem dX1_addTest_13 : decode cX1_addTest 13 = .ok (.invokestatic 55, 3) := dk_184 0 55 (dk_at dksX1_addTest_0 13 rfl rfl)
theorem dX1_addTest_16 : decode cX1_addTest 16 = .ok (.pop, 1) := dk_87 (dk_at dksX1_addTest_0 16 rfl rfl)
theorem dX1_addTest_17 : decode cX1_addTest 17 = .ok (.iload_n 3, 1) := dk_29 (dk_at dksX1_addTest_0 17 rfl rfl)
theorem dX1_addTest_18 : decode cX1_addTest 18 = .ok (.iconst 1, 1) := dk_4 (dk_at dksX1_addTest_0 18 rfl rfl)
theorem dX1_addTest_19 : decode cX1_addTest 19 = .ok (.bipush 20, 2) := dk_16 20 (dk_at dksX1_addTest_0 19 rfl rfl)
theorem dX1_addTest_21 : decode cX1_addTest 21 = .ok (.invokestatic 55, 3) := dk_184 0 55 (dk_at dksX1_addTest_0 21 rfl rfl)
theorem dX1_addTest_24 : decode cX1_addTest 24 = .ok (.pop, 1) := dk_87 (dk_at dksX1_addTest_1 0 rfl rfl)
theorem dX1_addTest_25 : decode cX1_addTest 25 = .ok (.iload 4, 2) := dk_21 4 (dk_at dksX1_addTest_1 1 rfl rfl)
theorem dX1_addTest_27 : decode cX1_addTest 27 = .ok (.iconst 0, 1) := dk_3 (dk_at dksX1_addTest_1 3 rfl rfl)
theorem dX1_addTest_28 : decode cX1_addTest 28 = .ok (.sipush 500, 3) := dk_17 1 244 (dk_at dksX1_addTest_1 4 rfl rfl)
theorem dX1_addTest_31 : decode cX1_addTest 31 = .ok (.invokestatic 55, 3) := dk_184 0 55 (dk_at dksX1_addTest_1 7 rfl rfl)
theorem dX1_addTest_34 : decode cX1_addTest 34 = .ok (.pop, 1) := dk_87 (dk_at dksX1_addTest_1 10 rfl rfl)
theorem dX1_addTest_35 : decode cX1_addTest 35 = .ok (.aload_n 0, 1) := dk_42 (dk_at dksX1_addTest_1 11 rfl rfl)
theorem dX1_addTest_36 : decode cX1_addTest 36 = .ok (.getfield 30, 3) := dk_180 0 30 (dk_at dksX1_addTest_1 12 rfl rfl)
theorem dX1_addTest_39 : decode cX1_addTest 39 = .ok (.invokeinterface 63 1, 5) := by decide +kernel
theorem dX1_addTest_44 : decode cX1_addTest 44 = .ok (.iconst 5, 1) := dk_8 (dk_at dksX1_addTest_1 20 rfl rfl)
theorem dX1_addTest_45 : decode cX1_addTest 45 = .ok (.if_icmp .ge 7, 3) := dk_162 0 7 (dk_at dksX1_addTest_1 21 rfl rfl)
theorem dX1_addTest_48 : decode cX1_addTest 48 = .ok (.iconst 1, 1) := dk_4 (dk_at dksX1_addTest_2 0 rfl rfl)
theorem dX1_addTest_49 : decode cX1_addTest 49 = .ok (.goto 4, 3) := dk_167 0 4 (dk_at dksX1_addTest_2 1 rfl rfl)
theorem dX1_addTest_52 : decode cX1_addTest 52 = .ok (.iconst 0, 1) := dk_3 (dk_at dksX1_addTest_2 4 rfl rfl)
theorem dX1_addTest_53 : decode cX1_addTest 53 = .ok (.invokestatic 69, 3) := dk_184 0 69 (dk_at dksX1_addTest_2 5 rfl rfl)
theorem dX1_addTest_56 : decode cX1_addTest 56 = .ok (.aload_n 0, 1) := dk_42 (dk_at dksX1_addTest_2 8 rfl rfl)
theorem dX1_addTest_57 : decode cX1_addTest 57 = .ok (.getfield 30, 3) := dk_180 0 30 (dk_at dksX1_addTest_2 9 rfl rfl)
theorem dX1_addTest_60 : decode cX1_addTest 60 = .ok (.new 260, 3) := dk_187 1 4 (dk_at dksX1_addTest_2 12 rfl rfl)
theorem dX1_addTest_63 : decode cX1_addTest 63 = .ok (.dup, 1) := dk_89 (dk_at dksX1_addTest_2 15 rfl rfl)
theorem dX1_addTest_64 : decode cX1_addTest 64 = .ok (.aload_n 0, 1) := dk_42 (dk_at dksX1_addTest_2 16 rfl rfl)
theorem dX1_addTest_65 : decode cX1_addTest 65 = .ok (.getfield 36, 3) := dk_180 0 36 (dk_at dksX1_addTest_2 17 rfl rfl)
theorem dX1_addTest_68 : decode cX1_addTest 68 = .ok (.invokestatic 262, 3) := dk_184 1 6 (dk_at dksX1_addTest_2 20 rfl rfl)
theorem dX1_addTest_71 : decode cX1_addTest 71 = .ok (.aload_n 0, 1) := dk_42 (dk_at dksX1_addTest_2 23 rfl rfl)
theorem dX1_addTest_72 : decode cX1_addTest 72 = .ok (.getfield 40, 3) := dk_180 0 40 (dk_at dksX1_addTest_3 0 rfl rfl)
theorem dX1_addTest_75 : decode cX1_addTest 75 = .ok (.invokestatic 262, 3) := dk_184 1 6 (dk_at dksX1_addTest_3 3 rfl rfl)
theorem dX1_addTest_78 : decode cX1_addTest 78 = .ok (.iload_n 1, 1) := dk_27 (dk_at dksX1_addTest_3 6 rfl rfl)
theorem dX1_addTest_79 : decode cX1_addTest 79 = .ok (.iload_n 2, 1) := dk_28 (dk_at dksX1_addTest_3 7 rfl rfl)
theorem dX1_addTest_80 : decode cX1_addTest 80 = .ok (.iload_n 3, 1) := dk_29 (dk_at dksX1_addTest_3 8 rfl rfl)
theorem dX1_addTest_81 : decode cX1_addTest 81 = .ok (.iload 4, 2) := dk_21 4 (dk_at dksX1_addTest_3 9 rfl rfl)
theorem dX1_addTest_83 : decode cX1_addTest 83 = .ok (.invokespecial 266, 3) := dk_183 1 10 (dk_at dksX1_addTest_3 11 rfl rfl)
theorem dX1_addTest_86 : decode cX1_addTest 86 = .ok (.invokeinterface 72 2, 5) := by decide +kernel
theorem dX1_addTest_91 : decode cX1_addTest 91 = .ok (.pop, 1) := dk_87 (dk_at dksX1_addTest_3 19 rfl rfl)
theorem dX1_addTest_92 : decode cX1_addTest 92 = .ok (.aload_n 0, 1) := dk_42 (dk_at dksX1_addTest_3 20 rfl rfl)
theorem dX1_addTest_93 : decode cX1_addTest 93 = .ok (.getfield 30, 3) := dk_180 0 30 (dk_at dksX1_addTest_3 21 rfl rfl)
theorem dX1_addTest_96 : decode cX1_addTest 96 = .ok (.invokeinterface 63 1, 5) := by decide +kernel
theorem dX1_addTest_101 : decode cX1_addTest 101 = .ok (.iconst 1, 1) := dk_4 (dk_at dksX1_addTest_4 5 rfl rfl)
theorem dX1_addTest_102 : decode cX1_addTest 102 = .ok (.isub, 1) := dk_100 (dk_at dksX1_addTest_4 6 rfl rfl)
theorem dX1_addTest_103 : decode cX1_addTest 103 = .ok (.ireturn, 1) := dk_172 (dk_at dksX1_addTest_4 7 rfl rfl)
abbrev cX1_taken : ByteArray := prog_1_method_53_code
def yX1_taken : MethodName := ⟨RX1, "taken", "(Ljava/util/LinkedList;)[I"⟩
def dkwX1_taken_1 : List UInt8 := [182, 0, 253, 79, 132, 2, 1, 167, 255, 234, 43, 176]
abbrev dktX1_taken_1 : List UInt8 := dkwX1_taken_1 ++ []
def dkwX1_taken_0 : List UInt8 := [42, 182, 0, 180, 188, 10, 76, 3, 61, 28, 43, 190, 162, 0, 22, 43, 28, 42, 182, 0, 249, 192, 0, 240]
abbrev dktX1_taken_0 : List UInt8 := dkwX1_taken_0 ++ dktX1_taken_1
theorem dksX1_taken_0 : cX1_taken.data.toList.drop 0 = dktX1_taken_0 := by decide +kernel
theorem dksX1_taken_1 : cX1_taken.data.toList.drop 24 = dktX1_taken_1 := dk_seg dksX1_taken_0 24 rfl rfl
theorem dX1_taken_0 : decode cX1_taken 0 = .ok (.aload_n 0, 1) := dk_42 (dk_at dksX1_taken_0 0 rfl rfl)
theorem dX1_taken_1 : decode cX1_taken 1 = .ok (.invokevirtual 180, 3) := dk_182 0 180 (dk_at dksX1_taken_0 1 rfl rfl)
theorem dX1_taken_4 : decode cX1_taken 4 = .ok (.newarray .int, 2) := dk_188_10 (dk_at dksX1_taken_0 4 rfl rfl)
theorem dX1_taken_6 : decode cX1_taken 6 = .ok (.astore_n 1, 1) := dk_76 (dk_at dksX1_taken_0 6 rfl rfl)
theorem dX1_taken_7 : decode cX1_taken 7 = .ok (.iconst 0, 1) := dk_3 (dk_at dksX1_taken_0 7 rfl rfl)
theorem dX1_taken_8 : decode cX1_taken 8 = .ok (.istore_n 2, 1) := dk_61 (dk_at dksX1_taken_0 8 rfl rfl)
theorem dX1_taken_9 : decode cX1_taken 9 = .ok (.iload_n 2, 1) := dk_28 (dk_at dksX1_taken_0 9 rfl rfl)
theorem dX1_taken_10 : decode cX1_taken 10 = .ok (.aload_n 1, 1) := dk_43 (dk_at dksX1_taken_0 10 rfl rfl)
theorem dX1_taken_11 : decode cX1_taken 11 = .ok (.arraylength, 1) := dk_190 (dk_at dksX1_taken_0 11 rfl rfl)
theorem dX1_taken_12 : decode cX1_taken 12 = .ok (.if_icmp .ge 22, 3) := dk_162 0 22 (dk_at dksX1_taken_0 12 rfl rfl)
theorem dX1_taken_15 : decode cX1_taken 15 = .ok (.aload_n 1, 1) := dk_43 (dk_at dksX1_taken_0 15 rfl rfl)
theorem dX1_taken_16 : decode cX1_taken 16 = .ok (.iload_n 2, 1) := dk_28 (dk_at dksX1_taken_0 16 rfl rfl)
theorem dX1_taken_17 : decode cX1_taken 17 = .ok (.aload_n 0, 1) := dk_42 (dk_at dksX1_taken_0 17 rfl rfl)
theorem dX1_taken_18 : decode cX1_taken 18 = .ok (.invokevirtual 249, 3) := dk_182 0 249 (dk_at dksX1_taken_0 18 rfl rfl)
theorem dX1_taken_21 : decode cX1_taken 21 = .ok (.checkcast 240, 3) := dk_192 0 240 (dk_at dksX1_taken_0 21 rfl rfl)
theorem dX1_taken_24 : decode cX1_taken 24 = .ok (.invokevirtual 253, 3) := dk_182 0 253 (dk_at dksX1_taken_1 0 rfl rfl)
theorem dX1_taken_27 : decode cX1_taken 27 = .ok (.iastore, 1) := dk_79 (dk_at dksX1_taken_1 3 rfl rfl)
theorem dX1_taken_28 : decode cX1_taken 28 = .ok (.iinc 2 1, 3) := dk_132 2 1 (dk_at dksX1_taken_1 4 rfl rfl)
theorem dX1_taken_31 : decode cX1_taken 31 = .ok (.goto (-22), 3) := dk_167 255 234 (dk_at dksX1_taken_1 7 rfl rfl)
theorem dX1_taken_34 : decode cX1_taken 34 = .ok (.aload_n 1, 1) := dk_43 (dk_at dksX1_taken_1 10 rfl rfl)
theorem dX1_taken_35 : decode cX1_taken 35 = .ok (.areturn, 1) := dk_176 (dk_at dksX1_taken_1 11 rfl rfl)
abbrev cX1_submit : ByteArray := prog_1_method_58_code
def yX1_submit : MethodName := ⟨RX1, "submit", "()I"⟩
def dkwX1_submit_3 : List UInt8 := [167, 255, 214, 27, 172]
abbrev dktX1_submit_3 : List UInt8 := dkwX1_submit_3 ++ []
def dkwX1_submit_2 : List UInt8 := [78, 45, 42, 180, 0, 139, 182, 1, 25, 27, 45, 180, 1, 28, 154, 0, 7, 4, 167, 0, 4, 3, 96, 60]
abbrev dktX1_submit_2 : List UInt8 := dkwX1_submit_2 ++ dktX1_submit_3
def dkwX1_submit_1 : List UInt8 := [185, 1, 13, 1, 0, 77, 44, 185, 1, 17, 1, 0, 153, 0, 39, 44, 185, 1, 22, 1, 0, 192, 1, 4]
abbrev dktX1_submit_1 : List UInt8 := dkwX1_submit_1 ++ dktX1_submit_2
def dkwX1_submit_0 : List UInt8 := [42, 180, 0, 139, 198, 0, 7, 4, 167, 0, 4, 3, 184, 0, 69, 3, 60, 42, 180, 0, 30]
abbrev dktX1_submit_0 : List UInt8 := dkwX1_submit_0 ++ dktX1_submit_1
theorem dksX1_submit_0 : cX1_submit.data.toList.drop 0 = dktX1_submit_0 := by decide +kernel
theorem dksX1_submit_1 : cX1_submit.data.toList.drop 21 = dktX1_submit_1 := dk_seg dksX1_submit_0 21 rfl rfl
theorem dksX1_submit_2 : cX1_submit.data.toList.drop 45 = dktX1_submit_2 := dk_seg dksX1_submit_1 24 rfl rfl
theorem dksX1_submit_3 : cX1_submit.data.toList.drop 69 = dktX1_submit_3 := dk_seg dksX1_submit_2 24 rfl rfl
theorem dX1_submit_0 : decode cX1_submit 0 = .ok (.aload_n 0, 1) := dk_42 (dk_at dksX1_submit_0 0 rfl rfl)
theorem dX1_submit_1 : decode cX1_submit 1 = .ok (.getfield 139, 3) := dk_180 0 139 (dk_at dksX1_submit_0 1 rfl rfl)
theorem dX1_submit_4 : decode cX1_submit 4 = .ok (.ifnull 7, 3) := dk_198 0 7 (dk_at dksX1_submit_0 4 rfl rfl)
theorem dX1_submit_7 : decode cX1_submit 7 = .ok (.iconst 1, 1) := dk_4 (dk_at dksX1_submit_0 7 rfl rfl)
theorem dX1_submit_8 : decode cX1_submit 8 = .ok (.goto 4, 3) := dk_167 0 4 (dk_at dksX1_submit_0 8 rfl rfl)
theorem dX1_submit_11 : decode cX1_submit 11 = .ok (.iconst 0, 1) := dk_3 (dk_at dksX1_submit_0 11 rfl rfl)
theorem dX1_submit_12 : decode cX1_submit 12 = .ok (.invokestatic 69, 3) := dk_184 0 69 (dk_at dksX1_submit_0 12 rfl rfl)
theorem dX1_submit_15 : decode cX1_submit 15 = .ok (.iconst 0, 1) := dk_3 (dk_at dksX1_submit_0 15 rfl rfl)
theorem dX1_submit_16 : decode cX1_submit 16 = .ok (.istore_n 1, 1) := dk_60 (dk_at dksX1_submit_0 16 rfl rfl)
theorem dX1_submit_17 : decode cX1_submit 17 = .ok (.aload_n 0, 1) := dk_42 (dk_at dksX1_submit_0 17 rfl rfl)
theorem dX1_submit_18 : decode cX1_submit 18 = .ok (.getfield 30, 3) := dk_180 0 30 (dk_at dksX1_submit_0 18 rfl rfl)
theorem dX1_submit_21 : decode cX1_submit 21 = .ok (.invokeinterface 269 1, 5) := by decide +kernel
theorem dX1_submit_26 : decode cX1_submit 26 = .ok (.astore_n 2, 1) := dk_77 (dk_at dksX1_submit_1 5 rfl rfl)
theorem dX1_submit_27 : decode cX1_submit 27 = .ok (.aload_n 2, 1) := dk_44 (dk_at dksX1_submit_1 6 rfl rfl)
theorem dX1_submit_28 : decode cX1_submit 28 = .ok (.invokeinterface 273 1, 5) := by decide +kernel
theorem dX1_submit_33 : decode cX1_submit 33 = .ok (.ifCond .eq 39, 3) := dk_153 0 39 (dk_at dksX1_submit_1 12 rfl rfl)
theorem dX1_submit_36 : decode cX1_submit 36 = .ok (.aload_n 2, 1) := dk_44 (dk_at dksX1_submit_1 15 rfl rfl)
theorem dX1_submit_37 : decode cX1_submit 37 = .ok (.invokeinterface 278 1, 5) := by decide +kernel
theorem dX1_submit_42 : decode cX1_submit 42 = .ok (.checkcast 260, 3) := dk_192 1 4 (dk_at dksX1_submit_1 21 rfl rfl)
theorem dX1_submit_45 : decode cX1_submit 45 = .ok (.astore_n 3, 1) := dk_78 (dk_at dksX1_submit_2 0 rfl rfl)
theorem dX1_submit_46 : decode cX1_submit 46 = .ok (.aload_n 3, 1) := dk_45 (dk_at dksX1_submit_2 1 rfl rfl)
theorem dX1_submit_47 : decode cX1_submit 47 = .ok (.aload_n 0, 1) := dk_42 (dk_at dksX1_submit_2 2 rfl rfl)
theorem dX1_submit_48 : decode cX1_submit 48 = .ok (.getfield 139, 3) := dk_180 0 139 (dk_at dksX1_submit_2 3 rfl rfl)
theorem dX1_submit_51 : decode cX1_submit 51 = .ok (.invokevirtual 281, 3) := dk_182 1 25 (dk_at dksX1_submit_2 6 rfl rfl)
theorem dX1_submit_54 : decode cX1_submit 54 = .ok (.iload_n 1, 1) := dk_27 (dk_at dksX1_submit_2 9 rfl rfl)
theorem dX1_submit_55 : decode cX1_submit 55 = .ok (.aload_n 3, 1) := dk_45 (dk_at dksX1_submit_2 10 rfl rfl)
theorem dX1_submit_56 : decode cX1_submit 56 = .ok (.getfield 284, 3) := dk_180 1 28 (dk_at dksX1_submit_2 11 rfl rfl)
theorem dX1_submit_59 : decode cX1_submit 59 = .ok (.ifCond .ne 7, 3) := dk_154 0 7 (dk_at dksX1_submit_2 14 rfl rfl)
theorem dX1_submit_62 : decode cX1_submit 62 = .ok (.iconst 1, 1) := dk_4 (dk_at dksX1_submit_2 17 rfl rfl)
theorem dX1_submit_63 : decode cX1_submit 63 = .ok (.goto 4, 3) := dk_167 0 4 (dk_at dksX1_submit_2 18 rfl rfl)
theorem dX1_submit_66 : decode cX1_submit 66 = .ok (.iconst 0, 1) := dk_3 (dk_at dksX1_submit_2 21 rfl rfl)
theorem dX1_submit_67 : decode cX1_submit 67 = .ok (.iadd, 1) := dk_96 (dk_at dksX1_submit_2 22 rfl rfl)
theorem dX1_submit_68 : decode cX1_submit 68 = .ok (.istore_n 1, 1) := dk_60 (dk_at dksX1_submit_2 23 rfl rfl)
theorem dX1_submit_69 : decode cX1_submit 69 = .ok (.goto (-42), 3) := dk_167 255 214 (dk_at dksX1_submit_3 0 rfl rfl)
theorem dX1_submit_72 : decode cX1_submit 72 = .ok (.iload_n 1, 1) := dk_27 (dk_at dksX1_submit_3 3 rfl rfl)
theorem dX1_submit_73 : decode cX1_submit 73 = .ok (.ireturn, 1) := dk_172 (dk_at dksX1_submit_3 4 rfl rfl)
abbrev cX1_result : ByteArray := prog_1_method_59_code
def yX1_result : MethodName := ⟨RX1, "result", "(I)I"⟩
def dkwX1_result_1 : List UInt8 := [183, 0, 205, 191, 42, 180, 0, 30, 27, 185, 1, 33, 2, 0, 192, 1, 4, 180, 1, 28, 172]
abbrev dktX1_result_1 : List UInt8 := dkwX1_result_1 ++ []
def dkwX1_result_0 : List UInt8 := [27, 155, 0, 16, 27, 42, 180, 0, 30, 185, 0, 63, 1, 0, 161, 0, 14, 187, 0, 201, 89, 19, 1, 31]
abbrev dktX1_result_0 : List UInt8 := dkwX1_result_0 ++ dktX1_result_1
theorem dksX1_result_0 : cX1_result.data.toList.drop 0 = dktX1_result_0 := by decide +kernel
theorem dksX1_result_1 : cX1_result.data.toList.drop 24 = dktX1_result_1 := dk_seg dksX1_result_0 24 rfl rfl
theorem dX1_result_0 : decode cX1_result 0 = .ok (.iload_n 1, 1) := dk_27 (dk_at dksX1_result_0 0 rfl rfl)
theorem dX1_result_1 : decode cX1_result 1 = .ok (.ifCond .lt 16, 3) := dk_155 0 16 (dk_at dksX1_result_0 1 rfl rfl)
theorem dX1_result_4 : decode cX1_result 4 = .ok (.iload_n 1, 1) := dk_27 (dk_at dksX1_result_0 4 rfl rfl)
theorem dX1_result_5 : decode cX1_result 5 = .ok (.aload_n 0, 1) := dk_42 (dk_at dksX1_result_0 5 rfl rfl)
theorem dX1_result_6 : decode cX1_result 6 = .ok (.getfield 30, 3) := dk_180 0 30 (dk_at dksX1_result_0 6 rfl rfl)
theorem dX1_result_9 : decode cX1_result 9 = .ok (.invokeinterface 63 1, 5) := by decide +kernel
theorem dX1_result_14 : decode cX1_result 14 = .ok (.if_icmp .lt 14, 3) := dk_161 0 14 (dk_at dksX1_result_0 14 rfl rfl)
theorem dX1_result_17 : decode cX1_result 17 = .ok (.new 201, 3) := dk_187 0 201 (dk_at dksX1_result_0 17 rfl rfl)
theorem dX1_result_20 : decode cX1_result 20 = .ok (.dup, 1) := dk_89 (dk_at dksX1_result_0 20 rfl rfl)
theorem dX1_result_21 : decode cX1_result 21 = .ok (.ldc_w 287, 3) := dk_19 1 31 (dk_at dksX1_result_0 21 rfl rfl)
theorem dX1_result_24 : decode cX1_result 24 = .ok (.invokespecial 205, 3) := dk_183 0 205 (dk_at dksX1_result_1 0 rfl rfl)
theorem dX1_result_27 : decode cX1_result 27 = .ok (.athrow, 1) := dk_191 (dk_at dksX1_result_1 3 rfl rfl)
theorem dX1_result_28 : decode cX1_result 28 = .ok (.aload_n 0, 1) := dk_42 (dk_at dksX1_result_1 4 rfl rfl)
theorem dX1_result_29 : decode cX1_result 29 = .ok (.getfield 30, 3) := dk_180 0 30 (dk_at dksX1_result_1 5 rfl rfl)
theorem dX1_result_32 : decode cX1_result 32 = .ok (.iload_n 1, 1) := dk_27 (dk_at dksX1_result_1 8 rfl rfl)
theorem dX1_result_33 : decode cX1_result 33 = .ok (.invokeinterface 289 2, 5) := by decide +kernel
theorem dX1_result_38 : decode cX1_result 38 = .ok (.checkcast 260, 3) := dk_192 1 4 (dk_at dksX1_result_1 14 rfl rfl)
theorem dX1_result_41 : decode cX1_result 41 = .ok (.getfield 284, 3) := dk_180 1 28 (dk_at dksX1_result_1 17 rfl rfl)
theorem dX1_result_44 : decode cX1_result 44 = .ok (.ireturn, 1) := dk_172 (dk_at dksX1_result_1 20 rfl rfl)
theorem q118 : (Jvm.Cond.initialized "KernelGym") ∈ lw_all := lw_g (lw_at lw_m1 1 rfl) rfl
theorem q184 : (Jvm.Cond.instantiable "KernelGym" (6 : Nat)) ∈ lw_all := lw_g (lw_at lw_m1 67 rfl) rfl
theorem q186 : (Jvm.Cond.instanceMethod ({ cls := "KernelGym", name := "<init>", desc := "()V" } : Jvm.MethodName)) ∈ lw_all := lw_g (lw_at lw_m1 69 rfl) rfl
theorem q187 : (Jvm.Cond.code ({ cls := "KernelGym", name := "<init>", desc := "()V" } : Jvm.MethodName) prog_1_method_3_code (1 : Nat) (Option.none : Option Jvm.ClassFile.FieldType)) ∈ lw_all := lw_g (lw_at lw_m1 70 rfl) rfl
theorem q188 : (Jvm.Cond.methodLink "KernelGym" (7 : Nat) ({ cls := "java/lang/Object", name := "<init>", desc := "()V" } : Jvm.MethodName)) ∈ lw_all := lw_g (lw_at lw_m1 71 rfl) rfl
theorem q191 : (Jvm.Cond.classLink "KernelGym" (12 : Nat) "java/util/ArrayList") ∈ lw_all := lw_g (lw_at lw_m1 74 rfl) rfl
theorem q193 : (Jvm.Cond.methodLink "KernelGym" (14 : Nat) ({ cls := "java/util/ArrayList", name := "<init>", desc := "()V" } : Jvm.MethodName)) ∈ lw_all := lw_g (lw_at lw_m1 76 rfl) rfl
theorem q227 : (Jvm.Cond.classLink "KernelGym" (21 : Nat) "KernelGym$Machine") ∈ lw_all := lw_g (lw_at lw_m1 110 rfl) rfl
theorem q229 : (Jvm.Cond.methodLink "KernelGym" (23 : Nat) ({ cls := "KernelGym$Machine", name := "<init>", desc := "(Z)V" } : Jvm.MethodName)) ∈ lw_all := lw_g (lw_at lw_m1 112 rfl) rfl
theorem q285 : (Jvm.Cond.fieldLinkNest "KernelGym" (170 : Nat) "KernelGym$Machine" "cells" "[I" "KernelGym") ∈ lw_tbl := lw_at lw_m1 168 rfl
theorem q287 : (Jvm.Cond.fieldLinkNest "KernelGym" (177 : Nat) "KernelGym$Machine" "keys" "Ljava/util/LinkedList;" "KernelGym") ∈ lw_tbl := lw_at lw_m1 170 rfl
theorem q289 : (Jvm.Cond.fieldLinkNest "KernelGym" (185 : Nat) "KernelGym$Machine" "kept" "Ljava/util/ArrayDeque;" "KernelGym") ∈ lw_tbl := lw_at lw_m1 172 rfl
theorem q318 : (Jvm.Cond.classLink "KernelGym" (33 : Nat) "java/util/LinkedList") ∈ lw_all := lw_g (lw_at lw_m1 201 rfl) rfl
theorem q319 : (Jvm.Cond.methodLink "KernelGym" (35 : Nat) ({ cls := "java/util/LinkedList", name := "<init>", desc := "()V" } : Jvm.MethodName)) ∈ lw_all := lw_g (lw_at lw_m1 202 rfl) rfl
theorem q321 : (Jvm.Cond.fieldLink "KernelGym" (15 : Nat) "KernelGym" "lines" "Ljava/util/List;") ∈ lw_all := lw_g (lw_at lw_m1 204 rfl) rfl
theorem q323 : (Jvm.Cond.fieldLink "KernelGym" (26 : Nat) "KernelGym" "machine" "LKernelGym$Machine;") ∈ lw_all := lw_g (lw_at lw_m1 206 rfl) rfl
theorem q324 : (Jvm.Cond.fieldLink "KernelGym" (30 : Nat) "KernelGym" "tests" "Ljava/util/List;") ∈ lw_all := lw_g (lw_at lw_m1 207 rfl) rfl
theorem q325 : (Jvm.Cond.fieldLink "KernelGym" (36 : Nat) "KernelGym" "draftKeys" "Ljava/util/LinkedList;") ∈ lw_all := lw_g (lw_at lw_m1 208 rfl) rfl
theorem q326 : (Jvm.Cond.fieldLink "KernelGym" (40 : Nat) "KernelGym" "draftWords" "Ljava/util/LinkedList;") ∈ lw_all := lw_g (lw_at lw_m1 209 rfl) rfl
theorem q327 : (Jvm.Cond.fieldLink "KernelGym" (139 : Nat) "KernelGym" "image" "[I") ∈ lw_all := lw_g (lw_at lw_m1 210 rfl) rfl
theorem q328 : (Jvm.Cond.laysFinal "KernelGym" "KernelGym" "lines" "Ljava/util/List;") ∈ lw_all := lw_g (lw_at lw_m1 211 rfl) rfl
theorem q329 : (Jvm.Cond.soleField "KernelGym" "lines") ∈ lw_all := lw_g (lw_at lw_m1 212 rfl) rfl
theorem q330 : (Jvm.Cond.laysFinal "KernelGym" "KernelGym" "machine" "LKernelGym$Machine;") ∈ lw_all := lw_g (lw_at lw_m1 213 rfl) rfl
theorem q331 : (Jvm.Cond.soleField "KernelGym" "machine") ∈ lw_all := lw_g (lw_at lw_m1 214 rfl) rfl
theorem q332 : (Jvm.Cond.laysFinal "KernelGym" "KernelGym" "tests" "Ljava/util/List;") ∈ lw_all := lw_g (lw_at lw_m1 215 rfl) rfl
theorem q333 : (Jvm.Cond.soleField "KernelGym" "tests") ∈ lw_all := lw_g (lw_at lw_m1 216 rfl) rfl
theorem q334 : (Jvm.Cond.laysFinal "KernelGym" "KernelGym" "draftKeys" "Ljava/util/LinkedList;") ∈ lw_all := lw_g (lw_at lw_m1 217 rfl) rfl
theorem q335 : (Jvm.Cond.soleField "KernelGym" "draftKeys") ∈ lw_all := lw_g (lw_at lw_m1 218 rfl) rfl
theorem q336 : (Jvm.Cond.laysFinal "KernelGym" "KernelGym" "draftWords" "Ljava/util/LinkedList;") ∈ lw_all := lw_g (lw_at lw_m1 219 rfl) rfl
theorem q337 : (Jvm.Cond.soleField "KernelGym" "draftWords") ∈ lw_all := lw_g (lw_at lw_m1 220 rfl) rfl
theorem q338 : (Jvm.Cond.lays "KernelGym" "KernelGym" "image" "[I") ∈ lw_all := lw_g (lw_at lw_m1 221 rfl) rfl
theorem q339 : (Jvm.Cond.soleField "KernelGym" "image") ∈ lw_all := lw_g (lw_at lw_m1 222 rfl) rfl
theorem q340 : (Jvm.Cond.superclass "KernelGym" "java/lang/Object") ∈ lw_all := lw_g (lw_at lw_m1 223 rfl) rfl
theorem q342 : (Jvm.Cond.instanceMethod ({ cls := "KernelGym", name := "clear", desc := "()I" } : Jvm.MethodName)) ∈ lw_all := lw_g (lw_at lw_m1 225 rfl) rfl
theorem q343 : (Jvm.Cond.selects "KernelGym" ({ cls := "KernelGym", name := "clear", desc := "()I" } : Jvm.MethodName) ({ cls := "KernelGym", name := "clear", desc := "()I" } : Jvm.MethodName)) ∈ lw_all := lw_g (lw_at lw_m1 226 rfl) rfl
theorem q344 : (Jvm.Cond.code ({ cls := "KernelGym", name := "clear", desc := "()I" } : Jvm.MethodName) prog_1_method_8_code (2 : Nat) (Option.some Jvm.ClassFile.FieldType.int)) ∈ lw_all := lw_g (lw_at lw_m1 227 rfl) rfl
theorem q345 : (Jvm.Cond.interfaceEntry "KernelGym" (63 : Nat)) ∈ lw_tbl := lw_at lw_m1 228 rfl
theorem q346 : (Jvm.Cond.methodLink "KernelGym" (63 : Nat) ({ cls := "java/util/List", name := "size", desc := "()I" } : Jvm.MethodName)) ∈ lw_all := lw_g (lw_at lw_m1 229 rfl) rfl
theorem q361 : (Jvm.Cond.interfaceEntry "KernelGym" (76 : Nat)) ∈ lw_tbl := lw_at lw_m2 4 rfl
theorem q362 : (Jvm.Cond.methodLink "KernelGym" (76 : Nat) ({ cls := "java/util/List", name := "clear", desc := "()V" } : Jvm.MethodName)) ∈ lw_all := lw_g (lw_at lw_m2 5 rfl) rfl
theorem q376 : (Jvm.Cond.instanceMethod ({ cls := "KernelGym", name := "lines", desc := "()I" } : Jvm.MethodName)) ∈ lw_all := lw_g (lw_at lw_m2 19 rfl) rfl
theorem q377 : (Jvm.Cond.selects "KernelGym" ({ cls := "KernelGym", name := "lines", desc := "()I" } : Jvm.MethodName) ({ cls := "KernelGym", name := "lines", desc := "()I" } : Jvm.MethodName)) ∈ lw_all := lw_g (lw_at lw_m2 20 rfl) rfl
theorem q378 : (Jvm.Cond.code ({ cls := "KernelGym", name := "lines", desc := "()I" } : Jvm.MethodName) prog_1_method_9_code (1 : Nat) (Option.some Jvm.ClassFile.FieldType.int)) ∈ lw_all := lw_g (lw_at lw_m2 21 rfl) rfl
theorem q380 : (Jvm.Cond.instanceMethod ({ cls := "KernelGym", name := "error", desc := "()I" } : Jvm.MethodName)) ∈ lw_all := lw_g (lw_at lw_m2 23 rfl) rfl
theorem q381 : (Jvm.Cond.selects "KernelGym" ({ cls := "KernelGym", name := "error", desc := "()I" } : Jvm.MethodName) ({ cls := "KernelGym", name := "error", desc := "()I" } : Jvm.MethodName)) ∈ lw_all := lw_g (lw_at lw_m2 24 rfl) rfl
theorem q382 : (Jvm.Cond.codeWith ({ cls := "KernelGym", name := "error", desc := "()I" } : Jvm.MethodName) prog_1_method_19_code (2 : Nat) (Option.some Jvm.ClassFile.FieldType.int) [((0 : Nat), (19 : Nat), (20 : Nat), (1 : Nat))]) ∈ lw_all := lw_g (lw_at lw_m2 25 rfl) rfl
theorem q383 : (Jvm.Cond.classLink "KernelGym" (1 : Nat) "KernelGym$Wrong") ∈ lw_all := lw_g (lw_at lw_m2 26 rfl) rfl
theorem q384 : (Jvm.Cond.classLink "KernelGym" (125 : Nat) "KernelGym$Assembly") ∈ lw_all := lw_g (lw_at lw_m2 27 rfl) rfl
theorem q386 : (Jvm.Cond.methodLink "KernelGym" (127 : Nat) ({ cls := "KernelGym$Assembly", name := "<init>", desc := "(LKernelGym;)V" } : Jvm.MethodName)) ∈ lw_all := lw_g (lw_at lw_m2 29 rfl) rfl
theorem q474 : (Jvm.Cond.static ({ cls := "KernelGym", name := "check", desc := "(ZII)V" } : Jvm.MethodName)) ∈ lw_all := lw_g (lw_at lw_m2 117 rfl) rfl
theorem q475 : (Jvm.Cond.code ({ cls := "KernelGym", name := "check", desc := "(ZII)V" } : Jvm.MethodName) prog_1_method_1_code (3 : Nat) (Option.none : Option Jvm.ClassFile.FieldType)) ∈ lw_all := lw_g (lw_at lw_m2 118 rfl) rfl
theorem q522 : (Jvm.Cond.methodLink "KernelGym" (3 : Nat) ({ cls := "KernelGym$Wrong", name := "<init>", desc := "(II)V" } : Jvm.MethodName)) ∈ lw_all := lw_g (lw_at lw_m2 165 rfl) rfl
theorem q930 : (Jvm.Cond.static ({ cls := "KernelGym", name := "cut", desc := "(J)I" } : Jvm.MethodName)) ∈ lw_all := lw_g (lw_at lw_m4 93 rfl) rfl
theorem q931 : (Jvm.Cond.code ({ cls := "KernelGym", name := "cut", desc := "(J)I" } : Jvm.MethodName) prog_1_method_2_code (2 : Nat) (Option.some Jvm.ClassFile.FieldType.int)) ∈ lw_all := lw_g (lw_at lw_m4 94 rfl) rfl
theorem q1046 : (Jvm.Cond.selects "KernelGym" ({ cls := "java/lang/Object", name := "getClass", desc := "()Ljava/lang/Class;" } : Jvm.MethodName) ({ cls := "java/lang/Object", name := "getClass", desc := "()Ljava/lang/Class;" } : Jvm.MethodName)) ∈ lw_all := lw_g (lw_at lw_m4 209 rfl) rfl
theorem q1165 : (Jvm.Cond.fieldLinkNest "KernelGym" (135 : Nat) "KernelGym$Assembly" "made" "[I" "KernelGym") ∈ lw_tbl := lw_at lw_m5 88 rfl
theorem q1169 : (Jvm.Cond.fieldLinkNest "KernelGym" (128 : Nat) "KernelGym$Assembly" "words" "I" "KernelGym") ∈ lw_tbl := lw_at lw_m5 92 rfl
theorem q1188 : (Jvm.Cond.methodLink "KernelGym" (132 : Nat) ({ cls := "KernelGym$Wrong", name := "told", desc := "()I" } : Jvm.MethodName)) ∈ lw_all := lw_g (lw_at lw_m5 111 rfl) rfl
theorem q1193 : (Jvm.Cond.instanceMethod ({ cls := "KernelGym", name := "state", desc := "()I" } : Jvm.MethodName)) ∈ lw_all := lw_g (lw_at lw_m5 116 rfl) rfl
theorem q1194 : (Jvm.Cond.selects "KernelGym" ({ cls := "KernelGym", name := "state", desc := "()I" } : Jvm.MethodName) ({ cls := "KernelGym", name := "state", desc := "()I" } : Jvm.MethodName)) ∈ lw_all := lw_g (lw_at lw_m5 117 rfl) rfl
theorem q1195 : (Jvm.Cond.code ({ cls := "KernelGym", name := "state", desc := "()I" } : Jvm.MethodName) prog_1_method_29_code (1 : Nat) (Option.some Jvm.ClassFile.FieldType.int)) ∈ lw_all := lw_g (lw_at lw_m5 118 rfl) rfl
theorem q1197 : (Jvm.Cond.instanceMethod ({ cls := "KernelGym", name := "fault", desc := "()I" } : Jvm.MethodName)) ∈ lw_all := lw_g (lw_at lw_m5 120 rfl) rfl
theorem q1198 : (Jvm.Cond.selects "KernelGym" ({ cls := "KernelGym", name := "fault", desc := "()I" } : Jvm.MethodName) ({ cls := "KernelGym", name := "fault", desc := "()I" } : Jvm.MethodName)) ∈ lw_all := lw_g (lw_at lw_m5 121 rfl) rfl
theorem q1199 : (Jvm.Cond.code ({ cls := "KernelGym", name := "fault", desc := "()I" } : Jvm.MethodName) prog_1_method_30_code (1 : Nat) (Option.some Jvm.ClassFile.FieldType.int)) ∈ lw_all := lw_g (lw_at lw_m5 122 rfl) rfl
theorem q1201 : (Jvm.Cond.instanceMethod ({ cls := "KernelGym", name := "steps", desc := "()I" } : Jvm.MethodName)) ∈ lw_all := lw_g (lw_at lw_m5 124 rfl) rfl
theorem q1202 : (Jvm.Cond.selects "KernelGym" ({ cls := "KernelGym", name := "steps", desc := "()I" } : Jvm.MethodName) ({ cls := "KernelGym", name := "steps", desc := "()I" } : Jvm.MethodName)) ∈ lw_all := lw_g (lw_at lw_m5 125 rfl) rfl
theorem q1203 : (Jvm.Cond.code ({ cls := "KernelGym", name := "steps", desc := "()I" } : Jvm.MethodName) prog_1_method_31_code (1 : Nat) (Option.some Jvm.ClassFile.FieldType.int)) ∈ lw_all := lw_g (lw_at lw_m5 126 rfl) rfl
theorem q1205 : (Jvm.Cond.instanceMethod ({ cls := "KernelGym", name := "kept", desc := "()I" } : Jvm.MethodName)) ∈ lw_all := lw_g (lw_at lw_m5 128 rfl) rfl
theorem q1206 : (Jvm.Cond.selects "KernelGym" ({ cls := "KernelGym", name := "kept", desc := "()I" } : Jvm.MethodName) ({ cls := "KernelGym", name := "kept", desc := "()I" } : Jvm.MethodName)) ∈ lw_all := lw_g (lw_at lw_m5 129 rfl) rfl
theorem q1207 : (Jvm.Cond.code ({ cls := "KernelGym", name := "kept", desc := "()I" } : Jvm.MethodName) prog_1_method_32_code (1 : Nat) (Option.some Jvm.ClassFile.FieldType.int)) ∈ lw_all := lw_g (lw_at lw_m5 130 rfl) rfl
theorem q1208 : (Jvm.Cond.methodLink "KernelGym" (189 : Nat) ({ cls := "java/util/ArrayDeque", name := "size", desc := "()I" } : Jvm.MethodName)) ∈ lw_all := lw_g (lw_at lw_m5 131 rfl) rfl
theorem q1216 : (Jvm.Cond.instanceMethod ({ cls := "KernelGym", name := "counter", desc := "()I" } : Jvm.MethodName)) ∈ lw_all := lw_g (lw_at lw_m5 139 rfl) rfl
theorem q1217 : (Jvm.Cond.selects "KernelGym" ({ cls := "KernelGym", name := "counter", desc := "()I" } : Jvm.MethodName) ({ cls := "KernelGym", name := "counter", desc := "()I" } : Jvm.MethodName)) ∈ lw_all := lw_g (lw_at lw_m5 140 rfl) rfl
theorem q1218 : (Jvm.Cond.code ({ cls := "KernelGym", name := "counter", desc := "()I" } : Jvm.MethodName) prog_1_method_33_code (1 : Nat) (Option.some Jvm.ClassFile.FieldType.int)) ∈ lw_all := lw_g (lw_at lw_m5 141 rfl) rfl
theorem q1220 : (Jvm.Cond.instanceMethod ({ cls := "KernelGym", name := "stack", desc := "()I" } : Jvm.MethodName)) ∈ lw_all := lw_g (lw_at lw_m5 143 rfl) rfl
theorem q1221 : (Jvm.Cond.selects "KernelGym" ({ cls := "KernelGym", name := "stack", desc := "()I" } : Jvm.MethodName) ({ cls := "KernelGym", name := "stack", desc := "()I" } : Jvm.MethodName)) ∈ lw_all := lw_g (lw_at lw_m5 144 rfl) rfl
theorem q1222 : (Jvm.Cond.code ({ cls := "KernelGym", name := "stack", desc := "()I" } : Jvm.MethodName) prog_1_method_34_code (1 : Nat) (Option.some Jvm.ClassFile.FieldType.int)) ∈ lw_all := lw_g (lw_at lw_m5 145 rfl) rfl
theorem q1224 : (Jvm.Cond.instanceMethod ({ cls := "KernelGym", name := "flags", desc := "()I" } : Jvm.MethodName)) ∈ lw_all := lw_g (lw_at lw_m5 147 rfl) rfl
theorem q1225 : (Jvm.Cond.selects "KernelGym" ({ cls := "KernelGym", name := "flags", desc := "()I" } : Jvm.MethodName) ({ cls := "KernelGym", name := "flags", desc := "()I" } : Jvm.MethodName)) ∈ lw_all := lw_g (lw_at lw_m5 148 rfl) rfl
theorem q1226 : (Jvm.Cond.code ({ cls := "KernelGym", name := "flags", desc := "()I" } : Jvm.MethodName) prog_1_method_35_code (1 : Nat) (Option.some Jvm.ClassFile.FieldType.int)) ∈ lw_all := lw_g (lw_at lw_m5 149 rfl) rfl
theorem q1227 : (Jvm.Cond.methodLink "KernelGym" (192 : Nat) ({ cls := "KernelGym$Machine", name := "flags", desc := "()I" } : Jvm.MethodName)) ∈ lw_all := lw_g (lw_at lw_m5 150 rfl) rfl
theorem q1232 : (Jvm.Cond.instanceMethod ({ cls := "KernelGym", name := "writesLeft", desc := "()I" } : Jvm.MethodName)) ∈ lw_all := lw_g (lw_at lw_m5 155 rfl) rfl
theorem q1233 : (Jvm.Cond.selects "KernelGym" ({ cls := "KernelGym", name := "writesLeft", desc := "()I" } : Jvm.MethodName) ({ cls := "KernelGym", name := "writesLeft", desc := "()I" } : Jvm.MethodName)) ∈ lw_all := lw_g (lw_at lw_m5 156 rfl) rfl
theorem q1234 : (Jvm.Cond.code ({ cls := "KernelGym", name := "writesLeft", desc := "()I" } : Jvm.MethodName) prog_1_method_36_code (1 : Nat) (Option.some Jvm.ClassFile.FieldType.int)) ∈ lw_all := lw_g (lw_at lw_m5 157 rfl) rfl
theorem q1235 : (Jvm.Cond.methodLink "KernelGym" (195 : Nat) ({ cls := "KernelGym$Machine", name := "writesLeft", desc := "()I" } : Jvm.MethodName)) ∈ lw_all := lw_g (lw_at lw_m5 158 rfl) rfl
theorem q1240 : (Jvm.Cond.instanceMethod ({ cls := "KernelGym", name := "tape", desc := "()I" } : Jvm.MethodName)) ∈ lw_all := lw_g (lw_at lw_m5 163 rfl) rfl
theorem q1241 : (Jvm.Cond.selects "KernelGym" ({ cls := "KernelGym", name := "tape", desc := "()I" } : Jvm.MethodName) ({ cls := "KernelGym", name := "tape", desc := "()I" } : Jvm.MethodName)) ∈ lw_all := lw_g (lw_at lw_m5 164 rfl) rfl
theorem q1242 : (Jvm.Cond.code ({ cls := "KernelGym", name := "tape", desc := "()I" } : Jvm.MethodName) prog_1_method_40_code (1 : Nat) (Option.some Jvm.ClassFile.FieldType.int)) ∈ lw_all := lw_g (lw_at lw_m5 165 rfl) rfl
theorem q1244 : (Jvm.Cond.instanceMethod ({ cls := "KernelGym", name := "sum", desc := "()I" } : Jvm.MethodName)) ∈ lw_all := lw_g (lw_at lw_m5 167 rfl) rfl
theorem q1245 : (Jvm.Cond.selects "KernelGym" ({ cls := "KernelGym", name := "sum", desc := "()I" } : Jvm.MethodName) ({ cls := "KernelGym", name := "sum", desc := "()I" } : Jvm.MethodName)) ∈ lw_all := lw_g (lw_at lw_m5 168 rfl) rfl
theorem q1246 : (Jvm.Cond.code ({ cls := "KernelGym", name := "sum", desc := "()I" } : Jvm.MethodName) prog_1_method_42_code (1 : Nat) (Option.some Jvm.ClassFile.FieldType.int)) ∈ lw_all := lw_g (lw_at lw_m5 169 rfl) rfl
theorem q1247 : (Jvm.Cond.methodLink "KernelGym" (206 : Nat) ({ cls := "KernelGym$Machine", name := "sum", desc := "()I" } : Jvm.MethodName)) ∈ lw_all := lw_g (lw_at lw_m5 170 rfl) rfl
theorem q1262 : (Jvm.Cond.instanceMethod ({ cls := "KernelGym", name := "written", desc := "()I" } : Jvm.MethodName)) ∈ lw_all := lw_g (lw_at lw_m5 185 rfl) rfl
theorem q1263 : (Jvm.Cond.selects "KernelGym" ({ cls := "KernelGym", name := "written", desc := "()I" } : Jvm.MethodName) ({ cls := "KernelGym", name := "written", desc := "()I" } : Jvm.MethodName)) ∈ lw_all := lw_g (lw_at lw_m5 186 rfl) rfl
theorem q1264 : (Jvm.Cond.code ({ cls := "KernelGym", name := "written", desc := "()I" } : Jvm.MethodName) prog_1_method_44_code (1 : Nat) (Option.some Jvm.ClassFile.FieldType.int)) ∈ lw_all := lw_g (lw_at lw_m5 187 rfl) rfl
theorem q1266 : (Jvm.Cond.instanceMethod ({ cls := "KernelGym", name := "files", desc := "()I" } : Jvm.MethodName)) ∈ lw_all := lw_g (lw_at lw_m5 189 rfl) rfl
theorem q1267 : (Jvm.Cond.selects "KernelGym" ({ cls := "KernelGym", name := "files", desc := "()I" } : Jvm.MethodName) ({ cls := "KernelGym", name := "files", desc := "()I" } : Jvm.MethodName)) ∈ lw_all := lw_g (lw_at lw_m5 190 rfl) rfl
theorem q1268 : (Jvm.Cond.code ({ cls := "KernelGym", name := "files", desc := "()I" } : Jvm.MethodName) prog_1_method_46_code (3 : Nat) (Option.some Jvm.ClassFile.FieldType.int)) ∈ lw_all := lw_g (lw_at lw_m5 191 rfl) rfl
theorem q1269 : (Jvm.Cond.methodLinkNest "KernelGym" (212 : Nat) ({ cls := "KernelGym$Machine", name := "entry", desc := "(II)I" } : Jvm.MethodName) "KernelGym") ∈ lw_tbl := lw_at lw_m5 192 rfl
theorem q1274 : (Jvm.Cond.instanceMethod ({ cls := "KernelGym", name := "freeBlocks", desc := "()I" } : Jvm.MethodName)) ∈ lw_all := lw_g (lw_at lw_m5 197 rfl) rfl
theorem q1275 : (Jvm.Cond.selects "KernelGym" ({ cls := "KernelGym", name := "freeBlocks", desc := "()I" } : Jvm.MethodName) ({ cls := "KernelGym", name := "freeBlocks", desc := "()I" } : Jvm.MethodName)) ∈ lw_all := lw_g (lw_at lw_m5 198 rfl) rfl
theorem q1276 : (Jvm.Cond.code ({ cls := "KernelGym", name := "freeBlocks", desc := "()I" } : Jvm.MethodName) prog_1_method_50_code (3 : Nat) (Option.some Jvm.ClassFile.FieldType.int)) ∈ lw_all := lw_g (lw_at lw_m5 199 rfl) rfl
theorem q1277 : (Jvm.Cond.methodLinkNest "KernelGym" (232 : Nat) ({ cls := "KernelGym$Machine", name := "isUsed", desc := "(I)Z" } : Jvm.MethodName) "KernelGym") ∈ lw_tbl := lw_at lw_m5 200 rfl
theorem q1282 : (Jvm.Cond.instanceMethod ({ cls := "KernelGym", name := "isWhole", desc := "()Z" } : Jvm.MethodName)) ∈ lw_all := lw_g (lw_at lw_m5 205 rfl) rfl
theorem q1283 : (Jvm.Cond.selects "KernelGym" ({ cls := "KernelGym", name := "isWhole", desc := "()Z" } : Jvm.MethodName) ({ cls := "KernelGym", name := "isWhole", desc := "()Z" } : Jvm.MethodName)) ∈ lw_all := lw_g (lw_at lw_m5 206 rfl) rfl
theorem q1284 : (Jvm.Cond.code ({ cls := "KernelGym", name := "isWhole", desc := "()Z" } : Jvm.MethodName) prog_1_method_51_code (1 : Nat) (Option.some Jvm.ClassFile.FieldType.boolean)) ∈ lw_all := lw_g (lw_at lw_m5 207 rfl) rfl
theorem q1285 : (Jvm.Cond.methodLink "KernelGym" (236 : Nat) ({ cls := "KernelGym$Machine", name := "isWhole", desc := "()Z" } : Jvm.MethodName)) ∈ lw_all := lw_g (lw_at lw_m5 208 rfl) rfl
theorem q1371 : (Jvm.Cond.instanceMethod ({ cls := "KernelGym", name := "tests", desc := "()I" } : Jvm.MethodName)) ∈ lw_all := lw_g (lw_at lw_m6 54 rfl) rfl
theorem q1372 : (Jvm.Cond.selects "KernelGym" ({ cls := "KernelGym", name := "tests", desc := "()I" } : Jvm.MethodName) ({ cls := "KernelGym", name := "tests", desc := "()I" } : Jvm.MethodName)) ∈ lw_all := lw_g (lw_at lw_m6 55 rfl) rfl
theorem q1373 : (Jvm.Cond.code ({ cls := "KernelGym", name := "tests", desc := "()I" } : Jvm.MethodName) prog_1_method_57_code (1 : Nat) (Option.some Jvm.ClassFile.FieldType.int)) ∈ lw_all := lw_g (lw_at lw_m6 56 rfl) rfl
theorem q1375 : (Jvm.Cond.instanceMethod ({ cls := "KernelGym", name := "mark", desc := "()I" } : Jvm.MethodName)) ∈ lw_all := lw_g (lw_at lw_m6 58 rfl) rfl
theorem q1376 : (Jvm.Cond.selects "KernelGym" ({ cls := "KernelGym", name := "mark", desc := "()I" } : Jvm.MethodName) ({ cls := "KernelGym", name := "mark", desc := "()I" } : Jvm.MethodName)) ∈ lw_all := lw_g (lw_at lw_m6 59 rfl) rfl
theorem q1377 : (Jvm.Cond.code ({ cls := "KernelGym", name := "mark", desc := "()I" } : Jvm.MethodName) prog_1_method_60_code (4 : Nat) (Option.some Jvm.ClassFile.FieldType.int)) ∈ lw_all := lw_g (lw_at lw_m6 60 rfl) rfl
theorem q1378 : (Jvm.Cond.interfaceEntry "KernelGym" (269 : Nat)) ∈ lw_tbl := lw_at lw_m6 61 rfl
theorem q1379 : (Jvm.Cond.methodLink "KernelGym" (269 : Nat) ({ cls := "java/util/List", name := "iterator", desc := "()Ljava/util/Iterator;" } : Jvm.MethodName)) ∈ lw_all := lw_g (lw_at lw_m6 62 rfl) rfl
theorem q1495 : (Jvm.Cond.interfaceEntry "KernelGym" (273 : Nat)) ∈ lw_tbl := lw_at lw_m6 178 rfl
theorem q1496 : (Jvm.Cond.methodLink "KernelGym" (273 : Nat) ({ cls := "java/util/Iterator", name := "hasNext", desc := "()Z" } : Jvm.MethodName)) ∈ lw_all := lw_g (lw_at lw_m6 179 rfl) rfl
theorem q1531 : (Jvm.Cond.interfaceEntry "KernelGym" (278 : Nat)) ∈ lw_tbl := lw_at lw_m6 214 rfl
theorem q1532 : (Jvm.Cond.methodLink "KernelGym" (278 : Nat) ({ cls := "java/util/Iterator", name := "next", desc := "()Ljava/lang/Object;" } : Jvm.MethodName)) ∈ lw_all := lw_g (lw_at lw_m6 215 rfl) rfl
theorem q1673 : (Jvm.Cond.classLink "KernelGym" (260 : Nat) "KernelGym$Test") ∈ lw_all := lw_g (lw_at lw_m7 116 rfl) rfl
theorem q1674 : (Jvm.Cond.methodLink "KernelGym" (293 : Nat) ({ cls := "KernelGym$Test", name := "worth", desc := "()I" } : Jvm.MethodName)) ∈ lw_all := lw_g (lw_at lw_m7 117 rfl) rfl
theorem q1678 : (Jvm.Cond.methodLink "KernelGym" (296 : Nat) ({ cls := "java/lang/Math", name := "max", desc := "(II)I" } : Jvm.MethodName)) ∈ lw_all := lw_g (lw_at lw_m7 121 rfl) rfl
theorem q1685 : (Jvm.Cond.instanceMethod ({ cls := "KernelGym", name := "section", desc := "(I)I" } : Jvm.MethodName)) ∈ lw_all := lw_g (lw_at lw_m7 128 rfl) rfl
theorem q1686 : (Jvm.Cond.selects "KernelGym" ({ cls := "KernelGym", name := "section", desc := "(I)I" } : Jvm.MethodName) ({ cls := "KernelGym", name := "section", desc := "(I)I" } : Jvm.MethodName)) ∈ lw_all := lw_g (lw_at lw_m7 129 rfl) rfl
theorem q1687 : (Jvm.Cond.code ({ cls := "KernelGym", name := "section", desc := "(I)I" } : Jvm.MethodName) prog_1_method_10_code (2 : Nat) (Option.some Jvm.ClassFile.FieldType.int)) ∈ lw_all := lw_g (lw_at lw_m7 130 rfl) rfl
theorem q1688 : (Jvm.Cond.methodLink "KernelGym" (55 : Nat) ({ cls := "KernelGym", name := "in", desc := "(III)I" } : Jvm.MethodName)) ∈ lw_all := lw_g (lw_at lw_m7 131 rfl) rfl
theorem q1689 : (Jvm.Cond.static ({ cls := "KernelGym", name := "in", desc := "(III)I" } : Jvm.MethodName)) ∈ lw_all := lw_g (lw_at lw_m7 132 rfl) rfl
theorem q1690 : (Jvm.Cond.code ({ cls := "KernelGym", name := "in", desc := "(III)I" } : Jvm.MethodName) prog_1_method_4_code (3 : Nat) (Option.some Jvm.ClassFile.FieldType.int)) ∈ lw_all := lw_g (lw_at lw_m7 133 rfl) rfl
theorem q1691 : (Jvm.Cond.classLink "KernelGym" (43 : Nat) "java/lang/IllegalArgumentException") ∈ lw_all := lw_g (lw_at lw_m7 134 rfl) rfl
theorem q1692 : (Jvm.Cond.stringRef "KernelGym" (45 : Nat) "out of range") ∈ lw_tbl := lw_at lw_m7 135 rfl
theorem q1693 : (Jvm.Cond.methodLink "KernelGym" (47 : Nat) ({ cls := "java/lang/IllegalArgumentException", name := "<init>", desc := "(Ljava/lang/String;)V" } : Jvm.MethodName)) ∈ lw_all := lw_g (lw_at lw_m7 136 rfl) rfl
theorem q1694 : (Jvm.Cond.classLink "KernelGym" (79 : Nat) "KernelGym$1") ∈ lw_all := lw_g (lw_at lw_m7 137 rfl) rfl
theorem q1696 : (Jvm.Cond.methodLink "KernelGym" (81 : Nat) ({ cls := "KernelGym$1", name := "<init>", desc := "(LKernelGym;I)V" } : Jvm.MethodName)) ∈ lw_all := lw_g (lw_at lw_m7 139 rfl) rfl
theorem q1710 : (Jvm.Cond.methodLink "KernelGym" (84 : Nat) ({ cls := "KernelGym", name := "add", desc := "(LKernelGym$Line;)I" } : Jvm.MethodName)) ∈ lw_all := lw_g (lw_at lw_m7 153 rfl) rfl
theorem q1711 : (Jvm.Cond.privateMethod ({ cls := "KernelGym", name := "add", desc := "(LKernelGym$Line;)I" } : Jvm.MethodName)) ∈ lw_tbl := lw_at lw_m7 154 rfl
theorem q1712 : (Jvm.Cond.instanceMethod ({ cls := "KernelGym", name := "add", desc := "(LKernelGym$Line;)I" } : Jvm.MethodName)) ∈ lw_all := lw_g (lw_at lw_m7 155 rfl) rfl
theorem q1713 : (Jvm.Cond.code ({ cls := "KernelGym", name := "add", desc := "(LKernelGym$Line;)I" } : Jvm.MethodName) prog_1_method_7_code (2 : Nat) (Option.some Jvm.ClassFile.FieldType.int)) ∈ lw_all := lw_g (lw_at lw_m7 156 rfl) rfl
theorem q1714 : (Jvm.Cond.methodLink "KernelGym" (69 : Nat) ({ cls := "KernelGym", name := "must", desc := "(Z)V" } : Jvm.MethodName)) ∈ lw_all := lw_g (lw_at lw_m7 157 rfl) rfl
theorem q1715 : (Jvm.Cond.static ({ cls := "KernelGym", name := "must", desc := "(Z)V" } : Jvm.MethodName)) ∈ lw_all := lw_g (lw_at lw_m7 158 rfl) rfl
theorem q1716 : (Jvm.Cond.code ({ cls := "KernelGym", name := "must", desc := "(Z)V" } : Jvm.MethodName) prog_1_method_5_code (1 : Nat) (Option.none : Option Jvm.ClassFile.FieldType)) ∈ lw_all := lw_g (lw_at lw_m7 159 rfl) rfl
theorem q1717 : (Jvm.Cond.classLink "KernelGym" (50 : Nat) "java/lang/IllegalStateException") ∈ lw_all := lw_g (lw_at lw_m7 160 rfl) rfl
theorem q1726 : (Jvm.Cond.stringRef "KernelGym" (52 : Nat) "not now") ∈ lw_tbl := lw_at lw_m7 169 rfl
theorem q1727 : (Jvm.Cond.methodLink "KernelGym" (54 : Nat) ({ cls := "java/lang/IllegalStateException", name := "<init>", desc := "(Ljava/lang/String;)V" } : Jvm.MethodName)) ∈ lw_all := lw_g (lw_at lw_m7 170 rfl) rfl
theorem q1733 : (Jvm.Cond.interfaceEntry "KernelGym" (72 : Nat)) ∈ lw_tbl := lw_at lw_m7 176 rfl
theorem q1734 : (Jvm.Cond.methodLink "KernelGym" (72 : Nat) ({ cls := "java/util/List", name := "add", desc := "(Ljava/lang/Object;)Z" } : Jvm.MethodName)) ∈ lw_all := lw_g (lw_at lw_m7 177 rfl) rfl
theorem q1739 : (Jvm.Cond.instanceMethod ({ cls := "KernelGym", name := "label", desc := "(I)I" } : Jvm.MethodName)) ∈ lw_all := lw_g (lw_at lw_m7 182 rfl) rfl
theorem q1740 : (Jvm.Cond.selects "KernelGym" ({ cls := "KernelGym", name := "label", desc := "(I)I" } : Jvm.MethodName) ({ cls := "KernelGym", name := "label", desc := "(I)I" } : Jvm.MethodName)) ∈ lw_all := lw_g (lw_at lw_m7 183 rfl) rfl
theorem q1741 : (Jvm.Cond.code ({ cls := "KernelGym", name := "label", desc := "(I)I" } : Jvm.MethodName) prog_1_method_11_code (2 : Nat) (Option.some Jvm.ClassFile.FieldType.int)) ∈ lw_all := lw_g (lw_at lw_m7 184 rfl) rfl
theorem q1742 : (Jvm.Cond.classLink "KernelGym" (87 : Nat) "KernelGym$2") ∈ lw_all := lw_g (lw_at lw_m7 185 rfl) rfl
theorem q1744 : (Jvm.Cond.methodLink "KernelGym" (89 : Nat) ({ cls := "KernelGym$2", name := "<init>", desc := "(LKernelGym;I)V" } : Jvm.MethodName)) ∈ lw_all := lw_g (lw_at lw_m7 187 rfl) rfl
theorem q1759 : (Jvm.Cond.instanceMethod ({ cls := "KernelGym", name := "code", desc := "(IIIII)I" } : Jvm.MethodName)) ∈ lw_all := lw_g (lw_at lw_m7 202 rfl) rfl
theorem q1760 : (Jvm.Cond.selects "KernelGym" ({ cls := "KernelGym", name := "code", desc := "(IIIII)I" } : Jvm.MethodName) ({ cls := "KernelGym", name := "code", desc := "(IIIII)I" } : Jvm.MethodName)) ∈ lw_all := lw_g (lw_at lw_m7 203 rfl) rfl
theorem q1761 : (Jvm.Cond.code ({ cls := "KernelGym", name := "code", desc := "(IIIII)I" } : Jvm.MethodName) prog_1_method_12_code (7 : Nat) (Option.some Jvm.ClassFile.FieldType.int)) ∈ lw_all := lw_g (lw_at lw_m7 204 rfl) rfl
theorem q1762 : (Jvm.Cond.methodLink "KernelGym" (90 : Nat) ({ cls := "KernelGym", name := "operand", desc := "(II)LKernelGym$Operand;" } : Jvm.MethodName)) ∈ lw_all := lw_g (lw_at lw_m7 205 rfl) rfl
theorem q1763 : (Jvm.Cond.static ({ cls := "KernelGym", name := "operand", desc := "(II)LKernelGym$Operand;" } : Jvm.MethodName)) ∈ lw_all := lw_g (lw_at lw_m7 206 rfl) rfl
theorem q1764 : (Jvm.Cond.code ({ cls := "KernelGym", name := "operand", desc := "(II)LKernelGym$Operand;" } : Jvm.MethodName) prog_1_method_6_code (2 : Nat) (Option.some (Jvm.ClassFile.FieldType.object "KernelGym$Operand"))) ∈ lw_all := lw_g (lw_at lw_m7 207 rfl) rfl
theorem q1765 : (Jvm.Cond.classLink "KernelGym" (59 : Nat) "KernelGym$Operand") ∈ lw_all := lw_g (lw_at lw_m7 208 rfl) rfl
theorem q1767 : (Jvm.Cond.constant "KernelGym" (61 : Nat) (65535 : Int32)) ∈ lw_all := lw_g (lw_at lw_m7 210 rfl) rfl
theorem q1768 : (Jvm.Cond.methodLink "KernelGym" (62 : Nat) ({ cls := "KernelGym$Operand", name := "<init>", desc := "(II)V" } : Jvm.MethodName)) ∈ lw_all := lw_g (lw_at lw_m7 211 rfl) rfl
theorem q1781 : (Jvm.Cond.classLink "KernelGym" (94 : Nat) "KernelGym$3") ∈ lw_all := lw_g (lw_at lw_m7 224 rfl) rfl
theorem q1783 : (Jvm.Cond.methodLink "KernelGym" (96 : Nat) ({ cls := "KernelGym$3", name := "<init>", desc := "(LKernelGym;IIILKernelGym$Operand;)V" } : Jvm.MethodName)) ∈ lw_all := lw_g (lw_at lw_m7 226 rfl) rfl
theorem q1807 : (Jvm.Cond.instanceMethod ({ cls := "KernelGym", name := "word", desc := "(II)I" } : Jvm.MethodName)) ∈ lw_all := lw_g (lw_at lw_m8 10 rfl) rfl
theorem q1808 : (Jvm.Cond.selects "KernelGym" ({ cls := "KernelGym", name := "word", desc := "(II)I" } : Jvm.MethodName) ({ cls := "KernelGym", name := "word", desc := "(II)I" } : Jvm.MethodName)) ∈ lw_all := lw_g (lw_at lw_m8 11 rfl) rfl
theorem q1809 : (Jvm.Cond.code ({ cls := "KernelGym", name := "word", desc := "(II)I" } : Jvm.MethodName) prog_1_method_13_code (4 : Nat) (Option.some Jvm.ClassFile.FieldType.int)) ∈ lw_all := lw_g (lw_at lw_m8 12 rfl) rfl
theorem q1810 : (Jvm.Cond.classLink "KernelGym" (99 : Nat) "KernelGym$4") ∈ lw_all := lw_g (lw_at lw_m8 13 rfl) rfl
theorem q1812 : (Jvm.Cond.methodLink "KernelGym" (101 : Nat) ({ cls := "KernelGym$4", name := "<init>", desc := "(LKernelGym;LKernelGym$Operand;)V" } : Jvm.MethodName)) ∈ lw_all := lw_g (lw_at lw_m8 15 rfl) rfl
theorem q1827 : (Jvm.Cond.instanceMethod ({ cls := "KernelGym", name := "space", desc := "(I)I" } : Jvm.MethodName)) ∈ lw_all := lw_g (lw_at lw_m8 30 rfl) rfl
theorem q1828 : (Jvm.Cond.selects "KernelGym" ({ cls := "KernelGym", name := "space", desc := "(I)I" } : Jvm.MethodName) ({ cls := "KernelGym", name := "space", desc := "(I)I" } : Jvm.MethodName)) ∈ lw_all := lw_g (lw_at lw_m8 31 rfl) rfl
theorem q1829 : (Jvm.Cond.code ({ cls := "KernelGym", name := "space", desc := "(I)I" } : Jvm.MethodName) prog_1_method_14_code (2 : Nat) (Option.some Jvm.ClassFile.FieldType.int)) ∈ lw_all := lw_g (lw_at lw_m8 32 rfl) rfl
theorem q1830 : (Jvm.Cond.classLink "KernelGym" (104 : Nat) "KernelGym$5") ∈ lw_all := lw_g (lw_at lw_m8 33 rfl) rfl
theorem q1832 : (Jvm.Cond.methodLink "KernelGym" (106 : Nat) ({ cls := "KernelGym$5", name := "<init>", desc := "(LKernelGym;I)V" } : Jvm.MethodName)) ∈ lw_all := lw_g (lw_at lw_m8 35 rfl) rfl
theorem q1847 : (Jvm.Cond.instanceMethod ({ cls := "KernelGym", name := "vector", desc := "(III)I" } : Jvm.MethodName)) ∈ lw_all := lw_g (lw_at lw_m8 50 rfl) rfl
theorem q1848 : (Jvm.Cond.selects "KernelGym" ({ cls := "KernelGym", name := "vector", desc := "(III)I" } : Jvm.MethodName) ({ cls := "KernelGym", name := "vector", desc := "(III)I" } : Jvm.MethodName)) ∈ lw_all := lw_g (lw_at lw_m8 51 rfl) rfl
theorem q1849 : (Jvm.Cond.code ({ cls := "KernelGym", name := "vector", desc := "(III)I" } : Jvm.MethodName) prog_1_method_15_code (5 : Nat) (Option.some Jvm.ClassFile.FieldType.int)) ∈ lw_all := lw_g (lw_at lw_m8 52 rfl) rfl
theorem q1850 : (Jvm.Cond.classLink "KernelGym" (107 : Nat) "KernelGym$6") ∈ lw_all := lw_g (lw_at lw_m8 53 rfl) rfl
theorem q1852 : (Jvm.Cond.methodLink "KernelGym" (109 : Nat) ({ cls := "KernelGym$6", name := "<init>", desc := "(LKernelGym;ILKernelGym$Operand;)V" } : Jvm.MethodName)) ∈ lw_all := lw_g (lw_at lw_m8 55 rfl) rfl
theorem q1870 : (Jvm.Cond.instanceMethod ({ cls := "KernelGym", name := "macro", desc := "(I)I" } : Jvm.MethodName)) ∈ lw_all := lw_g (lw_at lw_m8 73 rfl) rfl
theorem q1871 : (Jvm.Cond.selects "KernelGym" ({ cls := "KernelGym", name := "macro", desc := "(I)I" } : Jvm.MethodName) ({ cls := "KernelGym", name := "macro", desc := "(I)I" } : Jvm.MethodName)) ∈ lw_all := lw_g (lw_at lw_m8 74 rfl) rfl
theorem q1872 : (Jvm.Cond.code ({ cls := "KernelGym", name := "macro", desc := "(I)I" } : Jvm.MethodName) prog_1_method_16_code (2 : Nat) (Option.some Jvm.ClassFile.FieldType.int)) ∈ lw_all := lw_g (lw_at lw_m8 75 rfl) rfl
theorem q1873 : (Jvm.Cond.classLink "KernelGym" (112 : Nat) "KernelGym$7") ∈ lw_all := lw_g (lw_at lw_m8 76 rfl) rfl
theorem q1875 : (Jvm.Cond.methodLink "KernelGym" (114 : Nat) ({ cls := "KernelGym$7", name := "<init>", desc := "(LKernelGym;I)V" } : Jvm.MethodName)) ∈ lw_all := lw_g (lw_at lw_m8 78 rfl) rfl
theorem q1890 : (Jvm.Cond.instanceMethod ({ cls := "KernelGym", name := "endMacro", desc := "()I" } : Jvm.MethodName)) ∈ lw_all := lw_g (lw_at lw_m8 93 rfl) rfl
theorem q1891 : (Jvm.Cond.selects "KernelGym" ({ cls := "KernelGym", name := "endMacro", desc := "()I" } : Jvm.MethodName) ({ cls := "KernelGym", name := "endMacro", desc := "()I" } : Jvm.MethodName)) ∈ lw_all := lw_g (lw_at lw_m8 94 rfl) rfl
theorem q1892 : (Jvm.Cond.code ({ cls := "KernelGym", name := "endMacro", desc := "()I" } : Jvm.MethodName) prog_1_method_17_code (1 : Nat) (Option.some Jvm.ClassFile.FieldType.int)) ∈ lw_all := lw_g (lw_at lw_m8 95 rfl) rfl
theorem q1893 : (Jvm.Cond.classLink "KernelGym" (115 : Nat) "KernelGym$8") ∈ lw_all := lw_g (lw_at lw_m8 96 rfl) rfl
theorem q1895 : (Jvm.Cond.methodLink "KernelGym" (117 : Nat) ({ cls := "KernelGym$8", name := "<init>", desc := "(LKernelGym;)V" } : Jvm.MethodName)) ∈ lw_all := lw_g (lw_at lw_m8 98 rfl) rfl
theorem q1907 : (Jvm.Cond.instanceMethod ({ cls := "KernelGym", name := "use", desc := "(IIIII)I" } : Jvm.MethodName)) ∈ lw_all := lw_g (lw_at lw_m8 110 rfl) rfl
theorem q1908 : (Jvm.Cond.selects "KernelGym" ({ cls := "KernelGym", name := "use", desc := "(IIIII)I" } : Jvm.MethodName) ({ cls := "KernelGym", name := "use", desc := "(IIIII)I" } : Jvm.MethodName)) ∈ lw_all := lw_g (lw_at lw_m8 111 rfl) rfl
theorem q1909 : (Jvm.Cond.code ({ cls := "KernelGym", name := "use", desc := "(IIIII)I" } : Jvm.MethodName) prog_1_method_18_code (8 : Nat) (Option.some Jvm.ClassFile.FieldType.int)) ∈ lw_all := lw_g (lw_at lw_m8 112 rfl) rfl
theorem q1910 : (Jvm.Cond.classLink "KernelGym" (120 : Nat) "KernelGym$9") ∈ lw_all := lw_g (lw_at lw_m8 113 rfl) rfl
theorem q1912 : (Jvm.Cond.methodLink "KernelGym" (122 : Nat) ({ cls := "KernelGym$9", name := "<init>", desc := "(LKernelGym;ILKernelGym$Operand;LKernelGym$Operand;)V" } : Jvm.MethodName)) ∈ lw_all := lw_g (lw_at lw_m8 115 rfl) rfl
theorem q1933 : (Jvm.Cond.instanceMethod ({ cls := "KernelGym", name := "assemble", desc := "()I" } : Jvm.MethodName)) ∈ lw_all := lw_g (lw_at lw_m8 136 rfl) rfl
theorem q1934 : (Jvm.Cond.selects "KernelGym" ({ cls := "KernelGym", name := "assemble", desc := "()I" } : Jvm.MethodName) ({ cls := "KernelGym", name := "assemble", desc := "()I" } : Jvm.MethodName)) ∈ lw_all := lw_g (lw_at lw_m8 137 rfl) rfl
theorem q1935 : (Jvm.Cond.codeWith ({ cls := "KernelGym", name := "assemble", desc := "()I" } : Jvm.MethodName) prog_1_method_20_code (2 : Nat) (Option.some Jvm.ClassFile.FieldType.int) [((0 : Nat), (21 : Nat), (22 : Nat), (1 : Nat))]) ∈ lw_all := lw_g (lw_at lw_m8 138 rfl) rfl
theorem q1936 : (Jvm.Cond.stringRef "KernelGym" (142 : Nat) "the source has an error") ∈ lw_tbl := lw_at lw_m8 139 rfl
theorem q1937 : (Jvm.Cond.methodLink "KernelGym" (144 : Nat) ({ cls := "java/lang/IllegalStateException", name := "<init>", desc := "(Ljava/lang/String;Ljava/lang/Throwable;)V" } : Jvm.MethodName)) ∈ lw_all := lw_g (lw_at lw_m8 140 rfl) rfl
theorem q1953 : (Jvm.Cond.instanceMethod ({ cls := "KernelGym", name := "image", desc := "(I)I" } : Jvm.MethodName)) ∈ lw_all := lw_g (lw_at lw_m8 156 rfl) rfl
theorem q1954 : (Jvm.Cond.selects "KernelGym" ({ cls := "KernelGym", name := "image", desc := "(I)I" } : Jvm.MethodName) ({ cls := "KernelGym", name := "image", desc := "(I)I" } : Jvm.MethodName)) ∈ lw_all := lw_g (lw_at lw_m8 157 rfl) rfl
theorem q1955 : (Jvm.Cond.code ({ cls := "KernelGym", name := "image", desc := "(I)I" } : Jvm.MethodName) prog_1_method_21_code (2 : Nat) (Option.some Jvm.ClassFile.FieldType.int)) ∈ lw_all := lw_g (lw_at lw_m8 158 rfl) rfl
theorem q1960 : (Jvm.Cond.instanceMethod ({ cls := "KernelGym", name := "start", desc := "()I" } : Jvm.MethodName)) ∈ lw_all := lw_g (lw_at lw_m8 163 rfl) rfl
theorem q1961 : (Jvm.Cond.selects "KernelGym" ({ cls := "KernelGym", name := "start", desc := "()I" } : Jvm.MethodName) ({ cls := "KernelGym", name := "start", desc := "()I" } : Jvm.MethodName)) ∈ lw_all := lw_g (lw_at lw_m8 164 rfl) rfl
theorem q1962 : (Jvm.Cond.code ({ cls := "KernelGym", name := "start", desc := "()I" } : Jvm.MethodName) prog_1_method_22_code (1 : Nat) (Option.some Jvm.ClassFile.FieldType.int)) ∈ lw_all := lw_g (lw_at lw_m8 165 rfl) rfl
theorem q1963 : (Jvm.Cond.methodLink "KernelGym" (147 : Nat) ({ cls := "KernelGym$Machine", name := "isOn", desc := "()Z" } : Jvm.MethodName)) ∈ lw_all := lw_g (lw_at lw_m8 166 rfl) rfl
theorem q1967 : (Jvm.Cond.methodLink "KernelGym" (151 : Nat) ({ cls := "KernelGym$Machine", name := "start", desc := "([I)I" } : Jvm.MethodName)) ∈ lw_all := lw_g (lw_at lw_m8 170 rfl) rfl
theorem q1989 : (Jvm.Cond.instanceMethod ({ cls := "KernelGym", name := "crash", desc := "()I" } : Jvm.MethodName)) ∈ lw_all := lw_g (lw_at lw_m8 192 rfl) rfl
theorem q1990 : (Jvm.Cond.selects "KernelGym" ({ cls := "KernelGym", name := "crash", desc := "()I" } : Jvm.MethodName) ({ cls := "KernelGym", name := "crash", desc := "()I" } : Jvm.MethodName)) ∈ lw_all := lw_g (lw_at lw_m8 193 rfl) rfl
theorem q1991 : (Jvm.Cond.code ({ cls := "KernelGym", name := "crash", desc := "()I" } : Jvm.MethodName) prog_1_method_23_code (1 : Nat) (Option.some Jvm.ClassFile.FieldType.int)) ∈ lw_all := lw_g (lw_at lw_m8 194 rfl) rfl
theorem q1992 : (Jvm.Cond.methodLink "KernelGym" (155 : Nat) ({ cls := "KernelGym$Machine", name := "crash", desc := "()I" } : Jvm.MethodName)) ∈ lw_all := lw_g (lw_at lw_m8 195 rfl) rfl
theorem q2008 : (Jvm.Cond.instanceMethod ({ cls := "KernelGym", name := "format", desc := "()I" } : Jvm.MethodName)) ∈ lw_all := lw_g (lw_at lw_m8 211 rfl) rfl
theorem q2009 : (Jvm.Cond.selects "KernelGym" ({ cls := "KernelGym", name := "format", desc := "()I" } : Jvm.MethodName) ({ cls := "KernelGym", name := "format", desc := "()I" } : Jvm.MethodName)) ∈ lw_all := lw_g (lw_at lw_m8 212 rfl) rfl
theorem q2010 : (Jvm.Cond.code ({ cls := "KernelGym", name := "format", desc := "()I" } : Jvm.MethodName) prog_1_method_24_code (2 : Nat) (Option.some Jvm.ClassFile.FieldType.int)) ∈ lw_all := lw_g (lw_at lw_m8 213 rfl) rfl
theorem q2011 : (Jvm.Cond.methodLink "KernelGym" (158 : Nat) ({ cls := "KernelGym", name := "files", desc := "()I" } : Jvm.MethodName)) ∈ lw_all := lw_g (lw_at lw_m8 214 rfl) rfl
theorem q2012 : (Jvm.Cond.methodLink "KernelGym" (161 : Nat) ({ cls := "KernelGym$Machine", name := "format", desc := "()V" } : Jvm.MethodName)) ∈ lw_all := lw_g (lw_at lw_m8 215 rfl) rfl
theorem q2017 : (Jvm.Cond.instanceMethod ({ cls := "KernelGym", name := "step", desc := "(I)I" } : Jvm.MethodName)) ∈ lw_all := lw_g (lw_at lw_m8 220 rfl) rfl
theorem q2018 : (Jvm.Cond.selects "KernelGym" ({ cls := "KernelGym", name := "step", desc := "(I)I" } : Jvm.MethodName) ({ cls := "KernelGym", name := "step", desc := "(I)I" } : Jvm.MethodName)) ∈ lw_all := lw_g (lw_at lw_m8 221 rfl) rfl
theorem q2019 : (Jvm.Cond.code ({ cls := "KernelGym", name := "step", desc := "(I)I" } : Jvm.MethodName) prog_1_method_25_code (3 : Nat) (Option.some Jvm.ClassFile.FieldType.int)) ∈ lw_all := lw_g (lw_at lw_m8 222 rfl) rfl
theorem q2020 : (Jvm.Cond.methodLink "KernelGym" (164 : Nat) ({ cls := "KernelGym$Machine", name := "goesOn", desc := "()Z" } : Jvm.MethodName)) ∈ lw_all := lw_g (lw_at lw_m8 223 rfl) rfl
theorem q2024 : (Jvm.Cond.methodLink "KernelGym" (167 : Nat) ({ cls := "KernelGym$Machine", name := "make", desc := "()V" } : Jvm.MethodName)) ∈ lw_all := lw_g (lw_at lw_m8 227 rfl) rfl
theorem q2295 : (Jvm.Cond.instanceMethod ({ cls := "KernelGym", name := "runTo", desc := "(II)I" } : Jvm.MethodName)) ∈ lw_all := lw_g (lw_at lw_m10 18 rfl) rfl
theorem q2296 : (Jvm.Cond.selects "KernelGym" ({ cls := "KernelGym", name := "runTo", desc := "(II)I" } : Jvm.MethodName) ({ cls := "KernelGym", name := "runTo", desc := "(II)I" } : Jvm.MethodName)) ∈ lw_all := lw_g (lw_at lw_m10 19 rfl) rfl
theorem q2297 : (Jvm.Cond.code ({ cls := "KernelGym", name := "runTo", desc := "(II)I" } : Jvm.MethodName) prog_1_method_26_code (5 : Nat) (Option.some Jvm.ClassFile.FieldType.int)) ∈ lw_all := lw_g (lw_at lw_m10 20 rfl) rfl
theorem q2302 : (Jvm.Cond.instanceMethod ({ cls := "KernelGym", name := "back", desc := "(I)I" } : Jvm.MethodName)) ∈ lw_all := lw_g (lw_at lw_m10 25 rfl) rfl
theorem q2303 : (Jvm.Cond.selects "KernelGym" ({ cls := "KernelGym", name := "back", desc := "(I)I" } : Jvm.MethodName) ({ cls := "KernelGym", name := "back", desc := "(I)I" } : Jvm.MethodName)) ∈ lw_all := lw_g (lw_at lw_m10 26 rfl) rfl
theorem q2304 : (Jvm.Cond.code ({ cls := "KernelGym", name := "back", desc := "(I)I" } : Jvm.MethodName) prog_1_method_27_code (2 : Nat) (Option.some Jvm.ClassFile.FieldType.int)) ∈ lw_all := lw_g (lw_at lw_m10 27 rfl) rfl
theorem q2305 : (Jvm.Cond.methodLink "KernelGym" (173 : Nat) ({ cls := "KernelGym$Machine", name := "back", desc := "(I)I" } : Jvm.MethodName)) ∈ lw_all := lw_g (lw_at lw_m10 28 rfl) rfl
theorem q2326 : (Jvm.Cond.instanceMethod ({ cls := "KernelGym", name := "press", desc := "(I)I" } : Jvm.MethodName)) ∈ lw_all := lw_g (lw_at lw_m10 49 rfl) rfl
theorem q2327 : (Jvm.Cond.selects "KernelGym" ({ cls := "KernelGym", name := "press", desc := "(I)I" } : Jvm.MethodName) ({ cls := "KernelGym", name := "press", desc := "(I)I" } : Jvm.MethodName)) ∈ lw_all := lw_g (lw_at lw_m10 50 rfl) rfl
theorem q2328 : (Jvm.Cond.code ({ cls := "KernelGym", name := "press", desc := "(I)I" } : Jvm.MethodName) prog_1_method_28_code (2 : Nat) (Option.some Jvm.ClassFile.FieldType.int)) ∈ lw_all := lw_g (lw_at lw_m10 51 rfl) rfl
theorem q2329 : (Jvm.Cond.methodLink "KernelGym" (180 : Nat) ({ cls := "java/util/LinkedList", name := "size", desc := "()I" } : Jvm.MethodName)) ∈ lw_all := lw_g (lw_at lw_m10 52 rfl) rfl
theorem q2330 : (Jvm.Cond.methodLink "KernelGym" (181 : Nat) ({ cls := "KernelGym$Machine", name := "press", desc := "(I)V" } : Jvm.MethodName)) ∈ lw_all := lw_g (lw_at lw_m10 53 rfl) rfl
theorem q2471 : (Jvm.Cond.instanceMethod ({ cls := "KernelGym", name := "register", desc := "(I)I" } : Jvm.MethodName)) ∈ lw_all := lw_g (lw_at lw_m10 194 rfl) rfl
theorem q2472 : (Jvm.Cond.selects "KernelGym" ({ cls := "KernelGym", name := "register", desc := "(I)I" } : Jvm.MethodName) ({ cls := "KernelGym", name := "register", desc := "(I)I" } : Jvm.MethodName)) ∈ lw_all := lw_g (lw_at lw_m10 195 rfl) rfl
theorem q2473 : (Jvm.Cond.code ({ cls := "KernelGym", name := "register", desc := "(I)I" } : Jvm.MethodName) prog_1_method_37_code (2 : Nat) (Option.some Jvm.ClassFile.FieldType.int)) ∈ lw_all := lw_g (lw_at lw_m10 196 rfl) rfl
theorem q2478 : (Jvm.Cond.instanceMethod ({ cls := "KernelGym", name := "memory", desc := "(I)I" } : Jvm.MethodName)) ∈ lw_all := lw_g (lw_at lw_m10 201 rfl) rfl
theorem q2479 : (Jvm.Cond.selects "KernelGym" ({ cls := "KernelGym", name := "memory", desc := "(I)I" } : Jvm.MethodName) ({ cls := "KernelGym", name := "memory", desc := "(I)I" } : Jvm.MethodName)) ∈ lw_all := lw_g (lw_at lw_m10 202 rfl) rfl
theorem q2480 : (Jvm.Cond.code ({ cls := "KernelGym", name := "memory", desc := "(I)I" } : Jvm.MethodName) prog_1_method_38_code (2 : Nat) (Option.some Jvm.ClassFile.FieldType.int)) ∈ lw_all := lw_g (lw_at lw_m10 203 rfl) rfl
theorem q2485 : (Jvm.Cond.instanceMethod ({ cls := "KernelGym", name := "changedAt", desc := "(I)I" } : Jvm.MethodName)) ∈ lw_all := lw_g (lw_at lw_m10 208 rfl) rfl
theorem q2486 : (Jvm.Cond.selects "KernelGym" ({ cls := "KernelGym", name := "changedAt", desc := "(I)I" } : Jvm.MethodName) ({ cls := "KernelGym", name := "changedAt", desc := "(I)I" } : Jvm.MethodName)) ∈ lw_all := lw_g (lw_at lw_m10 209 rfl) rfl
theorem q2487 : (Jvm.Cond.code ({ cls := "KernelGym", name := "changedAt", desc := "(I)I" } : Jvm.MethodName) prog_1_method_39_code (2 : Nat) (Option.some Jvm.ClassFile.FieldType.int)) ∈ lw_all := lw_g (lw_at lw_m10 210 rfl) rfl
theorem q2488 : (Jvm.Cond.methodLink "KernelGym" (198 : Nat) ({ cls := "KernelGym$Machine", name := "changedAt", desc := "(I)I" } : Jvm.MethodName)) ∈ lw_all := lw_g (lw_at lw_m10 211 rfl) rfl
theorem q2556 : (Jvm.Cond.instanceMethod ({ cls := "KernelGym", name := "tapeAt", desc := "(I)I" } : Jvm.MethodName)) ∈ lw_all := lw_g (lw_at lw_m11 39 rfl) rfl
theorem q2557 : (Jvm.Cond.selects "KernelGym" ({ cls := "KernelGym", name := "tapeAt", desc := "(I)I" } : Jvm.MethodName) ({ cls := "KernelGym", name := "tapeAt", desc := "(I)I" } : Jvm.MethodName)) ∈ lw_all := lw_g (lw_at lw_m11 40 rfl) rfl
theorem q2558 : (Jvm.Cond.code ({ cls := "KernelGym", name := "tapeAt", desc := "(I)I" } : Jvm.MethodName) prog_1_method_41_code (2 : Nat) (Option.some Jvm.ClassFile.FieldType.int)) ∈ lw_all := lw_g (lw_at lw_m11 41 rfl) rfl
theorem q2559 : (Jvm.Cond.classLink "KernelGym" (201 : Nat) "java/lang/IndexOutOfBoundsException") ∈ lw_all := lw_g (lw_at lw_m11 42 rfl) rfl
theorem q2560 : (Jvm.Cond.stringRef "KernelGym" (203 : Nat) "not so many words") ∈ lw_tbl := lw_at lw_m11 43 rfl
theorem q2561 : (Jvm.Cond.methodLink "KernelGym" (205 : Nat) ({ cls := "java/lang/IndexOutOfBoundsException", name := "<init>", desc := "(Ljava/lang/String;)V" } : Jvm.MethodName)) ∈ lw_all := lw_g (lw_at lw_m11 44 rfl) rfl
theorem q2566 : (Jvm.Cond.instanceMethod ({ cls := "KernelGym", name := "sumAnew", desc := "(I)I" } : Jvm.MethodName)) ∈ lw_all := lw_g (lw_at lw_m11 49 rfl) rfl
theorem q2567 : (Jvm.Cond.selects "KernelGym" ({ cls := "KernelGym", name := "sumAnew", desc := "(I)I" } : Jvm.MethodName) ({ cls := "KernelGym", name := "sumAnew", desc := "(I)I" } : Jvm.MethodName)) ∈ lw_all := lw_g (lw_at lw_m11 50 rfl) rfl
theorem q2568 : (Jvm.Cond.code ({ cls := "KernelGym", name := "sumAnew", desc := "(I)I" } : Jvm.MethodName) prog_1_method_43_code (2 : Nat) (Option.some Jvm.ClassFile.FieldType.int)) ∈ lw_all := lw_g (lw_at lw_m11 51 rfl) rfl
theorem q2569 : (Jvm.Cond.methodLink "KernelGym" (209 : Nat) ({ cls := "KernelGym$Machine", name := "sumAnew", desc := "(I)I" } : Jvm.MethodName)) ∈ lw_all := lw_g (lw_at lw_m11 52 rfl) rfl
theorem q2585 : (Jvm.Cond.instanceMethod ({ cls := "KernelGym", name := "disk", desc := "(II)I" } : Jvm.MethodName)) ∈ lw_all := lw_g (lw_at lw_m11 68 rfl) rfl
theorem q2586 : (Jvm.Cond.selects "KernelGym" ({ cls := "KernelGym", name := "disk", desc := "(II)I" } : Jvm.MethodName) ({ cls := "KernelGym", name := "disk", desc := "(II)I" } : Jvm.MethodName)) ∈ lw_all := lw_g (lw_at lw_m11 69 rfl) rfl
theorem q2587 : (Jvm.Cond.code ({ cls := "KernelGym", name := "disk", desc := "(II)I" } : Jvm.MethodName) prog_1_method_45_code (3 : Nat) (Option.some Jvm.ClassFile.FieldType.int)) ∈ lw_all := lw_g (lw_at lw_m11 70 rfl) rfl
theorem q2593 : (Jvm.Cond.instanceMethod ({ cls := "KernelGym", name := "size", desc := "(I)I" } : Jvm.MethodName)) ∈ lw_all := lw_g (lw_at lw_m11 76 rfl) rfl
theorem q2594 : (Jvm.Cond.selects "KernelGym" ({ cls := "KernelGym", name := "size", desc := "(I)I" } : Jvm.MethodName) ({ cls := "KernelGym", name := "size", desc := "(I)I" } : Jvm.MethodName)) ∈ lw_all := lw_g (lw_at lw_m11 77 rfl) rfl
theorem q2595 : (Jvm.Cond.code ({ cls := "KernelGym", name := "size", desc := "(I)I" } : Jvm.MethodName) prog_1_method_48_code (2 : Nat) (Option.some Jvm.ClassFile.FieldType.int)) ∈ lw_all := lw_g (lw_at lw_m11 78 rfl) rfl
theorem q2596 : (Jvm.Cond.methodLink "KernelGym" (224 : Nat) ({ cls := "KernelGym", name := "file", desc := "(I)I" } : Jvm.MethodName)) ∈ lw_all := lw_g (lw_at lw_m11 79 rfl) rfl
theorem q2597 : (Jvm.Cond.privateMethod ({ cls := "KernelGym", name := "file", desc := "(I)I" } : Jvm.MethodName)) ∈ lw_tbl := lw_at lw_m11 80 rfl
theorem q2598 : (Jvm.Cond.instanceMethod ({ cls := "KernelGym", name := "file", desc := "(I)I" } : Jvm.MethodName)) ∈ lw_all := lw_g (lw_at lw_m11 81 rfl) rfl
theorem q2599 : (Jvm.Cond.code ({ cls := "KernelGym", name := "file", desc := "(I)I" } : Jvm.MethodName) prog_1_method_47_code (3 : Nat) (Option.some Jvm.ClassFile.FieldType.int)) ∈ lw_all := lw_g (lw_at lw_m11 82 rfl) rfl
theorem q2600 : (Jvm.Cond.methodLink "KernelGym" (216 : Nat) ({ cls := "KernelGym$Machine", name := "find", desc := "(I)I" } : Jvm.MethodName)) ∈ lw_all := lw_g (lw_at lw_m11 83 rfl) rfl
theorem q2601 : (Jvm.Cond.classLink "KernelGym" (219 : Nat) "java/util/NoSuchElementException") ∈ lw_all := lw_g (lw_at lw_m11 84 rfl) rfl
theorem q2602 : (Jvm.Cond.stringRef "KernelGym" (221 : Nat) "no such file") ∈ lw_tbl := lw_at lw_m11 85 rfl
theorem q2603 : (Jvm.Cond.methodLink "KernelGym" (223 : Nat) ({ cls := "java/util/NoSuchElementException", name := "<init>", desc := "(Ljava/lang/String;)V" } : Jvm.MethodName)) ∈ lw_all := lw_g (lw_at lw_m11 86 rfl) rfl
theorem q2611 : (Jvm.Cond.instanceMethod ({ cls := "KernelGym", name := "wordOf", desc := "(II)I" } : Jvm.MethodName)) ∈ lw_all := lw_g (lw_at lw_m11 94 rfl) rfl
theorem q2612 : (Jvm.Cond.selects "KernelGym" ({ cls := "KernelGym", name := "wordOf", desc := "(II)I" } : Jvm.MethodName) ({ cls := "KernelGym", name := "wordOf", desc := "(II)I" } : Jvm.MethodName)) ∈ lw_all := lw_g (lw_at lw_m11 95 rfl) rfl
theorem q2613 : (Jvm.Cond.code ({ cls := "KernelGym", name := "wordOf", desc := "(II)I" } : Jvm.MethodName) prog_1_method_49_code (4 : Nat) (Option.some Jvm.ClassFile.FieldType.int)) ∈ lw_all := lw_g (lw_at lw_m11 96 rfl) rfl
theorem q2614 : (Jvm.Cond.stringRef "KernelGym" (227 : Nat) "no such word") ∈ lw_tbl := lw_at lw_m11 97 rfl
theorem q2615 : (Jvm.Cond.methodLink "KernelGym" (229 : Nat) ({ cls := "KernelGym$Machine", name := "wordOf", desc := "(II)I" } : Jvm.MethodName)) ∈ lw_all := lw_g (lw_at lw_m11 98 rfl) rfl
theorem q2620 : (Jvm.Cond.instanceMethod ({ cls := "KernelGym", name := "testKey", desc := "(I)I" } : Jvm.MethodName)) ∈ lw_all := lw_g (lw_at lw_m11 103 rfl) rfl
theorem q2621 : (Jvm.Cond.selects "KernelGym" ({ cls := "KernelGym", name := "testKey", desc := "(I)I" } : Jvm.MethodName) ({ cls := "KernelGym", name := "testKey", desc := "(I)I" } : Jvm.MethodName)) ∈ lw_all := lw_g (lw_at lw_m11 104 rfl) rfl
theorem q2622 : (Jvm.Cond.code ({ cls := "KernelGym", name := "testKey", desc := "(I)I" } : Jvm.MethodName) prog_1_method_54_code (2 : Nat) (Option.some Jvm.ClassFile.FieldType.int)) ∈ lw_all := lw_g (lw_at lw_m11 105 rfl) rfl
theorem q2623 : (Jvm.Cond.methodLink "KernelGym" (256 : Nat) ({ cls := "KernelGym", name := "draft", desc := "(Ljava/util/LinkedList;I)I" } : Jvm.MethodName)) ∈ lw_all := lw_g (lw_at lw_m11 106 rfl) rfl
theorem q2624 : (Jvm.Cond.static ({ cls := "KernelGym", name := "draft", desc := "(Ljava/util/LinkedList;I)I" } : Jvm.MethodName)) ∈ lw_all := lw_g (lw_at lw_m11 107 rfl) rfl
theorem q2625 : (Jvm.Cond.code ({ cls := "KernelGym", name := "draft", desc := "(Ljava/util/LinkedList;I)I" } : Jvm.MethodName) prog_1_method_52_code (2 : Nat) (Option.some Jvm.ClassFile.FieldType.int)) ∈ lw_all := lw_g (lw_at lw_m11 108 rfl) rfl
theorem q2626 : (Jvm.Cond.methodLink "KernelGym" (239 : Nat) ({ cls := "java/lang/Integer", name := "valueOf", desc := "(I)Ljava/lang/Integer;" } : Jvm.MethodName)) ∈ lw_all := lw_g (lw_at lw_m11 109 rfl) rfl
theorem q2646 : (Jvm.Cond.methodLink "KernelGym" (245 : Nat) ({ cls := "java/util/LinkedList", name := "addLast", desc := "(Ljava/lang/Object;)V" } : Jvm.MethodName)) ∈ lw_all := lw_g (lw_at lw_m11 129 rfl) rfl
theorem q2651 : (Jvm.Cond.instanceMethod ({ cls := "KernelGym", name := "testWord", desc := "(I)I" } : Jvm.MethodName)) ∈ lw_all := lw_g (lw_at lw_m11 134 rfl) rfl
theorem q2652 : (Jvm.Cond.selects "KernelGym" ({ cls := "KernelGym", name := "testWord", desc := "(I)I" } : Jvm.MethodName) ({ cls := "KernelGym", name := "testWord", desc := "(I)I" } : Jvm.MethodName)) ∈ lw_all := lw_g (lw_at lw_m11 135 rfl) rfl
theorem q2653 : (Jvm.Cond.code ({ cls := "KernelGym", name := "testWord", desc := "(I)I" } : Jvm.MethodName) prog_1_method_55_code (2 : Nat) (Option.some Jvm.ClassFile.FieldType.int)) ∈ lw_all := lw_g (lw_at lw_m11 136 rfl) rfl
theorem q2658 : (Jvm.Cond.instanceMethod ({ cls := "KernelGym", name := "addTest", desc := "(IIII)I" } : Jvm.MethodName)) ∈ lw_all := lw_g (lw_at lw_m11 141 rfl) rfl
theorem q2659 : (Jvm.Cond.selects "KernelGym" ({ cls := "KernelGym", name := "addTest", desc := "(IIII)I" } : Jvm.MethodName) ({ cls := "KernelGym", name := "addTest", desc := "(IIII)I" } : Jvm.MethodName)) ∈ lw_all := lw_g (lw_at lw_m11 142 rfl) rfl
theorem q2660 : (Jvm.Cond.code ({ cls := "KernelGym", name := "addTest", desc := "(IIII)I" } : Jvm.MethodName) prog_1_method_56_code (5 : Nat) (Option.some Jvm.ClassFile.FieldType.int)) ∈ lw_all := lw_g (lw_at lw_m11 143 rfl) rfl
theorem q2662 : (Jvm.Cond.methodLink "KernelGym" (262 : Nat) ({ cls := "KernelGym", name := "taken", desc := "(Ljava/util/LinkedList;)[I" } : Jvm.MethodName)) ∈ lw_all := lw_g (lw_at lw_m11 145 rfl) rfl
theorem q2663 : (Jvm.Cond.static ({ cls := "KernelGym", name := "taken", desc := "(Ljava/util/LinkedList;)[I" } : Jvm.MethodName)) ∈ lw_all := lw_g (lw_at lw_m11 146 rfl) rfl
theorem q2664 : (Jvm.Cond.code ({ cls := "KernelGym", name := "taken", desc := "(Ljava/util/LinkedList;)[I" } : Jvm.MethodName) prog_1_method_53_code (3 : Nat) (Option.some (Jvm.ClassFile.FieldType.array Jvm.ClassFile.FieldType.int))) ∈ lw_all := lw_g (lw_at lw_m11 147 rfl) rfl
theorem q2665 : (Jvm.Cond.methodLink "KernelGym" (249 : Nat) ({ cls := "java/util/LinkedList", name := "removeFirst", desc := "()Ljava/lang/Object;" } : Jvm.MethodName)) ∈ lw_all := lw_g (lw_at lw_m11 148 rfl) rfl
theorem q2675 : (Jvm.Cond.classLink "KernelGym" (240 : Nat) "java/lang/Integer") ∈ lw_all := lw_g (lw_at lw_m11 158 rfl) rfl
theorem q2676 : (Jvm.Cond.methodLink "KernelGym" (253 : Nat) ({ cls := "java/lang/Integer", name := "intValue", desc := "()I" } : Jvm.MethodName)) ∈ lw_all := lw_g (lw_at lw_m11 159 rfl) rfl
theorem q2680 : (Jvm.Cond.methodLink "KernelGym" (266 : Nat) ({ cls := "KernelGym$Test", name := "<init>", desc := "([I[IIIII)V" } : Jvm.MethodName)) ∈ lw_all := lw_g (lw_at lw_m11 163 rfl) rfl
theorem q2691 : (Jvm.Cond.fieldLinkNest "KernelGym" (284 : Nat) "KernelGym$Test" "result" "I" "KernelGym") ∈ lw_tbl := lw_at lw_m11 174 rfl
theorem q2714 : (Jvm.Cond.instanceMethod ({ cls := "KernelGym", name := "submit", desc := "()I" } : Jvm.MethodName)) ∈ lw_all := lw_g (lw_at lw_m11 197 rfl) rfl
theorem q2715 : (Jvm.Cond.selects "KernelGym" ({ cls := "KernelGym", name := "submit", desc := "()I" } : Jvm.MethodName) ({ cls := "KernelGym", name := "submit", desc := "()I" } : Jvm.MethodName)) ∈ lw_all := lw_g (lw_at lw_m11 198 rfl) rfl
theorem q2716 : (Jvm.Cond.code ({ cls := "KernelGym", name := "submit", desc := "()I" } : Jvm.MethodName) prog_1_method_58_code (4 : Nat) (Option.some Jvm.ClassFile.FieldType.int)) ∈ lw_all := lw_g (lw_at lw_m11 199 rfl) rfl
theorem q2717 : (Jvm.Cond.methodLink "KernelGym" (281 : Nat) ({ cls := "KernelGym$Test", name := "make", desc := "([I)V" } : Jvm.MethodName)) ∈ lw_all := lw_g (lw_at lw_m11 200 rfl) rfl
theorem q2737 : (Jvm.Cond.instanceMethod ({ cls := "KernelGym", name := "result", desc := "(I)I" } : Jvm.MethodName)) ∈ lw_all := lw_g (lw_at lw_m11 220 rfl) rfl
theorem q2738 : (Jvm.Cond.selects "KernelGym" ({ cls := "KernelGym", name := "result", desc := "(I)I" } : Jvm.MethodName) ({ cls := "KernelGym", name := "result", desc := "(I)I" } : Jvm.MethodName)) ∈ lw_all := lw_g (lw_at lw_m11 221 rfl) rfl
theorem q2739 : (Jvm.Cond.code ({ cls := "KernelGym", name := "result", desc := "(I)I" } : Jvm.MethodName) prog_1_method_59_code (2 : Nat) (Option.some Jvm.ClassFile.FieldType.int)) ∈ lw_all := lw_g (lw_at lw_m11 222 rfl) rfl
theorem q2740 : (Jvm.Cond.stringRef "KernelGym" (287 : Nat) "no such test") ∈ lw_tbl := lw_at lw_m11 223 rfl
theorem q2741 : (Jvm.Cond.interfaceEntry "KernelGym" (289 : Nat)) ∈ lw_tbl := lw_at lw_m11 224 rfl
theorem q2742 : (Jvm.Cond.methodLink "KernelGym" (289 : Nat) ({ cls := "java/util/List", name := "get", desc := "(I)Ljava/lang/Object;" } : Jvm.MethodName)) ∈ lw_all := lw_g (lw_at lw_m11 225 rfl) rfl
theorem q3476 : (Jvm.Cond.castable "KernelGym" "java/lang/Object") ∈ lw_tbl := lw_at lw_m14 239 rfl
theorem in_X1 : ∀ w ∈ wsX10, w ∈ lw_all := lw_in wsX10 [328, 330, 332, 334, 336, 338] (by decide +kernel) (by decide +kernel)

/-! KernelGym$5 -/
def RX10 : String := "KernelGym$5"
def TX10 : u_T := fun k => match k with
  | 0 => ("KernelGym$5", "val$words", "I", true)
  | _ => ("KernelGym$5", "this$0", "LKernelGym;", true)
def tyX10 : Nat → FieldType := fun k => match k with
  | 0 => .int
  | _ => .object "KernelGym"
abbrev wsX100 : List Cond := u_ws RX10 TX10 2
theorem nmX10 : ∀ a, a < 2 → ∀ b, b < 2 → a ≠ b → (TX10 a).2.1 ≠ (TX10 b).2.1 := by decide +kernel
theorem tyX10_ok : ∀ k, k < 2 → parseFieldDescriptor (TX10 k).2.2.1 = some (tyX10 k) := by decide +kernel
abbrev cX10_go : ByteArray := prog_6_method_2_code
def yX10_go : MethodName := ⟨RX10, "go", "(LKernelGym$Pass;LKernelGym$Use;I)I"⟩
def dkwX10_go_1 : List UInt8 := [29, 4, 96, 172]
abbrev dktX10_go_1 : List UInt8 := dkwX10_go_1 ++ []
def dkwX10_go_0 : List UInt8 := [3, 54, 4, 21, 4, 42, 180, 0, 7, 162, 0, 15, 43, 3, 29, 182, 0, 17, 132, 4, 1, 167, 255, 238]
abbrev dktX10_go_0 : List UInt8 := dkwX10_go_0 ++ dktX10_go_1
theorem dksX10_go_0 : cX10_go.data.toList.drop 0 = dktX10_go_0 := by decide +kernel
theorem dksX10_go_1 : cX10_go.data.toList.drop 24 = dktX10_go_1 := dk_seg dksX10_go_0 24 rfl rfl
theorem dX10_go_0 : decode cX10_go 0 = .ok (.iconst 0, 1) := dk_3 (dk_at dksX10_go_0 0 rfl rfl)
theorem dX10_go_1 : decode cX10_go 1 = .ok (.istore 4, 2) := dk_54 4 (dk_at dksX10_go_0 1 rfl rfl)
theorem dX10_go_3 : decode cX10_go 3 = .ok (.iload 4, 2) := dk_21 4 (dk_at dksX10_go_0 3 rfl rfl)
theorem dX10_go_5 : decode cX10_go 5 = .ok (.aload_n 0, 1) := dk_42 (dk_at dksX10_go_0 5 rfl rfl)
theorem dX10_go_6 : decode cX10_go 6 = .ok (.getfield 7, 3) := dk_180 0 7 (dk_at dksX10_go_0 6 rfl rfl)
theorem dX10_go_9 : decode cX10_go 9 = .ok (.if_icmp .ge 15, 3) := dk_162 0 15 (dk_at dksX10_go_0 9 rfl rfl)
theorem dX10_go_12 : decode cX10_go 12 = .ok (.aload_n 1, 1) := dk_43 (dk_at dksX10_go_0 12 rfl rfl)
theorem dX10_go_13 : decode cX10_go 13 = .ok (.iconst 0, 1) := dk_3 (dk_at dksX10_go_0 13 rfl rfl)
theorem dX10_go_14 : decode cX10_go 14 = .ok (.iload_n 3, 1) := dk_29 (dk_at dksX10_go_0 14 rfl rfl)
theorem dX10_go_15 : decode cX10_go 15 = .ok (.invokevirtual 17, 3) := dk_182 0 17 (dk_at dksX10_go_0 15 rfl rfl)
theorem dX10_go_18 : decode cX10_go 18 = .ok (.iinc 4 1, 3) := dk_132 4 1 (dk_at dksX10_go_0 18 rfl rfl)
theorem dX10_go_21 : decode cX10_go 21 = .ok (.goto (-18), 3) := dk_167 255 238 (dk_at dksX10_go_0 21 rfl rfl)
theorem dX10_go_24 : decode cX10_go 24 = .ok (.iload_n 3, 1) := dk_29 (dk_at dksX10_go_1 0 rfl rfl)
theorem dX10_go_25 : decode cX10_go 25 = .ok (.iconst 1, 1) := dk_4 (dk_at dksX10_go_1 1 rfl rfl)
theorem dX10_go_26 : decode cX10_go 26 = .ok (.iadd, 1) := dk_96 (dk_at dksX10_go_1 2 rfl rfl)
theorem dX10_go_27 : decode cX10_go 27 = .ok (.ireturn, 1) := dk_172 (dk_at dksX10_go_1 3 rfl rfl)
abbrev cX10_init : ByteArray := prog_6_method_1_code
def yX10_init : MethodName := ⟨RX10, "<init>", "(LKernelGym;I)V"⟩
def dkwX10_init_0 : List UInt8 := [42, 43, 181, 0, 1, 42, 28, 181, 0, 7, 42, 183, 0, 11, 177]
abbrev dktX10_init_0 : List UInt8 := dkwX10_init_0 ++ []
theorem dksX10_init_0 : cX10_init.data.toList.drop 0 = dktX10_init_0 := by decide +kernel
theorem dX10_init_0 : decode cX10_init 0 = .ok (.aload_n 0, 1) := dk_42 (dk_at dksX10_init_0 0 rfl rfl)
theorem dX10_init_1 : decode cX10_init 1 = .ok (.aload_n 1, 1) := dk_43 (dk_at dksX10_init_0 1 rfl rfl)
theorem dX10_init_2 : decode cX10_init 2 = .ok (.putfield 1, 3) := dk_181 0 1 (dk_at dksX10_init_0 2 rfl rfl)
theorem dX10_init_5 : decode cX10_init 5 = .ok (.aload_n 0, 1) := dk_42 (dk_at dksX10_init_0 5 rfl rfl)
theorem dX10_init_6 : decode cX10_init 6 = .ok (.iload_n 2, 1) := dk_28 (dk_at dksX10_init_0 6 rfl rfl)
theorem dX10_init_7 : decode cX10_init 7 = .ok (.putfield 7, 3) := dk_181 0 7 (dk_at dksX10_init_0 7 rfl rfl)
theorem dX10_init_10 : decode cX10_init 10 = .ok (.aload_n 0, 1) := dk_42 (dk_at dksX10_init_0 10 rfl rfl)
theorem dX10_init_11 : decode cX10_init 11 = .ok (.invokespecial 11, 3) := dk_183 0 11 (dk_at dksX10_init_0 11 rfl rfl)
theorem dX10_init_14 : decode cX10_init 14 = .ok (.return_, 1) := dk_177 (dk_at dksX10_init_0 14 rfl rfl)
theorem q143 : (Jvm.Cond.initialized "KernelGym$5") ∈ lw_all := lw_g (lw_at lw_m1 26 rfl) rfl
theorem q937 : (Jvm.Cond.selects "KernelGym$5" ({ cls := "KernelGym$Line", name := "go", desc := "(LKernelGym$Pass;LKernelGym$Use;I)I" } : Jvm.MethodName) ({ cls := "KernelGym$5", name := "go", desc := "(LKernelGym$Pass;LKernelGym$Use;I)I" } : Jvm.MethodName)) ∈ lw_all := lw_g (lw_at lw_m4 100 rfl) rfl
theorem q938 : (Jvm.Cond.instanceMethod ({ cls := "KernelGym$5", name := "go", desc := "(LKernelGym$Pass;LKernelGym$Use;I)I" } : Jvm.MethodName)) ∈ lw_all := lw_g (lw_at lw_m4 101 rfl) rfl
theorem q939 : (Jvm.Cond.code ({ cls := "KernelGym$5", name := "go", desc := "(LKernelGym$Pass;LKernelGym$Use;I)I" } : Jvm.MethodName) prog_6_method_2_code (5 : Nat) (Option.some Jvm.ClassFile.FieldType.int)) ∈ lw_all := lw_g (lw_at lw_m4 102 rfl) rfl
theorem q940 : (Jvm.Cond.methodLink "KernelGym$5" (17 : Nat) ({ cls := "KernelGym$Pass", name := "take", desc := "(II)V" } : Jvm.MethodName)) ∈ lw_all := lw_g (lw_at lw_m4 103 rfl) rfl
theorem q972 : (Jvm.Cond.selects "KernelGym$5" ({ cls := "KernelGym$Line", name := "endsMacro", desc := "()Z" } : Jvm.MethodName) ({ cls := "KernelGym$Line", name := "endsMacro", desc := "()Z" } : Jvm.MethodName)) ∈ lw_all := lw_g (lw_at lw_m4 135 rfl) rfl
theorem q987 : (Jvm.Cond.selects "KernelGym$5" ({ cls := "KernelGym$Line", name := "beginsMacro", desc := "()Z" } : Jvm.MethodName) ({ cls := "KernelGym$Line", name := "beginsMacro", desc := "()Z" } : Jvm.MethodName)) ∈ lw_all := lw_g (lw_at lw_m4 150 rfl) rfl
theorem q1051 : (Jvm.Cond.selects "KernelGym$5" ({ cls := "java/lang/Object", name := "getClass", desc := "()Ljava/lang/Class;" } : Jvm.MethodName) ({ cls := "java/lang/Object", name := "getClass", desc := "()Ljava/lang/Class;" } : Jvm.MethodName)) ∈ lw_all := lw_g (lw_at lw_m4 214 rfl) rfl
theorem q1831 : (Jvm.Cond.instantiable "KernelGym$5" (2 : Nat)) ∈ lw_all := lw_g (lw_at lw_m8 34 rfl) rfl
theorem q1833 : (Jvm.Cond.instanceMethod ({ cls := "KernelGym$5", name := "<init>", desc := "(LKernelGym;I)V" } : Jvm.MethodName)) ∈ lw_all := lw_g (lw_at lw_m8 36 rfl) rfl
theorem q1834 : (Jvm.Cond.code ({ cls := "KernelGym$5", name := "<init>", desc := "(LKernelGym;I)V" } : Jvm.MethodName) prog_6_method_1_code (3 : Nat) (Option.none : Option Jvm.ClassFile.FieldType)) ∈ lw_all := lw_g (lw_at lw_m8 37 rfl) rfl
theorem q1835 : (Jvm.Cond.methodLinkNest "KernelGym$5" (11 : Nat) ({ cls := "KernelGym$Line", name := "<init>", desc := "()V" } : Jvm.MethodName) "KernelGym") ∈ lw_tbl := lw_at lw_m8 38 rfl
theorem q1836 : (Jvm.Cond.fieldLink "KernelGym$5" (7 : Nat) "KernelGym$5" "val$words" "I") ∈ lw_all := lw_g (lw_at lw_m8 39 rfl) rfl
theorem q1837 : (Jvm.Cond.fieldLink "KernelGym$5" (1 : Nat) "KernelGym$5" "this$0" "LKernelGym;") ∈ lw_all := lw_g (lw_at lw_m8 40 rfl) rfl
theorem q1838 : (Jvm.Cond.laysFinal "KernelGym$5" "KernelGym$5" "val$words" "I") ∈ lw_all := lw_g (lw_at lw_m8 41 rfl) rfl
theorem q1839 : (Jvm.Cond.soleField "KernelGym$5" "val$words") ∈ lw_all := lw_g (lw_at lw_m8 42 rfl) rfl
theorem q1840 : (Jvm.Cond.laysFinal "KernelGym$5" "KernelGym$5" "this$0" "LKernelGym;") ∈ lw_all := lw_g (lw_at lw_m8 43 rfl) rfl
theorem q1841 : (Jvm.Cond.soleField "KernelGym$5" "this$0") ∈ lw_all := lw_g (lw_at lw_m8 44 rfl) rfl
theorem q1842 : (Jvm.Cond.superclass "KernelGym$5" "KernelGym$Line") ∈ lw_all := lw_g (lw_at lw_m8 45 rfl) rfl
theorem q3471 : (Jvm.Cond.castable "KernelGym$5" "KernelGym$Line") ∈ lw_tbl := lw_at lw_m14 234 rfl
theorem q3490 : (Jvm.Cond.castable "KernelGym$5" "java/lang/Object") ∈ lw_tbl := lw_at lw_m15 13 rfl
theorem in_X10 : ∀ w ∈ wsX100, w ∈ lw_all := lw_in wsX100 [1838, 1840] (by decide +kernel) (by decide +kernel)

/-! KernelGym$6 -/
def RX11 : String := "KernelGym$6"
def TX11 : u_T := fun k => match k with
  | 0 => ("KernelGym$6", "val$address", "I", true)
  | 1 => ("KernelGym$6", "val$operand", "LKernelGym$Operand;", true)
  | _ => ("KernelGym$6", "this$0", "LKernelGym;", true)
def tyX11 : Nat → FieldType := fun k => match k with
  | 0 => .int
  | 1 => .object "KernelGym$Operand"
  | _ => .object "KernelGym"
abbrev wsX110 : List Cond := u_ws RX11 TX11 3
theorem nmX11 : ∀ a, a < 3 → ∀ b, b < 3 → a ≠ b → (TX11 a).2.1 ≠ (TX11 b).2.1 := by decide +kernel
theorem tyX11_ok : ∀ k, k < 3 → parseFieldDescriptor (TX11 k).2.2.1 = some (tyX11 k) := by decide +kernel
abbrev cX11_go : ByteArray := prog_7_method_2_code
def yX11_go : MethodName := ⟨RX11, "go", "(LKernelGym$Pass;LKernelGym$Use;I)I"⟩
def dkwX11_go_0 : List UInt8 := [43, 42, 180, 0, 7, 43, 42, 180, 0, 11, 44, 29, 182, 0, 21, 182, 0, 27, 29, 4, 96, 172]
abbrev dktX11_go_0 : List UInt8 := dkwX11_go_0 ++ []
theorem dksX11_go_0 : cX11_go.data.toList.drop 0 = dktX11_go_0 := by decide +kernel
theorem dX11_go_0 : decode cX11_go 0 = .ok (.aload_n 1, 1) := dk_43 (dk_at dksX11_go_0 0 rfl rfl)
theorem dX11_go_1 : decode cX11_go 1 = .ok (.aload_n 0, 1) := dk_42 (dk_at dksX11_go_0 1 rfl rfl)
theorem dX11_go_2 : decode cX11_go 2 = .ok (.getfield 7, 3) := dk_180 0 7 (dk_at dksX11_go_0 2 rfl rfl)
theorem dX11_go_5 : decode cX11_go 5 = .ok (.aload_n 1, 1) := dk_43 (dk_at dksX11_go_0 5 rfl rfl)
theorem dX11_go_6 : decode cX11_go 6 = .ok (.aload_n 0, 1) := dk_42 (dk_at dksX11_go_0 6 rfl rfl)
theorem dX11_go_7 : decode cX11_go 7 = .ok (.getfield 11, 3) := dk_180 0 11 (dk_at dksX11_go_0 7 rfl rfl)
theorem dX11_go_10 : decode cX11_go 10 = .ok (.aload_n 2, 1) := dk_44 (dk_at dksX11_go_0 10 rfl rfl)
theorem dX11_go_11 : decode cX11_go 11 = .ok (.iload_n 3, 1) := dk_29 (dk_at dksX11_go_0 11 rfl rfl)
theorem dX11_go_12 : decode cX11_go 12 = .ok (.invokevirtual 21, 3) := dk_182 0 21 (dk_at dksX11_go_0 12 rfl rfl)
theorem dX11_go_15 : decode cX11_go 15 = .ok (.invokevirtual 27, 3) := dk_182 0 27 (dk_at dksX11_go_0 15 rfl rfl)
theorem dX11_go_18 : decode cX11_go 18 = .ok (.iload_n 3, 1) := dk_29 (dk_at dksX11_go_0 18 rfl rfl)
theorem dX11_go_19 : decode cX11_go 19 = .ok (.iconst 1, 1) := dk_4 (dk_at dksX11_go_0 19 rfl rfl)
theorem dX11_go_20 : decode cX11_go 20 = .ok (.iadd, 1) := dk_96 (dk_at dksX11_go_0 20 rfl rfl)
theorem dX11_go_21 : decode cX11_go 21 = .ok (.ireturn, 1) := dk_172 (dk_at dksX11_go_0 21 rfl rfl)
abbrev cX11_init : ByteArray := prog_7_method_1_code
def yX11_init : MethodName := ⟨RX11, "<init>", "(LKernelGym;ILKernelGym$Operand;)V"⟩
def dkwX11_init_0 : List UInt8 := [42, 43, 181, 0, 1, 42, 28, 181, 0, 7, 42, 45, 181, 0, 11, 42, 183, 0, 15, 177]
abbrev dktX11_init_0 : List UInt8 := dkwX11_init_0 ++ []
theorem dksX11_init_0 : cX11_init.data.toList.drop 0 = dktX11_init_0 := by decide +kernel
theorem dX11_init_0 : decode cX11_init 0 = .ok (.aload_n 0, 1) := dk_42 (dk_at dksX11_init_0 0 rfl rfl)
theorem dX11_init_1 : decode cX11_init 1 = .ok (.aload_n 1, 1) := dk_43 (dk_at dksX11_init_0 1 rfl rfl)
theorem dX11_init_2 : decode cX11_init 2 = .ok (.putfield 1, 3) := dk_181 0 1 (dk_at dksX11_init_0 2 rfl rfl)
theorem dX11_init_5 : decode cX11_init 5 = .ok (.aload_n 0, 1) := dk_42 (dk_at dksX11_init_0 5 rfl rfl)
theorem dX11_init_6 : decode cX11_init 6 = .ok (.iload_n 2, 1) := dk_28 (dk_at dksX11_init_0 6 rfl rfl)
theorem dX11_init_7 : decode cX11_init 7 = .ok (.putfield 7, 3) := dk_181 0 7 (dk_at dksX11_init_0 7 rfl rfl)
theorem dX11_init_10 : decode cX11_init 10 = .ok (.aload_n 0, 1) := dk_42 (dk_at dksX11_init_0 10 rfl rfl)
theorem dX11_init_11 : decode cX11_init 11 = .ok (.aload_n 3, 1) := dk_45 (dk_at dksX11_init_0 11 rfl rfl)
theorem dX11_init_12 : decode cX11_init 12 = .ok (.putfield 11, 3) := dk_181 0 11 (dk_at dksX11_init_0 12 rfl rfl)
theorem dX11_init_15 : decode cX11_init 15 = .ok (.aload_n 0, 1) := dk_42 (dk_at dksX11_init_0 15 rfl rfl)
theorem dX11_init_16 : decode cX11_init 16 = .ok (.invokespecial 15, 3) := dk_183 0 15 (dk_at dksX11_init_0 16 rfl rfl)
theorem dX11_init_19 : decode cX11_init 19 = .ok (.return_, 1) := dk_177 (dk_at dksX11_init_0 19 rfl rfl)
theorem q144 : (Jvm.Cond.initialized "KernelGym$6") ∈ lw_all := lw_g (lw_at lw_m1 27 rfl) rfl
theorem q941 : (Jvm.Cond.selects "KernelGym$6" ({ cls := "KernelGym$Line", name := "go", desc := "(LKernelGym$Pass;LKernelGym$Use;I)I" } : Jvm.MethodName) ({ cls := "KernelGym$6", name := "go", desc := "(LKernelGym$Pass;LKernelGym$Use;I)I" } : Jvm.MethodName)) ∈ lw_all := lw_g (lw_at lw_m4 104 rfl) rfl
theorem q942 : (Jvm.Cond.instanceMethod ({ cls := "KernelGym$6", name := "go", desc := "(LKernelGym$Pass;LKernelGym$Use;I)I" } : Jvm.MethodName)) ∈ lw_all := lw_g (lw_at lw_m4 105 rfl) rfl
theorem q943 : (Jvm.Cond.code ({ cls := "KernelGym$6", name := "go", desc := "(LKernelGym$Pass;LKernelGym$Use;I)I" } : Jvm.MethodName) prog_7_method_2_code (4 : Nat) (Option.some Jvm.ClassFile.FieldType.int)) ∈ lw_all := lw_g (lw_at lw_m4 106 rfl) rfl
theorem q944 : (Jvm.Cond.methodLink "KernelGym$6" (21 : Nat) ({ cls := "KernelGym$Pass", name := "value", desc := "(LKernelGym$Operand;LKernelGym$Use;I)I" } : Jvm.MethodName)) ∈ lw_all := lw_g (lw_at lw_m4 107 rfl) rfl
theorem q945 : (Jvm.Cond.methodLink "KernelGym$6" (27 : Nat) ({ cls := "KernelGym$Pass", name := "point", desc := "(II)V" } : Jvm.MethodName)) ∈ lw_all := lw_g (lw_at lw_m4 108 rfl) rfl
theorem q973 : (Jvm.Cond.selects "KernelGym$6" ({ cls := "KernelGym$Line", name := "endsMacro", desc := "()Z" } : Jvm.MethodName) ({ cls := "KernelGym$Line", name := "endsMacro", desc := "()Z" } : Jvm.MethodName)) ∈ lw_all := lw_g (lw_at lw_m4 136 rfl) rfl
theorem q988 : (Jvm.Cond.selects "KernelGym$6" ({ cls := "KernelGym$Line", name := "beginsMacro", desc := "()Z" } : Jvm.MethodName) ({ cls := "KernelGym$Line", name := "beginsMacro", desc := "()Z" } : Jvm.MethodName)) ∈ lw_all := lw_g (lw_at lw_m4 151 rfl) rfl
theorem q1052 : (Jvm.Cond.selects "KernelGym$6" ({ cls := "java/lang/Object", name := "getClass", desc := "()Ljava/lang/Class;" } : Jvm.MethodName) ({ cls := "java/lang/Object", name := "getClass", desc := "()Ljava/lang/Class;" } : Jvm.MethodName)) ∈ lw_all := lw_g (lw_at lw_m4 215 rfl) rfl
theorem q1851 : (Jvm.Cond.instantiable "KernelGym$6" (3 : Nat)) ∈ lw_all := lw_g (lw_at lw_m8 54 rfl) rfl
theorem q1853 : (Jvm.Cond.instanceMethod ({ cls := "KernelGym$6", name := "<init>", desc := "(LKernelGym;ILKernelGym$Operand;)V" } : Jvm.MethodName)) ∈ lw_all := lw_g (lw_at lw_m8 56 rfl) rfl
theorem q1854 : (Jvm.Cond.code ({ cls := "KernelGym$6", name := "<init>", desc := "(LKernelGym;ILKernelGym$Operand;)V" } : Jvm.MethodName) prog_7_method_1_code (4 : Nat) (Option.none : Option Jvm.ClassFile.FieldType)) ∈ lw_all := lw_g (lw_at lw_m8 57 rfl) rfl
theorem q1855 : (Jvm.Cond.methodLinkNest "KernelGym$6" (15 : Nat) ({ cls := "KernelGym$Line", name := "<init>", desc := "()V" } : Jvm.MethodName) "KernelGym") ∈ lw_tbl := lw_at lw_m8 58 rfl
theorem q1856 : (Jvm.Cond.fieldLink "KernelGym$6" (7 : Nat) "KernelGym$6" "val$address" "I") ∈ lw_all := lw_g (lw_at lw_m8 59 rfl) rfl
theorem q1857 : (Jvm.Cond.fieldLink "KernelGym$6" (11 : Nat) "KernelGym$6" "val$operand" "LKernelGym$Operand;") ∈ lw_all := lw_g (lw_at lw_m8 60 rfl) rfl
theorem q1858 : (Jvm.Cond.fieldLink "KernelGym$6" (1 : Nat) "KernelGym$6" "this$0" "LKernelGym;") ∈ lw_all := lw_g (lw_at lw_m8 61 rfl) rfl
theorem q1859 : (Jvm.Cond.laysFinal "KernelGym$6" "KernelGym$6" "val$address" "I") ∈ lw_all := lw_g (lw_at lw_m8 62 rfl) rfl
theorem q1860 : (Jvm.Cond.soleField "KernelGym$6" "val$address") ∈ lw_all := lw_g (lw_at lw_m8 63 rfl) rfl
theorem q1861 : (Jvm.Cond.laysFinal "KernelGym$6" "KernelGym$6" "val$operand" "LKernelGym$Operand;") ∈ lw_all := lw_g (lw_at lw_m8 64 rfl) rfl
theorem q1862 : (Jvm.Cond.soleField "KernelGym$6" "val$operand") ∈ lw_all := lw_g (lw_at lw_m8 65 rfl) rfl
theorem q1863 : (Jvm.Cond.laysFinal "KernelGym$6" "KernelGym$6" "this$0" "LKernelGym;") ∈ lw_all := lw_g (lw_at lw_m8 66 rfl) rfl
theorem q1864 : (Jvm.Cond.soleField "KernelGym$6" "this$0") ∈ lw_all := lw_g (lw_at lw_m8 67 rfl) rfl
theorem q1865 : (Jvm.Cond.superclass "KernelGym$6" "KernelGym$Line") ∈ lw_all := lw_g (lw_at lw_m8 68 rfl) rfl
theorem q3472 : (Jvm.Cond.castable "KernelGym$6" "KernelGym$Line") ∈ lw_tbl := lw_at lw_m14 235 rfl
theorem q3491 : (Jvm.Cond.castable "KernelGym$6" "java/lang/Object") ∈ lw_tbl := lw_at lw_m15 14 rfl
theorem in_X11 : ∀ w ∈ wsX110, w ∈ lw_all := lw_in wsX110 [1859, 1861, 1863] (by decide +kernel) (by decide +kernel)

/-! KernelGym$7 -/
def RX12 : String := "KernelGym$7"
def TX12 : u_T := fun k => match k with
  | 0 => ("KernelGym$7", "val$macro", "I", true)
  | _ => ("KernelGym$7", "this$0", "LKernelGym;", true)
def tyX12 : Nat → FieldType := fun k => match k with
  | 0 => .int
  | _ => .object "KernelGym"
abbrev wsX120 : List Cond := u_ws RX12 TX12 2
theorem nmX12 : ∀ a, a < 2 → ∀ b, b < 2 → a ≠ b → (TX12 a).2.1 ≠ (TX12 b).2.1 := by decide +kernel
theorem tyX12_ok : ∀ k, k < 2 → parseFieldDescriptor (TX12 k).2.2.1 = some (tyX12 k) := by decide +kernel
abbrev cX12_go : ByteArray := prog_8_method_2_code
def yX12_go : MethodName := ⟨RX12, "go", "(LKernelGym$Pass;LKernelGym$Use;I)I"⟩
def dkwX12_go_0 : List UInt8 := [43, 42, 180, 0, 7, 29, 182, 0, 17, 172]
abbrev dktX12_go_0 : List UInt8 := dkwX12_go_0 ++ []
theorem dksX12_go_0 : cX12_go.data.toList.drop 0 = dktX12_go_0 := by decide +kernel
theorem dX12_go_0 : decode cX12_go 0 = .ok (.aload_n 1, 1) := dk_43 (dk_at dksX12_go_0 0 rfl rfl)
theorem dX12_go_1 : decode cX12_go 1 = .ok (.aload_n 0, 1) := dk_42 (dk_at dksX12_go_0 1 rfl rfl)
theorem dX12_go_2 : decode cX12_go 2 = .ok (.getfield 7, 3) := dk_180 0 7 (dk_at dksX12_go_0 2 rfl rfl)
theorem dX12_go_5 : decode cX12_go 5 = .ok (.iload_n 3, 1) := dk_29 (dk_at dksX12_go_0 5 rfl rfl)
theorem dX12_go_6 : decode cX12_go 6 = .ok (.invokevirtual 17, 3) := dk_182 0 17 (dk_at dksX12_go_0 6 rfl rfl)
theorem dX12_go_9 : decode cX12_go 9 = .ok (.ireturn, 1) := dk_172 (dk_at dksX12_go_0 9 rfl rfl)
abbrev cX12_beginsMacro : ByteArray := prog_8_method_3_code
def yX12_beginsMacro : MethodName := ⟨RX12, "beginsMacro", "()Z"⟩
theorem dX12_beginsMacro_0 : decode cX12_beginsMacro 0 = .ok (.iconst 1, 1) := by decide +kernel
theorem dX12_beginsMacro_1 : decode cX12_beginsMacro 1 = .ok (.ireturn, 1) := by decide +kernel
abbrev cX12_init : ByteArray := prog_8_method_1_code
def yX12_init : MethodName := ⟨RX12, "<init>", "(LKernelGym;I)V"⟩
def dkwX12_init_0 : List UInt8 := [42, 43, 181, 0, 1, 42, 28, 181, 0, 7, 42, 183, 0, 11, 177]
abbrev dktX12_init_0 : List UInt8 := dkwX12_init_0 ++ []
theorem dksX12_init_0 : cX12_init.data.toList.drop 0 = dktX12_init_0 := by decide +kernel
theorem dX12_init_0 : decode cX12_init 0 = .ok (.aload_n 0, 1) := dk_42 (dk_at dksX12_init_0 0 rfl rfl)
theorem dX12_init_1 : decode cX12_init 1 = .ok (.aload_n 1, 1) := dk_43 (dk_at dksX12_init_0 1 rfl rfl)
theorem dX12_init_2 : decode cX12_init 2 = .ok (.putfield 1, 3) := dk_181 0 1 (dk_at dksX12_init_0 2 rfl rfl)
theorem dX12_init_5 : decode cX12_init 5 = .ok (.aload_n 0, 1) := dk_42 (dk_at dksX12_init_0 5 rfl rfl)
theorem dX12_init_6 : decode cX12_init 6 = .ok (.iload_n 2, 1) := dk_28 (dk_at dksX12_init_0 6 rfl rfl)
theorem dX12_init_7 : decode cX12_init 7 = .ok (.putfield 7, 3) := dk_181 0 7 (dk_at dksX12_init_0 7 rfl rfl)
theorem dX12_init_10 : decode cX12_init 10 = .ok (.aload_n 0, 1) := dk_42 (dk_at dksX12_init_0 10 rfl rfl)
theorem dX12_init_11 : decode cX12_init 11 = .ok (.invokespecial 11, 3) := dk_183 0 11 (dk_at dksX12_init_0 11 rfl rfl)
theorem dX12_init_14 : decode cX12_init 14 = .ok (.return_, 1) := dk_177 (dk_at dksX12_init_0 14 rfl rfl)
theorem q145 : (Jvm.Cond.initialized "KernelGym$7") ∈ lw_all := lw_g (lw_at lw_m1 28 rfl) rfl
theorem q954 : (Jvm.Cond.selects "KernelGym$7" ({ cls := "KernelGym$Line", name := "go", desc := "(LKernelGym$Pass;LKernelGym$Use;I)I" } : Jvm.MethodName) ({ cls := "KernelGym$7", name := "go", desc := "(LKernelGym$Pass;LKernelGym$Use;I)I" } : Jvm.MethodName)) ∈ lw_all := lw_g (lw_at lw_m4 117 rfl) rfl
theorem q955 : (Jvm.Cond.instanceMethod ({ cls := "KernelGym$7", name := "go", desc := "(LKernelGym$Pass;LKernelGym$Use;I)I" } : Jvm.MethodName)) ∈ lw_all := lw_g (lw_at lw_m4 118 rfl) rfl
theorem q956 : (Jvm.Cond.code ({ cls := "KernelGym$7", name := "go", desc := "(LKernelGym$Pass;LKernelGym$Use;I)I" } : Jvm.MethodName) prog_8_method_2_code (4 : Nat) (Option.some Jvm.ClassFile.FieldType.int)) ∈ lw_all := lw_g (lw_at lw_m4 119 rfl) rfl
theorem q957 : (Jvm.Cond.methodLink "KernelGym$7" (17 : Nat) ({ cls := "KernelGym$Pass", name := "define", desc := "(II)I" } : Jvm.MethodName)) ∈ lw_all := lw_g (lw_at lw_m4 120 rfl) rfl
theorem q974 : (Jvm.Cond.selects "KernelGym$7" ({ cls := "KernelGym$Line", name := "endsMacro", desc := "()Z" } : Jvm.MethodName) ({ cls := "KernelGym$Line", name := "endsMacro", desc := "()Z" } : Jvm.MethodName)) ∈ lw_all := lw_g (lw_at lw_m4 137 rfl) rfl
theorem q989 : (Jvm.Cond.selects "KernelGym$7" ({ cls := "KernelGym$Line", name := "beginsMacro", desc := "()Z" } : Jvm.MethodName) ({ cls := "KernelGym$7", name := "beginsMacro", desc := "()Z" } : Jvm.MethodName)) ∈ lw_all := lw_g (lw_at lw_m4 152 rfl) rfl
theorem q990 : (Jvm.Cond.instanceMethod ({ cls := "KernelGym$7", name := "beginsMacro", desc := "()Z" } : Jvm.MethodName)) ∈ lw_all := lw_g (lw_at lw_m4 153 rfl) rfl
theorem q991 : (Jvm.Cond.code ({ cls := "KernelGym$7", name := "beginsMacro", desc := "()Z" } : Jvm.MethodName) prog_8_method_3_code (1 : Nat) (Option.some Jvm.ClassFile.FieldType.boolean)) ∈ lw_all := lw_g (lw_at lw_m4 154 rfl) rfl
theorem q1053 : (Jvm.Cond.selects "KernelGym$7" ({ cls := "java/lang/Object", name := "getClass", desc := "()Ljava/lang/Class;" } : Jvm.MethodName) ({ cls := "java/lang/Object", name := "getClass", desc := "()Ljava/lang/Class;" } : Jvm.MethodName)) ∈ lw_all := lw_g (lw_at lw_m4 216 rfl) rfl
theorem q1874 : (Jvm.Cond.instantiable "KernelGym$7" (2 : Nat)) ∈ lw_all := lw_g (lw_at lw_m8 77 rfl) rfl
theorem q1876 : (Jvm.Cond.instanceMethod ({ cls := "KernelGym$7", name := "<init>", desc := "(LKernelGym;I)V" } : Jvm.MethodName)) ∈ lw_all := lw_g (lw_at lw_m8 79 rfl) rfl
theorem q1877 : (Jvm.Cond.code ({ cls := "KernelGym$7", name := "<init>", desc := "(LKernelGym;I)V" } : Jvm.MethodName) prog_8_method_1_code (3 : Nat) (Option.none : Option Jvm.ClassFile.FieldType)) ∈ lw_all := lw_g (lw_at lw_m8 80 rfl) rfl
theorem q1878 : (Jvm.Cond.methodLinkNest "KernelGym$7" (11 : Nat) ({ cls := "KernelGym$Line", name := "<init>", desc := "()V" } : Jvm.MethodName) "KernelGym") ∈ lw_tbl := lw_at lw_m8 81 rfl
theorem q1879 : (Jvm.Cond.fieldLink "KernelGym$7" (7 : Nat) "KernelGym$7" "val$macro" "I") ∈ lw_all := lw_g (lw_at lw_m8 82 rfl) rfl
theorem q1880 : (Jvm.Cond.fieldLink "KernelGym$7" (1 : Nat) "KernelGym$7" "this$0" "LKernelGym;") ∈ lw_all := lw_g (lw_at lw_m8 83 rfl) rfl
theorem q1881 : (Jvm.Cond.laysFinal "KernelGym$7" "KernelGym$7" "val$macro" "I") ∈ lw_all := lw_g (lw_at lw_m8 84 rfl) rfl
theorem q1882 : (Jvm.Cond.soleField "KernelGym$7" "val$macro") ∈ lw_all := lw_g (lw_at lw_m8 85 rfl) rfl
theorem q1883 : (Jvm.Cond.laysFinal "KernelGym$7" "KernelGym$7" "this$0" "LKernelGym;") ∈ lw_all := lw_g (lw_at lw_m8 86 rfl) rfl
theorem q1884 : (Jvm.Cond.soleField "KernelGym$7" "this$0") ∈ lw_all := lw_g (lw_at lw_m8 87 rfl) rfl
theorem q1885 : (Jvm.Cond.superclass "KernelGym$7" "KernelGym$Line") ∈ lw_all := lw_g (lw_at lw_m8 88 rfl) rfl
theorem q3473 : (Jvm.Cond.castable "KernelGym$7" "KernelGym$Line") ∈ lw_tbl := lw_at lw_m14 236 rfl
theorem q3492 : (Jvm.Cond.castable "KernelGym$7" "java/lang/Object") ∈ lw_tbl := lw_at lw_m15 15 rfl
theorem in_X12 : ∀ w ∈ wsX120, w ∈ lw_all := lw_in wsX120 [1881, 1883] (by decide +kernel) (by decide +kernel)

/-! KernelGym$8 -/
def RX13 : String := "KernelGym$8"
def TX13 : u_T := fun k => match k with
  | _ => ("KernelGym$8", "this$0", "LKernelGym;", true)
def tyX13 : Nat → FieldType := fun k => match k with
  | _ => .object "KernelGym"
abbrev wsX130 : List Cond := u_ws RX13 TX13 1
theorem nmX13 : ∀ a, a < 1 → ∀ b, b < 1 → a ≠ b → (TX13 a).2.1 ≠ (TX13 b).2.1 := by decide +kernel
theorem tyX13_ok : ∀ k, k < 1 → parseFieldDescriptor (TX13 k).2.2.1 = some (tyX13 k) := by decide +kernel
abbrev cX13_endsMacro : ByteArray := prog_9_method_3_code
def yX13_endsMacro : MethodName := ⟨RX13, "endsMacro", "()Z"⟩
theorem dX13_endsMacro_0 : decode cX13_endsMacro 0 = .ok (.iconst 1, 1) := by decide +kernel
theorem dX13_endsMacro_1 : decode cX13_endsMacro 1 = .ok (.ireturn, 1) := by decide +kernel
abbrev cX13_go : ByteArray := prog_9_method_2_code
def yX13_go : MethodName := ⟨RX13, "go", "(LKernelGym$Pass;LKernelGym$Use;I)I"⟩
def dkwX13_go_0 : List UInt8 := [187, 0, 15, 89, 7, 29, 183, 0, 17, 191]
abbrev dktX13_go_0 : List UInt8 := dkwX13_go_0 ++ []
theorem dksX13_go_0 : cX13_go.data.toList.drop 0 = dktX13_go_0 := by decide +kernel
theorem dX13_go_0 : decode cX13_go 0 = .ok (.new 15, 3) := dk_187 0 15 (dk_at dksX13_go_0 0 rfl rfl)
theorem dX13_go_3 : decode cX13_go 3 = .ok (.dup, 1) := dk_89 (dk_at dksX13_go_0 3 rfl rfl)
theorem dX13_go_4 : decode cX13_go 4 = .ok (.iconst 4, 1) := dk_7 (dk_at dksX13_go_0 4 rfl rfl)
theorem dX13_go_5 : decode cX13_go 5 = .ok (.iload_n 3, 1) := dk_29 (dk_at dksX13_go_0 5 rfl rfl)
theorem dX13_go_6 : decode cX13_go 6 = .ok (.invokespecial 17, 3) := dk_183 0 17 (dk_at dksX13_go_0 6 rfl rfl)
theorem dX13_go_9 : decode cX13_go 9 = .ok (.athrow, 1) := dk_191 (dk_at dksX13_go_0 9 rfl rfl)
abbrev cX13_init : ByteArray := prog_9_method_1_code
def yX13_init : MethodName := ⟨RX13, "<init>", "(LKernelGym;)V"⟩
def dkwX13_init_0 : List UInt8 := [42, 43, 181, 0, 3, 42, 183, 0, 9, 177]
abbrev dktX13_init_0 : List UInt8 := dkwX13_init_0 ++ []
theorem dksX13_init_0 : cX13_init.data.toList.drop 0 = dktX13_init_0 := by decide +kernel
theorem dX13_init_0 : decode cX13_init 0 = .ok (.aload_n 0, 1) := dk_42 (dk_at dksX13_init_0 0 rfl rfl)
theorem dX13_init_1 : decode cX13_init 1 = .ok (.aload_n 1, 1) := dk_43 (dk_at dksX13_init_0 1 rfl rfl)
theorem dX13_init_2 : decode cX13_init 2 = .ok (.putfield 3, 3) := dk_181 0 3 (dk_at dksX13_init_0 2 rfl rfl)
theorem dX13_init_5 : decode cX13_init 5 = .ok (.aload_n 0, 1) := dk_42 (dk_at dksX13_init_0 5 rfl rfl)
theorem dX13_init_6 : decode cX13_init 6 = .ok (.invokespecial 9, 3) := dk_183 0 9 (dk_at dksX13_init_0 6 rfl rfl)
theorem dX13_init_9 : decode cX13_init 9 = .ok (.return_, 1) := dk_177 (dk_at dksX13_init_0 9 rfl rfl)
theorem q146 : (Jvm.Cond.initialized "KernelGym$8") ∈ lw_all := lw_g (lw_at lw_m1 29 rfl) rfl
theorem q975 : (Jvm.Cond.selects "KernelGym$8" ({ cls := "KernelGym$Line", name := "endsMacro", desc := "()Z" } : Jvm.MethodName) ({ cls := "KernelGym$8", name := "endsMacro", desc := "()Z" } : Jvm.MethodName)) ∈ lw_all := lw_g (lw_at lw_m4 138 rfl) rfl
theorem q976 : (Jvm.Cond.instanceMethod ({ cls := "KernelGym$8", name := "endsMacro", desc := "()Z" } : Jvm.MethodName)) ∈ lw_all := lw_g (lw_at lw_m4 139 rfl) rfl
theorem q977 : (Jvm.Cond.code ({ cls := "KernelGym$8", name := "endsMacro", desc := "()Z" } : Jvm.MethodName) prog_9_method_3_code (1 : Nat) (Option.some Jvm.ClassFile.FieldType.boolean)) ∈ lw_all := lw_g (lw_at lw_m4 140 rfl) rfl
theorem q992 : (Jvm.Cond.selects "KernelGym$8" ({ cls := "KernelGym$Line", name := "beginsMacro", desc := "()Z" } : Jvm.MethodName) ({ cls := "KernelGym$Line", name := "beginsMacro", desc := "()Z" } : Jvm.MethodName)) ∈ lw_all := lw_g (lw_at lw_m4 155 rfl) rfl
theorem q995 : (Jvm.Cond.selects "KernelGym$8" ({ cls := "KernelGym$Line", name := "go", desc := "(LKernelGym$Pass;LKernelGym$Use;I)I" } : Jvm.MethodName) ({ cls := "KernelGym$8", name := "go", desc := "(LKernelGym$Pass;LKernelGym$Use;I)I" } : Jvm.MethodName)) ∈ lw_all := lw_g (lw_at lw_m4 158 rfl) rfl
theorem q996 : (Jvm.Cond.instanceMethod ({ cls := "KernelGym$8", name := "go", desc := "(LKernelGym$Pass;LKernelGym$Use;I)I" } : Jvm.MethodName)) ∈ lw_all := lw_g (lw_at lw_m4 159 rfl) rfl
theorem q997 : (Jvm.Cond.code ({ cls := "KernelGym$8", name := "go", desc := "(LKernelGym$Pass;LKernelGym$Use;I)I" } : Jvm.MethodName) prog_9_method_2_code (4 : Nat) (Option.some Jvm.ClassFile.FieldType.int)) ∈ lw_all := lw_g (lw_at lw_m4 160 rfl) rfl
theorem q998 : (Jvm.Cond.classLink "KernelGym$8" (15 : Nat) "KernelGym$Wrong") ∈ lw_all := lw_g (lw_at lw_m4 161 rfl) rfl
theorem q999 : (Jvm.Cond.methodLink "KernelGym$8" (17 : Nat) ({ cls := "KernelGym$Wrong", name := "<init>", desc := "(II)V" } : Jvm.MethodName)) ∈ lw_all := lw_g (lw_at lw_m4 162 rfl) rfl
theorem q1054 : (Jvm.Cond.selects "KernelGym$8" ({ cls := "java/lang/Object", name := "getClass", desc := "()Ljava/lang/Class;" } : Jvm.MethodName) ({ cls := "java/lang/Object", name := "getClass", desc := "()Ljava/lang/Class;" } : Jvm.MethodName)) ∈ lw_all := lw_g (lw_at lw_m4 217 rfl) rfl
theorem q1894 : (Jvm.Cond.instantiable "KernelGym$8" (1 : Nat)) ∈ lw_all := lw_g (lw_at lw_m8 97 rfl) rfl
theorem q1896 : (Jvm.Cond.instanceMethod ({ cls := "KernelGym$8", name := "<init>", desc := "(LKernelGym;)V" } : Jvm.MethodName)) ∈ lw_all := lw_g (lw_at lw_m8 99 rfl) rfl
theorem q1897 : (Jvm.Cond.code ({ cls := "KernelGym$8", name := "<init>", desc := "(LKernelGym;)V" } : Jvm.MethodName) prog_9_method_1_code (2 : Nat) (Option.none : Option Jvm.ClassFile.FieldType)) ∈ lw_all := lw_g (lw_at lw_m8 100 rfl) rfl
theorem q1898 : (Jvm.Cond.methodLinkNest "KernelGym$8" (9 : Nat) ({ cls := "KernelGym$Line", name := "<init>", desc := "()V" } : Jvm.MethodName) "KernelGym") ∈ lw_tbl := lw_at lw_m8 101 rfl
theorem q1899 : (Jvm.Cond.fieldLink "KernelGym$8" (3 : Nat) "KernelGym$8" "this$0" "LKernelGym;") ∈ lw_all := lw_g (lw_at lw_m8 102 rfl) rfl
theorem q1900 : (Jvm.Cond.laysFinal "KernelGym$8" "KernelGym$8" "this$0" "LKernelGym;") ∈ lw_all := lw_g (lw_at lw_m8 103 rfl) rfl
theorem q1901 : (Jvm.Cond.soleField "KernelGym$8" "this$0") ∈ lw_all := lw_g (lw_at lw_m8 104 rfl) rfl
theorem q1902 : (Jvm.Cond.superclass "KernelGym$8" "KernelGym$Line") ∈ lw_all := lw_g (lw_at lw_m8 105 rfl) rfl
theorem q3474 : (Jvm.Cond.castable "KernelGym$8" "KernelGym$Line") ∈ lw_tbl := lw_at lw_m14 237 rfl
theorem q3493 : (Jvm.Cond.castable "KernelGym$8" "java/lang/Object") ∈ lw_tbl := lw_at lw_m15 16 rfl
theorem in_X13 : ∀ w ∈ wsX130, w ∈ lw_all := lw_in wsX130 [1900] (by decide +kernel) (by decide +kernel)

/-! KernelGym$9 -/
def RX14 : String := "KernelGym$9"
def TX14 : u_T := fun k => match k with
  | 0 => ("KernelGym$9", "val$macro", "I", true)
  | 1 => ("KernelGym$9", "val$first", "LKernelGym$Operand;", true)
  | 2 => ("KernelGym$9", "val$second", "LKernelGym$Operand;", true)
  | _ => ("KernelGym$9", "this$0", "LKernelGym;", true)
def tyX14 : Nat → FieldType := fun k => match k with
  | 0 => .int
  | 1 => .object "KernelGym$Operand"
  | 2 => .object "KernelGym$Operand"
  | _ => .object "KernelGym"
abbrev wsX140 : List Cond := u_ws RX14 TX14 4
theorem nmX14 : ∀ a, a < 4 → ∀ b, b < 4 → a ≠ b → (TX14 a).2.1 ≠ (TX14 b).2.1 := by decide +kernel
theorem tyX14_ok : ∀ k, k < 4 → parseFieldDescriptor (TX14 k).2.2.1 = some (tyX14 k) := by decide +kernel
abbrev cX14_go : ByteArray := prog_10_method_2_code
def yX14_go : MethodName := ⟨RX14, "go", "(LKernelGym$Pass;LKernelGym$Use;I)I"⟩
def dkwX14_go_0 : List UInt8 := [43, 42, 180, 0, 7, 42, 180, 0, 11, 42, 180, 0, 15, 44, 29, 182, 0, 24, 29, 4, 96, 172]
abbrev dktX14_go_0 : List UInt8 := dkwX14_go_0 ++ []
theorem dksX14_go_0 : cX14_go.data.toList.drop 0 = dktX14_go_0 := by decide +kernel
theorem dX14_go_0 : decode cX14_go 0 = .ok (.aload_n 1, 1) := dk_43 (dk_at dksX14_go_0 0 rfl rfl)
theorem dX14_go_1 : decode cX14_go 1 = .ok (.aload_n 0, 1) := dk_42 (dk_at dksX14_go_0 1 rfl rfl)
theorem dX14_go_2 : decode cX14_go 2 = .ok (.getfield 7, 3) := dk_180 0 7 (dk_at dksX14_go_0 2 rfl rfl)
theorem dX14_go_5 : decode cX14_go 5 = .ok (.aload_n 0, 1) := dk_42 (dk_at dksX14_go_0 5 rfl rfl)
theorem dX14_go_6 : decode cX14_go 6 = .ok (.getfield 11, 3) := dk_180 0 11 (dk_at dksX14_go_0 6 rfl rfl)
theorem dX14_go_9 : decode cX14_go 9 = .ok (.aload_n 0, 1) := dk_42 (dk_at dksX14_go_0 9 rfl rfl)
theorem dX14_go_10 : decode cX14_go 10 = .ok (.getfield 15, 3) := dk_180 0 15 (dk_at dksX14_go_0 10 rfl rfl)
theorem dX14_go_13 : decode cX14_go 13 = .ok (.aload_n 2, 1) := dk_44 (dk_at dksX14_go_0 13 rfl rfl)
theorem dX14_go_14 : decode cX14_go 14 = .ok (.iload_n 3, 1) := dk_29 (dk_at dksX14_go_0 14 rfl rfl)
theorem dX14_go_15 : decode cX14_go 15 = .ok (.invokevirtual 24, 3) := dk_182 0 24 (dk_at dksX14_go_0 15 rfl rfl)
theorem dX14_go_18 : decode cX14_go 18 = .ok (.iload_n 3, 1) := dk_29 (dk_at dksX14_go_0 18 rfl rfl)
theorem dX14_go_19 : decode cX14_go 19 = .ok (.iconst 1, 1) := dk_4 (dk_at dksX14_go_0 19 rfl rfl)
theorem dX14_go_20 : decode cX14_go 20 = .ok (.iadd, 1) := dk_96 (dk_at dksX14_go_0 20 rfl rfl)
theorem dX14_go_21 : decode cX14_go 21 = .ok (.ireturn, 1) := dk_172 (dk_at dksX14_go_0 21 rfl rfl)
abbrev cX14_init : ByteArray := prog_10_method_1_code
def yX14_init : MethodName := ⟨RX14, "<init>", "(LKernelGym;ILKernelGym$Operand;LKernelGym$Operand;)V"⟩
def dkwX14_init_1 : List UInt8 := [183, 0, 18, 177]
abbrev dktX14_init_1 : List UInt8 := dkwX14_init_1 ++ []
def dkwX14_init_0 : List UInt8 := [42, 43, 181, 0, 1, 42, 28, 181, 0, 7, 42, 45, 181, 0, 11, 42, 25, 4, 181, 0, 15, 42]
abbrev dktX14_init_0 : List UInt8 := dkwX14_init_0 ++ dktX14_init_1
theorem dksX14_init_0 : cX14_init.data.toList.drop 0 = dktX14_init_0 := by decide +kernel
theorem dksX14_init_1 : cX14_init.data.toList.drop 22 = dktX14_init_1 := dk_seg dksX14_init_0 22 rfl rfl
theorem dX14_init_0 : decode cX14_init 0 = .ok (.aload_n 0, 1) := dk_42 (dk_at dksX14_init_0 0 rfl rfl)
theorem dX14_init_1 : decode cX14_init 1 = .ok (.aload_n 1, 1) := dk_43 (dk_at dksX14_init_0 1 rfl rfl)
theorem dX14_init_2 : decode cX14_init 2 = .ok (.putfield 1, 3) := dk_181 0 1 (dk_at dksX14_init_0 2 rfl rfl)
theorem dX14_init_5 : decode cX14_init 5 = .ok (.aload_n 0, 1) := dk_42 (dk_at dksX14_init_0 5 rfl rfl)
theorem dX14_init_6 : decode cX14_init 6 = .ok (.iload_n 2, 1) := dk_28 (dk_at dksX14_init_0 6 rfl rfl)
theorem dX14_init_7 : decode cX14_init 7 = .ok (.putfield 7, 3) := dk_181 0 7 (dk_at dksX14_init_0 7 rfl rfl)
theorem dX14_init_10 : decode cX14_init 10 = .ok (.aload_n 0, 1) := dk_42 (dk_at dksX14_init_0 10 rfl rfl)
theorem dX14_init_11 : decode cX14_init 11 = .ok (.aload_n 3, 1) := dk_45 (dk_at dksX14_init_0 11 rfl rfl)
theorem dX14_init_12 : decode cX14_init 12 = .ok (.putfield 11, 3) := dk_181 0 11 (dk_at dksX14_init_0 12 rfl rfl)
theorem dX14_init_15 : decode cX14_init 15 = .ok (.aload_n 0, 1) := dk_42 (dk_at dksX14_init_0 15 rfl rfl)
theorem dX14_init_16 : decode cX14_init 16 = .ok (.aload 4, 2) := dk_25 4 (dk_at dksX14_init_0 16 rfl rfl)
theorem dX14_init_18 : decode cX14_init 18 = .ok (.putfield 15, 3) := dk_181 0 15 (dk_at dksX14_init_0 18 rfl rfl)
theorem dX14_init_21 : decode cX14_init 21 = .ok (.aload_n 0, 1) := dk_42 (dk_at dksX14_init_0 21 rfl rfl)
theorem dX14_init_22 : decode cX14_init 22 = .ok (.invokespecial 18, 3) := dk_183 0 18 (dk_at dksX14_init_1 0 rfl rfl)
theorem dX14_init_25 : decode cX14_init 25 = .ok (.return_, 1) := dk_177 (dk_at dksX14_init_1 3 rfl rfl)
theorem q147 : (Jvm.Cond.initialized "KernelGym$9") ∈ lw_all := lw_g (lw_at lw_m1 30 rfl) rfl
theorem q978 : (Jvm.Cond.selects "KernelGym$9" ({ cls := "KernelGym$Line", name := "endsMacro", desc := "()Z" } : Jvm.MethodName) ({ cls := "KernelGym$Line", name := "endsMacro", desc := "()Z" } : Jvm.MethodName)) ∈ lw_all := lw_g (lw_at lw_m4 141 rfl) rfl
theorem q993 : (Jvm.Cond.selects "KernelGym$9" ({ cls := "KernelGym$Line", name := "beginsMacro", desc := "()Z" } : Jvm.MethodName) ({ cls := "KernelGym$Line", name := "beginsMacro", desc := "()Z" } : Jvm.MethodName)) ∈ lw_all := lw_g (lw_at lw_m4 156 rfl) rfl
theorem q1000 : (Jvm.Cond.selects "KernelGym$9" ({ cls := "KernelGym$Line", name := "go", desc := "(LKernelGym$Pass;LKernelGym$Use;I)I" } : Jvm.MethodName) ({ cls := "KernelGym$9", name := "go", desc := "(LKernelGym$Pass;LKernelGym$Use;I)I" } : Jvm.MethodName)) ∈ lw_all := lw_g (lw_at lw_m4 163 rfl) rfl
theorem q1001 : (Jvm.Cond.instanceMethod ({ cls := "KernelGym$9", name := "go", desc := "(LKernelGym$Pass;LKernelGym$Use;I)I" } : Jvm.MethodName)) ∈ lw_all := lw_g (lw_at lw_m4 164 rfl) rfl
theorem q1002 : (Jvm.Cond.code ({ cls := "KernelGym$9", name := "go", desc := "(LKernelGym$Pass;LKernelGym$Use;I)I" } : Jvm.MethodName) prog_10_method_2_code (4 : Nat) (Option.some Jvm.ClassFile.FieldType.int)) ∈ lw_all := lw_g (lw_at lw_m4 165 rfl) rfl
theorem q1003 : (Jvm.Cond.methodLink "KernelGym$9" (24 : Nat) ({ cls := "KernelGym$Pass", name := "expand", desc := "(ILKernelGym$Operand;LKernelGym$Operand;LKernelGym$Use;I)V" } : Jvm.MethodName)) ∈ lw_all := lw_g (lw_at lw_m4 166 rfl) rfl
theorem q1055 : (Jvm.Cond.selects "KernelGym$9" ({ cls := "java/lang/Object", name := "getClass", desc := "()Ljava/lang/Class;" } : Jvm.MethodName) ({ cls := "java/lang/Object", name := "getClass", desc := "()Ljava/lang/Class;" } : Jvm.MethodName)) ∈ lw_all := lw_g (lw_at lw_m4 218 rfl) rfl
theorem q1911 : (Jvm.Cond.instantiable "KernelGym$9" (4 : Nat)) ∈ lw_all := lw_g (lw_at lw_m8 114 rfl) rfl
theorem q1913 : (Jvm.Cond.instanceMethod ({ cls := "KernelGym$9", name := "<init>", desc := "(LKernelGym;ILKernelGym$Operand;LKernelGym$Operand;)V" } : Jvm.MethodName)) ∈ lw_all := lw_g (lw_at lw_m8 116 rfl) rfl
theorem q1914 : (Jvm.Cond.code ({ cls := "KernelGym$9", name := "<init>", desc := "(LKernelGym;ILKernelGym$Operand;LKernelGym$Operand;)V" } : Jvm.MethodName) prog_10_method_1_code (5 : Nat) (Option.none : Option Jvm.ClassFile.FieldType)) ∈ lw_all := lw_g (lw_at lw_m8 117 rfl) rfl
theorem q1915 : (Jvm.Cond.methodLinkNest "KernelGym$9" (18 : Nat) ({ cls := "KernelGym$Line", name := "<init>", desc := "()V" } : Jvm.MethodName) "KernelGym") ∈ lw_tbl := lw_at lw_m8 118 rfl
theorem q1916 : (Jvm.Cond.fieldLink "KernelGym$9" (7 : Nat) "KernelGym$9" "val$macro" "I") ∈ lw_all := lw_g (lw_at lw_m8 119 rfl) rfl
theorem q1917 : (Jvm.Cond.fieldLink "KernelGym$9" (11 : Nat) "KernelGym$9" "val$first" "LKernelGym$Operand;") ∈ lw_all := lw_g (lw_at lw_m8 120 rfl) rfl
theorem q1918 : (Jvm.Cond.fieldLink "KernelGym$9" (15 : Nat) "KernelGym$9" "val$second" "LKernelGym$Operand;") ∈ lw_all := lw_g (lw_at lw_m8 121 rfl) rfl
theorem q1919 : (Jvm.Cond.fieldLink "KernelGym$9" (1 : Nat) "KernelGym$9" "this$0" "LKernelGym;") ∈ lw_all := lw_g (lw_at lw_m8 122 rfl) rfl
theorem q1920 : (Jvm.Cond.laysFinal "KernelGym$9" "KernelGym$9" "val$macro" "I") ∈ lw_all := lw_g (lw_at lw_m8 123 rfl) rfl
theorem q1921 : (Jvm.Cond.soleField "KernelGym$9" "val$macro") ∈ lw_all := lw_g (lw_at lw_m8 124 rfl) rfl
theorem q1922 : (Jvm.Cond.laysFinal "KernelGym$9" "KernelGym$9" "val$first" "LKernelGym$Operand;") ∈ lw_all := lw_g (lw_at lw_m8 125 rfl) rfl
theorem q1923 : (Jvm.Cond.soleField "KernelGym$9" "val$first") ∈ lw_all := lw_g (lw_at lw_m8 126 rfl) rfl
theorem q1924 : (Jvm.Cond.laysFinal "KernelGym$9" "KernelGym$9" "val$second" "LKernelGym$Operand;") ∈ lw_all := lw_g (lw_at lw_m8 127 rfl) rfl
theorem q1925 : (Jvm.Cond.soleField "KernelGym$9" "val$second") ∈ lw_all := lw_g (lw_at lw_m8 128 rfl) rfl
theorem q1926 : (Jvm.Cond.laysFinal "KernelGym$9" "KernelGym$9" "this$0" "LKernelGym;") ∈ lw_all := lw_g (lw_at lw_m8 129 rfl) rfl
theorem q1927 : (Jvm.Cond.soleField "KernelGym$9" "this$0") ∈ lw_all := lw_g (lw_at lw_m8 130 rfl) rfl
theorem q1928 : (Jvm.Cond.superclass "KernelGym$9" "KernelGym$Line") ∈ lw_all := lw_g (lw_at lw_m8 131 rfl) rfl
theorem q3475 : (Jvm.Cond.castable "KernelGym$9" "KernelGym$Line") ∈ lw_tbl := lw_at lw_m14 238 rfl
theorem q3494 : (Jvm.Cond.castable "KernelGym$9" "java/lang/Object") ∈ lw_tbl := lw_at lw_m15 17 rfl
theorem in_X14 : ∀ w ∈ wsX140, w ∈ lw_all := lw_in wsX140 [1920, 1922, 1924, 1926] (by decide +kernel) (by decide +kernel)

/-! KernelGym$Assembly -/
def RX15 : String := "KernelGym$Assembly"
def TX15 : u_T := fun k => match k with
  | 0 => ("KernelGym$Assembly", "labels", "[I", true)
  | 1 => ("KernelGym$Assembly", "source", "LKernelGym$Use;", true)
  | 2 => ("KernelGym$Assembly", "uses", "Ljava/util/List;", true)
  | 3 => ("KernelGym$Assembly", "made", "[I", true)
  | 4 => ("KernelGym$Assembly", "behind", "I", true)
  | 5 => ("KernelGym$Assembly", "words", "I", true)
  | _ => ("KernelGym$Assembly", "this$0", "LKernelGym;", true)
def tyX15 : Nat → FieldType := fun k => match k with
  | 0 => .array .int
  | 1 => .object "KernelGym$Use"
  | 2 => .object "java/util/List"
  | 3 => .array .int
  | 4 => .int
  | 5 => .int
  | _ => .object "KernelGym"
abbrev wsX150 : List Cond := u_ws RX15 TX15 7
theorem nmX15 : ∀ a, a < 7 → ∀ b, b < 7 → a ≠ b → (TX15 a).2.1 ≠ (TX15 b).2.1 := by decide +kernel
theorem tyX15_ok : ∀ k, k < 7 → parseFieldDescriptor (TX15 k).2.2.1 = some (tyX15 k) := by decide +kernel
abbrev cX15_init : ByteArray := prog_11_method_1_code
def yX15_init : MethodName := ⟨RX15, "<init>", "(LKernelGym;)V"⟩
def dkwX15_init_5 : List UInt8 := [3, 46, 44, 180, 0, 58, 4, 46, 96, 181, 0, 65, 42, 182, 0, 68, 177]
abbrev dktX15_init_5 : List UInt8 := dkwX15_init_5 ++ []
def dkwX15_init_4 : List UInt8 := [180, 0, 24, 182, 0, 52, 42, 16, 8, 44, 180, 0, 58, 3, 46, 96, 181, 0, 61, 42, 44, 180, 0, 58]
abbrev dktX15_init_4 : List UInt8 := dkwX15_init_4 ++ dktX15_init_5
def dkwX15_init_3 : List UInt8 := [187, 0, 38, 89, 42, 43, 183, 0, 40, 77, 44, 3, 43, 180, 0, 43, 185, 0, 46, 1, 0, 42]
abbrev dktX15_init_3 : List UInt8 := dkwX15_init_3 ++ dktX15_init_4
def dkwX15_init_2 : List UInt8 := [181, 0, 35, 3, 61, 28, 16, 16, 162, 0, 16, 42, 180, 0, 15, 28, 2, 79, 132, 2, 1, 167, 255, 240]
abbrev dktX15_init_2 : List UInt8 := dkwX15_init_2 ++ dktX15_init_3
def dkwX15_init_1 : List UInt8 := [183, 0, 21, 181, 0, 24, 42, 187, 0, 28, 89, 183, 0, 30, 181, 0, 31, 42, 17, 1, 0, 188, 10]
abbrev dktX15_init_1 : List UInt8 := dkwX15_init_1 ++ dktX15_init_2
def dkwX15_init_0 : List UInt8 := [42, 43, 181, 0, 3, 42, 183, 0, 9, 42, 16, 16, 188, 10, 181, 0, 15, 42, 187, 0, 19, 89, 2]
abbrev dktX15_init_0 : List UInt8 := dkwX15_init_0 ++ dktX15_init_1
theorem dksX15_init_0 : cX15_init.data.toList.drop 0 = dktX15_init_0 := by decide +kernel
theorem dksX15_init_1 : cX15_init.data.toList.drop 23 = dktX15_init_1 := dk_seg dksX15_init_0 23 rfl rfl
theorem dksX15_init_2 : cX15_init.data.toList.drop 46 = dktX15_init_2 := dk_seg dksX15_init_1 23 rfl rfl
theorem dksX15_init_3 : cX15_init.data.toList.drop 70 = dktX15_init_3 := dk_seg dksX15_init_2 24 rfl rfl
theorem dksX15_init_4 : cX15_init.data.toList.drop 92 = dktX15_init_4 := dk_seg dksX15_init_3 22 rfl rfl
theorem dksX15_init_5 : cX15_init.data.toList.drop 116 = dktX15_init_5 := dk_seg dksX15_init_4 24 rfl rfl
theorem dX15_init_0 : decode cX15_init 0 = .ok (.aload_n 0, 1) := dk_42 (dk_at dksX15_init_0 0 rfl rfl)
theorem dX15_init_1 : decode cX15_init 1 = .ok (.aload_n 1, 1) := dk_43 (dk_at dksX15_init_0 1 rfl rfl)
theorem dX15_init_2 : decode cX15_init 2 = .ok (.putfield 3, 3) := dk_181 0 3 (dk_at dksX15_init_0 2 rfl rfl)
theorem dX15_init_5 : decode cX15_init 5 = .ok (.aload_n 0, 1) := dk_42 (dk_at dksX15_init_0 5 rfl rfl)
theorem dX15_init_6 : decode cX15_init 6 = .ok (.invokespecial 9, 3) := dk_183 0 9 (dk_at dksX15_init_0 6 rfl rfl)
theorem dX15_init_9 : decode cX15_init 9 = .ok (.aload_n 0, 1) := dk_42 (dk_at dksX15_init_0 9 rfl rfl)
theorem dX15_init_10 : decode cX15_init 10 = .ok (.bipush 16, 2) := dk_16 16 (dk_at dksX15_init_0 10 rfl rfl)
theorem dX15_init_12 : decode cX15_init 12 = .ok (.newarray .int, 2) := dk_188_10 (dk_at dksX15_init_0 12 rfl rfl)
theorem dX15_init_14 : decode cX15_init 14 = .ok (.putfield 15, 3) := dk_181 0 15 (dk_at dksX15_init_0 14 rfl rfl)
theorem dX15_init_17 : decode cX15_init 17 = .ok (.aload_n 0, 1) := dk_42 (dk_at dksX15_init_0 17 rfl rfl)
theorem dX15_init_18 : decode cX15_init 18 = .ok (.new 19, 3) := dk_187 0 19 (dk_at dksX15_init_0 18 rfl rfl)
theorem dX15_init_21 : decode cX15_init 21 = .ok (.dup, 1) := dk_89 (dk_at dksX15_init_0 21 rfl rfl)
theorem dX15_init_22 : decode cX15_init 22 = .ok (.iconst (-1), 1) := dk_2 (dk_at dksX15_init_0 22 rfl rfl)
theorem dX15_init_23 : decode cX15_init 23 = .ok (.invokespecial 21, 3) := dk_183 0 21 (dk_at dksX15_init_1 0 rfl rfl)
theorem dX15_init_26 : decode cX15_init 26 = .ok (.putfield 24, 3) := dk_181 0 24 (dk_at dksX15_init_1 3 rfl rfl)
theorem dX15_init_29 : decode cX15_init 29 = .ok (.aload_n 0, 1) := dk_42 (dk_at dksX15_init_1 6 rfl rfl)
theorem dX15_init_30 : decode cX15_init 30 = .ok (.new 28, 3) := dk_187 0 28 (dk_at dksX15_init_1 7 rfl rfl)
theorem dX15_init_33 : decode cX15_init 33 = .ok (.dup, 1) := dk_89 (dk_at dksX15_init_1 10 rfl rfl)
theorem dX15_init_34 : decode cX15_init 34 = .ok (.invokespecial 30, 3) := dk_183 0 30 (dk_at dksX15_init_1 11 rfl rfl)
theorem dX15_init_37 : decode cX15_init 37 = .ok (.putfield 31, 3) := dk_181 0 31 (dk_at dksX15_init_1 14 rfl rfl)
theorem dX15_init_40 : decode cX15_init 40 = .ok (.aload_n 0, 1) := dk_42 (dk_at dksX15_init_1 17 rfl rfl)
theorem dX15_init_41 : decode cX15_init 41 = .ok (.sipush 256, 3) := dk_17 1 0 (dk_at dksX15_init_1 18 rfl rfl)
theorem dX15_init_44 : decode cX15_init 44 = .ok (.newarray .int, 2) := dk_188_10 (dk_at dksX15_init_1 21 rfl rfl)
theorem dX15_init_46 : decode cX15_init 46 = .ok (.putfield 35, 3) := dk_181 0 35 (dk_at dksX15_init_2 0 rfl rfl)
theorem dX15_init_49 : decode cX15_init 49 = .ok (.iconst 0, 1) := dk_3 (dk_at dksX15_init_2 3 rfl rfl)
theorem dX15_init_50 : decode cX15_init 50 = .ok (.istore_n 2, 1) := dk_61 (dk_at dksX15_init_2 4 rfl rfl)
theorem dX15_init_51 : decode cX15_init 51 = .ok (.iload_n 2, 1) := dk_28 (dk_at dksX15_init_2 5 rfl rfl)
theorem dX15_init_52 : decode cX15_init 52 = .ok (.bipush 16, 2) := dk_16 16 (dk_at dksX15_init_2 6 rfl rfl)
theorem dX15_init_54 : decode cX15_init 54 = .ok (.if_icmp .ge 16, 3) := dk_162 0 16 (dk_at dksX15_init_2 8 rfl rfl)
theorem dX15_init_57 : decode cX15_init 57 = .ok (.aload_n 0, 1) := dk_42 (dk_at dksX15_init_2 11 rfl rfl)
theorem dX15_init_58 : decode cX15_init 58 = .ok (.getfield 15, 3) := dk_180 0 15 (dk_at dksX15_init_2 12 rfl rfl)
theorem dX15_init_61 : decode cX15_init 61 = .ok (.iload_n 2, 1) := dk_28 (dk_at dksX15_init_2 15 rfl rfl)
theorem dX15_init_62 : decode cX15_init 62 = .ok (.iconst (-1), 1) := dk_2 (dk_at dksX15_init_2 16 rfl rfl)
theorem dX15_init_63 : decode cX15_init 63 = .ok (.iastore, 1) := dk_79 (dk_at dksX15_init_2 17 rfl rfl)
theorem dX15_init_64 : decode cX15_init 64 = .ok (.iinc 2 1, 3) := dk_132 2 1 (dk_at dksX15_init_2 18 rfl rfl)
theorem dX15_init_67 : decode cX15_init 67 = .ok (.goto (-16), 3) := dk_167 255 240 (dk_at dksX15_init_2 21 rfl rfl)
theorem dX15_init_70 : decode cX15_init 70 = .ok (.new 38, 3) := dk_187 0 38 (dk_at dksX15_init_3 0 rfl rfl)
theorem dX15_init_73 : decode cX15_init 73 = .ok (.dup, 1) := dk_89 (dk_at dksX15_init_3 3 rfl rfl)
theorem dX15_init_74 : decode cX15_init 74 = .ok (.aload_n 0, 1) := dk_42 (dk_at dksX15_init_3 4 rfl rfl)
theorem dX15_init_75 : decode cX15_init 75 = .ok (.aload_n 1, 1) := dk_43 (dk_at dksX15_init_3 5 rfl rfl)
theorem dX15_init_76 : decode cX15_init 76 = .ok (.invokespecial 40, 3) := dk_183 0 40 (dk_at dksX15_init_3 6 rfl rfl)
theorem dX15_init_79 : decode cX15_init 79 = .ok (.astore_n 2, 1) := dk_77 (dk_at dksX15_init_3 9 rfl rfl)
theorem dX15_init_80 : decode cX15_init 80 = .ok (.aload_n 2, 1) := dk_44 (dk_at dksX15_init_3 10 rfl rfl)
theorem dX15_init_81 : decode cX15_init 81 = .ok (.iconst 0, 1) := dk_3 (dk_at dksX15_init_3 11 rfl rfl)
theorem dX15_init_82 : decode cX15_init 82 = .ok (.aload_n 1, 1) := dk_43 (dk_at dksX15_init_3 12 rfl rfl)
theorem dX15_init_83 : decode cX15_init 83 = .ok (.getfield 43, 3) := dk_180 0 43 (dk_at dksX15_init_3 13 rfl rfl)
theorem dX15_init_86 : decode cX15_init 86 = .ok (.invokeinterface 46 1, 5) := by decide +kernel
theorem dX15_init_91 : decode cX15_init 91 = .ok (.aload_n 0, 1) := dk_42 (dk_at dksX15_init_3 21 rfl rfl)
theorem dX15_init_92 : decode cX15_init 92 = .ok (.getfield 24, 3) := dk_180 0 24 (dk_at dksX15_init_4 0 rfl rfl)
theorem dX15_init_95 : decode cX15_init 95 = .ok (.invokevirtual 52, 3) := dk_182 0 52 (dk_at dksX15_init_4 3 rfl rfl)
theorem dX15_init_98 : decode cX15_init 98 = .ok (.aload_n 0, 1) := dk_42 (dk_at dksX15_init_4 6 rfl rfl)
theorem dX15_init_99 : decode cX15_init 99 = .ok (.bipush 8, 2) := dk_16 8 (dk_at dksX15_init_4 7 rfl rfl)
theorem dX15_init_101 : decode cX15_init 101 = .ok (.aload_n 2, 1) := dk_44 (dk_at dksX15_init_4 9 rfl rfl)
theorem dX15_init_102 : decode cX15_init 102 = .ok (.getfield 58, 3) := dk_180 0 58 (dk_at dksX15_init_4 10 rfl rfl)
theorem dX15_init_105 : decode cX15_init 105 = .ok (.iconst 0, 1) := dk_3 (dk_at dksX15_init_4 13 rfl rfl)
theorem dX15_init_106 : decode cX15_init 106 = .ok (.iaload, 1) := dk_46 (dk_at dksX15_init_4 14 rfl rfl)
theorem dX15_init_107 : decode cX15_init 107 = .ok (.iadd, 1) := dk_96 (dk_at dksX15_init_4 15 rfl rfl)
theorem dX15_init_108 : decode cX15_init 108 = .ok (.putfield 61, 3) := dk_181 0 61 (dk_at dksX15_init_4 16 rfl rfl)
theorem dX15_init_111 : decode cX15_init 111 = .ok (.aload_n 0, 1) := dk_42 (dk_at dksX15_init_4 19 rfl rfl)
theorem dX15_init_112 : decode cX15_init 112 = .ok (.aload_n 2, 1) := dk_44 (dk_at dksX15_init_4 20 rfl rfl)
theorem dX15_init_113 : decode cX15_init 113 = .ok (.getfield 58, 3) := dk_180 0 58 (dk_at dksX15_init_4 21 rfl rfl)
theorem dX15_init_116 : decode cX15_init 116 = .ok (.iconst 0, 1) := dk_3 (dk_at dksX15_init_5 0 rfl rfl)
theorem dX15_init_117 : decode cX15_init 117 = .ok (.iaload, 1) := dk_46 (dk_at dksX15_init_5 1 rfl rfl)
theorem dX15_init_118 : decode cX15_init 118 = .ok (.aload_n 2, 1) := dk_44 (dk_at dksX15_init_5 2 rfl rfl)
theorem dX15_init_119 : decode cX15_init 119 = .ok (.getfield 58, 3) := dk_180 0 58 (dk_at dksX15_init_5 3 rfl rfl)
theorem dX15_init_122 : decode cX15_init 122 = .ok (.iconst 1, 1) := dk_4 (dk_at dksX15_init_5 6 rfl rfl)
theorem dX15_init_123 : decode cX15_init 123 = .ok (.iaload, 1) := dk_46 (dk_at dksX15_init_5 7 rfl rfl)
theorem dX15_init_124 : decode cX15_init 124 = .ok (.iadd, 1) := dk_96 (dk_at dksX15_init_5 8 rfl rfl)
theorem dX15_init_125 : decode cX15_init 125 = .ok (.putfield 65, 3) := dk_181 0 65 (dk_at dksX15_init_5 9 rfl rfl)
theorem dX15_init_128 : decode cX15_init 128 = .ok (.aload_n 0, 1) := dk_42 (dk_at dksX15_init_5 12 rfl rfl)
theorem dX15_init_129 : decode cX15_init 129 = .ok (.invokevirtual 68, 3) := dk_182 0 68 (dk_at dksX15_init_5 13 rfl rfl)
theorem dX15_init_132 : decode cX15_init 132 = .ok (.return_, 1) := dk_177 (dk_at dksX15_init_5 16 rfl rfl)
abbrev cX15_rowOf : ByteArray := prog_11_method_3_code
def yX15_rowOf : MethodName := ⟨RX15, "rowOf", "(ILKernelGym$Use;)[I"⟩
def dkwX15_rowOf_0 : List UInt8 := [27, 16, 16, 162, 0, 10, 42, 180, 0, 15, 167, 0, 7, 44, 180, 0, 76, 176]
abbrev dktX15_rowOf_0 : List UInt8 := dkwX15_rowOf_0 ++ []
theorem dksX15_rowOf_0 : cX15_rowOf.data.toList.drop 0 = dktX15_rowOf_0 := by decide +kernel
theorem dX15_rowOf_0 : decode cX15_rowOf 0 = .ok (.iload_n 1, 1) := dk_27 (dk_at dksX15_rowOf_0 0 rfl rfl)
theorem dX15_rowOf_1 : decode cX15_rowOf 1 = .ok (.bipush 16, 2) := dk_16 16 (dk_at dksX15_rowOf_0 1 rfl rfl)
theorem dX15_rowOf_3 : decode cX15_rowOf 3 = .ok (.if_icmp .ge 10, 3) := dk_162 0 10 (dk_at dksX15_rowOf_0 3 rfl rfl)
theorem dX15_rowOf_6 : decode cX15_rowOf 6 = .ok (.aload_n 0, 1) := dk_42 (dk_at dksX15_rowOf_0 6 rfl rfl)
theorem dX15_rowOf_7 : decode cX15_rowOf 7 = .ok (.getfield 15, 3) := dk_180 0 15 (dk_at dksX15_rowOf_0 7 rfl rfl)
theorem dX15_rowOf_10 : decode cX15_rowOf 10 = .ok (.goto 7, 3) := dk_167 0 7 (dk_at dksX15_rowOf_0 10 rfl rfl)
theorem dX15_rowOf_13 : decode cX15_rowOf 13 = .ok (.aload_n 2, 1) := dk_44 (dk_at dksX15_rowOf_0 13 rfl rfl)
theorem dX15_rowOf_14 : decode cX15_rowOf 14 = .ok (.getfield 76, 3) := dk_180 0 76 (dk_at dksX15_rowOf_0 14 rfl rfl)
theorem dX15_rowOf_17 : decode cX15_rowOf 17 = .ok (.areturn, 1) := dk_176 (dk_at dksX15_rowOf_0 17 rfl rfl)
abbrev cX15_address : ByteArray := prog_11_method_4_code
def yX15_address : MethodName := ⟨RX15, "address", "(ILKernelGym$Use;I)I"⟩
def dkwX15_address_2 : List UInt8 := [21, 4, 17, 3, 232, 112, 96, 172]
abbrev dktX15_address_2 : List UInt8 := dkwX15_address_2 ++ []
def dkwX15_address_1 : List UInt8 := [16, 6, 29, 184, 0, 81, 21, 4, 17, 3, 232, 162, 0, 8, 16, 8, 167, 0, 7, 42, 180, 0, 61]
abbrev dktX15_address_1 : List UInt8 := dkwX15_address_1 ++ dktX15_address_2
def dkwX15_address_0 : List UInt8 := [42, 27, 44, 182, 0, 77, 27, 16, 16, 112, 46, 54, 4, 21, 4, 2, 159, 0, 7, 4, 167, 0, 4, 3]
abbrev dktX15_address_0 : List UInt8 := dkwX15_address_0 ++ dktX15_address_1
theorem dksX15_address_0 : cX15_address.data.toList.drop 0 = dktX15_address_0 := by decide +kernel
theorem dksX15_address_1 : cX15_address.data.toList.drop 24 = dktX15_address_1 := dk_seg dksX15_address_0 24 rfl rfl
theorem dksX15_address_2 : cX15_address.data.toList.drop 47 = dktX15_address_2 := dk_seg dksX15_address_1 23 rfl rfl
theorem dX15_address_0 : decode cX15_address 0 = .ok (.aload_n 0, 1) := dk_42 (dk_at dksX15_address_0 0 rfl rfl)
theorem dX15_address_1 : decode cX15_address 1 = .ok (.iload_n 1, 1) := dk_27 (dk_at dksX15_address_0 1 rfl rfl)
theorem dX15_address_2 : decode cX15_address 2 = .ok (.aload_n 2, 1) := dk_44 (dk_at dksX15_address_0 2 rfl rfl)
theorem dX15_address_3 : decode cX15_address 3 = .ok (.invokevirtual 77, 3) := dk_182 0 77 (dk_at dksX15_address_0 3 rfl rfl)
theorem dX15_address_6 : decode cX15_address 6 = .ok (.iload_n 1, 1) := dk_27 (dk_at dksX15_address_0 6 rfl rfl)
theorem dX15_address_7 : decode cX15_address 7 = .ok (.bipush 16, 2) := dk_16 16 (dk_at dksX15_address_0 7 rfl rfl)
theorem dX15_address_9 : decode cX15_address 9 = .ok (.irem, 1) := dk_112 (dk_at dksX15_address_0 9 rfl rfl)
theorem dX15_address_10 : decode cX15_address 10 = .ok (.iaload, 1) := dk_46 (dk_at dksX15_address_0 10 rfl rfl)
theorem dX15_address_11 : decode cX15_address 11 = .ok (.istore 4, 2) := dk_54 4 (dk_at dksX15_address_0 11 rfl rfl)
theorem dX15_address_13 : decode cX15_address 13 = .ok (.iload 4, 2) := dk_21 4 (dk_at dksX15_address_0 13 rfl rfl)
theorem dX15_address_15 : decode cX15_address 15 = .ok (.iconst (-1), 1) := dk_2 (dk_at dksX15_address_0 15 rfl rfl)
theorem dX15_address_16 : decode cX15_address 16 = .ok (.if_icmp .eq 7, 3) := dk_159 0 7 (dk_at dksX15_address_0 16 rfl rfl)
theorem dX15_address_19 : decode cX15_address 19 = .ok (.iconst 1, 1) := dk_4 (dk_at dksX15_address_0 19 rfl rfl)
theorem dX15_address_20 : decode cX15_address 20 = .ok (.goto 4, 3) := dk_167 0 4 (dk_at dksX15_address_0 20 rfl rfl)
theorem dX15_address_23 : decode cX15_address 23 = .ok (.iconst 0, 1) := dk_3 (dk_at dksX15_address_0 23 rfl rfl)
theorem dX15_address_24 : decode cX15_address 24 = .ok (.bipush 6, 2) := dk_16 6 (dk_at dksX15_address_1 0 rfl rfl)
theorem dX15_address_26 : decode cX15_address 26 = .ok (.iload_n 3, 1) := dk_29 (dk_at dksX15_address_1 2 rfl rfl)
theorem dX15_address_27 : decode cX15_address 27 = .ok (.invokestatic 81, 3) := dk_184 0 81 (dk_at dksX15_address_1 3 rfl rfl)
theorem dX15_address_30 : decode cX15_address 30 = .ok (.iload 4, 2) := dk_21 4 (dk_at dksX15_address_1 6 rfl rfl)
theorem dX15_address_32 : decode cX15_address 32 = .ok (.sipush 1000, 3) := dk_17 3 232 (dk_at dksX15_address_1 8 rfl rfl)
theorem dX15_address_35 : decode cX15_address 35 = .ok (.if_icmp .ge 8, 3) := dk_162 0 8 (dk_at dksX15_address_1 11 rfl rfl)
theorem dX15_address_38 : decode cX15_address 38 = .ok (.bipush 8, 2) := dk_16 8 (dk_at dksX15_address_1 14 rfl rfl)
theorem dX15_address_40 : decode cX15_address 40 = .ok (.goto 7, 3) := dk_167 0 7 (dk_at dksX15_address_1 16 rfl rfl)
theorem dX15_address_43 : decode cX15_address 43 = .ok (.aload_n 0, 1) := dk_42 (dk_at dksX15_address_1 19 rfl rfl)
theorem dX15_address_44 : decode cX15_address 44 = .ok (.getfield 61, 3) := dk_180 0 61 (dk_at dksX15_address_1 20 rfl rfl)
theorem dX15_address_47 : decode cX15_address 47 = .ok (.iload 4, 2) := dk_21 4 (dk_at dksX15_address_2 0 rfl rfl)
theorem dX15_address_49 : decode cX15_address 49 = .ok (.sipush 1000, 3) := dk_17 3 232 (dk_at dksX15_address_2 2 rfl rfl)
theorem dX15_address_52 : decode cX15_address 52 = .ok (.irem, 1) := dk_112 (dk_at dksX15_address_2 5 rfl rfl)
theorem dX15_address_53 : decode cX15_address 53 = .ok (.iadd, 1) := dk_96 (dk_at dksX15_address_2 6 rfl rfl)
theorem dX15_address_54 : decode cX15_address 54 = .ok (.ireturn, 1) := dk_172 (dk_at dksX15_address_2 7 rfl rfl)
abbrev cX15_makeWords : ByteArray := prog_11_method_2_code
def yX15_makeWords : MethodName := ⟨RX15, "makeWords", "()V"⟩
def dkwX15_makeWords_1 : List UInt8 := [180, 0, 24, 182, 0, 52, 177]
abbrev dktX15_makeWords_1 : List UInt8 := dkwX15_makeWords_1 ++ []
def dkwX15_makeWords_0 : List UInt8 := [187, 0, 71, 89, 42, 183, 0, 73, 76, 43, 3, 42, 180, 0, 3, 180, 0, 43, 185, 0, 46, 1, 0, 42]
abbrev dktX15_makeWords_0 : List UInt8 := dkwX15_makeWords_0 ++ dktX15_makeWords_1
theorem dksX15_makeWords_0 : cX15_makeWords.data.toList.drop 0 = dktX15_makeWords_0 := by decide +kernel
theorem dksX15_makeWords_1 : cX15_makeWords.data.toList.drop 24 = dktX15_makeWords_1 := dk_seg dksX15_makeWords_0 24 rfl rfl
theorem dX15_makeWords_0 : decode cX15_makeWords 0 = .ok (.new 71, 3) := dk_187 0 71 (dk_at dksX15_makeWords_0 0 rfl rfl)
theorem dX15_makeWords_3 : decode cX15_makeWords 3 = .ok (.dup, 1) := dk_89 (dk_at dksX15_makeWords_0 3 rfl rfl)
theorem dX15_makeWords_4 : decode cX15_makeWords 4 = .ok (.aload_n 0, 1) := dk_42 (dk_at dksX15_makeWords_0 4 rfl rfl)
theorem dX15_makeWords_5 : decode cX15_makeWords 5 = .ok (.invokespecial 73, 3) := dk_183 0 73 (dk_at dksX15_makeWords_0 5 rfl rfl)
theorem dX15_makeWords_8 : decode cX15_makeWords 8 = .ok (.astore_n 1, 1) := dk_76 (dk_at dksX15_makeWords_0 8 rfl rfl)
theorem dX15_makeWords_9 : decode cX15_makeWords 9 = .ok (.aload_n 1, 1) := dk_43 (dk_at dksX15_makeWords_0 9 rfl rfl)
theorem dX15_makeWords_10 : decode cX15_makeWords 10 = .ok (.iconst 0, 1) := dk_3 (dk_at dksX15_makeWords_0 10 rfl rfl)
theorem dX15_makeWords_11 : decode cX15_makeWords 11 = .ok (.aload_n 0, 1) := dk_42 (dk_at dksX15_makeWords_0 11 rfl rfl)
theorem dX15_makeWords_12 : decode cX15_makeWords 12 = .ok (.getfield 3, 3) := dk_180 0 3 (dk_at dksX15_makeWords_0 12 rfl rfl)
theorem dX15_makeWords_15 : decode cX15_makeWords 15 = .ok (.getfield 43, 3) := dk_180 0 43 (dk_at dksX15_makeWords_0 15 rfl rfl)
theorem dX15_makeWords_18 : decode cX15_makeWords 18 = .ok (.invokeinterface 46 1, 5) := by decide +kernel
theorem dX15_makeWords_23 : decode cX15_makeWords 23 = .ok (.aload_n 0, 1) := dk_42 (dk_at dksX15_makeWords_0 23 rfl rfl)
theorem dX15_makeWords_24 : decode cX15_makeWords 24 = .ok (.getfield 24, 3) := dk_180 0 24 (dk_at dksX15_makeWords_1 0 rfl rfl)
theorem dX15_makeWords_27 : decode cX15_makeWords 27 = .ok (.invokevirtual 52, 3) := dk_182 0 52 (dk_at dksX15_makeWords_1 3 rfl rfl)
theorem dX15_makeWords_30 : decode cX15_makeWords 30 = .ok (.return_, 1) := dk_177 (dk_at dksX15_makeWords_1 6 rfl rfl)
theorem q148 : (Jvm.Cond.initialized "KernelGym$Assembly") ∈ lw_all := lw_g (lw_at lw_m1 31 rfl) rfl
theorem q320 : (Jvm.Cond.fieldLinkNest "KernelGym$Assembly" (43 : Nat) "KernelGym" "lines" "Ljava/util/List;" "KernelGym") ∈ lw_tbl := lw_at lw_m1 203 rfl
theorem q385 : (Jvm.Cond.instantiable "KernelGym$Assembly" (7 : Nat)) ∈ lw_all := lw_g (lw_at lw_m2 28 rfl) rfl
theorem q387 : (Jvm.Cond.instanceMethod ({ cls := "KernelGym$Assembly", name := "<init>", desc := "(LKernelGym;)V" } : Jvm.MethodName)) ∈ lw_all := lw_g (lw_at lw_m2 30 rfl) rfl
theorem q388 : (Jvm.Cond.code ({ cls := "KernelGym$Assembly", name := "<init>", desc := "(LKernelGym;)V" } : Jvm.MethodName) prog_11_method_1_code (3 : Nat) (Option.none : Option Jvm.ClassFile.FieldType)) ∈ lw_all := lw_g (lw_at lw_m2 31 rfl) rfl
theorem q389 : (Jvm.Cond.methodLink "KernelGym$Assembly" (9 : Nat) ({ cls := "java/lang/Object", name := "<init>", desc := "()V" } : Jvm.MethodName)) ∈ lw_all := lw_g (lw_at lw_m2 32 rfl) rfl
theorem q390 : (Jvm.Cond.classLink "KernelGym$Assembly" (19 : Nat) "KernelGym$Use") ∈ lw_all := lw_g (lw_at lw_m2 33 rfl) rfl
theorem q392 : (Jvm.Cond.methodLink "KernelGym$Assembly" (21 : Nat) ({ cls := "KernelGym$Use", name := "<init>", desc := "(I)V" } : Jvm.MethodName)) ∈ lw_all := lw_g (lw_at lw_m2 35 rfl) rfl
theorem q399 : (Jvm.Cond.fieldLinkNest "KernelGym$Assembly" (76 : Nat) "KernelGym$Use" "labels" "[I" "KernelGym") ∈ lw_tbl := lw_at lw_m2 42 rfl
theorem q413 : (Jvm.Cond.classLink "KernelGym$Assembly" (28 : Nat) "java/util/ArrayList") ∈ lw_all := lw_g (lw_at lw_m2 56 rfl) rfl
theorem q414 : (Jvm.Cond.methodLink "KernelGym$Assembly" (30 : Nat) ({ cls := "java/util/ArrayList", name := "<init>", desc := "()V" } : Jvm.MethodName)) ∈ lw_all := lw_g (lw_at lw_m2 57 rfl) rfl
theorem q415 : (Jvm.Cond.classLink "KernelGym$Assembly" (38 : Nat) "KernelGym$Assembly$1") ∈ lw_all := lw_g (lw_at lw_m2 58 rfl) rfl
theorem q417 : (Jvm.Cond.methodLink "KernelGym$Assembly" (40 : Nat) ({ cls := "KernelGym$Assembly$1", name := "<init>", desc := "(LKernelGym$Assembly;LKernelGym;)V" } : Jvm.MethodName)) ∈ lw_all := lw_g (lw_at lw_m2 60 rfl) rfl
theorem q427 : (Jvm.Cond.fieldLink "KernelGym$Assembly" (58 : Nat) "KernelGym$Pass" "sizes" "[I") ∈ lw_all := lw_g (lw_at lw_m2 70 rfl) rfl
theorem q465 : (Jvm.Cond.interfaceEntry "KernelGym$Assembly" (46 : Nat)) ∈ lw_tbl := lw_at lw_m2 108 rfl
theorem q466 : (Jvm.Cond.methodLink "KernelGym$Assembly" (46 : Nat) ({ cls := "java/util/List", name := "size", desc := "()I" } : Jvm.MethodName)) ∈ lw_all := lw_g (lw_at lw_m2 109 rfl) rfl
theorem q467 : (Jvm.Cond.methodLink "KernelGym$Assembly" (52 : Nat) ({ cls := "KernelGym$Pass", name := "go", desc := "(IILKernelGym$Use;)V" } : Jvm.MethodName)) ∈ lw_all := lw_g (lw_at lw_m2 110 rfl) rfl
theorem q894 : (Jvm.Cond.privateMethod ({ cls := "KernelGym$Assembly", name := "rowOf", desc := "(ILKernelGym$Use;)[I" } : Jvm.MethodName)) ∈ lw_tbl := lw_at lw_m4 57 rfl
theorem q895 : (Jvm.Cond.instanceMethod ({ cls := "KernelGym$Assembly", name := "rowOf", desc := "(ILKernelGym$Use;)[I" } : Jvm.MethodName)) ∈ lw_all := lw_g (lw_at lw_m4 58 rfl) rfl
theorem q896 : (Jvm.Cond.code ({ cls := "KernelGym$Assembly", name := "rowOf", desc := "(ILKernelGym$Use;)[I" } : Jvm.MethodName) prog_11_method_3_code (3 : Nat) (Option.some (Jvm.ClassFile.FieldType.array Jvm.ClassFile.FieldType.int))) ∈ lw_all := lw_g (lw_at lw_m4 59 rfl) rfl
theorem q923 : (Jvm.Cond.privateMethod ({ cls := "KernelGym$Assembly", name := "address", desc := "(ILKernelGym$Use;I)I" } : Jvm.MethodName)) ∈ lw_tbl := lw_at lw_m4 86 rfl
theorem q924 : (Jvm.Cond.instanceMethod ({ cls := "KernelGym$Assembly", name := "address", desc := "(ILKernelGym$Use;I)I" } : Jvm.MethodName)) ∈ lw_all := lw_g (lw_at lw_m4 87 rfl) rfl
theorem q925 : (Jvm.Cond.code ({ cls := "KernelGym$Assembly", name := "address", desc := "(ILKernelGym$Use;I)I" } : Jvm.MethodName) prog_11_method_4_code (5 : Nat) (Option.some Jvm.ClassFile.FieldType.int)) ∈ lw_all := lw_g (lw_at lw_m4 88 rfl) rfl
theorem q926 : (Jvm.Cond.methodLink "KernelGym$Assembly" (77 : Nat) ({ cls := "KernelGym$Assembly", name := "rowOf", desc := "(ILKernelGym$Use;)[I" } : Jvm.MethodName)) ∈ lw_all := lw_g (lw_at lw_m4 89 rfl) rfl
theorem q927 : (Jvm.Cond.methodLinkNest "KernelGym$Assembly" (81 : Nat) ({ cls := "KernelGym", name := "check", desc := "(ZII)V" } : Jvm.MethodName) "KernelGym") ∈ lw_tbl := lw_at lw_m4 90 rfl
theorem q1056 : (Jvm.Cond.selects "KernelGym$Assembly" ({ cls := "java/lang/Object", name := "getClass", desc := "()Ljava/lang/Class;" } : Jvm.MethodName) ({ cls := "java/lang/Object", name := "getClass", desc := "()Ljava/lang/Class;" } : Jvm.MethodName)) ∈ lw_all := lw_g (lw_at lw_m4 219 rfl) rfl
theorem q1136 : (Jvm.Cond.methodLink "KernelGym$Assembly" (68 : Nat) ({ cls := "KernelGym$Assembly", name := "makeWords", desc := "()V" } : Jvm.MethodName)) ∈ lw_all := lw_g (lw_at lw_m5 59 rfl) rfl
theorem q1137 : (Jvm.Cond.privateMethod ({ cls := "KernelGym$Assembly", name := "makeWords", desc := "()V" } : Jvm.MethodName)) ∈ lw_tbl := lw_at lw_m5 60 rfl
theorem q1138 : (Jvm.Cond.instanceMethod ({ cls := "KernelGym$Assembly", name := "makeWords", desc := "()V" } : Jvm.MethodName)) ∈ lw_all := lw_g (lw_at lw_m5 61 rfl) rfl
theorem q1139 : (Jvm.Cond.code ({ cls := "KernelGym$Assembly", name := "makeWords", desc := "()V" } : Jvm.MethodName) prog_11_method_2_code (2 : Nat) (Option.none : Option Jvm.ClassFile.FieldType)) ∈ lw_all := lw_g (lw_at lw_m5 62 rfl) rfl
theorem q1140 : (Jvm.Cond.classLink "KernelGym$Assembly" (71 : Nat) "KernelGym$Assembly$2") ∈ lw_all := lw_g (lw_at lw_m5 63 rfl) rfl
theorem q1142 : (Jvm.Cond.methodLink "KernelGym$Assembly" (73 : Nat) ({ cls := "KernelGym$Assembly$2", name := "<init>", desc := "(LKernelGym$Assembly;)V" } : Jvm.MethodName)) ∈ lw_all := lw_g (lw_at lw_m5 65 rfl) rfl
theorem q1158 : (Jvm.Cond.fieldLink "KernelGym$Assembly" (15 : Nat) "KernelGym$Assembly" "labels" "[I") ∈ lw_all := lw_g (lw_at lw_m5 81 rfl) rfl
theorem q1159 : (Jvm.Cond.fieldLink "KernelGym$Assembly" (24 : Nat) "KernelGym$Assembly" "source" "LKernelGym$Use;") ∈ lw_all := lw_g (lw_at lw_m5 82 rfl) rfl
theorem q1160 : (Jvm.Cond.fieldLink "KernelGym$Assembly" (31 : Nat) "KernelGym$Assembly" "uses" "Ljava/util/List;") ∈ lw_all := lw_g (lw_at lw_m5 83 rfl) rfl
theorem q1163 : (Jvm.Cond.fieldLink "KernelGym$Assembly" (35 : Nat) "KernelGym$Assembly" "made" "[I") ∈ lw_all := lw_g (lw_at lw_m5 86 rfl) rfl
theorem q1166 : (Jvm.Cond.fieldLink "KernelGym$Assembly" (61 : Nat) "KernelGym$Assembly" "behind" "I") ∈ lw_all := lw_g (lw_at lw_m5 89 rfl) rfl
theorem q1168 : (Jvm.Cond.fieldLink "KernelGym$Assembly" (65 : Nat) "KernelGym$Assembly" "words" "I") ∈ lw_all := lw_g (lw_at lw_m5 91 rfl) rfl
theorem q1170 : (Jvm.Cond.fieldLink "KernelGym$Assembly" (3 : Nat) "KernelGym$Assembly" "this$0" "LKernelGym;") ∈ lw_all := lw_g (lw_at lw_m5 93 rfl) rfl
theorem q1173 : (Jvm.Cond.laysFinal "KernelGym$Assembly" "KernelGym$Assembly" "labels" "[I") ∈ lw_all := lw_g (lw_at lw_m5 96 rfl) rfl
theorem q1174 : (Jvm.Cond.soleField "KernelGym$Assembly" "labels") ∈ lw_all := lw_g (lw_at lw_m5 97 rfl) rfl
theorem q1175 : (Jvm.Cond.laysFinal "KernelGym$Assembly" "KernelGym$Assembly" "source" "LKernelGym$Use;") ∈ lw_all := lw_g (lw_at lw_m5 98 rfl) rfl
theorem q1176 : (Jvm.Cond.soleField "KernelGym$Assembly" "source") ∈ lw_all := lw_g (lw_at lw_m5 99 rfl) rfl
theorem q1177 : (Jvm.Cond.laysFinal "KernelGym$Assembly" "KernelGym$Assembly" "uses" "Ljava/util/List;") ∈ lw_all := lw_g (lw_at lw_m5 100 rfl) rfl
theorem q1178 : (Jvm.Cond.soleField "KernelGym$Assembly" "uses") ∈ lw_all := lw_g (lw_at lw_m5 101 rfl) rfl
theorem q1179 : (Jvm.Cond.laysFinal "KernelGym$Assembly" "KernelGym$Assembly" "made" "[I") ∈ lw_all := lw_g (lw_at lw_m5 102 rfl) rfl
theorem q1180 : (Jvm.Cond.soleField "KernelGym$Assembly" "made") ∈ lw_all := lw_g (lw_at lw_m5 103 rfl) rfl
theorem q1181 : (Jvm.Cond.laysFinal "KernelGym$Assembly" "KernelGym$Assembly" "behind" "I") ∈ lw_all := lw_g (lw_at lw_m5 104 rfl) rfl
theorem q1182 : (Jvm.Cond.soleField "KernelGym$Assembly" "behind") ∈ lw_all := lw_g (lw_at lw_m5 105 rfl) rfl
theorem q1183 : (Jvm.Cond.laysFinal "KernelGym$Assembly" "KernelGym$Assembly" "words" "I") ∈ lw_all := lw_g (lw_at lw_m5 106 rfl) rfl
theorem q1184 : (Jvm.Cond.soleField "KernelGym$Assembly" "words") ∈ lw_all := lw_g (lw_at lw_m5 107 rfl) rfl
theorem q1185 : (Jvm.Cond.laysFinal "KernelGym$Assembly" "KernelGym$Assembly" "this$0" "LKernelGym;") ∈ lw_all := lw_g (lw_at lw_m5 108 rfl) rfl
theorem q1186 : (Jvm.Cond.soleField "KernelGym$Assembly" "this$0") ∈ lw_all := lw_g (lw_at lw_m5 109 rfl) rfl
theorem q1187 : (Jvm.Cond.superclass "KernelGym$Assembly" "java/lang/Object") ∈ lw_all := lw_g (lw_at lw_m5 110 rfl) rfl
theorem q3495 : (Jvm.Cond.castable "KernelGym$Assembly" "java/lang/Object") ∈ lw_tbl := lw_at lw_m15 18 rfl
theorem in_X15 : ∀ w ∈ wsX150, w ∈ lw_all := lw_in wsX150 [1173, 1175, 1177, 1179, 1181, 1183, 1185] (by decide +kernel) (by decide +kernel)

/-! KernelGym$Use -/
def RX16 : String := "KernelGym$Use"
def TX16 : u_T := fun k => match k with
  | 0 => ("KernelGym$Use", "macro", "I", true)
  | 1 => ("KernelGym$Use", "labels", "[I", true)
  | 2 => ("KernelGym$Use", "first", "I", false)
  | _ => ("KernelGym$Use", "second", "I", false)
def tyX16 : Nat → FieldType := fun k => match k with
  | 0 => .int
  | 1 => .array .int
  | 2 => .int
  | _ => .int
abbrev wsX160 : List Cond := u_ws RX16 TX16 4
theorem nmX16 : ∀ a, a < 4 → ∀ b, b < 4 → a ≠ b → (TX16 a).2.1 ≠ (TX16 b).2.1 := by decide +kernel
theorem tyX16_ok : ∀ k, k < 4 → parseFieldDescriptor (TX16 k).2.2.1 = some (tyX16 k) := by decide +kernel
abbrev cX16_init : ByteArray := prog_25_method_1_code
def yX16_init : MethodName := ⟨RX16, "<init>", "(I)V"⟩
def dkwX16_init_1 : List UInt8 := [162, 0, 16, 42, 180, 0, 9, 28, 2, 79, 132, 2, 1, 167, 255, 237, 177]
abbrev dktX16_init_1 : List UInt8 := dkwX16_init_1 ++ []
def dkwX16_init_0 : List UInt8 := [42, 183, 0, 3, 42, 7, 188, 10, 181, 0, 9, 42, 27, 181, 0, 15, 3, 61, 28, 42, 180, 0, 9, 190]
abbrev dktX16_init_0 : List UInt8 := dkwX16_init_0 ++ dktX16_init_1
theorem dksX16_init_0 : cX16_init.data.toList.drop 0 = dktX16_init_0 := by decide +kernel
theorem dksX16_init_1 : cX16_init.data.toList.drop 24 = dktX16_init_1 := dk_seg dksX16_init_0 24 rfl rfl
theorem dX16_init_0 : decode cX16_init 0 = .ok (.aload_n 0, 1) := dk_42 (dk_at dksX16_init_0 0 rfl rfl)
theorem dX16_init_1 : decode cX16_init 1 = .ok (.invokespecial 3, 3) := dk_183 0 3 (dk_at dksX16_init_0 1 rfl rfl)
theorem dX16_init_4 : decode cX16_init 4 = .ok (.aload_n 0, 1) := dk_42 (dk_at dksX16_init_0 4 rfl rfl)
theorem dX16_init_5 : decode cX16_init 5 = .ok (.iconst 4, 1) := dk_7 (dk_at dksX16_init_0 5 rfl rfl)
theorem dX16_init_6 : decode cX16_init 6 = .ok (.newarray .int, 2) := dk_188_10 (dk_at dksX16_init_0 6 rfl rfl)
theorem dX16_init_8 : decode cX16_init 8 = .ok (.putfield 9, 3) := dk_181 0 9 (dk_at dksX16_init_0 8 rfl rfl)
theorem dX16_init_11 : decode cX16_init 11 = .ok (.aload_n 0, 1) := dk_42 (dk_at dksX16_init_0 11 rfl rfl)
theorem dX16_init_12 : decode cX16_init 12 = .ok (.iload_n 1, 1) := dk_27 (dk_at dksX16_init_0 12 rfl rfl)
theorem dX16_init_13 : decode cX16_init 13 = .ok (.putfield 15, 3) := dk_181 0 15 (dk_at dksX16_init_0 13 rfl rfl)
theorem dX16_init_16 : decode cX16_init 16 = .ok (.iconst 0, 1) := dk_3 (dk_at dksX16_init_0 16 rfl rfl)
theorem dX16_init_17 : decode cX16_init 17 = .ok (.istore_n 2, 1) := dk_61 (dk_at dksX16_init_0 17 rfl rfl)
theorem dX16_init_18 : decode cX16_init 18 = .ok (.iload_n 2, 1) := dk_28 (dk_at dksX16_init_0 18 rfl rfl)
theorem dX16_init_19 : decode cX16_init 19 = .ok (.aload_n 0, 1) := dk_42 (dk_at dksX16_init_0 19 rfl rfl)
theorem dX16_init_20 : decode cX16_init 20 = .ok (.getfield 9, 3) := dk_180 0 9 (dk_at dksX16_init_0 20 rfl rfl)
theorem dX16_init_23 : decode cX16_init 23 = .ok (.arraylength, 1) := dk_190 (dk_at dksX16_init_0 23 rfl rfl)
theorem dX16_init_24 : decode cX16_init 24 = .ok (.if_icmp .ge 16, 3) := dk_162 0 16 (dk_at dksX16_init_1 0 rfl rfl)
theorem dX16_init_27 : decode cX16_init 27 = .ok (.aload_n 0, 1) := dk_42 (dk_at dksX16_init_1 3 rfl rfl)
theorem dX16_init_28 : decode cX16_init 28 = .ok (.getfield 9, 3) := dk_180 0 9 (dk_at dksX16_init_1 4 rfl rfl)
theorem dX16_init_31 : decode cX16_init 31 = .ok (.iload_n 2, 1) := dk_28 (dk_at dksX16_init_1 7 rfl rfl)
theorem dX16_init_32 : decode cX16_init 32 = .ok (.iconst (-1), 1) := dk_2 (dk_at dksX16_init_1 8 rfl rfl)
theorem dX16_init_33 : decode cX16_init 33 = .ok (.iastore, 1) := dk_79 (dk_at dksX16_init_1 9 rfl rfl)
theorem dX16_init_34 : decode cX16_init 34 = .ok (.iinc 2 1, 3) := dk_132 2 1 (dk_at dksX16_init_1 10 rfl rfl)
theorem dX16_init_37 : decode cX16_init 37 = .ok (.goto (-19), 3) := dk_167 255 237 (dk_at dksX16_init_1 13 rfl rfl)
theorem dX16_init_40 : decode cX16_init 40 = .ok (.return_, 1) := dk_177 (dk_at dksX16_init_1 16 rfl rfl)
theorem q149 : (Jvm.Cond.initialized "KernelGym$Use") ∈ lw_all := lw_g (lw_at lw_m1 32 rfl) rfl
theorem q391 : (Jvm.Cond.instantiable "KernelGym$Use" (4 : Nat)) ∈ lw_all := lw_g (lw_at lw_m2 34 rfl) rfl
theorem q393 : (Jvm.Cond.instanceMethod ({ cls := "KernelGym$Use", name := "<init>", desc := "(I)V" } : Jvm.MethodName)) ∈ lw_all := lw_g (lw_at lw_m2 36 rfl) rfl
theorem q394 : (Jvm.Cond.code ({ cls := "KernelGym$Use", name := "<init>", desc := "(I)V" } : Jvm.MethodName) prog_25_method_1_code (3 : Nat) (Option.none : Option Jvm.ClassFile.FieldType)) ∈ lw_all := lw_g (lw_at lw_m2 37 rfl) rfl
theorem q395 : (Jvm.Cond.methodLink "KernelGym$Use" (3 : Nat) ({ cls := "java/lang/Object", name := "<init>", desc := "()V" } : Jvm.MethodName)) ∈ lw_all := lw_g (lw_at lw_m2 38 rfl) rfl
theorem q396 : (Jvm.Cond.fieldLink "KernelGym$Use" (15 : Nat) "KernelGym$Use" "macro" "I") ∈ lw_all := lw_g (lw_at lw_m2 39 rfl) rfl
theorem q398 : (Jvm.Cond.fieldLink "KernelGym$Use" (9 : Nat) "KernelGym$Use" "labels" "[I") ∈ lw_all := lw_g (lw_at lw_m2 41 rfl) rfl
theorem q404 : (Jvm.Cond.laysFinal "KernelGym$Use" "KernelGym$Use" "macro" "I") ∈ lw_all := lw_g (lw_at lw_m2 47 rfl) rfl
theorem q405 : (Jvm.Cond.soleField "KernelGym$Use" "macro") ∈ lw_all := lw_g (lw_at lw_m2 48 rfl) rfl
theorem q406 : (Jvm.Cond.laysFinal "KernelGym$Use" "KernelGym$Use" "labels" "[I") ∈ lw_all := lw_g (lw_at lw_m2 49 rfl) rfl
theorem q407 : (Jvm.Cond.soleField "KernelGym$Use" "labels") ∈ lw_all := lw_g (lw_at lw_m2 50 rfl) rfl
theorem q408 : (Jvm.Cond.lays "KernelGym$Use" "KernelGym$Use" "first" "I") ∈ lw_all := lw_g (lw_at lw_m2 51 rfl) rfl
theorem q409 : (Jvm.Cond.soleField "KernelGym$Use" "first") ∈ lw_all := lw_g (lw_at lw_m2 52 rfl) rfl
theorem q410 : (Jvm.Cond.lays "KernelGym$Use" "KernelGym$Use" "second" "I") ∈ lw_all := lw_g (lw_at lw_m2 53 rfl) rfl
theorem q411 : (Jvm.Cond.soleField "KernelGym$Use" "second") ∈ lw_all := lw_g (lw_at lw_m2 54 rfl) rfl
theorem q412 : (Jvm.Cond.superclass "KernelGym$Use" "java/lang/Object") ∈ lw_all := lw_g (lw_at lw_m2 55 rfl) rfl
theorem q1068 : (Jvm.Cond.selects "KernelGym$Use" ({ cls := "java/lang/Object", name := "getClass", desc := "()Ljava/lang/Class;" } : Jvm.MethodName) ({ cls := "java/lang/Object", name := "getClass", desc := "()Ljava/lang/Class;" } : Jvm.MethodName)) ∈ lw_all := lw_g (lw_at lw_m4 231 rfl) rfl
theorem q3496 : (Jvm.Cond.castable "KernelGym$Use" "java/lang/Object") ∈ lw_tbl := lw_at lw_m15 19 rfl
theorem in_X16 : ∀ w ∈ wsX160, w ∈ lw_all := lw_in wsX160 [404, 406, 408, 410] (by decide +kernel) (by decide +kernel)

/-! KernelGym$Pass -/
def RX17 : String := "KernelGym$Pass"
abbrev cX17_init : ByteArray := prog_22_method_1_code
def yX17_init : MethodName := ⟨RX17, "<init>", "(LKernelGym;)V"⟩
def dkwX17_init_2 : List UInt8 := [28, 2, 79, 132, 2, 1, 167, 255, 241, 177]
abbrev dktX17_init_2 : List UInt8 := dkwX17_init_2 ++ []
def dkwX17_init_1 : List UInt8 := [8, 188, 10, 181, 0, 22, 42, 8, 188, 4, 181, 0, 25, 3, 61, 28, 8, 162, 0, 16, 42, 180, 0, 19]
abbrev dktX17_init_1 : List UInt8 := dkwX17_init_1 ++ dktX17_init_2
def dkwX17_init_0 : List UInt8 := [42, 43, 181, 0, 3, 42, 183, 0, 9, 42, 5, 188, 10, 181, 0, 15, 42, 8, 188, 10, 181, 0, 19, 42]
abbrev dktX17_init_0 : List UInt8 := dkwX17_init_0 ++ dktX17_init_1
theorem dksX17_init_0 : cX17_init.data.toList.drop 0 = dktX17_init_0 := by decide +kernel
theorem dksX17_init_1 : cX17_init.data.toList.drop 24 = dktX17_init_1 := dk_seg dksX17_init_0 24 rfl rfl
theorem dksX17_init_2 : cX17_init.data.toList.drop 48 = dktX17_init_2 := dk_seg dksX17_init_1 24 rfl rfl
theorem dX17_init_0 : decode cX17_init 0 = .ok (.aload_n 0, 1) := dk_42 (dk_at dksX17_init_0 0 rfl rfl)
theorem dX17_init_1 : decode cX17_init 1 = .ok (.aload_n 1, 1) := dk_43 (dk_at dksX17_init_0 1 rfl rfl)
theorem dX17_init_2 : decode cX17_init 2 = .ok (.putfield 3, 3) := dk_181 0 3 (dk_at dksX17_init_0 2 rfl rfl)
theorem dX17_init_5 : decode cX17_init 5 = .ok (.aload_n 0, 1) := dk_42 (dk_at dksX17_init_0 5 rfl rfl)
theorem dX17_init_6 : decode cX17_init 6 = .ok (.invokespecial 9, 3) := dk_183 0 9 (dk_at dksX17_init_0 6 rfl rfl)
theorem dX17_init_9 : decode cX17_init 9 = .ok (.aload_n 0, 1) := dk_42 (dk_at dksX17_init_0 9 rfl rfl)
theorem dX17_init_10 : decode cX17_init 10 = .ok (.iconst 2, 1) := dk_5 (dk_at dksX17_init_0 10 rfl rfl)
theorem dX17_init_11 : decode cX17_init 11 = .ok (.newarray .int, 2) := dk_188_10 (dk_at dksX17_init_0 11 rfl rfl)
theorem dX17_init_13 : decode cX17_init 13 = .ok (.putfield 15, 3) := dk_181 0 15 (dk_at dksX17_init_0 13 rfl rfl)
theorem dX17_init_16 : decode cX17_init 16 = .ok (.aload_n 0, 1) := dk_42 (dk_at dksX17_init_0 16 rfl rfl)
theorem dX17_init_17 : decode cX17_init 17 = .ok (.iconst 5, 1) := dk_8 (dk_at dksX17_init_0 17 rfl rfl)
theorem dX17_init_18 : decode cX17_init 18 = .ok (.newarray .int, 2) := dk_188_10 (dk_at dksX17_init_0 18 rfl rfl)
theorem dX17_init_20 : decode cX17_init 20 = .ok (.putfield 19, 3) := dk_181 0 19 (dk_at dksX17_init_0 20 rfl rfl)
theorem dX17_init_23 : decode cX17_init 23 = .ok (.aload_n 0, 1) := dk_42 (dk_at dksX17_init_0 23 rfl rfl)
theorem dX17_init_24 : decode cX17_init 24 = .ok (.iconst 5, 1) := dk_8 (dk_at dksX17_init_1 0 rfl rfl)
theorem dX17_init_25 : decode cX17_init 25 = .ok (.newarray .int, 2) := dk_188_10 (dk_at dksX17_init_1 1 rfl rfl)
theorem dX17_init_27 : decode cX17_init 27 = .ok (.putfield 22, 3) := dk_181 0 22 (dk_at dksX17_init_1 3 rfl rfl)
theorem dX17_init_30 : decode cX17_init 30 = .ok (.aload_n 0, 1) := dk_42 (dk_at dksX17_init_1 6 rfl rfl)
theorem dX17_init_31 : decode cX17_init 31 = .ok (.iconst 5, 1) := dk_8 (dk_at dksX17_init_1 7 rfl rfl)
theorem dX17_init_32 : decode cX17_init 32 = .ok (.newarray .boolean, 2) := dk_188_4 (dk_at dksX17_init_1 8 rfl rfl)
theorem dX17_init_34 : decode cX17_init 34 = .ok (.putfield 25, 3) := dk_181 0 25 (dk_at dksX17_init_1 10 rfl rfl)
theorem dX17_init_37 : decode cX17_init 37 = .ok (.iconst 0, 1) := dk_3 (dk_at dksX17_init_1 13 rfl rfl)
theorem dX17_init_38 : decode cX17_init 38 = .ok (.istore_n 2, 1) := dk_61 (dk_at dksX17_init_1 14 rfl rfl)
theorem dX17_init_39 : decode cX17_init 39 = .ok (.iload_n 2, 1) := dk_28 (dk_at dksX17_init_1 15 rfl rfl)
theorem dX17_init_40 : decode cX17_init 40 = .ok (.iconst 5, 1) := dk_8 (dk_at dksX17_init_1 16 rfl rfl)
theorem dX17_init_41 : decode cX17_init 41 = .ok (.if_icmp .ge 16, 3) := dk_162 0 16 (dk_at dksX17_init_1 17 rfl rfl)
theorem dX17_init_44 : decode cX17_init 44 = .ok (.aload_n 0, 1) := dk_42 (dk_at dksX17_init_1 20 rfl rfl)
theorem dX17_init_45 : decode cX17_init 45 = .ok (.getfield 19, 3) := dk_180 0 19 (dk_at dksX17_init_1 21 rfl rfl)
theorem dX17_init_48 : decode cX17_init 48 = .ok (.iload_n 2, 1) := dk_28 (dk_at dksX17_init_2 0 rfl rfl)
theorem dX17_init_49 : decode cX17_init 49 = .ok (.iconst (-1), 1) := dk_2 (dk_at dksX17_init_2 1 rfl rfl)
theorem dX17_init_50 : decode cX17_init 50 = .ok (.iastore, 1) := dk_79 (dk_at dksX17_init_2 2 rfl rfl)
theorem dX17_init_51 : decode cX17_init 51 = .ok (.iinc 2 1, 3) := dk_132 2 1 (dk_at dksX17_init_2 3 rfl rfl)
theorem dX17_init_54 : decode cX17_init 54 = .ok (.goto (-15), 3) := dk_167 255 241 (dk_at dksX17_init_2 6 rfl rfl)
theorem dX17_init_57 : decode cX17_init 57 = .ok (.return_, 1) := dk_177 (dk_at dksX17_init_2 9 rfl rfl)
abbrev cX17_go : ByteArray := prog_22_method_7_code
def yX17_go : MethodName := ⟨RX17, "go", "(IILKernelGym$Use;)V"⟩
def dkwX17_go_2 : List UInt8 := [21, 4, 185, 0, 41, 2, 0, 192, 0, 47, 42, 45, 21, 4, 182, 0, 49, 54, 4, 167, 255, 193, 177]
abbrev dktX17_go_2 : List UInt8 := dkwX17_go_2 ++ []
def dkwX17_go_1 : List UInt8 := [17, 1, 44, 163, 0, 7, 4, 167, 0, 4, 3, 4, 21, 4, 184, 0, 33, 42, 180, 0, 3, 180, 0, 37]
abbrev dktX17_go_1 : List UInt8 := dkwX17_go_1 ++ dktX17_go_2
def dkwX17_go_0 : List UInt8 := [27, 54, 4, 21, 4, 28, 162, 0, 63, 42, 89, 180, 0, 29, 4, 96, 181, 0, 29, 42, 180, 0, 29]
abbrev dktX17_go_0 : List UInt8 := dkwX17_go_0 ++ dktX17_go_1
theorem dksX17_go_0 : cX17_go.data.toList.drop 0 = dktX17_go_0 := by decide +kernel
theorem dksX17_go_1 : cX17_go.data.toList.drop 23 = dktX17_go_1 := dk_seg dksX17_go_0 23 rfl rfl
theorem dksX17_go_2 : cX17_go.data.toList.drop 47 = dktX17_go_2 := dk_seg dksX17_go_1 24 rfl rfl
theorem dX17_go_0 : decode cX17_go 0 = .ok (.iload_n 1, 1) := dk_27 (dk_at dksX17_go_0 0 rfl rfl)
theorem dX17_go_1 : decode cX17_go 1 = .ok (.istore 4, 2) := dk_54 4 (dk_at dksX17_go_0 1 rfl rfl)
theorem dX17_go_3 : decode cX17_go 3 = .ok (.iload 4, 2) := dk_21 4 (dk_at dksX17_go_0 3 rfl rfl)
theorem dX17_go_5 : decode cX17_go 5 = .ok (.iload_n 2, 1) := dk_28 (dk_at dksX17_go_0 5 rfl rfl)
theorem dX17_go_6 : decode cX17_go 6 = .ok (.if_icmp .ge 63, 3) := dk_162 0 63 (dk_at dksX17_go_0 6 rfl rfl)
theorem dX17_go_9 : decode cX17_go 9 = .ok (.aload_n 0, 1) := dk_42 (dk_at dksX17_go_0 9 rfl rfl)
theorem dX17_go_10 : decode cX17_go 10 = .ok (.dup, 1) := dk_89 (dk_at dksX17_go_0 10 rfl rfl)
theorem dX17_go_11 : decode cX17_go 11 = .ok (.getfield 29, 3) := dk_180 0 29 (dk_at dksX17_go_0 11 rfl rfl)
theorem dX17_go_14 : decode cX17_go 14 = .ok (.iconst 1, 1) := dk_4 (dk_at dksX17_go_0 14 rfl rfl)
theorem dX17_go_15 : decode cX17_go 15 = .ok (.iadd, 1) := dk_96 (dk_at dksX17_go_0 15 rfl rfl)
theorem dX17_go_16 : decode cX17_go 16 = .ok (.putfield 29, 3) := dk_181 0 29 (dk_at dksX17_go_0 16 rfl rfl)
theorem dX17_go_19 : decode cX17_go 19 = .ok (.aload_n 0, 1) := dk_42 (dk_at dksX17_go_0 19 rfl rfl)
theorem dX17_go_20 : decode cX17_go 20 = .ok (.getfield 29, 3) := dk_180 0 29 (dk_at dksX17_go_0 20 rfl rfl)
theorem dX17_go_23 : decode cX17_go 23 = .ok (.sipush 300, 3) := dk_17 1 44 (dk_at dksX17_go_1 0 rfl rfl)
theorem dX17_go_26 : decode cX17_go 26 = .ok (.if_icmp .gt 7, 3) := dk_163 0 7 (dk_at dksX17_go_1 3 rfl rfl)
theorem dX17_go_29 : decode cX17_go 29 = .ok (.iconst 1, 1) := dk_4 (dk_at dksX17_go_1 6 rfl rfl)
theorem dX17_go_30 : decode cX17_go 30 = .ok (.goto 4, 3) := dk_167 0 4 (dk_at dksX17_go_1 7 rfl rfl)
theorem dX17_go_33 : decode cX17_go 33 = .ok (.iconst 0, 1) := dk_3 (dk_at dksX17_go_1 10 rfl rfl)
theorem dX17_go_34 : decode cX17_go 34 = .ok (.iconst 1, 1) := dk_4 (dk_at dksX17_go_1 11 rfl rfl)
theorem dX17_go_35 : decode cX17_go 35 = .ok (.iload 4, 2) := dk_21 4 (dk_at dksX17_go_1 12 rfl rfl)
theorem dX17_go_37 : decode cX17_go 37 = .ok (.invokestatic 33, 3) := dk_184 0 33 (dk_at dksX17_go_1 14 rfl rfl)
theorem dX17_go_40 : decode cX17_go 40 = .ok (.aload_n 0, 1) := dk_42 (dk_at dksX17_go_1 17 rfl rfl)
theorem dX17_go_41 : decode cX17_go 41 = .ok (.getfield 3, 3) := dk_180 0 3 (dk_at dksX17_go_1 18 rfl rfl)
theorem dX17_go_44 : decode cX17_go 44 = .ok (.getfield 37, 3) := dk_180 0 37 (dk_at dksX17_go_1 21 rfl rfl)
theorem dX17_go_47 : decode cX17_go 47 = .ok (.iload 4, 2) := dk_21 4 (dk_at dksX17_go_2 0 rfl rfl)
theorem dX17_go_49 : decode cX17_go 49 = .ok (.invokeinterface 41 2, 5) := by decide +kernel
theorem dX17_go_54 : decode cX17_go 54 = .ok (.checkcast 47, 3) := dk_192 0 47 (dk_at dksX17_go_2 7 rfl rfl)
theorem dX17_go_57 : decode cX17_go 57 = .ok (.aload_n 0, 1) := dk_42 (dk_at dksX17_go_2 10 rfl rfl)
theorem dX17_go_58 : decode cX17_go 58 = .ok (.aload_n 3, 1) := dk_45 (dk_at dksX17_go_2 11 rfl rfl)
theorem dX17_go_59 : decode cX17_go 59 = .ok (.iload 4, 2) := dk_21 4 (dk_at dksX17_go_2 12 rfl rfl)
theorem dX17_go_61 : decode cX17_go 61 = .ok (.invokevirtual 49, 3) := dk_182 0 49 (dk_at dksX17_go_2 14 rfl rfl)
theorem dX17_go_64 : decode cX17_go 64 = .ok (.istore 4, 2) := dk_54 4 (dk_at dksX17_go_2 17 rfl rfl)
theorem dX17_go_66 : decode cX17_go 66 = .ok (.goto (-63), 3) := dk_167 255 193 (dk_at dksX17_go_2 19 rfl rfl)
theorem dX17_go_69 : decode cX17_go 69 = .ok (.return_, 1) := dk_177 (dk_at dksX17_go_2 22 rfl rfl)
abbrev cX17_define : ByteArray := prog_22_method_8_code
def yX17_define : MethodName := ⟨RX17, "define", "(II)I"⟩
def dkwX17_define_6 : List UInt8 := [79, 29, 4, 96, 172]
abbrev dktX17_define_6 : List UInt8 := dkwX17_define_6 ++ []
def dkwX17_define_5 : List UInt8 := [167, 0, 4, 3, 7, 28, 184, 0, 33, 42, 180, 0, 19, 27, 28, 4, 96, 79, 42, 180, 0, 22, 27, 29]
abbrev dktX17_define_5 : List UInt8 := dkwX17_define_5 ++ dktX17_define_6
def dkwX17_define_4 : List UInt8 := [132, 3, 1, 167, 255, 183, 29, 42, 180, 0, 3, 180, 0, 37, 185, 0, 53, 1, 0, 162, 0, 7, 4]
abbrev dktX17_define_4 : List UInt8 := dkwX17_define_4 ++ dktX17_define_5
def dkwX17_define_3 : List UInt8 := [185, 0, 41, 2, 0, 192, 0, 47, 182, 0, 61, 154, 0, 7, 4, 167, 0, 4, 3, 7, 29, 184, 0, 33]
abbrev dktX17_define_3 : List UInt8 := dkwX17_define_3 ++ dktX17_define_4
def dkwX17_define_2 : List UInt8 := [185, 0, 41, 2, 0, 192, 0, 47, 182, 0, 57, 154, 0, 41, 42, 180, 0, 3, 180, 0, 37, 29]
abbrev dktX17_define_2 : List UInt8 := dkwX17_define_2 ++ dktX17_define_3
def dkwX17_define_1 : List UInt8 := [29, 42, 180, 0, 3, 180, 0, 37, 185, 0, 53, 1, 0, 162, 0, 63, 42, 180, 0, 3, 180, 0, 37, 29]
abbrev dktX17_define_1 : List UInt8 := dkwX17_define_1 ++ dktX17_define_2
def dkwX17_define_0 : List UInt8 := [42, 180, 0, 19, 27, 46, 2, 160, 0, 7, 4, 167, 0, 4, 3, 6, 28, 184, 0, 33, 28, 4, 96, 62]
abbrev dktX17_define_0 : List UInt8 := dkwX17_define_0 ++ dktX17_define_1
theorem dksX17_define_0 : cX17_define.data.toList.drop 0 = dktX17_define_0 := by decide +kernel
theorem dksX17_define_1 : cX17_define.data.toList.drop 24 = dktX17_define_1 := dk_seg dksX17_define_0 24 rfl rfl
theorem dksX17_define_2 : cX17_define.data.toList.drop 48 = dktX17_define_2 := dk_seg dksX17_define_1 24 rfl rfl
theorem dksX17_define_3 : cX17_define.data.toList.drop 70 = dktX17_define_3 := dk_seg dksX17_define_2 22 rfl rfl
theorem dksX17_define_4 : cX17_define.data.toList.drop 94 = dktX17_define_4 := dk_seg dksX17_define_3 24 rfl rfl
theorem dksX17_define_5 : cX17_define.data.toList.drop 117 = dktX17_define_5 := dk_seg dksX17_define_4 23 rfl rfl
theorem dksX17_define_6 : cX17_define.data.toList.drop 141 = dktX17_define_6 := dk_seg dksX17_define_5 24 rfl rfl
theorem dX17_define_0 : decode cX17_define 0 = .ok (.aload_n 0, 1) := dk_42 (dk_at dksX17_define_0 0 rfl rfl)
theorem dX17_define_1 : decode cX17_define 1 = .ok (.getfield 19, 3) := dk_180 0 19 (dk_at dksX17_define_0 1 rfl rfl)
theorem dX17_define_4 : decode cX17_define 4 = .ok (.iload_n 1, 1) := dk_27 (dk_at dksX17_define_0 4 rfl rfl)
theorem dX17_define_5 : decode cX17_define 5 = .ok (.iaload, 1) := dk_46 (dk_at dksX17_define_0 5 rfl rfl)
theorem dX17_define_6 : decode cX17_define 6 = .ok (.iconst (-1), 1) := dk_2 (dk_at dksX17_define_0 6 rfl rfl)
theorem dX17_define_7 : decode cX17_define 7 = .ok (.if_icmp .ne 7, 3) := dk_160 0 7 (dk_at dksX17_define_0 7 rfl rfl)
theorem dX17_define_10 : decode cX17_define 10 = .ok (.iconst 1, 1) := dk_4 (dk_at dksX17_define_0 10 rfl rfl)
theorem dX17_define_11 : decode cX17_define 11 = .ok (.goto 4, 3) := dk_167 0 4 (dk_at dksX17_define_0 11 rfl rfl)
theorem dX17_define_14 : decode cX17_define 14 = .ok (.iconst 0, 1) := dk_3 (dk_at dksX17_define_0 14 rfl rfl)
theorem dX17_define_15 : decode cX17_define 15 = .ok (.iconst 3, 1) := dk_6 (dk_at dksX17_define_0 15 rfl rfl)
theorem dX17_define_16 : decode cX17_define 16 = .ok (.iload_n 2, 1) := dk_28 (dk_at dksX17_define_0 16 rfl rfl)
theorem dX17_define_17 : decode cX17_define 17 = .ok (.invokestatic 33, 3) := dk_184 0 33 (dk_at dksX17_define_0 17 rfl rfl)
theorem dX17_define_20 : decode cX17_define 20 = .ok (.iload_n 2, 1) := dk_28 (dk_at dksX17_define_0 20 rfl rfl)
theorem dX17_define_21 : decode cX17_define 21 = .ok (.iconst 1, 1) := dk_4 (dk_at dksX17_define_0 21 rfl rfl)
theorem dX17_define_22 : decode cX17_define 22 = .ok (.iadd, 1) := dk_96 (dk_at dksX17_define_0 22 rfl rfl)
theorem dX17_define_23 : decode cX17_define 23 = .ok (.istore_n 3, 1) := dk_62 (dk_at dksX17_define_0 23 rfl rfl)
theorem dX17_define_24 : decode cX17_define 24 = .ok (.iload_n 3, 1) := dk_29 (dk_at dksX17_define_1 0 rfl rfl)
theorem dX17_define_25 : decode cX17_define 25 = .ok (.aload_n 0, 1) := dk_42 (dk_at dksX17_define_1 1 rfl rfl)
theorem dX17_define_26 : decode cX17_define 26 = .ok (.getfield 3, 3) := dk_180 0 3 (dk_at dksX17_define_1 2 rfl rfl)
theorem dX17_define_29 : decode cX17_define 29 = .ok (.getfield 37, 3) := dk_180 0 37 (dk_at dksX17_define_1 5 rfl rfl)
theorem dX17_define_32 : decode cX17_define 32 = .ok (.invokeinterface 53 1, 5) := by decide +kernel
theorem dX17_define_37 : decode cX17_define 37 = .ok (.if_icmp .ge 63, 3) := dk_162 0 63 (dk_at dksX17_define_1 13 rfl rfl)
theorem dX17_define_40 : decode cX17_define 40 = .ok (.aload_n 0, 1) := dk_42 (dk_at dksX17_define_1 16 rfl rfl)
theorem dX17_define_41 : decode cX17_define 41 = .ok (.getfield 3, 3) := dk_180 0 3 (dk_at dksX17_define_1 17 rfl rfl)
theorem dX17_define_44 : decode cX17_define 44 = .ok (.getfield 37, 3) := dk_180 0 37 (dk_at dksX17_define_1 20 rfl rfl)
theorem dX17_define_47 : decode cX17_define 47 = .ok (.iload_n 3, 1) := dk_29 (dk_at dksX17_define_1 23 rfl rfl)
theorem dX17_define_48 : decode cX17_define 48 = .ok (.invokeinterface 41 2, 5) := by decide +kernel
theorem dX17_define_53 : decode cX17_define 53 = .ok (.checkcast 47, 3) := dk_192 0 47 (dk_at dksX17_define_2 5 rfl rfl)
theorem dX17_define_56 : decode cX17_define 56 = .ok (.invokevirtual 57, 3) := dk_182 0 57 (dk_at dksX17_define_2 8 rfl rfl)
theorem dX17_define_59 : decode cX17_define 59 = .ok (.ifCond .ne 41, 3) := dk_154 0 41 (dk_at dksX17_define_2 11 rfl rfl)
theorem dX17_define_62 : decode cX17_define 62 = .ok (.aload_n 0, 1) := dk_42 (dk_at dksX17_define_2 14 rfl rfl)
theorem dX17_define_63 : decode cX17_define 63 = .ok (.getfield 3, 3) := dk_180 0 3 (dk_at dksX17_define_2 15 rfl rfl)
theorem dX17_define_66 : decode cX17_define 66 = .ok (.getfield 37, 3) := dk_180 0 37 (dk_at dksX17_define_2 18 rfl rfl)
theorem dX17_define_69 : decode cX17_define 69 = .ok (.iload_n 3, 1) := dk_29 (dk_at dksX17_define_2 21 rfl rfl)
theorem dX17_define_70 : decode cX17_define 70 = .ok (.invokeinterface 41 2, 5) := by decide +kernel
theorem dX17_define_75 : decode cX17_define 75 = .ok (.checkcast 47, 3) := dk_192 0 47 (dk_at dksX17_define_3 5 rfl rfl)
theorem dX17_define_78 : decode cX17_define 78 = .ok (.invokevirtual 61, 3) := dk_182 0 61 (dk_at dksX17_define_3 8 rfl rfl)
theorem dX17_define_81 : decode cX17_define 81 = .ok (.ifCond .ne 7, 3) := dk_154 0 7 (dk_at dksX17_define_3 11 rfl rfl)
theorem dX17_define_84 : decode cX17_define 84 = .ok (.iconst 1, 1) := dk_4 (dk_at dksX17_define_3 14 rfl rfl)
theorem dX17_define_85 : decode cX17_define 85 = .ok (.goto 4, 3) := dk_167 0 4 (dk_at dksX17_define_3 15 rfl rfl)
theorem dX17_define_88 : decode cX17_define 88 = .ok (.iconst 0, 1) := dk_3 (dk_at dksX17_define_3 18 rfl rfl)
theorem dX17_define_89 : decode cX17_define 89 = .ok (.iconst 4, 1) := dk_7 (dk_at dksX17_define_3 19 rfl rfl)
theorem dX17_define_90 : decode cX17_define 90 = .ok (.iload_n 3, 1) := dk_29 (dk_at dksX17_define_3 20 rfl rfl)
theorem dX17_define_91 : decode cX17_define 91 = .ok (.invokestatic 33, 3) := dk_184 0 33 (dk_at dksX17_define_3 21 rfl rfl)
theorem dX17_define_94 : decode cX17_define 94 = .ok (.iinc 3 1, 3) := dk_132 3 1 (dk_at dksX17_define_4 0 rfl rfl)
theorem dX17_define_97 : decode cX17_define 97 = .ok (.goto (-73), 3) := dk_167 255 183 (dk_at dksX17_define_4 3 rfl rfl)
theorem dX17_define_100 : decode cX17_define 100 = .ok (.iload_n 3, 1) := dk_29 (dk_at dksX17_define_4 6 rfl rfl)
theorem dX17_define_101 : decode cX17_define 101 = .ok (.aload_n 0, 1) := dk_42 (dk_at dksX17_define_4 7 rfl rfl)
theorem dX17_define_102 : decode cX17_define 102 = .ok (.getfield 3, 3) := dk_180 0 3 (dk_at dksX17_define_4 8 rfl rfl)
theorem dX17_define_105 : decode cX17_define 105 = .ok (.getfield 37, 3) := dk_180 0 37 (dk_at dksX17_define_4 11 rfl rfl)
theorem dX17_define_108 : decode cX17_define 108 = .ok (.invokeinterface 53 1, 5) := by decide +kernel
theorem dX17_define_113 : decode cX17_define 113 = .ok (.if_icmp .ge 7, 3) := dk_162 0 7 (dk_at dksX17_define_4 19 rfl rfl)
theorem dX17_define_116 : decode cX17_define 116 = .ok (.iconst 1, 1) := dk_4 (dk_at dksX17_define_4 22 rfl rfl)
theorem dX17_define_117 : decode cX17_define 117 = .ok (.goto 4, 3) := dk_167 0 4 (dk_at dksX17_define_5 0 rfl rfl)
theorem dX17_define_120 : decode cX17_define 120 = .ok (.iconst 0, 1) := dk_3 (dk_at dksX17_define_5 3 rfl rfl)
theorem dX17_define_121 : decode cX17_define 121 = .ok (.iconst 4, 1) := dk_7 (dk_at dksX17_define_5 4 rfl rfl)
theorem dX17_define_122 : decode cX17_define 122 = .ok (.iload_n 2, 1) := dk_28 (dk_at dksX17_define_5 5 rfl rfl)
theorem dX17_define_123 : decode cX17_define 123 = .ok (.invokestatic 33, 3) := dk_184 0 33 (dk_at dksX17_define_5 6 rfl rfl)
theorem dX17_define_126 : decode cX17_define 126 = .ok (.aload_n 0, 1) := dk_42 (dk_at dksX17_define_5 9 rfl rfl)
theorem dX17_define_127 : decode cX17_define 127 = .ok (.getfield 19, 3) := dk_180 0 19 (dk_at dksX17_define_5 10 rfl rfl)
theorem dX17_define_130 : decode cX17_define 130 = .ok (.iload_n 1, 1) := dk_27 (dk_at dksX17_define_5 13 rfl rfl)
theorem dX17_define_131 : decode cX17_define 131 = .ok (.iload_n 2, 1) := dk_28 (dk_at dksX17_define_5 14 rfl rfl)
theorem dX17_define_132 : decode cX17_define 132 = .ok (.iconst 1, 1) := dk_4 (dk_at dksX17_define_5 15 rfl rfl)
theorem dX17_define_133 : decode cX17_define 133 = .ok (.iadd, 1) := dk_96 (dk_at dksX17_define_5 16 rfl rfl)
theorem dX17_define_134 : decode cX17_define 134 = .ok (.iastore, 1) := dk_79 (dk_at dksX17_define_5 17 rfl rfl)
theorem dX17_define_135 : decode cX17_define 135 = .ok (.aload_n 0, 1) := dk_42 (dk_at dksX17_define_5 18 rfl rfl)
theorem dX17_define_136 : decode cX17_define 136 = .ok (.getfield 22, 3) := dk_180 0 22 (dk_at dksX17_define_5 19 rfl rfl)
theorem dX17_define_139 : decode cX17_define 139 = .ok (.iload_n 1, 1) := dk_27 (dk_at dksX17_define_5 22 rfl rfl)
theorem dX17_define_140 : decode cX17_define 140 = .ok (.iload_n 3, 1) := dk_29 (dk_at dksX17_define_5 23 rfl rfl)
theorem dX17_define_141 : decode cX17_define 141 = .ok (.iastore, 1) := dk_79 (dk_at dksX17_define_6 0 rfl rfl)
theorem dX17_define_142 : decode cX17_define 142 = .ok (.iload_n 3, 1) := dk_29 (dk_at dksX17_define_6 1 rfl rfl)
theorem dX17_define_143 : decode cX17_define 143 = .ok (.iconst 1, 1) := dk_4 (dk_at dksX17_define_6 2 rfl rfl)
theorem dX17_define_144 : decode cX17_define 144 = .ok (.iadd, 1) := dk_96 (dk_at dksX17_define_6 3 rfl rfl)
theorem dX17_define_145 : decode cX17_define 145 = .ok (.ireturn, 1) := dk_172 (dk_at dksX17_define_6 4 rfl rfl)
abbrev cX17_expand : ByteArray := prog_22_method_9_code
def yX17_expand : MethodName := ⟨RX17, "expand", "(ILKernelGym$Operand;LKernelGym$Operand;LKernelGym$Use;I)V"⟩
def dkwX17_expand_4 : List UInt8 := [180, 0, 19, 27, 46, 42, 180, 0, 22, 27, 46, 25, 8, 182, 0, 83, 42, 180, 0, 25, 27, 3, 84, 177]
abbrev dktX17_expand_4 : List UInt8 := dkwX17_expand_4 ++ []
def dkwX17_expand_3 : List UInt8 := [25, 8, 21, 6, 181, 0, 75, 25, 8, 21, 7, 181, 0, 80, 42, 180, 0, 25, 27, 4, 84, 42, 42]
abbrev dktX17_expand_3 : List UInt8 := dkwX17_expand_3 ++ dktX17_expand_4
def dkwX17_expand_2 : List UInt8 := [182, 0, 64, 54, 7, 42, 42, 89, 180, 0, 68, 90, 4, 96, 181, 0, 68, 27, 182, 0, 71, 58, 8]
abbrev dktX17_expand_2 : List UInt8 := dkwX17_expand_2 ++ dktX17_expand_3
def dkwX17_expand_1 : List UInt8 := [8, 21, 5, 184, 0, 33, 42, 44, 25, 4, 21, 5, 182, 0, 64, 54, 6, 42, 45, 25, 4, 21, 5]
abbrev dktX17_expand_1 : List UInt8 := dkwX17_expand_1 ++ dktX17_expand_2
def dkwX17_expand_0 : List UInt8 := [42, 180, 0, 19, 27, 46, 2, 159, 0, 16, 42, 180, 0, 25, 27, 51, 154, 0, 7, 4, 167, 0, 4, 3]
abbrev dktX17_expand_0 : List UInt8 := dkwX17_expand_0 ++ dktX17_expand_1
theorem dksX17_expand_0 : cX17_expand.data.toList.drop 0 = dktX17_expand_0 := by decide +kernel
theorem dksX17_expand_1 : cX17_expand.data.toList.drop 24 = dktX17_expand_1 := dk_seg dksX17_expand_0 24 rfl rfl
theorem dksX17_expand_2 : cX17_expand.data.toList.drop 47 = dktX17_expand_2 := dk_seg dksX17_expand_1 23 rfl rfl
theorem dksX17_expand_3 : cX17_expand.data.toList.drop 70 = dktX17_expand_3 := dk_seg dksX17_expand_2 23 rfl rfl
theorem dksX17_expand_4 : cX17_expand.data.toList.drop 93 = dktX17_expand_4 := dk_seg dksX17_expand_3 23 rfl rfl
theorem dX17_expand_0 : decode cX17_expand 0 = .ok (.aload_n 0, 1) := dk_42 (dk_at dksX17_expand_0 0 rfl rfl)
theorem dX17_expand_1 : decode cX17_expand 1 = .ok (.getfield 19, 3) := dk_180 0 19 (dk_at dksX17_expand_0 1 rfl rfl)
theorem dX17_expand_4 : decode cX17_expand 4 = .ok (.iload_n 1, 1) := dk_27 (dk_at dksX17_expand_0 4 rfl rfl)
theorem dX17_expand_5 : decode cX17_expand 5 = .ok (.iaload, 1) := dk_46 (dk_at dksX17_expand_0 5 rfl rfl)
theorem dX17_expand_6 : decode cX17_expand 6 = .ok (.iconst (-1), 1) := dk_2 (dk_at dksX17_expand_0 6 rfl rfl)
theorem dX17_expand_7 : decode cX17_expand 7 = .ok (.if_icmp .eq 16, 3) := dk_159 0 16 (dk_at dksX17_expand_0 7 rfl rfl)
theorem dX17_expand_10 : decode cX17_expand 10 = .ok (.aload_n 0, 1) := dk_42 (dk_at dksX17_expand_0 10 rfl rfl)
theorem dX17_expand_11 : decode cX17_expand 11 = .ok (.getfield 25, 3) := dk_180 0 25 (dk_at dksX17_expand_0 11 rfl rfl)
theorem dX17_expand_14 : decode cX17_expand 14 = .ok (.iload_n 1, 1) := dk_27 (dk_at dksX17_expand_0 14 rfl rfl)
theorem dX17_expand_15 : decode cX17_expand 15 = .ok (.baload, 1) := dk_51 (dk_at dksX17_expand_0 15 rfl rfl)
theorem dX17_expand_16 : decode cX17_expand 16 = .ok (.ifCond .ne 7, 3) := dk_154 0 7 (dk_at dksX17_expand_0 16 rfl rfl)
theorem dX17_expand_19 : decode cX17_expand 19 = .ok (.iconst 1, 1) := dk_4 (dk_at dksX17_expand_0 19 rfl rfl)
theorem dX17_expand_20 : decode cX17_expand 20 = .ok (.goto 4, 3) := dk_167 0 4 (dk_at dksX17_expand_0 20 rfl rfl)
theorem dX17_expand_23 : decode cX17_expand 23 = .ok (.iconst 0, 1) := dk_3 (dk_at dksX17_expand_0 23 rfl rfl)
theorem dX17_expand_24 : decode cX17_expand 24 = .ok (.iconst 5, 1) := dk_8 (dk_at dksX17_expand_1 0 rfl rfl)
theorem dX17_expand_25 : decode cX17_expand 25 = .ok (.iload 5, 2) := dk_21 5 (dk_at dksX17_expand_1 1 rfl rfl)
theorem dX17_expand_27 : decode cX17_expand 27 = .ok (.invokestatic 33, 3) := dk_184 0 33 (dk_at dksX17_expand_1 3 rfl rfl)
theorem dX17_expand_30 : decode cX17_expand 30 = .ok (.aload_n 0, 1) := dk_42 (dk_at dksX17_expand_1 6 rfl rfl)
theorem dX17_expand_31 : decode cX17_expand 31 = .ok (.aload_n 2, 1) := dk_44 (dk_at dksX17_expand_1 7 rfl rfl)
theorem dX17_expand_32 : decode cX17_expand 32 = .ok (.aload 4, 2) := dk_25 4 (dk_at dksX17_expand_1 8 rfl rfl)
theorem dX17_expand_34 : decode cX17_expand 34 = .ok (.iload 5, 2) := dk_21 5 (dk_at dksX17_expand_1 10 rfl rfl)
theorem dX17_expand_36 : decode cX17_expand 36 = .ok (.invokevirtual 64, 3) := dk_182 0 64 (dk_at dksX17_expand_1 12 rfl rfl)
theorem dX17_expand_39 : decode cX17_expand 39 = .ok (.istore 6, 2) := dk_54 6 (dk_at dksX17_expand_1 15 rfl rfl)
theorem dX17_expand_41 : decode cX17_expand 41 = .ok (.aload_n 0, 1) := dk_42 (dk_at dksX17_expand_1 17 rfl rfl)
theorem dX17_expand_42 : decode cX17_expand 42 = .ok (.aload_n 3, 1) := dk_45 (dk_at dksX17_expand_1 18 rfl rfl)
theorem dX17_expand_43 : decode cX17_expand 43 = .ok (.aload 4, 2) := dk_25 4 (dk_at dksX17_expand_1 19 rfl rfl)
theorem dX17_expand_45 : decode cX17_expand 45 = .ok (.iload 5, 2) := dk_21 5 (dk_at dksX17_expand_1 21 rfl rfl)
theorem dX17_expand_47 : decode cX17_expand 47 = .ok (.invokevirtual 64, 3) := dk_182 0 64 (dk_at dksX17_expand_2 0 rfl rfl)
theorem dX17_expand_50 : decode cX17_expand 50 = .ok (.istore 7, 2) := dk_54 7 (dk_at dksX17_expand_2 3 rfl rfl)
theorem dX17_expand_52 : decode cX17_expand 52 = .ok (.aload_n 0, 1) := dk_42 (dk_at dksX17_expand_2 5 rfl rfl)
theorem dX17_expand_53 : decode cX17_expand 53 = .ok (.aload_n 0, 1) := dk_42 (dk_at dksX17_expand_2 6 rfl rfl)
theorem dX17_expand_54 : decode cX17_expand 54 = .ok (.dup, 1) := dk_89 (dk_at dksX17_expand_2 7 rfl rfl)
theorem dX17_expand_55 : decode cX17_expand 55 = .ok (.getfield 68, 3) := dk_180 0 68 (dk_at dksX17_expand_2 8 rfl rfl)
theorem dX17_expand_58 : decode cX17_expand 58 = .ok (.dup_x1, 1) := dk_90 (dk_at dksX17_expand_2 11 rfl rfl)
theorem dX17_expand_59 : decode cX17_expand 59 = .ok (.iconst 1, 1) := dk_4 (dk_at dksX17_expand_2 12 rfl rfl)
theorem dX17_expand_60 : decode cX17_expand 60 = .ok (.iadd, 1) := dk_96 (dk_at dksX17_expand_2 13 rfl rfl)
theorem dX17_expand_61 : decode cX17_expand 61 = .ok (.putfield 68, 3) := dk_181 0 68 (dk_at dksX17_expand_2 14 rfl rfl)
theorem dX17_expand_64 : decode cX17_expand 64 = .ok (.iload_n 1, 1) := dk_27 (dk_at dksX17_expand_2 17 rfl rfl)
theorem dX17_expand_65 : decode cX17_expand 65 = .ok (.invokevirtual 71, 3) := dk_182 0 71 (dk_at dksX17_expand_2 18 rfl rfl)
theorem dX17_expand_68 : decode cX17_expand 68 = .ok (.astore 8, 2) := dk_58 8 (dk_at dksX17_expand_2 21 rfl rfl)
theorem dX17_expand_70 : decode cX17_expand 70 = .ok (.aload 8, 2) := dk_25 8 (dk_at dksX17_expand_3 0 rfl rfl)
theorem dX17_expand_72 : decode cX17_expand 72 = .ok (.iload 6, 2) := dk_21 6 (dk_at dksX17_expand_3 2 rfl rfl)
theorem dX17_expand_74 : decode cX17_expand 74 = .ok (.putfield 75, 3) := dk_181 0 75 (dk_at dksX17_expand_3 4 rfl rfl)
theorem dX17_expand_77 : decode cX17_expand 77 = .ok (.aload 8, 2) := dk_25 8 (dk_at dksX17_expand_3 7 rfl rfl)
theorem dX17_expand_79 : decode cX17_expand 79 = .ok (.iload 7, 2) := dk_21 7 (dk_at dksX17_expand_3 9 rfl rfl)
theorem dX17_expand_81 : decode cX17_expand 81 = .ok (.putfield 80, 3) := dk_181 0 80 (dk_at dksX17_expand_3 11 rfl rfl)
theorem dX17_expand_84 : decode cX17_expand 84 = .ok (.aload_n 0, 1) := dk_42 (dk_at dksX17_expand_3 14 rfl rfl)
theorem dX17_expand_85 : decode cX17_expand 85 = .ok (.getfield 25, 3) := dk_180 0 25 (dk_at dksX17_expand_3 15 rfl rfl)
theorem dX17_expand_88 : decode cX17_expand 88 = .ok (.iload_n 1, 1) := dk_27 (dk_at dksX17_expand_3 18 rfl rfl)
theorem dX17_expand_89 : decode cX17_expand 89 = .ok (.iconst 1, 1) := dk_4 (dk_at dksX17_expand_3 19 rfl rfl)
theorem dX17_expand_90 : decode cX17_expand 90 = .ok (.bastore, 1) := dk_84 (dk_at dksX17_expand_3 20 rfl rfl)
theorem dX17_expand_91 : decode cX17_expand 91 = .ok (.aload_n 0, 1) := dk_42 (dk_at dksX17_expand_3 21 rfl rfl)
theorem dX17_expand_92 : decode cX17_expand 92 = .ok (.aload_n 0, 1) := dk_42 (dk_at dksX17_expand_3 22 rfl rfl)
theorem dX17_expand_93 : decode cX17_expand 93 = .ok (.getfield 19, 3) := dk_180 0 19 (dk_at dksX17_expand_4 0 rfl rfl)
theorem dX17_expand_96 : decode cX17_expand 96 = .ok (.iload_n 1, 1) := dk_27 (dk_at dksX17_expand_4 3 rfl rfl)
theorem dX17_expand_97 : decode cX17_expand 97 = .ok (.iaload, 1) := dk_46 (dk_at dksX17_expand_4 4 rfl rfl)
theorem dX17_expand_98 : decode cX17_expand 98 = .ok (.aload_n 0, 1) := dk_42 (dk_at dksX17_expand_4 5 rfl rfl)
theorem dX17_expand_99 : decode cX17_expand 99 = .ok (.getfield 22, 3) := dk_180 0 22 (dk_at dksX17_expand_4 6 rfl rfl)
theorem dX17_expand_102 : decode cX17_expand 102 = .ok (.iload_n 1, 1) := dk_27 (dk_at dksX17_expand_4 9 rfl rfl)
theorem dX17_expand_103 : decode cX17_expand 103 = .ok (.iaload, 1) := dk_46 (dk_at dksX17_expand_4 10 rfl rfl)
theorem dX17_expand_104 : decode cX17_expand 104 = .ok (.aload 8, 2) := dk_25 8 (dk_at dksX17_expand_4 11 rfl rfl)
theorem dX17_expand_106 : decode cX17_expand 106 = .ok (.invokevirtual 83, 3) := dk_182 0 83 (dk_at dksX17_expand_4 13 rfl rfl)
theorem dX17_expand_109 : decode cX17_expand 109 = .ok (.aload_n 0, 1) := dk_42 (dk_at dksX17_expand_4 16 rfl rfl)
theorem dX17_expand_110 : decode cX17_expand 110 = .ok (.getfield 25, 3) := dk_180 0 25 (dk_at dksX17_expand_4 17 rfl rfl)
theorem dX17_expand_113 : decode cX17_expand 113 = .ok (.iload_n 1, 1) := dk_27 (dk_at dksX17_expand_4 20 rfl rfl)
theorem dX17_expand_114 : decode cX17_expand 114 = .ok (.iconst 0, 1) := dk_3 (dk_at dksX17_expand_4 21 rfl rfl)
theorem dX17_expand_115 : decode cX17_expand 115 = .ok (.bastore, 1) := dk_84 (dk_at dksX17_expand_4 22 rfl rfl)
theorem dX17_expand_116 : decode cX17_expand 116 = .ok (.return_, 1) := dk_177 (dk_at dksX17_expand_4 23 rfl rfl)
theorem q150 : (Jvm.Cond.initialized "KernelGym$Pass") ∈ lw_all := lw_g (lw_at lw_m1 33 rfl) rfl
theorem q322 : (Jvm.Cond.fieldLinkNest "KernelGym$Pass" (37 : Nat) "KernelGym" "lines" "Ljava/util/List;" "KernelGym") ∈ lw_tbl := lw_at lw_m1 205 rfl
theorem q401 : (Jvm.Cond.fieldLinkNest "KernelGym$Pass" (75 : Nat) "KernelGym$Use" "first" "I" "KernelGym") ∈ lw_tbl := lw_at lw_m2 44 rfl
theorem q403 : (Jvm.Cond.fieldLinkNest "KernelGym$Pass" (80 : Nat) "KernelGym$Use" "second" "I" "KernelGym") ∈ lw_tbl := lw_at lw_m2 46 rfl
theorem q421 : (Jvm.Cond.instanceMethod ({ cls := "KernelGym$Pass", name := "<init>", desc := "(LKernelGym;)V" } : Jvm.MethodName)) ∈ lw_all := lw_g (lw_at lw_m2 64 rfl) rfl
theorem q422 : (Jvm.Cond.code ({ cls := "KernelGym$Pass", name := "<init>", desc := "(LKernelGym;)V" } : Jvm.MethodName) prog_22_method_1_code (3 : Nat) (Option.none : Option Jvm.ClassFile.FieldType)) ∈ lw_all := lw_g (lw_at lw_m2 65 rfl) rfl
theorem q423 : (Jvm.Cond.methodLink "KernelGym$Pass" (9 : Nat) ({ cls := "java/lang/Object", name := "<init>", desc := "()V" } : Jvm.MethodName)) ∈ lw_all := lw_g (lw_at lw_m2 66 rfl) rfl
theorem q426 : (Jvm.Cond.fieldLink "KernelGym$Pass" (15 : Nat) "KernelGym$Pass" "sizes" "[I") ∈ lw_all := lw_g (lw_at lw_m2 69 rfl) rfl
theorem q437 : (Jvm.Cond.fieldLink "KernelGym$Pass" (19 : Nat) "KernelGym$Pass" "begins" "[I") ∈ lw_all := lw_g (lw_at lw_m2 80 rfl) rfl
theorem q438 : (Jvm.Cond.fieldLink "KernelGym$Pass" (22 : Nat) "KernelGym$Pass" "ends" "[I") ∈ lw_all := lw_g (lw_at lw_m2 81 rfl) rfl
theorem q439 : (Jvm.Cond.fieldLink "KernelGym$Pass" (25 : Nat) "KernelGym$Pass" "used" "[Z") ∈ lw_all := lw_g (lw_at lw_m2 82 rfl) rfl
theorem q440 : (Jvm.Cond.fieldLink "KernelGym$Pass" (29 : Nat) "KernelGym$Pass" "gone" "I") ∈ lw_all := lw_g (lw_at lw_m2 83 rfl) rfl
theorem q441 : (Jvm.Cond.fieldLink "KernelGym$Pass" (68 : Nat) "KernelGym$Pass" "many" "I") ∈ lw_all := lw_g (lw_at lw_m2 84 rfl) rfl
theorem q442 : (Jvm.Cond.fieldLink "KernelGym$Pass" (3 : Nat) "KernelGym$Pass" "this$0" "LKernelGym;") ∈ lw_all := lw_g (lw_at lw_m2 85 rfl) rfl
theorem q448 : (Jvm.Cond.soleField "KernelGym$Pass" "sizes") ∈ lw_all := lw_g (lw_at lw_m2 91 rfl) rfl
theorem q450 : (Jvm.Cond.soleField "KernelGym$Pass" "section") ∈ lw_all := lw_g (lw_at lw_m2 93 rfl) rfl
theorem q452 : (Jvm.Cond.soleField "KernelGym$Pass" "begins") ∈ lw_all := lw_g (lw_at lw_m2 95 rfl) rfl
theorem q454 : (Jvm.Cond.soleField "KernelGym$Pass" "ends") ∈ lw_all := lw_g (lw_at lw_m2 97 rfl) rfl
theorem q456 : (Jvm.Cond.soleField "KernelGym$Pass" "used") ∈ lw_all := lw_g (lw_at lw_m2 99 rfl) rfl
theorem q458 : (Jvm.Cond.soleField "KernelGym$Pass" "gone") ∈ lw_all := lw_g (lw_at lw_m2 101 rfl) rfl
theorem q460 : (Jvm.Cond.soleField "KernelGym$Pass" "many") ∈ lw_all := lw_g (lw_at lw_m2 103 rfl) rfl
theorem q462 : (Jvm.Cond.soleField "KernelGym$Pass" "this$0") ∈ lw_all := lw_g (lw_at lw_m2 105 rfl) rfl
theorem q468 : (Jvm.Cond.instanceMethod ({ cls := "KernelGym$Pass", name := "go", desc := "(IILKernelGym$Use;)V" } : Jvm.MethodName)) ∈ lw_all := lw_g (lw_at lw_m2 111 rfl) rfl
theorem q469 : (Jvm.Cond.sameMethod "KernelGym$Pass" "KernelGym$Pass" "go" "(IILKernelGym$Use;)V") ∈ lw_all := lw_g (lw_at lw_m2 112 rfl) rfl
theorem q472 : (Jvm.Cond.code ({ cls := "KernelGym$Pass", name := "go", desc := "(IILKernelGym$Use;)V" } : Jvm.MethodName) prog_22_method_7_code (5 : Nat) (Option.none : Option Jvm.ClassFile.FieldType)) ∈ lw_all := lw_g (lw_at lw_m2 115 rfl) rfl
theorem q473 : (Jvm.Cond.methodLinkNest "KernelGym$Pass" (33 : Nat) ({ cls := "KernelGym", name := "check", desc := "(ZII)V" } : Jvm.MethodName) "KernelGym") ∈ lw_tbl := lw_at lw_m2 116 rfl
theorem q815 : (Jvm.Cond.interfaceEntry "KernelGym$Pass" (41 : Nat)) ∈ lw_tbl := lw_at lw_m3 218 rfl
theorem q816 : (Jvm.Cond.methodLink "KernelGym$Pass" (41 : Nat) ({ cls := "java/util/List", name := "get", desc := "(I)Ljava/lang/Object;" } : Jvm.MethodName)) ∈ lw_all := lw_g (lw_at lw_m3 219 rfl) rfl
theorem q877 : (Jvm.Cond.classLink "KernelGym$Pass" (47 : Nat) "KernelGym$Line") ∈ lw_all := lw_g (lw_at lw_m4 40 rfl) rfl
theorem q878 : (Jvm.Cond.methodLink "KernelGym$Pass" (49 : Nat) ({ cls := "KernelGym$Line", name := "go", desc := "(LKernelGym$Pass;LKernelGym$Use;I)I" } : Jvm.MethodName)) ∈ lw_all := lw_g (lw_at lw_m4 41 rfl) rfl
theorem q888 : (Jvm.Cond.declares ({ cls := "KernelGym$Pass", name := "set", desc := "(ILKernelGym$Use;I)V" } : Jvm.MethodName)) ∈ lw_tbl := lw_at lw_m4 51 rfl
theorem q889 : (Jvm.Cond.sameMethod "KernelGym$Pass" "KernelGym$Pass" "set" "(ILKernelGym$Use;I)V") ∈ lw_all := lw_g (lw_at lw_m4 52 rfl) rfl
theorem q905 : (Jvm.Cond.declares ({ cls := "KernelGym$Pass", name := "take", desc := "(II)V" } : Jvm.MethodName)) ∈ lw_tbl := lw_at lw_m4 68 rfl
theorem q906 : (Jvm.Cond.sameMethod "KernelGym$Pass" "KernelGym$Pass" "take" "(II)V") ∈ lw_all := lw_g (lw_at lw_m4 69 rfl) rfl
theorem q914 : (Jvm.Cond.declares ({ cls := "KernelGym$Pass", name := "value", desc := "(LKernelGym$Operand;LKernelGym$Use;I)I" } : Jvm.MethodName)) ∈ lw_tbl := lw_at lw_m4 77 rfl
theorem q915 : (Jvm.Cond.sameMethod "KernelGym$Pass" "KernelGym$Pass" "value" "(LKernelGym$Operand;LKernelGym$Use;I)I") ∈ lw_all := lw_g (lw_at lw_m4 78 rfl) rfl
theorem q946 : (Jvm.Cond.declares ({ cls := "KernelGym$Pass", name := "point", desc := "(II)V" } : Jvm.MethodName)) ∈ lw_tbl := lw_at lw_m4 109 rfl
theorem q947 : (Jvm.Cond.sameMethod "KernelGym$Pass" "KernelGym$Pass" "point" "(II)V") ∈ lw_all := lw_g (lw_at lw_m4 110 rfl) rfl
theorem q958 : (Jvm.Cond.instanceMethod ({ cls := "KernelGym$Pass", name := "define", desc := "(II)I" } : Jvm.MethodName)) ∈ lw_all := lw_g (lw_at lw_m4 121 rfl) rfl
theorem q959 : (Jvm.Cond.sameMethod "KernelGym$Pass" "KernelGym$Pass" "define" "(II)I") ∈ lw_all := lw_g (lw_at lw_m4 122 rfl) rfl
theorem q962 : (Jvm.Cond.code ({ cls := "KernelGym$Pass", name := "define", desc := "(II)I" } : Jvm.MethodName) prog_22_method_8_code (4 : Nat) (Option.some Jvm.ClassFile.FieldType.int)) ∈ lw_all := lw_g (lw_at lw_m4 125 rfl) rfl
theorem q963 : (Jvm.Cond.interfaceEntry "KernelGym$Pass" (53 : Nat)) ∈ lw_tbl := lw_at lw_m4 126 rfl
theorem q964 : (Jvm.Cond.methodLink "KernelGym$Pass" (53 : Nat) ({ cls := "java/util/List", name := "size", desc := "()I" } : Jvm.MethodName)) ∈ lw_all := lw_g (lw_at lw_m4 127 rfl) rfl
theorem q965 : (Jvm.Cond.methodLink "KernelGym$Pass" (57 : Nat) ({ cls := "KernelGym$Line", name := "endsMacro", desc := "()Z" } : Jvm.MethodName)) ∈ lw_all := lw_g (lw_at lw_m4 128 rfl) rfl
theorem q980 : (Jvm.Cond.methodLink "KernelGym$Pass" (61 : Nat) ({ cls := "KernelGym$Line", name := "beginsMacro", desc := "()Z" } : Jvm.MethodName)) ∈ lw_all := lw_g (lw_at lw_m4 143 rfl) rfl
theorem q1004 : (Jvm.Cond.instanceMethod ({ cls := "KernelGym$Pass", name := "expand", desc := "(ILKernelGym$Operand;LKernelGym$Operand;LKernelGym$Use;I)V" } : Jvm.MethodName)) ∈ lw_all := lw_g (lw_at lw_m4 167 rfl) rfl
theorem q1005 : (Jvm.Cond.sameMethod "KernelGym$Pass" "KernelGym$Pass" "expand" "(ILKernelGym$Operand;LKernelGym$Operand;LKernelGym$Use;I)V") ∈ lw_all := lw_g (lw_at lw_m4 168 rfl) rfl
theorem q1008 : (Jvm.Cond.code ({ cls := "KernelGym$Pass", name := "expand", desc := "(ILKernelGym$Operand;LKernelGym$Operand;LKernelGym$Use;I)V" } : Jvm.MethodName) prog_22_method_9_code (9 : Nat) (Option.none : Option Jvm.ClassFile.FieldType)) ∈ lw_all := lw_g (lw_at lw_m4 171 rfl) rfl
theorem q1009 : (Jvm.Cond.methodLink "KernelGym$Pass" (64 : Nat) ({ cls := "KernelGym$Pass", name := "value", desc := "(LKernelGym$Operand;LKernelGym$Use;I)I" } : Jvm.MethodName)) ∈ lw_all := lw_g (lw_at lw_m4 172 rfl) rfl
theorem q1010 : (Jvm.Cond.methodLink "KernelGym$Pass" (71 : Nat) ({ cls := "KernelGym$Pass", name := "begin", desc := "(II)LKernelGym$Use;" } : Jvm.MethodName)) ∈ lw_all := lw_g (lw_at lw_m4 173 rfl) rfl
theorem q1011 : (Jvm.Cond.declares ({ cls := "KernelGym$Pass", name := "begin", desc := "(II)LKernelGym$Use;" } : Jvm.MethodName)) ∈ lw_tbl := lw_at lw_m4 174 rfl
theorem q1012 : (Jvm.Cond.sameMethod "KernelGym$Pass" "KernelGym$Pass" "begin" "(II)LKernelGym$Use;") ∈ lw_all := lw_g (lw_at lw_m4 175 rfl) rfl
theorem q1135 : (Jvm.Cond.methodLink "KernelGym$Pass" (83 : Nat) ({ cls := "KernelGym$Pass", name := "go", desc := "(IILKernelGym$Use;)V" } : Jvm.MethodName)) ∈ lw_all := lw_g (lw_at lw_m5 58 rfl) rfl

/-! KernelGym$Assembly$1 -/
def RX18 : String := "KernelGym$Assembly$1"
def TX18 : u_T := fun k => match k with
  | 0 => ("KernelGym$Pass", "sizes", "[I", true)
  | 1 => ("KernelGym$Pass", "section", "I", false)
  | 2 => ("KernelGym$Pass", "begins", "[I", true)
  | 3 => ("KernelGym$Pass", "ends", "[I", true)
  | 4 => ("KernelGym$Pass", "used", "[Z", true)
  | 5 => ("KernelGym$Pass", "gone", "I", false)
  | 6 => ("KernelGym$Pass", "many", "I", false)
  | 7 => ("KernelGym$Pass", "this$0", "LKernelGym;", true)
  | 8 => ("KernelGym$Assembly$1", "val$this$0", "LKernelGym;", true)
  | _ => ("KernelGym$Assembly$1", "this$1", "LKernelGym$Assembly;", true)
def tyX18 : Nat → FieldType := fun k => match k with
  | 0 => .array .int
  | 1 => .int
  | 2 => .array .int
  | 3 => .array .int
  | 4 => .array .boolean
  | 5 => .int
  | 6 => .int
  | 7 => .object "KernelGym"
  | 8 => .object "KernelGym"
  | _ => .object "KernelGym$Assembly"
abbrev wsX180 : List Cond := u_ws RX18 TX18 10
theorem nmX18 : ∀ a, a < 10 → ∀ b, b < 10 → a ≠ b → (TX18 a).2.1 ≠ (TX18 b).2.1 := by decide +kernel
theorem tyX18_ok : ∀ k, k < 10 → parseFieldDescriptor (TX18 k).2.2.1 = some (tyX18 k) := by decide +kernel
abbrev cX18_init : ByteArray := prog_12_method_1_code
def yX18_init : MethodName := ⟨RX18, "<init>", "(LKernelGym$Assembly;LKernelGym;)V"⟩
def dkwX18_init_0 : List UInt8 := [42, 43, 181, 0, 3, 42, 44, 181, 0, 9, 42, 43, 180, 0, 13, 183, 0, 18, 177]
abbrev dktX18_init_0 : List UInt8 := dkwX18_init_0 ++ []
theorem dksX18_init_0 : cX18_init.data.toList.drop 0 = dktX18_init_0 := by decide +kernel
theorem dX18_init_0 : decode cX18_init 0 = .ok (.aload_n 0, 1) := dk_42 (dk_at dksX18_init_0 0 rfl rfl)
theorem dX18_init_1 : decode cX18_init 1 = .ok (.aload_n 1, 1) := dk_43 (dk_at dksX18_init_0 1 rfl rfl)
theorem dX18_init_2 : decode cX18_init 2 = .ok (.putfield 3, 3) := dk_181 0 3 (dk_at dksX18_init_0 2 rfl rfl)
theorem dX18_init_5 : decode cX18_init 5 = .ok (.aload_n 0, 1) := dk_42 (dk_at dksX18_init_0 5 rfl rfl)
theorem dX18_init_6 : decode cX18_init 6 = .ok (.aload_n 2, 1) := dk_44 (dk_at dksX18_init_0 6 rfl rfl)
theorem dX18_init_7 : decode cX18_init 7 = .ok (.putfield 9, 3) := dk_181 0 9 (dk_at dksX18_init_0 7 rfl rfl)
theorem dX18_init_10 : decode cX18_init 10 = .ok (.aload_n 0, 1) := dk_42 (dk_at dksX18_init_0 10 rfl rfl)
theorem dX18_init_11 : decode cX18_init 11 = .ok (.aload_n 1, 1) := dk_43 (dk_at dksX18_init_0 11 rfl rfl)
theorem dX18_init_12 : decode cX18_init 12 = .ok (.getfield 13, 3) := dk_180 0 13 (dk_at dksX18_init_0 12 rfl rfl)
theorem dX18_init_15 : decode cX18_init 15 = .ok (.invokespecial 18, 3) := dk_183 0 18 (dk_at dksX18_init_0 15 rfl rfl)
theorem dX18_init_18 : decode cX18_init 18 = .ok (.return_, 1) := dk_177 (dk_at dksX18_init_0 18 rfl rfl)
abbrev cX18_set : ByteArray := prog_12_method_3_code
def yX18_set : MethodName := ⟨RX18, "set", "(ILKernelGym$Use;I)V"⟩
def dkwX18_set_2 : List UInt8 := [180, 0, 24, 42, 180, 0, 28, 46, 96, 79, 177]
abbrev dktX18_set_2 : List UInt8 := dkwX18_set_2 ++ []
def dkwX18_set_1 : List UInt8 := [167, 0, 4, 3, 5, 29, 184, 0, 32, 25, 4, 27, 16, 16, 112, 17, 3, 232, 42, 180, 0, 28, 104, 42]
abbrev dktX18_set_1 : List UInt8 := dkwX18_set_1 ++ dktX18_set_2
def dkwX18_set_0 : List UInt8 := [42, 180, 0, 3, 27, 44, 182, 0, 36, 58, 4, 25, 4, 27, 16, 16, 112, 46, 2, 160, 0, 7, 4]
abbrev dktX18_set_0 : List UInt8 := dkwX18_set_0 ++ dktX18_set_1
theorem dksX18_set_0 : cX18_set.data.toList.drop 0 = dktX18_set_0 := by decide +kernel
theorem dksX18_set_1 : cX18_set.data.toList.drop 23 = dktX18_set_1 := dk_seg dksX18_set_0 23 rfl rfl
theorem dksX18_set_2 : cX18_set.data.toList.drop 47 = dktX18_set_2 := dk_seg dksX18_set_1 24 rfl rfl
theorem dX18_set_0 : decode cX18_set 0 = .ok (.aload_n 0, 1) := dk_42 (dk_at dksX18_set_0 0 rfl rfl)
theorem dX18_set_1 : decode cX18_set 1 = .ok (.getfield 3, 3) := dk_180 0 3 (dk_at dksX18_set_0 1 rfl rfl)
theorem dX18_set_4 : decode cX18_set 4 = .ok (.iload_n 1, 1) := dk_27 (dk_at dksX18_set_0 4 rfl rfl)
theorem dX18_set_5 : decode cX18_set 5 = .ok (.aload_n 2, 1) := dk_44 (dk_at dksX18_set_0 5 rfl rfl)
theorem dX18_set_6 : decode cX18_set 6 = .ok (.invokevirtual 36, 3) := dk_182 0 36 (dk_at dksX18_set_0 6 rfl rfl)
theorem dX18_set_9 : decode cX18_set 9 = .ok (.astore 4, 2) := dk_58 4 (dk_at dksX18_set_0 9 rfl rfl)
theorem dX18_set_11 : decode cX18_set 11 = .ok (.aload 4, 2) := dk_25 4 (dk_at dksX18_set_0 11 rfl rfl)
theorem dX18_set_13 : decode cX18_set 13 = .ok (.iload_n 1, 1) := dk_27 (dk_at dksX18_set_0 13 rfl rfl)
theorem dX18_set_14 : decode cX18_set 14 = .ok (.bipush 16, 2) := dk_16 16 (dk_at dksX18_set_0 14 rfl rfl)
theorem dX18_set_16 : decode cX18_set 16 = .ok (.irem, 1) := dk_112 (dk_at dksX18_set_0 16 rfl rfl)
theorem dX18_set_17 : decode cX18_set 17 = .ok (.iaload, 1) := dk_46 (dk_at dksX18_set_0 17 rfl rfl)
theorem dX18_set_18 : decode cX18_set 18 = .ok (.iconst (-1), 1) := dk_2 (dk_at dksX18_set_0 18 rfl rfl)
theorem dX18_set_19 : decode cX18_set 19 = .ok (.if_icmp .ne 7, 3) := dk_160 0 7 (dk_at dksX18_set_0 19 rfl rfl)
theorem dX18_set_22 : decode cX18_set 22 = .ok (.iconst 1, 1) := dk_4 (dk_at dksX18_set_0 22 rfl rfl)
theorem dX18_set_23 : decode cX18_set 23 = .ok (.goto 4, 3) := dk_167 0 4 (dk_at dksX18_set_1 0 rfl rfl)
theorem dX18_set_26 : decode cX18_set 26 = .ok (.iconst 0, 1) := dk_3 (dk_at dksX18_set_1 3 rfl rfl)
theorem dX18_set_27 : decode cX18_set 27 = .ok (.iconst 2, 1) := dk_5 (dk_at dksX18_set_1 4 rfl rfl)
theorem dX18_set_28 : decode cX18_set 28 = .ok (.iload_n 3, 1) := dk_29 (dk_at dksX18_set_1 5 rfl rfl)
theorem dX18_set_29 : decode cX18_set 29 = .ok (.invokestatic 32, 3) := dk_184 0 32 (dk_at dksX18_set_1 6 rfl rfl)
theorem dX18_set_32 : decode cX18_set 32 = .ok (.aload 4, 2) := dk_25 4 (dk_at dksX18_set_1 9 rfl rfl)
theorem dX18_set_34 : decode cX18_set 34 = .ok (.iload_n 1, 1) := dk_27 (dk_at dksX18_set_1 11 rfl rfl)
theorem dX18_set_35 : decode cX18_set 35 = .ok (.bipush 16, 2) := dk_16 16 (dk_at dksX18_set_1 12 rfl rfl)
theorem dX18_set_37 : decode cX18_set 37 = .ok (.irem, 1) := dk_112 (dk_at dksX18_set_1 14 rfl rfl)
theorem dX18_set_38 : decode cX18_set 38 = .ok (.sipush 1000, 3) := dk_17 3 232 (dk_at dksX18_set_1 15 rfl rfl)
theorem dX18_set_41 : decode cX18_set 41 = .ok (.aload_n 0, 1) := dk_42 (dk_at dksX18_set_1 18 rfl rfl)
theorem dX18_set_42 : decode cX18_set 42 = .ok (.getfield 28, 3) := dk_180 0 28 (dk_at dksX18_set_1 19 rfl rfl)
theorem dX18_set_45 : decode cX18_set 45 = .ok (.imul, 1) := dk_104 (dk_at dksX18_set_1 22 rfl rfl)
theorem dX18_set_46 : decode cX18_set 46 = .ok (.aload_n 0, 1) := dk_42 (dk_at dksX18_set_1 23 rfl rfl)
theorem dX18_set_47 : decode cX18_set 47 = .ok (.getfield 24, 3) := dk_180 0 24 (dk_at dksX18_set_2 0 rfl rfl)
theorem dX18_set_50 : decode cX18_set 50 = .ok (.aload_n 0, 1) := dk_42 (dk_at dksX18_set_2 3 rfl rfl)
theorem dX18_set_51 : decode cX18_set 51 = .ok (.getfield 28, 3) := dk_180 0 28 (dk_at dksX18_set_2 4 rfl rfl)
theorem dX18_set_54 : decode cX18_set 54 = .ok (.iaload, 1) := dk_46 (dk_at dksX18_set_2 7 rfl rfl)
theorem dX18_set_55 : decode cX18_set 55 = .ok (.iadd, 1) := dk_96 (dk_at dksX18_set_2 8 rfl rfl)
theorem dX18_set_56 : decode cX18_set 56 = .ok (.iastore, 1) := dk_79 (dk_at dksX18_set_2 9 rfl rfl)
theorem dX18_set_57 : decode cX18_set 57 = .ok (.return_, 1) := dk_177 (dk_at dksX18_set_2 10 rfl rfl)
abbrev cX18_take : ByteArray := prog_12_method_2_code
def yX18_take : MethodName := ⟨RX18, "take", "(II)V"⟩
def dkwX18_take_1 : List UInt8 := [46, 96, 17, 0, 248, 163, 0, 7, 4, 167, 0, 4, 3, 4, 28, 184, 0, 32, 177]
abbrev dktX18_take_1 : List UInt8 := dkwX18_take_1 ++ []
def dkwX18_take_0 : List UInt8 := [42, 180, 0, 24, 42, 180, 0, 28, 92, 46, 4, 96, 79, 42, 180, 0, 24, 3, 46, 42, 180, 0, 24, 4]
abbrev dktX18_take_0 : List UInt8 := dkwX18_take_0 ++ dktX18_take_1
theorem dksX18_take_0 : cX18_take.data.toList.drop 0 = dktX18_take_0 := by decide +kernel
theorem dksX18_take_1 : cX18_take.data.toList.drop 24 = dktX18_take_1 := dk_seg dksX18_take_0 24 rfl rfl
theorem dX18_take_0 : decode cX18_take 0 = .ok (.aload_n 0, 1) := dk_42 (dk_at dksX18_take_0 0 rfl rfl)
theorem dX18_take_1 : decode cX18_take 1 = .ok (.getfield 24, 3) := dk_180 0 24 (dk_at dksX18_take_0 1 rfl rfl)
theorem dX18_take_4 : decode cX18_take 4 = .ok (.aload_n 0, 1) := dk_42 (dk_at dksX18_take_0 4 rfl rfl)
theorem dX18_take_5 : decode cX18_take 5 = .ok (.getfield 28, 3) := dk_180 0 28 (dk_at dksX18_take_0 5 rfl rfl)
theorem dX18_take_8 : decode cX18_take 8 = .ok (.dup2, 1) := dk_92 (dk_at dksX18_take_0 8 rfl rfl)
theorem dX18_take_9 : decode cX18_take 9 = .ok (.iaload, 1) := dk_46 (dk_at dksX18_take_0 9 rfl rfl)
theorem dX18_take_10 : decode cX18_take 10 = .ok (.iconst 1, 1) := dk_4 (dk_at dksX18_take_0 10 rfl rfl)
theorem dX18_take_11 : decode cX18_take 11 = .ok (.iadd, 1) := dk_96 (dk_at dksX18_take_0 11 rfl rfl)
theorem dX18_take_12 : decode cX18_take 12 = .ok (.iastore, 1) := dk_79 (dk_at dksX18_take_0 12 rfl rfl)
theorem dX18_take_13 : decode cX18_take 13 = .ok (.aload_n 0, 1) := dk_42 (dk_at dksX18_take_0 13 rfl rfl)
theorem dX18_take_14 : decode cX18_take 14 = .ok (.getfield 24, 3) := dk_180 0 24 (dk_at dksX18_take_0 14 rfl rfl)
theorem dX18_take_17 : decode cX18_take 17 = .ok (.iconst 0, 1) := dk_3 (dk_at dksX18_take_0 17 rfl rfl)
theorem dX18_take_18 : decode cX18_take 18 = .ok (.iaload, 1) := dk_46 (dk_at dksX18_take_0 18 rfl rfl)
theorem dX18_take_19 : decode cX18_take 19 = .ok (.aload_n 0, 1) := dk_42 (dk_at dksX18_take_0 19 rfl rfl)
theorem dX18_take_20 : decode cX18_take 20 = .ok (.getfield 24, 3) := dk_180 0 24 (dk_at dksX18_take_0 20 rfl rfl)
theorem dX18_take_23 : decode cX18_take 23 = .ok (.iconst 1, 1) := dk_4 (dk_at dksX18_take_0 23 rfl rfl)
theorem dX18_take_24 : decode cX18_take 24 = .ok (.iaload, 1) := dk_46 (dk_at dksX18_take_1 0 rfl rfl)
theorem dX18_take_25 : decode cX18_take 25 = .ok (.iadd, 1) := dk_96 (dk_at dksX18_take_1 1 rfl rfl)
theorem dX18_take_26 : decode cX18_take 26 = .ok (.sipush 248, 3) := dk_17 0 248 (dk_at dksX18_take_1 2 rfl rfl)
theorem dX18_take_29 : decode cX18_take 29 = .ok (.if_icmp .gt 7, 3) := dk_163 0 7 (dk_at dksX18_take_1 5 rfl rfl)
theorem dX18_take_32 : decode cX18_take 32 = .ok (.iconst 1, 1) := dk_4 (dk_at dksX18_take_1 8 rfl rfl)
theorem dX18_take_33 : decode cX18_take 33 = .ok (.goto 4, 3) := dk_167 0 4 (dk_at dksX18_take_1 9 rfl rfl)
theorem dX18_take_36 : decode cX18_take 36 = .ok (.iconst 0, 1) := dk_3 (dk_at dksX18_take_1 12 rfl rfl)
theorem dX18_take_37 : decode cX18_take 37 = .ok (.iconst 1, 1) := dk_4 (dk_at dksX18_take_1 13 rfl rfl)
theorem dX18_take_38 : decode cX18_take 38 = .ok (.iload_n 2, 1) := dk_28 (dk_at dksX18_take_1 14 rfl rfl)
theorem dX18_take_39 : decode cX18_take 39 = .ok (.invokestatic 32, 3) := dk_184 0 32 (dk_at dksX18_take_1 15 rfl rfl)
theorem dX18_take_42 : decode cX18_take 42 = .ok (.return_, 1) := dk_177 (dk_at dksX18_take_1 18 rfl rfl)
abbrev cX18_value : ByteArray := prog_12_method_4_code
def yX18_value : MethodName := ⟨RX18, "value", "(LKernelGym$Operand;LKernelGym$Use;I)I"⟩
theorem dX18_value_0 : decode cX18_value 0 = .ok (.iconst 0, 1) := by decide +kernel
theorem dX18_value_1 : decode cX18_value 1 = .ok (.ireturn, 1) := by decide +kernel
abbrev cX18_point : ByteArray := prog_12_method_6_code
def yX18_point : MethodName := ⟨RX18, "point", "(II)V"⟩
theorem dX18_point_0 : decode cX18_point 0 = .ok (.return_, 1) := by decide +kernel
abbrev cX18_begin : ByteArray := prog_12_method_5_code
def yX18_begin : MethodName := ⟨RX18, "begin", "(II)LKernelGym$Use;"⟩
def dkwX18_begin_1 : List UInt8 := [176]
abbrev dktX18_begin_1 : List UInt8 := dkwX18_begin_1 ++ []
def dkwX18_begin_0 : List UInt8 := [187, 0, 40, 89, 28, 183, 0, 42, 78, 42, 180, 0, 3, 180, 0, 45, 45, 185, 0, 49, 2, 0, 87, 45]
abbrev dktX18_begin_0 : List UInt8 := dkwX18_begin_0 ++ dktX18_begin_1
theorem dksX18_begin_0 : cX18_begin.data.toList.drop 0 = dktX18_begin_0 := by decide +kernel
theorem dksX18_begin_1 : cX18_begin.data.toList.drop 24 = dktX18_begin_1 := dk_seg dksX18_begin_0 24 rfl rfl
theorem dX18_begin_0 : decode cX18_begin 0 = .ok (.new 40, 3) := dk_187 0 40 (dk_at dksX18_begin_0 0 rfl rfl)
theorem dX18_begin_3 : decode cX18_begin 3 = .ok (.dup, 1) := dk_89 (dk_at dksX18_begin_0 3 rfl rfl)
theorem dX18_begin_4 : decode cX18_begin 4 = .ok (.iload_n 2, 1) := dk_28 (dk_at dksX18_begin_0 4 rfl rfl)
theorem dX18_begin_5 : decode cX18_begin 5 = .ok (.invokespecial 42, 3) := dk_183 0 42 (dk_at dksX18_begin_0 5 rfl rfl)
theorem dX18_begin_8 : decode cX18_begin 8 = .ok (.astore_n 3, 1) := dk_78 (dk_at dksX18_begin_0 8 rfl rfl)
theorem dX18_begin_9 : decode cX18_begin 9 = .ok (.aload_n 0, 1) := dk_42 (dk_at dksX18_begin_0 9 rfl rfl)
theorem dX18_begin_10 : decode cX18_begin 10 = .ok (.getfield 3, 3) := dk_180 0 3 (dk_at dksX18_begin_0 10 rfl rfl)
theorem dX18_begin_13 : decode cX18_begin 13 = .ok (.getfield 45, 3) := dk_180 0 45 (dk_at dksX18_begin_0 13 rfl rfl)
theorem dX18_begin_16 : decode cX18_begin 16 = .ok (.aload_n 3, 1) := dk_45 (dk_at dksX18_begin_0 16 rfl rfl)
theorem dX18_begin_17 : decode cX18_begin 17 = .ok (.invokeinterface 49 2, 5) := by decide +kernel
theorem dX18_begin_22 : decode cX18_begin 22 = .ok (.pop, 1) := dk_87 (dk_at dksX18_begin_0 22 rfl rfl)
theorem dX18_begin_23 : decode cX18_begin 23 = .ok (.aload_n 3, 1) := dk_45 (dk_at dksX18_begin_0 23 rfl rfl)
theorem dX18_begin_24 : decode cX18_begin 24 = .ok (.areturn, 1) := dk_176 (dk_at dksX18_begin_1 0 rfl rfl)
theorem q151 : (Jvm.Cond.initialized "KernelGym$Assembly$1") ∈ lw_all := lw_g (lw_at lw_m1 34 rfl) rfl
theorem q416 : (Jvm.Cond.instantiable "KernelGym$Assembly$1" (10 : Nat)) ∈ lw_all := lw_g (lw_at lw_m2 59 rfl) rfl
theorem q418 : (Jvm.Cond.instanceMethod ({ cls := "KernelGym$Assembly$1", name := "<init>", desc := "(LKernelGym$Assembly;LKernelGym;)V" } : Jvm.MethodName)) ∈ lw_all := lw_g (lw_at lw_m2 61 rfl) rfl
theorem q419 : (Jvm.Cond.code ({ cls := "KernelGym$Assembly$1", name := "<init>", desc := "(LKernelGym$Assembly;LKernelGym;)V" } : Jvm.MethodName) prog_12_method_1_code (3 : Nat) (Option.none : Option Jvm.ClassFile.FieldType)) ∈ lw_all := lw_g (lw_at lw_m2 62 rfl) rfl
theorem q420 : (Jvm.Cond.methodLink "KernelGym$Assembly$1" (18 : Nat) ({ cls := "KernelGym$Pass", name := "<init>", desc := "(LKernelGym;)V" } : Jvm.MethodName)) ∈ lw_all := lw_g (lw_at lw_m2 63 rfl) rfl
theorem q424 : (Jvm.Cond.fieldLink "KernelGym$Assembly$1" (9 : Nat) "KernelGym$Assembly$1" "val$this$0" "LKernelGym;") ∈ lw_all := lw_g (lw_at lw_m2 67 rfl) rfl
theorem q425 : (Jvm.Cond.fieldLink "KernelGym$Assembly$1" (3 : Nat) "KernelGym$Assembly$1" "this$1" "LKernelGym$Assembly;") ∈ lw_all := lw_g (lw_at lw_m2 68 rfl) rfl
theorem q428 : (Jvm.Cond.fieldLink "KernelGym$Assembly$1" (24 : Nat) "KernelGym$Assembly$1" "sizes" "[I") ∈ lw_all := lw_g (lw_at lw_m2 71 rfl) rfl
theorem q429 : (Jvm.Cond.sameField "KernelGym$Assembly$1" "KernelGym$Pass" "sizes" "[I") ∈ lw_all := lw_g (lw_at lw_m2 72 rfl) rfl
theorem q433 : (Jvm.Cond.fieldLink "KernelGym$Assembly$1" (28 : Nat) "KernelGym$Assembly$1" "section" "I") ∈ lw_all := lw_g (lw_at lw_m2 76 rfl) rfl
theorem q434 : (Jvm.Cond.sameField "KernelGym$Assembly$1" "KernelGym$Pass" "section" "I") ∈ lw_all := lw_g (lw_at lw_m2 77 rfl) rfl
theorem q443 : (Jvm.Cond.laysFinal "KernelGym$Assembly$1" "KernelGym$Assembly$1" "val$this$0" "LKernelGym;") ∈ lw_all := lw_g (lw_at lw_m2 86 rfl) rfl
theorem q444 : (Jvm.Cond.soleField "KernelGym$Assembly$1" "val$this$0") ∈ lw_all := lw_g (lw_at lw_m2 87 rfl) rfl
theorem q445 : (Jvm.Cond.laysFinal "KernelGym$Assembly$1" "KernelGym$Assembly$1" "this$1" "LKernelGym$Assembly;") ∈ lw_all := lw_g (lw_at lw_m2 88 rfl) rfl
theorem q446 : (Jvm.Cond.soleField "KernelGym$Assembly$1" "this$1") ∈ lw_all := lw_g (lw_at lw_m2 89 rfl) rfl
theorem q447 : (Jvm.Cond.laysFinal "KernelGym$Assembly$1" "KernelGym$Pass" "sizes" "[I") ∈ lw_all := lw_g (lw_at lw_m2 90 rfl) rfl
theorem q449 : (Jvm.Cond.lays "KernelGym$Assembly$1" "KernelGym$Pass" "section" "I") ∈ lw_all := lw_g (lw_at lw_m2 92 rfl) rfl
theorem q451 : (Jvm.Cond.laysFinal "KernelGym$Assembly$1" "KernelGym$Pass" "begins" "[I") ∈ lw_all := lw_g (lw_at lw_m2 94 rfl) rfl
theorem q453 : (Jvm.Cond.laysFinal "KernelGym$Assembly$1" "KernelGym$Pass" "ends" "[I") ∈ lw_all := lw_g (lw_at lw_m2 96 rfl) rfl
theorem q455 : (Jvm.Cond.laysFinal "KernelGym$Assembly$1" "KernelGym$Pass" "used" "[Z") ∈ lw_all := lw_g (lw_at lw_m2 98 rfl) rfl
theorem q457 : (Jvm.Cond.lays "KernelGym$Assembly$1" "KernelGym$Pass" "gone" "I") ∈ lw_all := lw_g (lw_at lw_m2 100 rfl) rfl
theorem q459 : (Jvm.Cond.lays "KernelGym$Assembly$1" "KernelGym$Pass" "many" "I") ∈ lw_all := lw_g (lw_at lw_m2 102 rfl) rfl
theorem q461 : (Jvm.Cond.laysFinal "KernelGym$Assembly$1" "KernelGym$Pass" "this$0" "LKernelGym;") ∈ lw_all := lw_g (lw_at lw_m2 104 rfl) rfl
theorem q463 : (Jvm.Cond.superclass "KernelGym$Assembly$1" "KernelGym$Pass") ∈ lw_all := lw_g (lw_at lw_m2 106 rfl) rfl
theorem q470 : (Jvm.Cond.selects "KernelGym$Assembly$1" ({ cls := "KernelGym$Pass", name := "go", desc := "(IILKernelGym$Use;)V" } : Jvm.MethodName) ({ cls := "KernelGym$Pass", name := "go", desc := "(IILKernelGym$Use;)V" } : Jvm.MethodName)) ∈ lw_all := lw_g (lw_at lw_m2 113 rfl) rfl
theorem q890 : (Jvm.Cond.selects "KernelGym$Assembly$1" ({ cls := "KernelGym$Pass", name := "set", desc := "(ILKernelGym$Use;I)V" } : Jvm.MethodName) ({ cls := "KernelGym$Assembly$1", name := "set", desc := "(ILKernelGym$Use;I)V" } : Jvm.MethodName)) ∈ lw_all := lw_g (lw_at lw_m4 53 rfl) rfl
theorem q891 : (Jvm.Cond.instanceMethod ({ cls := "KernelGym$Assembly$1", name := "set", desc := "(ILKernelGym$Use;I)V" } : Jvm.MethodName)) ∈ lw_all := lw_g (lw_at lw_m4 54 rfl) rfl
theorem q892 : (Jvm.Cond.code ({ cls := "KernelGym$Assembly$1", name := "set", desc := "(ILKernelGym$Use;I)V" } : Jvm.MethodName) prog_12_method_3_code (5 : Nat) (Option.none : Option Jvm.ClassFile.FieldType)) ∈ lw_all := lw_g (lw_at lw_m4 55 rfl) rfl
theorem q893 : (Jvm.Cond.methodLinkNest "KernelGym$Assembly$1" (36 : Nat) ({ cls := "KernelGym$Assembly", name := "rowOf", desc := "(ILKernelGym$Use;)[I" } : Jvm.MethodName) "KernelGym") ∈ lw_tbl := lw_at lw_m4 56 rfl
theorem q897 : (Jvm.Cond.methodLinkNest "KernelGym$Assembly$1" (32 : Nat) ({ cls := "KernelGym", name := "check", desc := "(ZII)V" } : Jvm.MethodName) "KernelGym") ∈ lw_tbl := lw_at lw_m4 60 rfl
theorem q907 : (Jvm.Cond.selects "KernelGym$Assembly$1" ({ cls := "KernelGym$Pass", name := "take", desc := "(II)V" } : Jvm.MethodName) ({ cls := "KernelGym$Assembly$1", name := "take", desc := "(II)V" } : Jvm.MethodName)) ∈ lw_all := lw_g (lw_at lw_m4 70 rfl) rfl
theorem q908 : (Jvm.Cond.instanceMethod ({ cls := "KernelGym$Assembly$1", name := "take", desc := "(II)V" } : Jvm.MethodName)) ∈ lw_all := lw_g (lw_at lw_m4 71 rfl) rfl
theorem q909 : (Jvm.Cond.code ({ cls := "KernelGym$Assembly$1", name := "take", desc := "(II)V" } : Jvm.MethodName) prog_12_method_2_code (3 : Nat) (Option.none : Option Jvm.ClassFile.FieldType)) ∈ lw_all := lw_g (lw_at lw_m4 72 rfl) rfl
theorem q916 : (Jvm.Cond.selects "KernelGym$Assembly$1" ({ cls := "KernelGym$Pass", name := "value", desc := "(LKernelGym$Operand;LKernelGym$Use;I)I" } : Jvm.MethodName) ({ cls := "KernelGym$Assembly$1", name := "value", desc := "(LKernelGym$Operand;LKernelGym$Use;I)I" } : Jvm.MethodName)) ∈ lw_all := lw_g (lw_at lw_m4 79 rfl) rfl
theorem q917 : (Jvm.Cond.instanceMethod ({ cls := "KernelGym$Assembly$1", name := "value", desc := "(LKernelGym$Operand;LKernelGym$Use;I)I" } : Jvm.MethodName)) ∈ lw_all := lw_g (lw_at lw_m4 80 rfl) rfl
theorem q918 : (Jvm.Cond.code ({ cls := "KernelGym$Assembly$1", name := "value", desc := "(LKernelGym$Operand;LKernelGym$Use;I)I" } : Jvm.MethodName) prog_12_method_4_code (4 : Nat) (Option.some Jvm.ClassFile.FieldType.int)) ∈ lw_all := lw_g (lw_at lw_m4 81 rfl) rfl
theorem q948 : (Jvm.Cond.selects "KernelGym$Assembly$1" ({ cls := "KernelGym$Pass", name := "point", desc := "(II)V" } : Jvm.MethodName) ({ cls := "KernelGym$Assembly$1", name := "point", desc := "(II)V" } : Jvm.MethodName)) ∈ lw_all := lw_g (lw_at lw_m4 111 rfl) rfl
theorem q949 : (Jvm.Cond.instanceMethod ({ cls := "KernelGym$Assembly$1", name := "point", desc := "(II)V" } : Jvm.MethodName)) ∈ lw_all := lw_g (lw_at lw_m4 112 rfl) rfl
theorem q950 : (Jvm.Cond.code ({ cls := "KernelGym$Assembly$1", name := "point", desc := "(II)V" } : Jvm.MethodName) prog_12_method_6_code (3 : Nat) (Option.none : Option Jvm.ClassFile.FieldType)) ∈ lw_all := lw_g (lw_at lw_m4 113 rfl) rfl
theorem q960 : (Jvm.Cond.selects "KernelGym$Assembly$1" ({ cls := "KernelGym$Pass", name := "define", desc := "(II)I" } : Jvm.MethodName) ({ cls := "KernelGym$Pass", name := "define", desc := "(II)I" } : Jvm.MethodName)) ∈ lw_all := lw_g (lw_at lw_m4 123 rfl) rfl
theorem q1006 : (Jvm.Cond.selects "KernelGym$Assembly$1" ({ cls := "KernelGym$Pass", name := "expand", desc := "(ILKernelGym$Operand;LKernelGym$Operand;LKernelGym$Use;I)V" } : Jvm.MethodName) ({ cls := "KernelGym$Pass", name := "expand", desc := "(ILKernelGym$Operand;LKernelGym$Operand;LKernelGym$Use;I)V" } : Jvm.MethodName)) ∈ lw_all := lw_g (lw_at lw_m4 169 rfl) rfl
theorem q1013 : (Jvm.Cond.selects "KernelGym$Assembly$1" ({ cls := "KernelGym$Pass", name := "begin", desc := "(II)LKernelGym$Use;" } : Jvm.MethodName) ({ cls := "KernelGym$Assembly$1", name := "begin", desc := "(II)LKernelGym$Use;" } : Jvm.MethodName)) ∈ lw_all := lw_g (lw_at lw_m4 176 rfl) rfl
theorem q1014 : (Jvm.Cond.instanceMethod ({ cls := "KernelGym$Assembly$1", name := "begin", desc := "(II)LKernelGym$Use;" } : Jvm.MethodName)) ∈ lw_all := lw_g (lw_at lw_m4 177 rfl) rfl
theorem q1015 : (Jvm.Cond.code ({ cls := "KernelGym$Assembly$1", name := "begin", desc := "(II)LKernelGym$Use;" } : Jvm.MethodName) prog_12_method_5_code (4 : Nat) (Option.some (Jvm.ClassFile.FieldType.object "KernelGym$Use"))) ∈ lw_all := lw_g (lw_at lw_m4 178 rfl) rfl
theorem q1016 : (Jvm.Cond.classLink "KernelGym$Assembly$1" (40 : Nat) "KernelGym$Use") ∈ lw_all := lw_g (lw_at lw_m4 179 rfl) rfl
theorem q1017 : (Jvm.Cond.methodLink "KernelGym$Assembly$1" (42 : Nat) ({ cls := "KernelGym$Use", name := "<init>", desc := "(I)V" } : Jvm.MethodName)) ∈ lw_all := lw_g (lw_at lw_m4 180 rfl) rfl
theorem q1018 : (Jvm.Cond.interfaceEntry "KernelGym$Assembly$1" (49 : Nat)) ∈ lw_tbl := lw_at lw_m4 181 rfl
theorem q1019 : (Jvm.Cond.methodLink "KernelGym$Assembly$1" (49 : Nat) ({ cls := "java/util/List", name := "add", desc := "(Ljava/lang/Object;)Z" } : Jvm.MethodName)) ∈ lw_all := lw_g (lw_at lw_m4 182 rfl) rfl
theorem q1057 : (Jvm.Cond.selects "KernelGym$Assembly$1" ({ cls := "java/lang/Object", name := "getClass", desc := "()Ljava/lang/Class;" } : Jvm.MethodName) ({ cls := "java/lang/Object", name := "getClass", desc := "()Ljava/lang/Class;" } : Jvm.MethodName)) ∈ lw_all := lw_g (lw_at lw_m4 220 rfl) rfl
theorem q1162 : (Jvm.Cond.fieldLinkNest "KernelGym$Assembly$1" (45 : Nat) "KernelGym$Assembly" "uses" "Ljava/util/List;" "KernelGym") ∈ lw_tbl := lw_at lw_m5 85 rfl
theorem q1172 : (Jvm.Cond.fieldLink "KernelGym$Assembly$1" (13 : Nat) "KernelGym$Assembly" "this$0" "LKernelGym;") ∈ lw_all := lw_g (lw_at lw_m5 95 rfl) rfl
theorem q3497 : (Jvm.Cond.castable "KernelGym$Assembly$1" "java/lang/Object") ∈ lw_tbl := lw_at lw_m15 20 rfl
theorem in_X18 : ∀ w ∈ wsX180, w ∈ lw_all := lw_in wsX180 [447, 449, 451, 453, 455, 457, 459, 461, 443, 445] (by decide +kernel) (by decide +kernel)

/-! KernelGym$Wrong -/
def RX19 : String := "KernelGym$Wrong"
def TX19 : u_T := fun k => match k with
  | 0 => ("java/lang/Throwable", "cause", "Ljava/lang/Throwable;", false)
  | 1 => ("java/lang/Throwable", "stackTrace", "[Ljava/lang/StackTraceElement;", false)
  | 2 => ("java/lang/Throwable", "suppressedExceptions", "Ljava/util/List;", false)
  | 3 => ("java/lang/Throwable", "detailMessage", "Ljava/lang/String;", false)
  | 4 => ("java/lang/Throwable", "backtrace", "Ljava/lang/Object;", false)
  | 5 => ("java/lang/Throwable", "depth", "I", false)
  | 6 => ("KernelGym$Wrong", "error", "I", true)
  | _ => ("KernelGym$Wrong", "line", "I", true)
def tyX19 : Nat → FieldType := fun k => match k with
  | 0 => .object "java/lang/Throwable"
  | 1 => .array (.object "java/lang/StackTraceElement")
  | 2 => .object "java/util/List"
  | 3 => .object "java/lang/String"
  | 4 => .object "java/lang/Object"
  | 5 => .int
  | 6 => .int
  | _ => .int
abbrev wsX190 : List Cond := u_ws RX19 TX19 8
theorem nmX19 : ∀ a, a < 8 → ∀ b, b < 8 → a ≠ b → (TX19 a).2.1 ≠ (TX19 b).2.1 := by decide +kernel
theorem tyX19_ok : ∀ k, k < 8 → parseFieldDescriptor (TX19 k).2.2.1 = some (tyX19 k) := by decide +kernel
abbrev cX19_init : ByteArray := prog_26_method_1_code
def yX19_init : MethodName := ⟨RX19, "<init>", "(II)V"⟩
def dkwX19_init_1 : List UInt8 := [182, 0, 13, 182, 0, 18, 183, 0, 22, 42, 27, 181, 0, 27, 42, 28, 181, 0, 33, 177]
abbrev dktX19_init_1 : List UInt8 := dkwX19_init_1 ++ []
def dkwX19_init_0 : List UInt8 := [42, 187, 0, 1, 89, 183, 0, 3, 18, 7, 182, 0, 9, 27, 182, 0, 13, 18, 16, 182, 0, 9, 28]
abbrev dktX19_init_0 : List UInt8 := dkwX19_init_0 ++ dktX19_init_1
theorem dksX19_init_0 : cX19_init.data.toList.drop 0 = dktX19_init_0 := by decide +kernel
theorem dksX19_init_1 : cX19_init.data.toList.drop 23 = dktX19_init_1 := dk_seg dksX19_init_0 23 rfl rfl
theorem dX19_init_0 : decode cX19_init 0 = .ok (.aload_n 0, 1) := dk_42 (dk_at dksX19_init_0 0 rfl rfl)
theorem dX19_init_1 : decode cX19_init 1 = .ok (.new 1, 3) := dk_187 0 1 (dk_at dksX19_init_0 1 rfl rfl)
theorem dX19_init_4 : decode cX19_init 4 = .ok (.dup, 1) := dk_89 (dk_at dksX19_init_0 4 rfl rfl)
theorem dX19_init_5 : decode cX19_init 5 = .ok (.invokespecial 3, 3) := dk_183 0 3 (dk_at dksX19_init_0 5 rfl rfl)
theorem dX19_init_8 : decode cX19_init 8 = .ok (.ldc 7, 2) := dk_18 7 (dk_at dksX19_init_0 8 rfl rfl)
theorem dX19_init_10 : decode cX19_init 10 = .ok (.invokevirtual 9, 3) := dk_182 0 9 (dk_at dksX19_init_0 10 rfl rfl)
theorem dX19_init_13 : decode cX19_init 13 = .ok (.iload_n 1, 1) := dk_27 (dk_at dksX19_init_0 13 rfl rfl)
theorem dX19_init_14 : decode cX19_init 14 = .ok (.invokevirtual 13, 3) := dk_182 0 13 (dk_at dksX19_init_0 14 rfl rfl)
theorem dX19_init_17 : decode cX19_init 17 = .ok (.ldc 16, 2) := dk_18 16 (dk_at dksX19_init_0 17 rfl rfl)
theorem dX19_init_19 : decode cX19_init 19 = .ok (.invokevirtual 9, 3) := dk_182 0 9 (dk_at dksX19_init_0 19 rfl rfl)
theorem dX19_init_22 : decode cX19_init 22 = .ok (.iload_n 2, 1) := dk_28 (dk_at dksX19_init_0 22 rfl rfl)
theorem dX19_init_23 : decode cX19_init 23 = .ok (.invokevirtual 13, 3) := dk_182 0 13 (dk_at dksX19_init_1 0 rfl rfl)
theorem dX19_init_26 : decode cX19_init 26 = .ok (.invokevirtual 18, 3) := dk_182 0 18 (dk_at dksX19_init_1 3 rfl rfl)
theorem dX19_init_29 : decode cX19_init 29 = .ok (.invokespecial 22, 3) := dk_183 0 22 (dk_at dksX19_init_1 6 rfl rfl)
theorem dX19_init_32 : decode cX19_init 32 = .ok (.aload_n 0, 1) := dk_42 (dk_at dksX19_init_1 9 rfl rfl)
theorem dX19_init_33 : decode cX19_init 33 = .ok (.iload_n 1, 1) := dk_27 (dk_at dksX19_init_1 10 rfl rfl)
theorem dX19_init_34 : decode cX19_init 34 = .ok (.putfield 27, 3) := dk_181 0 27 (dk_at dksX19_init_1 11 rfl rfl)
theorem dX19_init_37 : decode cX19_init 37 = .ok (.aload_n 0, 1) := dk_42 (dk_at dksX19_init_1 14 rfl rfl)
theorem dX19_init_38 : decode cX19_init 38 = .ok (.iload_n 2, 1) := dk_28 (dk_at dksX19_init_1 15 rfl rfl)
theorem dX19_init_39 : decode cX19_init 39 = .ok (.putfield 33, 3) := dk_181 0 33 (dk_at dksX19_init_1 16 rfl rfl)
theorem dX19_init_42 : decode cX19_init 42 = .ok (.return_, 1) := dk_177 (dk_at dksX19_init_1 19 rfl rfl)
abbrev cX19_told : ByteArray := prog_26_method_2_code
def yX19_told : MethodName := ⟨RX19, "told", "()I"⟩
def dkwX19_told_0 : List UInt8 := [16, 100, 42, 180, 0, 27, 104, 42, 180, 0, 33, 96, 172]
abbrev dktX19_told_0 : List UInt8 := dkwX19_told_0 ++ []
theorem dksX19_told_0 : cX19_told.data.toList.drop 0 = dktX19_told_0 := by decide +kernel
theorem dX19_told_0 : decode cX19_told 0 = .ok (.bipush 100, 2) := dk_16 100 (dk_at dksX19_told_0 0 rfl rfl)
theorem dX19_told_2 : decode cX19_told 2 = .ok (.aload_n 0, 1) := dk_42 (dk_at dksX19_told_0 2 rfl rfl)
theorem dX19_told_3 : decode cX19_told 3 = .ok (.getfield 27, 3) := dk_180 0 27 (dk_at dksX19_told_0 3 rfl rfl)
theorem dX19_told_6 : decode cX19_told 6 = .ok (.imul, 1) := dk_104 (dk_at dksX19_told_0 6 rfl rfl)
theorem dX19_told_7 : decode cX19_told 7 = .ok (.aload_n 0, 1) := dk_42 (dk_at dksX19_told_0 7 rfl rfl)
theorem dX19_told_8 : decode cX19_told 8 = .ok (.getfield 33, 3) := dk_180 0 33 (dk_at dksX19_told_0 8 rfl rfl)
theorem dX19_told_11 : decode cX19_told 11 = .ok (.iadd, 1) := dk_96 (dk_at dksX19_told_0 11 rfl rfl)
theorem dX19_told_12 : decode cX19_told 12 = .ok (.ireturn, 1) := dk_172 (dk_at dksX19_told_0 12 rfl rfl)
theorem q152 : (Jvm.Cond.initialized "KernelGym$Wrong") ∈ lw_all := lw_g (lw_at lw_m1 35 rfl) rfl
theorem q476 : (Jvm.Cond.instantiable "KernelGym$Wrong" (8 : Nat)) ∈ lw_all := lw_g (lw_at lw_m2 119 rfl) rfl
theorem q477 : (Jvm.Cond.castable "KernelGym$Wrong" "KernelGym$Wrong") ∈ lw_tbl := lw_at lw_m2 120 rfl
theorem q482 : (Jvm.Cond.selects "KernelGym$Wrong" ({ cls := "java/lang/Throwable", name := "fillInStackTrace", desc := "(I)Ljava/lang/Throwable;" } : Jvm.MethodName) ({ cls := "java/lang/Throwable", name := "fillInStackTrace", desc := "(I)Ljava/lang/Throwable;" } : Jvm.MethodName)) ∈ lw_all := lw_g (lw_at lw_m2 125 rfl) rfl
theorem q483 : (Jvm.Cond.selects "KernelGym$Wrong" ({ cls := "java/lang/Throwable", name := "fillInStackTrace", desc := "()Ljava/lang/Throwable;" } : Jvm.MethodName) ({ cls := "java/lang/Throwable", name := "fillInStackTrace", desc := "()Ljava/lang/Throwable;" } : Jvm.MethodName)) ∈ lw_all := lw_g (lw_at lw_m2 126 rfl) rfl
theorem q484 : (Jvm.Cond.lays "KernelGym$Wrong" "java/lang/Throwable" "cause" "Ljava/lang/Throwable;") ∈ lw_all := lw_g (lw_at lw_m2 127 rfl) rfl
theorem q486 : (Jvm.Cond.lays "KernelGym$Wrong" "java/lang/Throwable" "stackTrace" "[Ljava/lang/StackTraceElement;") ∈ lw_all := lw_g (lw_at lw_m2 129 rfl) rfl
theorem q488 : (Jvm.Cond.lays "KernelGym$Wrong" "java/lang/Throwable" "suppressedExceptions" "Ljava/util/List;") ∈ lw_all := lw_g (lw_at lw_m2 131 rfl) rfl
theorem q490 : (Jvm.Cond.lays "KernelGym$Wrong" "java/lang/Throwable" "detailMessage" "Ljava/lang/String;") ∈ lw_all := lw_g (lw_at lw_m2 133 rfl) rfl
theorem q492 : (Jvm.Cond.lays "KernelGym$Wrong" "java/lang/Throwable" "backtrace" "Ljava/lang/Object;") ∈ lw_all := lw_g (lw_at lw_m2 135 rfl) rfl
theorem q523 : (Jvm.Cond.instanceMethod ({ cls := "KernelGym$Wrong", name := "<init>", desc := "(II)V" } : Jvm.MethodName)) ∈ lw_all := lw_g (lw_at lw_m2 166 rfl) rfl
theorem q524 : (Jvm.Cond.code ({ cls := "KernelGym$Wrong", name := "<init>", desc := "(II)V" } : Jvm.MethodName) prog_26_method_1_code (3 : Nat) (Option.none : Option Jvm.ClassFile.FieldType)) ∈ lw_all := lw_g (lw_at lw_m2 167 rfl) rfl
theorem q525 : (Jvm.Cond.classLink "KernelGym$Wrong" (1 : Nat) "java/lang/StringBuilder") ∈ lw_all := lw_g (lw_at lw_m2 168 rfl) rfl
theorem q527 : (Jvm.Cond.methodLink "KernelGym$Wrong" (3 : Nat) ({ cls := "java/lang/StringBuilder", name := "<init>", desc := "()V" } : Jvm.MethodName)) ∈ lw_all := lw_g (lw_at lw_m2 170 rfl) rfl
theorem q557 : (Jvm.Cond.stringRef "KernelGym$Wrong" (7 : Nat) "error ") ∈ lw_tbl := lw_at lw_m2 200 rfl
theorem q558 : (Jvm.Cond.methodLink "KernelGym$Wrong" (9 : Nat) ({ cls := "java/lang/StringBuilder", name := "append", desc := "(Ljava/lang/String;)Ljava/lang/StringBuilder;" } : Jvm.MethodName)) ∈ lw_all := lw_g (lw_at lw_m2 201 rfl) rfl
theorem q678 : (Jvm.Cond.methodLink "KernelGym$Wrong" (13 : Nat) ({ cls := "java/lang/StringBuilder", name := "append", desc := "(I)Ljava/lang/StringBuilder;" } : Jvm.MethodName)) ∈ lw_all := lw_g (lw_at lw_m3 81 rfl) rfl
theorem q703 : (Jvm.Cond.stringRef "KernelGym$Wrong" (16 : Nat) " at the line ") ∈ lw_tbl := lw_at lw_m3 106 rfl
theorem q704 : (Jvm.Cond.methodLink "KernelGym$Wrong" (18 : Nat) ({ cls := "java/lang/StringBuilder", name := "toString", desc := "()Ljava/lang/String;" } : Jvm.MethodName)) ∈ lw_all := lw_g (lw_at lw_m3 107 rfl) rfl
theorem q806 : (Jvm.Cond.methodLink "KernelGym$Wrong" (22 : Nat) ({ cls := "java/lang/Exception", name := "<init>", desc := "(Ljava/lang/String;)V" } : Jvm.MethodName)) ∈ lw_all := lw_g (lw_at lw_m3 209 rfl) rfl
theorem q807 : (Jvm.Cond.fieldLink "KernelGym$Wrong" (27 : Nat) "KernelGym$Wrong" "error" "I") ∈ lw_all := lw_g (lw_at lw_m3 210 rfl) rfl
theorem q808 : (Jvm.Cond.fieldLink "KernelGym$Wrong" (33 : Nat) "KernelGym$Wrong" "line" "I") ∈ lw_all := lw_g (lw_at lw_m3 211 rfl) rfl
theorem q809 : (Jvm.Cond.laysFinal "KernelGym$Wrong" "KernelGym$Wrong" "error" "I") ∈ lw_all := lw_g (lw_at lw_m3 212 rfl) rfl
theorem q810 : (Jvm.Cond.soleField "KernelGym$Wrong" "error") ∈ lw_all := lw_g (lw_at lw_m3 213 rfl) rfl
theorem q811 : (Jvm.Cond.laysFinal "KernelGym$Wrong" "KernelGym$Wrong" "line" "I") ∈ lw_all := lw_g (lw_at lw_m3 214 rfl) rfl
theorem q812 : (Jvm.Cond.soleField "KernelGym$Wrong" "line") ∈ lw_all := lw_g (lw_at lw_m3 215 rfl) rfl
theorem q813 : (Jvm.Cond.lays "KernelGym$Wrong" "java/lang/Throwable" "depth" "I") ∈ lw_all := lw_g (lw_at lw_m3 216 rfl) rfl
theorem q814 : (Jvm.Cond.superclass "KernelGym$Wrong" "java/lang/Exception") ∈ lw_all := lw_g (lw_at lw_m3 217 rfl) rfl
theorem q1069 : (Jvm.Cond.selects "KernelGym$Wrong" ({ cls := "java/lang/Object", name := "getClass", desc := "()Ljava/lang/Class;" } : Jvm.MethodName) ({ cls := "java/lang/Object", name := "getClass", desc := "()Ljava/lang/Class;" } : Jvm.MethodName)) ∈ lw_all := lw_g (lw_at lw_m4 232 rfl) rfl
theorem q1189 : (Jvm.Cond.instanceMethod ({ cls := "KernelGym$Wrong", name := "told", desc := "()I" } : Jvm.MethodName)) ∈ lw_all := lw_g (lw_at lw_m5 112 rfl) rfl
theorem q1190 : (Jvm.Cond.selects "KernelGym$Wrong" ({ cls := "KernelGym$Wrong", name := "told", desc := "()I" } : Jvm.MethodName) ({ cls := "KernelGym$Wrong", name := "told", desc := "()I" } : Jvm.MethodName)) ∈ lw_all := lw_g (lw_at lw_m5 113 rfl) rfl
theorem q1191 : (Jvm.Cond.code ({ cls := "KernelGym$Wrong", name := "told", desc := "()I" } : Jvm.MethodName) prog_26_method_2_code (1 : Nat) (Option.some Jvm.ClassFile.FieldType.int)) ∈ lw_all := lw_g (lw_at lw_m5 114 rfl) rfl
theorem q1578 : (Jvm.Cond.selects "KernelGym$Wrong" ({ cls := "java/lang/Throwable", name := "toString", desc := "()Ljava/lang/String;" } : Jvm.MethodName) ({ cls := "java/lang/Throwable", name := "toString", desc := "()Ljava/lang/String;" } : Jvm.MethodName)) ∈ lw_all := lw_g (lw_at lw_m7 21 rfl) rfl
theorem q1594 : (Jvm.Cond.selects "KernelGym$Wrong" ({ cls := "java/lang/Throwable", name := "getLocalizedMessage", desc := "()Ljava/lang/String;" } : Jvm.MethodName) ({ cls := "java/lang/Throwable", name := "getLocalizedMessage", desc := "()Ljava/lang/String;" } : Jvm.MethodName)) ∈ lw_all := lw_g (lw_at lw_m7 37 rfl) rfl
theorem q1609 : (Jvm.Cond.selects "KernelGym$Wrong" ({ cls := "java/lang/Throwable", name := "getMessage", desc := "()Ljava/lang/String;" } : Jvm.MethodName) ({ cls := "java/lang/Throwable", name := "getMessage", desc := "()Ljava/lang/String;" } : Jvm.MethodName)) ∈ lw_all := lw_g (lw_at lw_m7 52 rfl) rfl
theorem q3498 : (Jvm.Cond.castable "KernelGym$Wrong" "java/lang/Object") ∈ lw_tbl := lw_at lw_m15 21 rfl
theorem in_X19 : ∀ w ∈ wsX190, w ∈ lw_all := lw_in wsX190 [484, 486, 488, 490, 492, 813, 809, 811] (by decide +kernel) (by decide +kernel)

