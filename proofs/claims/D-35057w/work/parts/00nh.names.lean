set_option maxRecDepth 100000
/-! KernelGym$Line -/
def RX4 : String := "KernelGym$Line"
abbrev cX4_endsMacro : ByteArray := prog_15_method_4_code
def yX4_endsMacro : MethodName := ⟨RX4, "endsMacro", "()Z"⟩
theorem dX4_endsMacro_0 : decode cX4_endsMacro 0 = .ok (.iconst 0, 1) := by decide +kernel
theorem dX4_endsMacro_1 : decode cX4_endsMacro 1 = .ok (.ireturn, 1) := by decide +kernel
abbrev cX4_beginsMacro : ByteArray := prog_15_method_3_code
def yX4_beginsMacro : MethodName := ⟨RX4, "beginsMacro", "()Z"⟩
theorem dX4_beginsMacro_0 : decode cX4_beginsMacro 0 = .ok (.iconst 0, 1) := by decide +kernel
theorem dX4_beginsMacro_1 : decode cX4_beginsMacro 1 = .ok (.ireturn, 1) := by decide +kernel
abbrev cX4_init : ByteArray := prog_15_method_1_code
def yX4_init : MethodName := ⟨RX4, "<init>", "()V"⟩
theorem dX4_init_0 : decode cX4_init 0 = .ok (.aload_n 0, 1) := by decide +kernel
theorem dX4_init_1 : decode cX4_init 1 = .ok (.invokespecial 1, 3) := by decide +kernel
theorem dX4_init_4 : decode cX4_init 4 = .ok (.return_, 1) := by decide +kernel
theorem q131 : (Jvm.Cond.initialized "KernelGym$Line") ∈ lw_all := lw_g (lw_at lw_m1 14 rfl) rfl
theorem q879 : (Jvm.Cond.declares ({ cls := "KernelGym$Line", name := "go", desc := "(LKernelGym$Pass;LKernelGym$Use;I)I" } : Jvm.MethodName)) ∈ lw_tbl := lw_at lw_m4 42 rfl
theorem q880 : (Jvm.Cond.sameMethod "KernelGym$Line" "KernelGym$Line" "go" "(LKernelGym$Pass;LKernelGym$Use;I)I") ∈ lw_all := lw_g (lw_at lw_m4 43 rfl) rfl
theorem q966 : (Jvm.Cond.instanceMethod ({ cls := "KernelGym$Line", name := "endsMacro", desc := "()Z" } : Jvm.MethodName)) ∈ lw_all := lw_g (lw_at lw_m4 129 rfl) rfl
theorem q967 : (Jvm.Cond.sameMethod "KernelGym$Line" "KernelGym$Line" "endsMacro" "()Z") ∈ lw_all := lw_g (lw_at lw_m4 130 rfl) rfl
theorem q979 : (Jvm.Cond.code ({ cls := "KernelGym$Line", name := "endsMacro", desc := "()Z" } : Jvm.MethodName) prog_15_method_4_code (1 : Nat) (Option.some Jvm.ClassFile.FieldType.boolean)) ∈ lw_all := lw_g (lw_at lw_m4 142 rfl) rfl
theorem q981 : (Jvm.Cond.instanceMethod ({ cls := "KernelGym$Line", name := "beginsMacro", desc := "()Z" } : Jvm.MethodName)) ∈ lw_all := lw_g (lw_at lw_m4 144 rfl) rfl
theorem q982 : (Jvm.Cond.sameMethod "KernelGym$Line" "KernelGym$Line" "beginsMacro" "()Z") ∈ lw_all := lw_g (lw_at lw_m4 145 rfl) rfl
theorem q994 : (Jvm.Cond.code ({ cls := "KernelGym$Line", name := "beginsMacro", desc := "()Z" } : Jvm.MethodName) prog_15_method_3_code (1 : Nat) (Option.some Jvm.ClassFile.FieldType.boolean)) ∈ lw_all := lw_g (lw_at lw_m4 157 rfl) rfl
theorem q1700 : (Jvm.Cond.instanceMethod ({ cls := "KernelGym$Line", name := "<init>", desc := "()V" } : Jvm.MethodName)) ∈ lw_all := lw_g (lw_at lw_m7 143 rfl) rfl
theorem q1701 : (Jvm.Cond.code ({ cls := "KernelGym$Line", name := "<init>", desc := "()V" } : Jvm.MethodName) prog_15_method_1_code (1 : Nat) (Option.none : Option Jvm.ClassFile.FieldType)) ∈ lw_all := lw_g (lw_at lw_m7 144 rfl) rfl
theorem q1702 : (Jvm.Cond.methodLink "KernelGym$Line" (1 : Nat) ({ cls := "java/lang/Object", name := "<init>", desc := "()V" } : Jvm.MethodName)) ∈ lw_all := lw_g (lw_at lw_m7 145 rfl) rfl

/-! KernelGym$1 -/
def RX5 : String := "KernelGym$1"
def TX5 : u_T := fun k => match k with
  | 0 => ("KernelGym$1", "val$section", "I", true)
  | _ => ("KernelGym$1", "this$0", "LKernelGym;", true)
def tyX5 : Nat → FieldType := fun k => match k with
  | 0 => .int
  | _ => .object "KernelGym"
abbrev wsX50 : List Cond := u_ws RX5 TX5 2
theorem nmX5 : ∀ a, a < 2 → ∀ b, b < 2 → a ≠ b → (TX5 a).2.1 ≠ (TX5 b).2.1 := by decide +kernel
theorem tyX5_ok : ∀ k, k < 2 → parseFieldDescriptor (TX5 k).2.2.1 = some (tyX5 k) := by decide +kernel
abbrev cX5_go : ByteArray := prog_2_method_2_code
def yX5_go : MethodName := ⟨RX5, "go", "(LKernelGym$Pass;LKernelGym$Use;I)I"⟩
def dkwX5_go_0 : List UInt8 := [43, 42, 180, 0, 7, 181, 0, 17, 29, 4, 96, 172]
abbrev dktX5_go_0 : List UInt8 := dkwX5_go_0 ++ []
theorem dksX5_go_0 : cX5_go.data.toList.drop 0 = dktX5_go_0 := by decide +kernel
theorem dX5_go_0 : decode cX5_go 0 = .ok (.aload_n 1, 1) := dk_43 (dk_at dksX5_go_0 0 rfl rfl)
theorem dX5_go_1 : decode cX5_go 1 = .ok (.aload_n 0, 1) := dk_42 (dk_at dksX5_go_0 1 rfl rfl)
theorem dX5_go_2 : decode cX5_go 2 = .ok (.getfield 7, 3) := dk_180 0 7 (dk_at dksX5_go_0 2 rfl rfl)
theorem dX5_go_5 : decode cX5_go 5 = .ok (.putfield 17, 3) := dk_181 0 17 (dk_at dksX5_go_0 5 rfl rfl)
theorem dX5_go_8 : decode cX5_go 8 = .ok (.iload_n 3, 1) := dk_29 (dk_at dksX5_go_0 8 rfl rfl)
theorem dX5_go_9 : decode cX5_go 9 = .ok (.iconst 1, 1) := dk_4 (dk_at dksX5_go_0 9 rfl rfl)
theorem dX5_go_10 : decode cX5_go 10 = .ok (.iadd, 1) := dk_96 (dk_at dksX5_go_0 10 rfl rfl)
theorem dX5_go_11 : decode cX5_go 11 = .ok (.ireturn, 1) := dk_172 (dk_at dksX5_go_0 11 rfl rfl)
abbrev cX5_init : ByteArray := prog_2_method_1_code
def yX5_init : MethodName := ⟨RX5, "<init>", "(LKernelGym;I)V"⟩
def dkwX5_init_0 : List UInt8 := [42, 43, 181, 0, 1, 42, 28, 181, 0, 7, 42, 183, 0, 11, 177]
abbrev dktX5_init_0 : List UInt8 := dkwX5_init_0 ++ []
theorem dksX5_init_0 : cX5_init.data.toList.drop 0 = dktX5_init_0 := by decide +kernel
theorem dX5_init_0 : decode cX5_init 0 = .ok (.aload_n 0, 1) := dk_42 (dk_at dksX5_init_0 0 rfl rfl)
theorem dX5_init_1 : decode cX5_init 1 = .ok (.aload_n 1, 1) := dk_43 (dk_at dksX5_init_0 1 rfl rfl)
theorem dX5_init_2 : decode cX5_init 2 = .ok (.putfield 1, 3) := dk_181 0 1 (dk_at dksX5_init_0 2 rfl rfl)
theorem dX5_init_5 : decode cX5_init 5 = .ok (.aload_n 0, 1) := dk_42 (dk_at dksX5_init_0 5 rfl rfl)
theorem dX5_init_6 : decode cX5_init 6 = .ok (.iload_n 2, 1) := dk_28 (dk_at dksX5_init_0 6 rfl rfl)
theorem dX5_init_7 : decode cX5_init 7 = .ok (.putfield 7, 3) := dk_181 0 7 (dk_at dksX5_init_0 7 rfl rfl)
theorem dX5_init_10 : decode cX5_init 10 = .ok (.aload_n 0, 1) := dk_42 (dk_at dksX5_init_0 10 rfl rfl)
theorem dX5_init_11 : decode cX5_init 11 = .ok (.invokespecial 11, 3) := dk_183 0 11 (dk_at dksX5_init_0 11 rfl rfl)
theorem dX5_init_14 : decode cX5_init 14 = .ok (.return_, 1) := dk_177 (dk_at dksX5_init_0 14 rfl rfl)
theorem q132 : (Jvm.Cond.initialized "KernelGym$1") ∈ lw_all := lw_g (lw_at lw_m1 15 rfl) rfl
theorem q432 : (Jvm.Cond.fieldLink "KernelGym$1" (17 : Nat) "KernelGym$Pass" "section" "I") ∈ lw_all := lw_g (lw_at lw_m2 75 rfl) rfl
theorem q881 : (Jvm.Cond.selects "KernelGym$1" ({ cls := "KernelGym$Line", name := "go", desc := "(LKernelGym$Pass;LKernelGym$Use;I)I" } : Jvm.MethodName) ({ cls := "KernelGym$1", name := "go", desc := "(LKernelGym$Pass;LKernelGym$Use;I)I" } : Jvm.MethodName)) ∈ lw_all := lw_g (lw_at lw_m4 44 rfl) rfl
theorem q882 : (Jvm.Cond.instanceMethod ({ cls := "KernelGym$1", name := "go", desc := "(LKernelGym$Pass;LKernelGym$Use;I)I" } : Jvm.MethodName)) ∈ lw_all := lw_g (lw_at lw_m4 45 rfl) rfl
theorem q883 : (Jvm.Cond.code ({ cls := "KernelGym$1", name := "go", desc := "(LKernelGym$Pass;LKernelGym$Use;I)I" } : Jvm.MethodName) prog_2_method_2_code (4 : Nat) (Option.some Jvm.ClassFile.FieldType.int)) ∈ lw_all := lw_g (lw_at lw_m4 46 rfl) rfl
theorem q968 : (Jvm.Cond.selects "KernelGym$1" ({ cls := "KernelGym$Line", name := "endsMacro", desc := "()Z" } : Jvm.MethodName) ({ cls := "KernelGym$Line", name := "endsMacro", desc := "()Z" } : Jvm.MethodName)) ∈ lw_all := lw_g (lw_at lw_m4 131 rfl) rfl
theorem q983 : (Jvm.Cond.selects "KernelGym$1" ({ cls := "KernelGym$Line", name := "beginsMacro", desc := "()Z" } : Jvm.MethodName) ({ cls := "KernelGym$Line", name := "beginsMacro", desc := "()Z" } : Jvm.MethodName)) ∈ lw_all := lw_g (lw_at lw_m4 146 rfl) rfl
theorem q1047 : (Jvm.Cond.selects "KernelGym$1" ({ cls := "java/lang/Object", name := "getClass", desc := "()Ljava/lang/Class;" } : Jvm.MethodName) ({ cls := "java/lang/Object", name := "getClass", desc := "()Ljava/lang/Class;" } : Jvm.MethodName)) ∈ lw_all := lw_g (lw_at lw_m4 210 rfl) rfl
theorem q1695 : (Jvm.Cond.instantiable "KernelGym$1" (2 : Nat)) ∈ lw_all := lw_g (lw_at lw_m7 138 rfl) rfl
theorem q1697 : (Jvm.Cond.instanceMethod ({ cls := "KernelGym$1", name := "<init>", desc := "(LKernelGym;I)V" } : Jvm.MethodName)) ∈ lw_all := lw_g (lw_at lw_m7 140 rfl) rfl
theorem q1698 : (Jvm.Cond.code ({ cls := "KernelGym$1", name := "<init>", desc := "(LKernelGym;I)V" } : Jvm.MethodName) prog_2_method_1_code (3 : Nat) (Option.none : Option Jvm.ClassFile.FieldType)) ∈ lw_all := lw_g (lw_at lw_m7 141 rfl) rfl
theorem q1699 : (Jvm.Cond.methodLinkNest "KernelGym$1" (11 : Nat) ({ cls := "KernelGym$Line", name := "<init>", desc := "()V" } : Jvm.MethodName) "KernelGym") ∈ lw_tbl := lw_at lw_m7 142 rfl
theorem q1703 : (Jvm.Cond.fieldLink "KernelGym$1" (7 : Nat) "KernelGym$1" "val$section" "I") ∈ lw_all := lw_g (lw_at lw_m7 146 rfl) rfl
theorem q1704 : (Jvm.Cond.fieldLink "KernelGym$1" (1 : Nat) "KernelGym$1" "this$0" "LKernelGym;") ∈ lw_all := lw_g (lw_at lw_m7 147 rfl) rfl
theorem q1705 : (Jvm.Cond.laysFinal "KernelGym$1" "KernelGym$1" "val$section" "I") ∈ lw_all := lw_g (lw_at lw_m7 148 rfl) rfl
theorem q1706 : (Jvm.Cond.soleField "KernelGym$1" "val$section") ∈ lw_all := lw_g (lw_at lw_m7 149 rfl) rfl
theorem q1707 : (Jvm.Cond.laysFinal "KernelGym$1" "KernelGym$1" "this$0" "LKernelGym;") ∈ lw_all := lw_g (lw_at lw_m7 150 rfl) rfl
theorem q1708 : (Jvm.Cond.soleField "KernelGym$1" "this$0") ∈ lw_all := lw_g (lw_at lw_m7 151 rfl) rfl
theorem q1709 : (Jvm.Cond.superclass "KernelGym$1" "KernelGym$Line") ∈ lw_all := lw_g (lw_at lw_m7 152 rfl) rfl
theorem q3467 : (Jvm.Cond.castable "KernelGym$1" "KernelGym$Line") ∈ lw_tbl := lw_at lw_m14 230 rfl
theorem q3483 : (Jvm.Cond.castable "KernelGym$1" "java/lang/Object") ∈ lw_tbl := lw_at lw_m15 6 rfl
theorem in_X5 : ∀ w ∈ wsX50, w ∈ lw_all := lw_in wsX50 [1705, 1707] (by decide +kernel) (by decide +kernel)

/-! KernelGym$2 -/
def RX6 : String := "KernelGym$2"
def TX6 : u_T := fun k => match k with
  | 0 => ("KernelGym$2", "val$label", "I", true)
  | _ => ("KernelGym$2", "this$0", "LKernelGym;", true)
def tyX6 : Nat → FieldType := fun k => match k with
  | 0 => .int
  | _ => .object "KernelGym"
abbrev wsX60 : List Cond := u_ws RX6 TX6 2
theorem nmX6 : ∀ a, a < 2 → ∀ b, b < 2 → a ≠ b → (TX6 a).2.1 ≠ (TX6 b).2.1 := by decide +kernel
theorem tyX6_ok : ∀ k, k < 2 → parseFieldDescriptor (TX6 k).2.2.1 = some (tyX6 k) := by decide +kernel
abbrev cX6_go : ByteArray := prog_3_method_2_code
def yX6_go : MethodName := ⟨RX6, "go", "(LKernelGym$Pass;LKernelGym$Use;I)I"⟩
def dkwX6_go_0 : List UInt8 := [43, 42, 180, 0, 7, 44, 29, 182, 0, 17, 29, 4, 96, 172]
abbrev dktX6_go_0 : List UInt8 := dkwX6_go_0 ++ []
theorem dksX6_go_0 : cX6_go.data.toList.drop 0 = dktX6_go_0 := by decide +kernel
theorem dX6_go_0 : decode cX6_go 0 = .ok (.aload_n 1, 1) := dk_43 (dk_at dksX6_go_0 0 rfl rfl)
theorem dX6_go_1 : decode cX6_go 1 = .ok (.aload_n 0, 1) := dk_42 (dk_at dksX6_go_0 1 rfl rfl)
theorem dX6_go_2 : decode cX6_go 2 = .ok (.getfield 7, 3) := dk_180 0 7 (dk_at dksX6_go_0 2 rfl rfl)
theorem dX6_go_5 : decode cX6_go 5 = .ok (.aload_n 2, 1) := dk_44 (dk_at dksX6_go_0 5 rfl rfl)
theorem dX6_go_6 : decode cX6_go 6 = .ok (.iload_n 3, 1) := dk_29 (dk_at dksX6_go_0 6 rfl rfl)
theorem dX6_go_7 : decode cX6_go 7 = .ok (.invokevirtual 17, 3) := dk_182 0 17 (dk_at dksX6_go_0 7 rfl rfl)
theorem dX6_go_10 : decode cX6_go 10 = .ok (.iload_n 3, 1) := dk_29 (dk_at dksX6_go_0 10 rfl rfl)
theorem dX6_go_11 : decode cX6_go 11 = .ok (.iconst 1, 1) := dk_4 (dk_at dksX6_go_0 11 rfl rfl)
theorem dX6_go_12 : decode cX6_go 12 = .ok (.iadd, 1) := dk_96 (dk_at dksX6_go_0 12 rfl rfl)
theorem dX6_go_13 : decode cX6_go 13 = .ok (.ireturn, 1) := dk_172 (dk_at dksX6_go_0 13 rfl rfl)
abbrev cX6_init : ByteArray := prog_3_method_1_code
def yX6_init : MethodName := ⟨RX6, "<init>", "(LKernelGym;I)V"⟩
def dkwX6_init_0 : List UInt8 := [42, 43, 181, 0, 1, 42, 28, 181, 0, 7, 42, 183, 0, 11, 177]
abbrev dktX6_init_0 : List UInt8 := dkwX6_init_0 ++ []
theorem dksX6_init_0 : cX6_init.data.toList.drop 0 = dktX6_init_0 := by decide +kernel
theorem dX6_init_0 : decode cX6_init 0 = .ok (.aload_n 0, 1) := dk_42 (dk_at dksX6_init_0 0 rfl rfl)
theorem dX6_init_1 : decode cX6_init 1 = .ok (.aload_n 1, 1) := dk_43 (dk_at dksX6_init_0 1 rfl rfl)
theorem dX6_init_2 : decode cX6_init 2 = .ok (.putfield 1, 3) := dk_181 0 1 (dk_at dksX6_init_0 2 rfl rfl)
theorem dX6_init_5 : decode cX6_init 5 = .ok (.aload_n 0, 1) := dk_42 (dk_at dksX6_init_0 5 rfl rfl)
theorem dX6_init_6 : decode cX6_init 6 = .ok (.iload_n 2, 1) := dk_28 (dk_at dksX6_init_0 6 rfl rfl)
theorem dX6_init_7 : decode cX6_init 7 = .ok (.putfield 7, 3) := dk_181 0 7 (dk_at dksX6_init_0 7 rfl rfl)
theorem dX6_init_10 : decode cX6_init 10 = .ok (.aload_n 0, 1) := dk_42 (dk_at dksX6_init_0 10 rfl rfl)
theorem dX6_init_11 : decode cX6_init 11 = .ok (.invokespecial 11, 3) := dk_183 0 11 (dk_at dksX6_init_0 11 rfl rfl)
theorem dX6_init_14 : decode cX6_init 14 = .ok (.return_, 1) := dk_177 (dk_at dksX6_init_0 14 rfl rfl)
theorem q139 : (Jvm.Cond.initialized "KernelGym$2") ∈ lw_all := lw_g (lw_at lw_m1 22 rfl) rfl
theorem q884 : (Jvm.Cond.selects "KernelGym$2" ({ cls := "KernelGym$Line", name := "go", desc := "(LKernelGym$Pass;LKernelGym$Use;I)I" } : Jvm.MethodName) ({ cls := "KernelGym$2", name := "go", desc := "(LKernelGym$Pass;LKernelGym$Use;I)I" } : Jvm.MethodName)) ∈ lw_all := lw_g (lw_at lw_m4 47 rfl) rfl
theorem q885 : (Jvm.Cond.instanceMethod ({ cls := "KernelGym$2", name := "go", desc := "(LKernelGym$Pass;LKernelGym$Use;I)I" } : Jvm.MethodName)) ∈ lw_all := lw_g (lw_at lw_m4 48 rfl) rfl
theorem q886 : (Jvm.Cond.code ({ cls := "KernelGym$2", name := "go", desc := "(LKernelGym$Pass;LKernelGym$Use;I)I" } : Jvm.MethodName) prog_3_method_2_code (4 : Nat) (Option.some Jvm.ClassFile.FieldType.int)) ∈ lw_all := lw_g (lw_at lw_m4 49 rfl) rfl
theorem q887 : (Jvm.Cond.methodLink "KernelGym$2" (17 : Nat) ({ cls := "KernelGym$Pass", name := "set", desc := "(ILKernelGym$Use;I)V" } : Jvm.MethodName)) ∈ lw_all := lw_g (lw_at lw_m4 50 rfl) rfl
theorem q969 : (Jvm.Cond.selects "KernelGym$2" ({ cls := "KernelGym$Line", name := "endsMacro", desc := "()Z" } : Jvm.MethodName) ({ cls := "KernelGym$Line", name := "endsMacro", desc := "()Z" } : Jvm.MethodName)) ∈ lw_all := lw_g (lw_at lw_m4 132 rfl) rfl
theorem q984 : (Jvm.Cond.selects "KernelGym$2" ({ cls := "KernelGym$Line", name := "beginsMacro", desc := "()Z" } : Jvm.MethodName) ({ cls := "KernelGym$Line", name := "beginsMacro", desc := "()Z" } : Jvm.MethodName)) ∈ lw_all := lw_g (lw_at lw_m4 147 rfl) rfl
theorem q1048 : (Jvm.Cond.selects "KernelGym$2" ({ cls := "java/lang/Object", name := "getClass", desc := "()Ljava/lang/Class;" } : Jvm.MethodName) ({ cls := "java/lang/Object", name := "getClass", desc := "()Ljava/lang/Class;" } : Jvm.MethodName)) ∈ lw_all := lw_g (lw_at lw_m4 211 rfl) rfl
theorem q1743 : (Jvm.Cond.instantiable "KernelGym$2" (2 : Nat)) ∈ lw_all := lw_g (lw_at lw_m7 186 rfl) rfl
theorem q1745 : (Jvm.Cond.instanceMethod ({ cls := "KernelGym$2", name := "<init>", desc := "(LKernelGym;I)V" } : Jvm.MethodName)) ∈ lw_all := lw_g (lw_at lw_m7 188 rfl) rfl
theorem q1746 : (Jvm.Cond.code ({ cls := "KernelGym$2", name := "<init>", desc := "(LKernelGym;I)V" } : Jvm.MethodName) prog_3_method_1_code (3 : Nat) (Option.none : Option Jvm.ClassFile.FieldType)) ∈ lw_all := lw_g (lw_at lw_m7 189 rfl) rfl
theorem q1747 : (Jvm.Cond.methodLinkNest "KernelGym$2" (11 : Nat) ({ cls := "KernelGym$Line", name := "<init>", desc := "()V" } : Jvm.MethodName) "KernelGym") ∈ lw_tbl := lw_at lw_m7 190 rfl
theorem q1748 : (Jvm.Cond.fieldLink "KernelGym$2" (7 : Nat) "KernelGym$2" "val$label" "I") ∈ lw_all := lw_g (lw_at lw_m7 191 rfl) rfl
theorem q1749 : (Jvm.Cond.fieldLink "KernelGym$2" (1 : Nat) "KernelGym$2" "this$0" "LKernelGym;") ∈ lw_all := lw_g (lw_at lw_m7 192 rfl) rfl
theorem q1750 : (Jvm.Cond.laysFinal "KernelGym$2" "KernelGym$2" "val$label" "I") ∈ lw_all := lw_g (lw_at lw_m7 193 rfl) rfl
theorem q1751 : (Jvm.Cond.soleField "KernelGym$2" "val$label") ∈ lw_all := lw_g (lw_at lw_m7 194 rfl) rfl
theorem q1752 : (Jvm.Cond.laysFinal "KernelGym$2" "KernelGym$2" "this$0" "LKernelGym;") ∈ lw_all := lw_g (lw_at lw_m7 195 rfl) rfl
theorem q1753 : (Jvm.Cond.soleField "KernelGym$2" "this$0") ∈ lw_all := lw_g (lw_at lw_m7 196 rfl) rfl
theorem q1754 : (Jvm.Cond.superclass "KernelGym$2" "KernelGym$Line") ∈ lw_all := lw_g (lw_at lw_m7 197 rfl) rfl
theorem q3468 : (Jvm.Cond.castable "KernelGym$2" "KernelGym$Line") ∈ lw_tbl := lw_at lw_m14 231 rfl
theorem q3486 : (Jvm.Cond.castable "KernelGym$2" "java/lang/Object") ∈ lw_tbl := lw_at lw_m15 9 rfl
theorem in_X6 : ∀ w ∈ wsX60, w ∈ lw_all := lw_in wsX60 [1750, 1752] (by decide +kernel) (by decide +kernel)

/-! KernelGym$Operand -/
def RX7 : String := "KernelGym$Operand"
def TX7 : u_T := fun k => match k with
  | 0 => ("KernelGym$Operand", "kind", "I", true)
  | _ => ("KernelGym$Operand", "n", "I", true)
def tyX7 : Nat → FieldType := fun k => match k with
  | 0 => .int
  | _ => .int
abbrev wsX70 : List Cond := u_ws RX7 TX7 2
theorem nmX7 : ∀ a, a < 2 → ∀ b, b < 2 → a ≠ b → (TX7 a).2.1 ≠ (TX7 b).2.1 := by decide +kernel
theorem tyX7_ok : ∀ k, k < 2 → parseFieldDescriptor (TX7 k).2.2.1 = some (tyX7 k) := by decide +kernel
abbrev cX7_init : ByteArray := prog_21_method_1_code
def yX7_init : MethodName := ⟨RX7, "<init>", "(II)V"⟩
def dkwX7_init_0 : List UInt8 := [42, 183, 0, 1, 42, 27, 181, 0, 7, 42, 28, 181, 0, 13, 177]
abbrev dktX7_init_0 : List UInt8 := dkwX7_init_0 ++ []
theorem dksX7_init_0 : cX7_init.data.toList.drop 0 = dktX7_init_0 := by decide +kernel
theorem dX7_init_0 : decode cX7_init 0 = .ok (.aload_n 0, 1) := dk_42 (dk_at dksX7_init_0 0 rfl rfl)
theorem dX7_init_1 : decode cX7_init 1 = .ok (.invokespecial 1, 3) := dk_183 0 1 (dk_at dksX7_init_0 1 rfl rfl)
theorem dX7_init_4 : decode cX7_init 4 = .ok (.aload_n 0, 1) := dk_42 (dk_at dksX7_init_0 4 rfl rfl)
theorem dX7_init_5 : decode cX7_init 5 = .ok (.iload_n 1, 1) := dk_27 (dk_at dksX7_init_0 5 rfl rfl)
theorem dX7_init_6 : decode cX7_init 6 = .ok (.putfield 7, 3) := dk_181 0 7 (dk_at dksX7_init_0 6 rfl rfl)
theorem dX7_init_9 : decode cX7_init 9 = .ok (.aload_n 0, 1) := dk_42 (dk_at dksX7_init_0 9 rfl rfl)
theorem dX7_init_10 : decode cX7_init 10 = .ok (.iload_n 2, 1) := dk_28 (dk_at dksX7_init_0 10 rfl rfl)
theorem dX7_init_11 : decode cX7_init 11 = .ok (.putfield 13, 3) := dk_181 0 13 (dk_at dksX7_init_0 11 rfl rfl)
theorem dX7_init_14 : decode cX7_init 14 = .ok (.return_, 1) := dk_177 (dk_at dksX7_init_0 14 rfl rfl)
theorem q140 : (Jvm.Cond.initialized "KernelGym$Operand") ∈ lw_all := lw_g (lw_at lw_m1 23 rfl) rfl
theorem q1065 : (Jvm.Cond.selects "KernelGym$Operand" ({ cls := "java/lang/Object", name := "getClass", desc := "()Ljava/lang/Class;" } : Jvm.MethodName) ({ cls := "java/lang/Object", name := "getClass", desc := "()Ljava/lang/Class;" } : Jvm.MethodName)) ∈ lw_all := lw_g (lw_at lw_m4 228 rfl) rfl
theorem q1766 : (Jvm.Cond.instantiable "KernelGym$Operand" (2 : Nat)) ∈ lw_all := lw_g (lw_at lw_m7 209 rfl) rfl
theorem q1769 : (Jvm.Cond.instanceMethod ({ cls := "KernelGym$Operand", name := "<init>", desc := "(II)V" } : Jvm.MethodName)) ∈ lw_all := lw_g (lw_at lw_m7 212 rfl) rfl
theorem q1770 : (Jvm.Cond.code ({ cls := "KernelGym$Operand", name := "<init>", desc := "(II)V" } : Jvm.MethodName) prog_21_method_1_code (3 : Nat) (Option.none : Option Jvm.ClassFile.FieldType)) ∈ lw_all := lw_g (lw_at lw_m7 213 rfl) rfl
theorem q1771 : (Jvm.Cond.methodLink "KernelGym$Operand" (1 : Nat) ({ cls := "java/lang/Object", name := "<init>", desc := "()V" } : Jvm.MethodName)) ∈ lw_all := lw_g (lw_at lw_m7 214 rfl) rfl
theorem q1772 : (Jvm.Cond.fieldLink "KernelGym$Operand" (7 : Nat) "KernelGym$Operand" "kind" "I") ∈ lw_all := lw_g (lw_at lw_m7 215 rfl) rfl
theorem q1774 : (Jvm.Cond.fieldLink "KernelGym$Operand" (13 : Nat) "KernelGym$Operand" "n" "I") ∈ lw_all := lw_g (lw_at lw_m7 217 rfl) rfl
theorem q1776 : (Jvm.Cond.laysFinal "KernelGym$Operand" "KernelGym$Operand" "kind" "I") ∈ lw_all := lw_g (lw_at lw_m7 219 rfl) rfl
theorem q1777 : (Jvm.Cond.soleField "KernelGym$Operand" "kind") ∈ lw_all := lw_g (lw_at lw_m7 220 rfl) rfl
theorem q1778 : (Jvm.Cond.laysFinal "KernelGym$Operand" "KernelGym$Operand" "n" "I") ∈ lw_all := lw_g (lw_at lw_m7 221 rfl) rfl
theorem q1779 : (Jvm.Cond.soleField "KernelGym$Operand" "n") ∈ lw_all := lw_g (lw_at lw_m7 222 rfl) rfl
theorem q1780 : (Jvm.Cond.superclass "KernelGym$Operand" "java/lang/Object") ∈ lw_all := lw_g (lw_at lw_m7 223 rfl) rfl
theorem q3487 : (Jvm.Cond.castable "KernelGym$Operand" "java/lang/Object") ∈ lw_tbl := lw_at lw_m15 10 rfl
theorem in_X7 : ∀ w ∈ wsX70, w ∈ lw_all := lw_in wsX70 [1776, 1778] (by decide +kernel) (by decide +kernel)

/-! KernelGym$3 -/
def RX8 : String := "KernelGym$3"
def TX8 : u_T := fun k => match k with
  | 0 => ("KernelGym$3", "val$operation", "I", true)
  | 1 => ("KernelGym$3", "val$d", "I", true)
  | 2 => ("KernelGym$3", "val$s", "I", true)
  | 3 => ("KernelGym$3", "val$operand", "LKernelGym$Operand;", true)
  | _ => ("KernelGym$3", "this$0", "LKernelGym;", true)
def tyX8 : Nat → FieldType := fun k => match k with
  | 0 => .int
  | 1 => .int
  | 2 => .int
  | 3 => .object "KernelGym$Operand"
  | _ => .object "KernelGym"
abbrev wsX80 : List Cond := u_ws RX8 TX8 5
theorem nmX8 : ∀ a, a < 5 → ∀ b, b < 5 → a ≠ b → (TX8 a).2.1 ≠ (TX8 b).2.1 := by decide +kernel
theorem tyX8_ok : ∀ k, k < 5 → parseFieldDescriptor (TX8 k).2.2.1 = some (tyX8 k) := by decide +kernel
abbrev cX8_go : ByteArray := prog_4_method_2_code
def yX8_go : MethodName := ⟨RX8, "go", "(LKernelGym$Pass;LKernelGym$Use;I)I"⟩
def dkwX8_go_1 : List UInt8 := [43, 42, 180, 0, 17, 44, 29, 182, 0, 33, 29, 182, 0, 27, 29, 4, 96, 172]
abbrev dktX8_go_1 : List UInt8 := dkwX8_go_1 ++ []
def dkwX8_go_0 : List UInt8 := [43, 42, 180, 0, 7, 7, 120, 42, 180, 0, 11, 5, 120, 128, 42, 180, 0, 14, 128, 29, 182, 0, 27, 43]
abbrev dktX8_go_0 : List UInt8 := dkwX8_go_0 ++ dktX8_go_1
theorem dksX8_go_0 : cX8_go.data.toList.drop 0 = dktX8_go_0 := by decide +kernel
theorem dksX8_go_1 : cX8_go.data.toList.drop 24 = dktX8_go_1 := dk_seg dksX8_go_0 24 rfl rfl
theorem dX8_go_0 : decode cX8_go 0 = .ok (.aload_n 1, 1) := dk_43 (dk_at dksX8_go_0 0 rfl rfl)
theorem dX8_go_1 : decode cX8_go 1 = .ok (.aload_n 0, 1) := dk_42 (dk_at dksX8_go_0 1 rfl rfl)
theorem dX8_go_2 : decode cX8_go 2 = .ok (.getfield 7, 3) := dk_180 0 7 (dk_at dksX8_go_0 2 rfl rfl)
theorem dX8_go_5 : decode cX8_go 5 = .ok (.iconst 4, 1) := dk_7 (dk_at dksX8_go_0 5 rfl rfl)
theorem dX8_go_6 : decode cX8_go 6 = .ok (.ishl, 1) := dk_120 (dk_at dksX8_go_0 6 rfl rfl)
theorem dX8_go_7 : decode cX8_go 7 = .ok (.aload_n 0, 1) := dk_42 (dk_at dksX8_go_0 7 rfl rfl)
theorem dX8_go_8 : decode cX8_go 8 = .ok (.getfield 11, 3) := dk_180 0 11 (dk_at dksX8_go_0 8 rfl rfl)
theorem dX8_go_11 : decode cX8_go 11 = .ok (.iconst 2, 1) := dk_5 (dk_at dksX8_go_0 11 rfl rfl)
theorem dX8_go_12 : decode cX8_go 12 = .ok (.ishl, 1) := dk_120 (dk_at dksX8_go_0 12 rfl rfl)
theorem dX8_go_13 : decode cX8_go 13 = .ok (.ior, 1) := dk_128 (dk_at dksX8_go_0 13 rfl rfl)
theorem dX8_go_14 : decode cX8_go 14 = .ok (.aload_n 0, 1) := dk_42 (dk_at dksX8_go_0 14 rfl rfl)
theorem dX8_go_15 : decode cX8_go 15 = .ok (.getfield 14, 3) := dk_180 0 14 (dk_at dksX8_go_0 15 rfl rfl)
theorem dX8_go_18 : decode cX8_go 18 = .ok (.ior, 1) := dk_128 (dk_at dksX8_go_0 18 rfl rfl)
theorem dX8_go_19 : decode cX8_go 19 = .ok (.iload_n 3, 1) := dk_29 (dk_at dksX8_go_0 19 rfl rfl)
theorem dX8_go_20 : decode cX8_go 20 = .ok (.invokevirtual 27, 3) := dk_182 0 27 (dk_at dksX8_go_0 20 rfl rfl)
theorem dX8_go_23 : decode cX8_go 23 = .ok (.aload_n 1, 1) := dk_43 (dk_at dksX8_go_0 23 rfl rfl)
theorem dX8_go_24 : decode cX8_go 24 = .ok (.aload_n 1, 1) := dk_43 (dk_at dksX8_go_1 0 rfl rfl)
theorem dX8_go_25 : decode cX8_go 25 = .ok (.aload_n 0, 1) := dk_42 (dk_at dksX8_go_1 1 rfl rfl)
theorem dX8_go_26 : decode cX8_go 26 = .ok (.getfield 17, 3) := dk_180 0 17 (dk_at dksX8_go_1 2 rfl rfl)
theorem dX8_go_29 : decode cX8_go 29 = .ok (.aload_n 2, 1) := dk_44 (dk_at dksX8_go_1 5 rfl rfl)
theorem dX8_go_30 : decode cX8_go 30 = .ok (.iload_n 3, 1) := dk_29 (dk_at dksX8_go_1 6 rfl rfl)
theorem dX8_go_31 : decode cX8_go 31 = .ok (.invokevirtual 33, 3) := dk_182 0 33 (dk_at dksX8_go_1 7 rfl rfl)
theorem dX8_go_34 : decode cX8_go 34 = .ok (.iload_n 3, 1) := dk_29 (dk_at dksX8_go_1 10 rfl rfl)
theorem dX8_go_35 : decode cX8_go 35 = .ok (.invokevirtual 27, 3) := dk_182 0 27 (dk_at dksX8_go_1 11 rfl rfl)
theorem dX8_go_38 : decode cX8_go 38 = .ok (.iload_n 3, 1) := dk_29 (dk_at dksX8_go_1 14 rfl rfl)
theorem dX8_go_39 : decode cX8_go 39 = .ok (.iconst 1, 1) := dk_4 (dk_at dksX8_go_1 15 rfl rfl)
theorem dX8_go_40 : decode cX8_go 40 = .ok (.iadd, 1) := dk_96 (dk_at dksX8_go_1 16 rfl rfl)
theorem dX8_go_41 : decode cX8_go 41 = .ok (.ireturn, 1) := dk_172 (dk_at dksX8_go_1 17 rfl rfl)
abbrev cX8_init : ByteArray := prog_4_method_1_code
def yX8_init : MethodName := ⟨RX8, "<init>", "(LKernelGym;IIILKernelGym$Operand;)V"⟩
def dkwX8_init_1 : List UInt8 := [181, 0, 17, 42, 183, 0, 21, 177]
abbrev dktX8_init_1 : List UInt8 := dkwX8_init_1 ++ []
def dkwX8_init_0 : List UInt8 := [42, 43, 181, 0, 1, 42, 28, 181, 0, 7, 42, 29, 181, 0, 11, 42, 21, 4, 181, 0, 14, 42, 25, 5]
abbrev dktX8_init_0 : List UInt8 := dkwX8_init_0 ++ dktX8_init_1
theorem dksX8_init_0 : cX8_init.data.toList.drop 0 = dktX8_init_0 := by decide +kernel
theorem dksX8_init_1 : cX8_init.data.toList.drop 24 = dktX8_init_1 := dk_seg dksX8_init_0 24 rfl rfl
theorem dX8_init_0 : decode cX8_init 0 = .ok (.aload_n 0, 1) := dk_42 (dk_at dksX8_init_0 0 rfl rfl)
theorem dX8_init_1 : decode cX8_init 1 = .ok (.aload_n 1, 1) := dk_43 (dk_at dksX8_init_0 1 rfl rfl)
theorem dX8_init_2 : decode cX8_init 2 = .ok (.putfield 1, 3) := dk_181 0 1 (dk_at dksX8_init_0 2 rfl rfl)
theorem dX8_init_5 : decode cX8_init 5 = .ok (.aload_n 0, 1) := dk_42 (dk_at dksX8_init_0 5 rfl rfl)
theorem dX8_init_6 : decode cX8_init 6 = .ok (.iload_n 2, 1) := dk_28 (dk_at dksX8_init_0 6 rfl rfl)
theorem dX8_init_7 : decode cX8_init 7 = .ok (.putfield 7, 3) := dk_181 0 7 (dk_at dksX8_init_0 7 rfl rfl)
theorem dX8_init_10 : decode cX8_init 10 = .ok (.aload_n 0, 1) := dk_42 (dk_at dksX8_init_0 10 rfl rfl)
theorem dX8_init_11 : decode cX8_init 11 = .ok (.iload_n 3, 1) := dk_29 (dk_at dksX8_init_0 11 rfl rfl)
theorem dX8_init_12 : decode cX8_init 12 = .ok (.putfield 11, 3) := dk_181 0 11 (dk_at dksX8_init_0 12 rfl rfl)
theorem dX8_init_15 : decode cX8_init 15 = .ok (.aload_n 0, 1) := dk_42 (dk_at dksX8_init_0 15 rfl rfl)
theorem dX8_init_16 : decode cX8_init 16 = .ok (.iload 4, 2) := dk_21 4 (dk_at dksX8_init_0 16 rfl rfl)
theorem dX8_init_18 : decode cX8_init 18 = .ok (.putfield 14, 3) := dk_181 0 14 (dk_at dksX8_init_0 18 rfl rfl)
theorem dX8_init_21 : decode cX8_init 21 = .ok (.aload_n 0, 1) := dk_42 (dk_at dksX8_init_0 21 rfl rfl)
theorem dX8_init_22 : decode cX8_init 22 = .ok (.aload 5, 2) := dk_25 5 (dk_at dksX8_init_0 22 rfl rfl)
theorem dX8_init_24 : decode cX8_init 24 = .ok (.putfield 17, 3) := dk_181 0 17 (dk_at dksX8_init_1 0 rfl rfl)
theorem dX8_init_27 : decode cX8_init 27 = .ok (.aload_n 0, 1) := dk_42 (dk_at dksX8_init_1 3 rfl rfl)
theorem dX8_init_28 : decode cX8_init 28 = .ok (.invokespecial 21, 3) := dk_183 0 21 (dk_at dksX8_init_1 4 rfl rfl)
theorem dX8_init_31 : decode cX8_init 31 = .ok (.return_, 1) := dk_177 (dk_at dksX8_init_1 7 rfl rfl)
theorem q141 : (Jvm.Cond.initialized "KernelGym$3") ∈ lw_all := lw_g (lw_at lw_m1 24 rfl) rfl
theorem q901 : (Jvm.Cond.selects "KernelGym$3" ({ cls := "KernelGym$Line", name := "go", desc := "(LKernelGym$Pass;LKernelGym$Use;I)I" } : Jvm.MethodName) ({ cls := "KernelGym$3", name := "go", desc := "(LKernelGym$Pass;LKernelGym$Use;I)I" } : Jvm.MethodName)) ∈ lw_all := lw_g (lw_at lw_m4 64 rfl) rfl
theorem q902 : (Jvm.Cond.instanceMethod ({ cls := "KernelGym$3", name := "go", desc := "(LKernelGym$Pass;LKernelGym$Use;I)I" } : Jvm.MethodName)) ∈ lw_all := lw_g (lw_at lw_m4 65 rfl) rfl
theorem q903 : (Jvm.Cond.code ({ cls := "KernelGym$3", name := "go", desc := "(LKernelGym$Pass;LKernelGym$Use;I)I" } : Jvm.MethodName) prog_4_method_2_code (4 : Nat) (Option.some Jvm.ClassFile.FieldType.int)) ∈ lw_all := lw_g (lw_at lw_m4 66 rfl) rfl
theorem q904 : (Jvm.Cond.methodLink "KernelGym$3" (27 : Nat) ({ cls := "KernelGym$Pass", name := "take", desc := "(II)V" } : Jvm.MethodName)) ∈ lw_all := lw_g (lw_at lw_m4 67 rfl) rfl
theorem q913 : (Jvm.Cond.methodLink "KernelGym$3" (33 : Nat) ({ cls := "KernelGym$Pass", name := "value", desc := "(LKernelGym$Operand;LKernelGym$Use;I)I" } : Jvm.MethodName)) ∈ lw_all := lw_g (lw_at lw_m4 76 rfl) rfl
theorem q970 : (Jvm.Cond.selects "KernelGym$3" ({ cls := "KernelGym$Line", name := "endsMacro", desc := "()Z" } : Jvm.MethodName) ({ cls := "KernelGym$Line", name := "endsMacro", desc := "()Z" } : Jvm.MethodName)) ∈ lw_all := lw_g (lw_at lw_m4 133 rfl) rfl
theorem q985 : (Jvm.Cond.selects "KernelGym$3" ({ cls := "KernelGym$Line", name := "beginsMacro", desc := "()Z" } : Jvm.MethodName) ({ cls := "KernelGym$Line", name := "beginsMacro", desc := "()Z" } : Jvm.MethodName)) ∈ lw_all := lw_g (lw_at lw_m4 148 rfl) rfl
theorem q1049 : (Jvm.Cond.selects "KernelGym$3" ({ cls := "java/lang/Object", name := "getClass", desc := "()Ljava/lang/Class;" } : Jvm.MethodName) ({ cls := "java/lang/Object", name := "getClass", desc := "()Ljava/lang/Class;" } : Jvm.MethodName)) ∈ lw_all := lw_g (lw_at lw_m4 212 rfl) rfl
theorem q1782 : (Jvm.Cond.instantiable "KernelGym$3" (5 : Nat)) ∈ lw_all := lw_g (lw_at lw_m7 225 rfl) rfl
theorem q1784 : (Jvm.Cond.instanceMethod ({ cls := "KernelGym$3", name := "<init>", desc := "(LKernelGym;IIILKernelGym$Operand;)V" } : Jvm.MethodName)) ∈ lw_all := lw_g (lw_at lw_m7 227 rfl) rfl
theorem q1785 : (Jvm.Cond.code ({ cls := "KernelGym$3", name := "<init>", desc := "(LKernelGym;IIILKernelGym$Operand;)V" } : Jvm.MethodName) prog_4_method_1_code (6 : Nat) (Option.none : Option Jvm.ClassFile.FieldType)) ∈ lw_all := lw_g (lw_at lw_m7 228 rfl) rfl
theorem q1786 : (Jvm.Cond.methodLinkNest "KernelGym$3" (21 : Nat) ({ cls := "KernelGym$Line", name := "<init>", desc := "()V" } : Jvm.MethodName) "KernelGym") ∈ lw_tbl := lw_at lw_m7 229 rfl
theorem q1787 : (Jvm.Cond.fieldLink "KernelGym$3" (7 : Nat) "KernelGym$3" "val$operation" "I") ∈ lw_all := lw_g (lw_at lw_m7 230 rfl) rfl
theorem q1788 : (Jvm.Cond.fieldLink "KernelGym$3" (11 : Nat) "KernelGym$3" "val$d" "I") ∈ lw_all := lw_g (lw_at lw_m7 231 rfl) rfl
theorem q1789 : (Jvm.Cond.fieldLink "KernelGym$3" (14 : Nat) "KernelGym$3" "val$s" "I") ∈ lw_all := lw_g (lw_at lw_m7 232 rfl) rfl
theorem q1790 : (Jvm.Cond.fieldLink "KernelGym$3" (17 : Nat) "KernelGym$3" "val$operand" "LKernelGym$Operand;") ∈ lw_all := lw_g (lw_at lw_m7 233 rfl) rfl
theorem q1791 : (Jvm.Cond.fieldLink "KernelGym$3" (1 : Nat) "KernelGym$3" "this$0" "LKernelGym;") ∈ lw_all := lw_g (lw_at lw_m7 234 rfl) rfl
theorem q1792 : (Jvm.Cond.laysFinal "KernelGym$3" "KernelGym$3" "val$operation" "I") ∈ lw_all := lw_g (lw_at lw_m7 235 rfl) rfl
theorem q1793 : (Jvm.Cond.soleField "KernelGym$3" "val$operation") ∈ lw_all := lw_g (lw_at lw_m7 236 rfl) rfl
theorem q1794 : (Jvm.Cond.laysFinal "KernelGym$3" "KernelGym$3" "val$d" "I") ∈ lw_all := lw_g (lw_at lw_m7 237 rfl) rfl
theorem q1795 : (Jvm.Cond.soleField "KernelGym$3" "val$d") ∈ lw_all := lw_g (lw_at lw_m7 238 rfl) rfl
theorem q1796 : (Jvm.Cond.laysFinal "KernelGym$3" "KernelGym$3" "val$s" "I") ∈ lw_all := lw_g (lw_at lw_m7 239 rfl) rfl
theorem q1797 : (Jvm.Cond.soleField "KernelGym$3" "val$s") ∈ lw_all := lw_g (lw_at lw_m8 0 rfl) rfl
theorem q1798 : (Jvm.Cond.laysFinal "KernelGym$3" "KernelGym$3" "val$operand" "LKernelGym$Operand;") ∈ lw_all := lw_g (lw_at lw_m8 1 rfl) rfl
theorem q1799 : (Jvm.Cond.soleField "KernelGym$3" "val$operand") ∈ lw_all := lw_g (lw_at lw_m8 2 rfl) rfl
theorem q1800 : (Jvm.Cond.laysFinal "KernelGym$3" "KernelGym$3" "this$0" "LKernelGym;") ∈ lw_all := lw_g (lw_at lw_m8 3 rfl) rfl
theorem q1801 : (Jvm.Cond.soleField "KernelGym$3" "this$0") ∈ lw_all := lw_g (lw_at lw_m8 4 rfl) rfl
theorem q1802 : (Jvm.Cond.superclass "KernelGym$3" "KernelGym$Line") ∈ lw_all := lw_g (lw_at lw_m8 5 rfl) rfl
theorem q3469 : (Jvm.Cond.castable "KernelGym$3" "KernelGym$Line") ∈ lw_tbl := lw_at lw_m14 232 rfl
theorem q3488 : (Jvm.Cond.castable "KernelGym$3" "java/lang/Object") ∈ lw_tbl := lw_at lw_m15 11 rfl
theorem in_X8 : ∀ w ∈ wsX80, w ∈ lw_all := lw_in wsX80 [1792, 1794, 1796, 1798, 1800] (by decide +kernel) (by decide +kernel)

/-! KernelGym$4 -/
def RX9 : String := "KernelGym$4"
def TX9 : u_T := fun k => match k with
  | 0 => ("KernelGym$4", "val$operand", "LKernelGym$Operand;", true)
  | _ => ("KernelGym$4", "this$0", "LKernelGym;", true)
def tyX9 : Nat → FieldType := fun k => match k with
  | 0 => .object "KernelGym$Operand"
  | _ => .object "KernelGym"
abbrev wsX90 : List Cond := u_ws RX9 TX9 2
theorem nmX9 : ∀ a, a < 2 → ∀ b, b < 2 → a ≠ b → (TX9 a).2.1 ≠ (TX9 b).2.1 := by decide +kernel
theorem tyX9_ok : ∀ k, k < 2 → parseFieldDescriptor (TX9 k).2.2.1 = some (tyX9 k) := by decide +kernel
abbrev cX9_go : ByteArray := prog_5_method_2_code
def yX9_go : MethodName := ⟨RX9, "go", "(LKernelGym$Pass;LKernelGym$Use;I)I"⟩
def dkwX9_go_0 : List UInt8 := [43, 43, 42, 180, 0, 7, 44, 29, 182, 0, 17, 29, 182, 0, 23, 29, 4, 96, 172]
abbrev dktX9_go_0 : List UInt8 := dkwX9_go_0 ++ []
theorem dksX9_go_0 : cX9_go.data.toList.drop 0 = dktX9_go_0 := by decide +kernel
theorem dX9_go_0 : decode cX9_go 0 = .ok (.aload_n 1, 1) := dk_43 (dk_at dksX9_go_0 0 rfl rfl)
theorem dX9_go_1 : decode cX9_go 1 = .ok (.aload_n 1, 1) := dk_43 (dk_at dksX9_go_0 1 rfl rfl)
theorem dX9_go_2 : decode cX9_go 2 = .ok (.aload_n 0, 1) := dk_42 (dk_at dksX9_go_0 2 rfl rfl)
theorem dX9_go_3 : decode cX9_go 3 = .ok (.getfield 7, 3) := dk_180 0 7 (dk_at dksX9_go_0 3 rfl rfl)
theorem dX9_go_6 : decode cX9_go 6 = .ok (.aload_n 2, 1) := dk_44 (dk_at dksX9_go_0 6 rfl rfl)
theorem dX9_go_7 : decode cX9_go 7 = .ok (.iload_n 3, 1) := dk_29 (dk_at dksX9_go_0 7 rfl rfl)
theorem dX9_go_8 : decode cX9_go 8 = .ok (.invokevirtual 17, 3) := dk_182 0 17 (dk_at dksX9_go_0 8 rfl rfl)
theorem dX9_go_11 : decode cX9_go 11 = .ok (.iload_n 3, 1) := dk_29 (dk_at dksX9_go_0 11 rfl rfl)
theorem dX9_go_12 : decode cX9_go 12 = .ok (.invokevirtual 23, 3) := dk_182 0 23 (dk_at dksX9_go_0 12 rfl rfl)
theorem dX9_go_15 : decode cX9_go 15 = .ok (.iload_n 3, 1) := dk_29 (dk_at dksX9_go_0 15 rfl rfl)
theorem dX9_go_16 : decode cX9_go 16 = .ok (.iconst 1, 1) := dk_4 (dk_at dksX9_go_0 16 rfl rfl)
theorem dX9_go_17 : decode cX9_go 17 = .ok (.iadd, 1) := dk_96 (dk_at dksX9_go_0 17 rfl rfl)
theorem dX9_go_18 : decode cX9_go 18 = .ok (.ireturn, 1) := dk_172 (dk_at dksX9_go_0 18 rfl rfl)
abbrev cX9_init : ByteArray := prog_5_method_1_code
def yX9_init : MethodName := ⟨RX9, "<init>", "(LKernelGym;LKernelGym$Operand;)V"⟩
def dkwX9_init_0 : List UInt8 := [42, 43, 181, 0, 1, 42, 44, 181, 0, 7, 42, 183, 0, 11, 177]
abbrev dktX9_init_0 : List UInt8 := dkwX9_init_0 ++ []
theorem dksX9_init_0 : cX9_init.data.toList.drop 0 = dktX9_init_0 := by decide +kernel
theorem dX9_init_0 : decode cX9_init 0 = .ok (.aload_n 0, 1) := dk_42 (dk_at dksX9_init_0 0 rfl rfl)
theorem dX9_init_1 : decode cX9_init 1 = .ok (.aload_n 1, 1) := dk_43 (dk_at dksX9_init_0 1 rfl rfl)
theorem dX9_init_2 : decode cX9_init 2 = .ok (.putfield 1, 3) := dk_181 0 1 (dk_at dksX9_init_0 2 rfl rfl)
theorem dX9_init_5 : decode cX9_init 5 = .ok (.aload_n 0, 1) := dk_42 (dk_at dksX9_init_0 5 rfl rfl)
theorem dX9_init_6 : decode cX9_init 6 = .ok (.aload_n 2, 1) := dk_44 (dk_at dksX9_init_0 6 rfl rfl)
theorem dX9_init_7 : decode cX9_init 7 = .ok (.putfield 7, 3) := dk_181 0 7 (dk_at dksX9_init_0 7 rfl rfl)
theorem dX9_init_10 : decode cX9_init 10 = .ok (.aload_n 0, 1) := dk_42 (dk_at dksX9_init_0 10 rfl rfl)
theorem dX9_init_11 : decode cX9_init 11 = .ok (.invokespecial 11, 3) := dk_183 0 11 (dk_at dksX9_init_0 11 rfl rfl)
theorem dX9_init_14 : decode cX9_init 14 = .ok (.return_, 1) := dk_177 (dk_at dksX9_init_0 14 rfl rfl)
theorem q142 : (Jvm.Cond.initialized "KernelGym$4") ∈ lw_all := lw_g (lw_at lw_m1 25 rfl) rfl
theorem q932 : (Jvm.Cond.selects "KernelGym$4" ({ cls := "KernelGym$Line", name := "go", desc := "(LKernelGym$Pass;LKernelGym$Use;I)I" } : Jvm.MethodName) ({ cls := "KernelGym$4", name := "go", desc := "(LKernelGym$Pass;LKernelGym$Use;I)I" } : Jvm.MethodName)) ∈ lw_all := lw_g (lw_at lw_m4 95 rfl) rfl
theorem q933 : (Jvm.Cond.instanceMethod ({ cls := "KernelGym$4", name := "go", desc := "(LKernelGym$Pass;LKernelGym$Use;I)I" } : Jvm.MethodName)) ∈ lw_all := lw_g (lw_at lw_m4 96 rfl) rfl
theorem q934 : (Jvm.Cond.code ({ cls := "KernelGym$4", name := "go", desc := "(LKernelGym$Pass;LKernelGym$Use;I)I" } : Jvm.MethodName) prog_5_method_2_code (4 : Nat) (Option.some Jvm.ClassFile.FieldType.int)) ∈ lw_all := lw_g (lw_at lw_m4 97 rfl) rfl
theorem q935 : (Jvm.Cond.methodLink "KernelGym$4" (17 : Nat) ({ cls := "KernelGym$Pass", name := "value", desc := "(LKernelGym$Operand;LKernelGym$Use;I)I" } : Jvm.MethodName)) ∈ lw_all := lw_g (lw_at lw_m4 98 rfl) rfl
theorem q936 : (Jvm.Cond.methodLink "KernelGym$4" (23 : Nat) ({ cls := "KernelGym$Pass", name := "take", desc := "(II)V" } : Jvm.MethodName)) ∈ lw_all := lw_g (lw_at lw_m4 99 rfl) rfl
theorem q971 : (Jvm.Cond.selects "KernelGym$4" ({ cls := "KernelGym$Line", name := "endsMacro", desc := "()Z" } : Jvm.MethodName) ({ cls := "KernelGym$Line", name := "endsMacro", desc := "()Z" } : Jvm.MethodName)) ∈ lw_all := lw_g (lw_at lw_m4 134 rfl) rfl
theorem q986 : (Jvm.Cond.selects "KernelGym$4" ({ cls := "KernelGym$Line", name := "beginsMacro", desc := "()Z" } : Jvm.MethodName) ({ cls := "KernelGym$Line", name := "beginsMacro", desc := "()Z" } : Jvm.MethodName)) ∈ lw_all := lw_g (lw_at lw_m4 149 rfl) rfl
theorem q1050 : (Jvm.Cond.selects "KernelGym$4" ({ cls := "java/lang/Object", name := "getClass", desc := "()Ljava/lang/Class;" } : Jvm.MethodName) ({ cls := "java/lang/Object", name := "getClass", desc := "()Ljava/lang/Class;" } : Jvm.MethodName)) ∈ lw_all := lw_g (lw_at lw_m4 213 rfl) rfl
theorem q1811 : (Jvm.Cond.instantiable "KernelGym$4" (2 : Nat)) ∈ lw_all := lw_g (lw_at lw_m8 14 rfl) rfl
theorem q1813 : (Jvm.Cond.instanceMethod ({ cls := "KernelGym$4", name := "<init>", desc := "(LKernelGym;LKernelGym$Operand;)V" } : Jvm.MethodName)) ∈ lw_all := lw_g (lw_at lw_m8 16 rfl) rfl
theorem q1814 : (Jvm.Cond.code ({ cls := "KernelGym$4", name := "<init>", desc := "(LKernelGym;LKernelGym$Operand;)V" } : Jvm.MethodName) prog_5_method_1_code (3 : Nat) (Option.none : Option Jvm.ClassFile.FieldType)) ∈ lw_all := lw_g (lw_at lw_m8 17 rfl) rfl
theorem q1815 : (Jvm.Cond.methodLinkNest "KernelGym$4" (11 : Nat) ({ cls := "KernelGym$Line", name := "<init>", desc := "()V" } : Jvm.MethodName) "KernelGym") ∈ lw_tbl := lw_at lw_m8 18 rfl
theorem q1816 : (Jvm.Cond.fieldLink "KernelGym$4" (7 : Nat) "KernelGym$4" "val$operand" "LKernelGym$Operand;") ∈ lw_all := lw_g (lw_at lw_m8 19 rfl) rfl
theorem q1817 : (Jvm.Cond.fieldLink "KernelGym$4" (1 : Nat) "KernelGym$4" "this$0" "LKernelGym;") ∈ lw_all := lw_g (lw_at lw_m8 20 rfl) rfl
theorem q1818 : (Jvm.Cond.laysFinal "KernelGym$4" "KernelGym$4" "val$operand" "LKernelGym$Operand;") ∈ lw_all := lw_g (lw_at lw_m8 21 rfl) rfl
theorem q1819 : (Jvm.Cond.soleField "KernelGym$4" "val$operand") ∈ lw_all := lw_g (lw_at lw_m8 22 rfl) rfl
theorem q1820 : (Jvm.Cond.laysFinal "KernelGym$4" "KernelGym$4" "this$0" "LKernelGym;") ∈ lw_all := lw_g (lw_at lw_m8 23 rfl) rfl
theorem q1821 : (Jvm.Cond.soleField "KernelGym$4" "this$0") ∈ lw_all := lw_g (lw_at lw_m8 24 rfl) rfl
theorem q1822 : (Jvm.Cond.superclass "KernelGym$4" "KernelGym$Line") ∈ lw_all := lw_g (lw_at lw_m8 25 rfl) rfl
theorem q3470 : (Jvm.Cond.castable "KernelGym$4" "KernelGym$Line") ∈ lw_tbl := lw_at lw_m14 233 rfl
theorem q3489 : (Jvm.Cond.castable "KernelGym$4" "java/lang/Object") ∈ lw_tbl := lw_at lw_m15 12 rfl
theorem in_X9 : ∀ w ∈ wsX90, w ∈ lw_all := lw_in wsX90 [1818, 1820] (by decide +kernel) (by decide +kernel)

theorem q592 : (Jvm.Cond.sameMethod "[B" "java/lang/Object" "clone" "()Ljava/lang/Object;") ∈ lw_all := lw_g (lw_at lw_m2 235 rfl) rfl
theorem q595 : (Jvm.Cond.selects "[B" ({ cls := "[B", name := "clone", desc := "()Ljava/lang/Object;" } : Jvm.MethodName) ({ cls := "java/lang/Object", name := "clone", desc := "()Ljava/lang/Object;" } : Jvm.MethodName)) ∈ lw_all := lw_g (lw_at lw_m2 238 rfl) rfl
theorem q596 : (Jvm.Cond.castable "[B" "java/lang/Cloneable") ∈ lw_tbl := lw_at lw_m2 239 rfl
theorem q3528 : (Jvm.Cond.castable "[B" "java/lang/Object") ∈ lw_tbl := lw_at lw_m15 51 rfl

theorem q3524 : (Jvm.Cond.castable "[I" "java/lang/Object") ∈ lw_tbl := lw_at lw_m15 47 rfl

theorem q1344 : (Jvm.Cond.sameMethod "[J" "java/lang/Object" "clone" "()Ljava/lang/Object;") ∈ lw_all := lw_g (lw_at lw_m6 27 rfl) rfl
theorem q1345 : (Jvm.Cond.selects "[J" ({ cls := "[J", name := "clone", desc := "()Ljava/lang/Object;" } : Jvm.MethodName) ({ cls := "java/lang/Object", name := "clone", desc := "()Ljava/lang/Object;" } : Jvm.MethodName)) ∈ lw_all := lw_g (lw_at lw_m6 28 rfl) rfl
theorem q1346 : (Jvm.Cond.castable "[J" "java/lang/Cloneable") ∈ lw_tbl := lw_at lw_m6 29 rfl
theorem q3529 : (Jvm.Cond.castable "[J" "java/lang/Object") ∈ lw_tbl := lw_at lw_m15 52 rfl

theorem q3521 : (Jvm.Cond.sameMethod "[Ljava/lang/Object;" "java/lang/Object" "getClass" "()Ljava/lang/Class;") ∈ lw_all := lw_g (lw_at lw_m15 44 rfl) rfl
theorem q3522 : (Jvm.Cond.selects "[Ljava/lang/Object;" ({ cls := "java/lang/Object", name := "getClass", desc := "()Ljava/lang/Class;" } : Jvm.MethodName) ({ cls := "java/lang/Object", name := "getClass", desc := "()Ljava/lang/Class;" } : Jvm.MethodName)) ∈ lw_all := lw_g (lw_at lw_m15 45 rfl) rfl
theorem q3525 : (Jvm.Cond.castable "[Ljava/lang/Object;" "java/lang/Object") ∈ lw_tbl := lw_at lw_m15 48 rfl

theorem q3527 : (Jvm.Cond.castable "[Z" "java/lang/Object") ∈ lw_tbl := lw_at lw_m15 50 rfl

theorem q3526 : (Jvm.Cond.castable "[[I" "java/lang/Object") ∈ lw_tbl := lw_at lw_m15 49 rfl

theorem q177 : (Jvm.Cond.initialized "java/lang/Integer$IntegerCache") ∈ lw_all := lw_g (lw_at lw_m1 60 rfl) rfl
theorem q2630 : (Jvm.Cond.laysStatic "java/lang/Integer$IntegerCache" "high" "I") ∈ lw_tbl := lw_at lw_m11 113 rfl
theorem q2632 : (Jvm.Cond.laysStatic "java/lang/Integer$IntegerCache" "cache" "[Ljava/lang/Integer;") ∈ lw_tbl := lw_at lw_m11 115 rfl

theorem q137 : (Jvm.Cond.initialized "java/lang/System") ∈ lw_all := lw_g (lw_at lw_m1 20 rfl) rfl
theorem q602 : (Jvm.Cond.static ({ cls := "java/lang/System", name := "arraycopy", desc := "(Ljava/lang/Object;ILjava/lang/Object;II)V" } : Jvm.MethodName)) ∈ lw_all := lw_g (lw_at lw_m3 5 rfl) rfl
theorem q603 : (Jvm.Cond.native ({ cls := "java/lang/System", name := "arraycopy", desc := "(Ljava/lang/Object;ILjava/lang/Object;II)V" } : Jvm.MethodName)) ∈ lw_all := lw_g (lw_at lw_m3 6 rfl) rfl

theorem q1497 : (Jvm.Cond.interfaceMethod "java/util/Iterator" "java/util/Iterator" "hasNext" "()Z") ∈ lw_tbl := lw_at lw_m6 180 rfl
theorem q1498 : (Jvm.Cond.declares ({ cls := "java/util/Iterator", name := "hasNext", desc := "()Z" } : Jvm.MethodName)) ∈ lw_tbl := lw_at lw_m6 181 rfl
theorem q1533 : (Jvm.Cond.interfaceMethod "java/util/Iterator" "java/util/Iterator" "next" "()Ljava/lang/Object;") ∈ lw_tbl := lw_at lw_m6 216 rfl
theorem q1534 : (Jvm.Cond.declares ({ cls := "java/util/Iterator", name := "next", desc := "()Ljava/lang/Object;" } : Jvm.MethodName)) ∈ lw_tbl := lw_at lw_m6 217 rfl

theorem q347 : (Jvm.Cond.interfaceMethod "java/util/List" "java/util/List" "size" "()I") ∈ lw_tbl := lw_at lw_m1 230 rfl
theorem q348 : (Jvm.Cond.declares ({ cls := "java/util/List", name := "size", desc := "()I" } : Jvm.MethodName)) ∈ lw_tbl := lw_at lw_m1 231 rfl
theorem q363 : (Jvm.Cond.interfaceMethod "java/util/List" "java/util/List" "clear" "()V") ∈ lw_tbl := lw_at lw_m2 6 rfl
theorem q364 : (Jvm.Cond.declares ({ cls := "java/util/List", name := "clear", desc := "()V" } : Jvm.MethodName)) ∈ lw_tbl := lw_at lw_m2 7 rfl
theorem q817 : (Jvm.Cond.interfaceMethod "java/util/List" "java/util/List" "get" "(I)Ljava/lang/Object;") ∈ lw_tbl := lw_at lw_m3 220 rfl
theorem q818 : (Jvm.Cond.declares ({ cls := "java/util/List", name := "get", desc := "(I)Ljava/lang/Object;" } : Jvm.MethodName)) ∈ lw_tbl := lw_at lw_m3 221 rfl
theorem q1020 : (Jvm.Cond.interfaceMethod "java/util/List" "java/util/List" "add" "(Ljava/lang/Object;)Z") ∈ lw_tbl := lw_at lw_m4 183 rfl
theorem q1021 : (Jvm.Cond.declares ({ cls := "java/util/List", name := "add", desc := "(Ljava/lang/Object;)Z" } : Jvm.MethodName)) ∈ lw_tbl := lw_at lw_m4 184 rfl
theorem q1380 : (Jvm.Cond.interfaceMethod "java/util/List" "java/util/List" "iterator" "()Ljava/util/Iterator;") ∈ lw_tbl := lw_at lw_m6 63 rfl
theorem q1381 : (Jvm.Cond.declares ({ cls := "java/util/List", name := "iterator", desc := "()Ljava/util/Iterator;" } : Jvm.MethodName)) ∈ lw_tbl := lw_at lw_m6 64 rfl

theorem q2337 : (Jvm.Cond.interfaceMethod "java/util/ListIterator" "java/util/ListIterator" "hasPrevious" "()Z") ∈ lw_tbl := lw_at lw_m10 60 rfl
theorem q2338 : (Jvm.Cond.declares ({ cls := "java/util/ListIterator", name := "hasPrevious", desc := "()Z" } : Jvm.MethodName)) ∈ lw_tbl := lw_at lw_m10 61 rfl
theorem q2359 : (Jvm.Cond.interfaceMethod "java/util/ListIterator" "java/util/ListIterator" "previous" "()Ljava/lang/Object;") ∈ lw_tbl := lw_at lw_m10 82 rfl
theorem q2360 : (Jvm.Cond.declares ({ cls := "java/util/ListIterator", name := "previous", desc := "()Ljava/lang/Object;" } : Jvm.MethodName)) ∈ lw_tbl := lw_at lw_m10 83 rfl
theorem q2392 : (Jvm.Cond.interfaceMethod "java/util/ListIterator" "java/util/ListIterator" "next" "()Ljava/lang/Object;") ∈ lw_tbl := lw_at lw_m10 115 rfl
theorem q2393 : (Jvm.Cond.declares ({ cls := "java/util/ListIterator", name := "next", desc := "()Ljava/lang/Object;" } : Jvm.MethodName)) ∈ lw_tbl := lw_at lw_m10 116 rfl
theorem q2413 : (Jvm.Cond.interfaceMethod "java/util/ListIterator" "java/util/ListIterator" "add" "(Ljava/lang/Object;)V") ∈ lw_tbl := lw_at lw_m10 136 rfl
theorem q2414 : (Jvm.Cond.declares ({ cls := "java/util/ListIterator", name := "add", desc := "(Ljava/lang/Object;)V" } : Jvm.MethodName)) ∈ lw_tbl := lw_at lw_m10 137 rfl

theorem q255 : (Jvm.Cond.arrayClass Jvm.ClassFile.FieldType.int) ∈ lw_all := lw_g (lw_at lw_m1 138 rfl) rfl
theorem q263 : (Jvm.Cond.arrayOver (Jvm.ClassFile.FieldType.object "java/lang/Object")) ∈ lw_tbl := lw_at lw_m1 146 rfl
theorem q278 : (Jvm.Cond.arrayOver (Jvm.ClassFile.FieldType.array Jvm.ClassFile.FieldType.int)) ∈ lw_tbl := lw_at lw_m1 161 rfl
theorem q464 : (Jvm.Cond.arrayClass Jvm.ClassFile.FieldType.boolean) ∈ lw_all := lw_g (lw_at lw_m2 107 rfl) rfl
theorem q556 : (Jvm.Cond.arrayClass Jvm.ClassFile.FieldType.byte) ∈ lw_all := lw_g (lw_at lw_m2 199 rfl) rfl
theorem q1312 : (Jvm.Cond.arrayClass Jvm.ClassFile.FieldType.long) ∈ lw_all := lw_g (lw_at lw_m5 235 rfl) rfl

