set_option maxRecDepth 100000
/-! KernelGym$NoAddress -/
def RX23 : String := "KernelGym$NoAddress"
def TX23 : u_T := fun k => match k with
  | 0 => ("java/lang/Throwable", "cause", "Ljava/lang/Throwable;", false)
  | 1 => ("java/lang/Throwable", "stackTrace", "[Ljava/lang/StackTraceElement;", false)
  | 2 => ("java/lang/Throwable", "suppressedExceptions", "Ljava/util/List;", false)
  | 3 => ("java/lang/Throwable", "detailMessage", "Ljava/lang/String;", false)
  | 4 => ("java/lang/Throwable", "backtrace", "Ljava/lang/Object;", false)
  | _ => ("java/lang/Throwable", "depth", "I", false)
def tyX23 : Nat → FieldType := fun k => match k with
  | 0 => .object "java/lang/Throwable"
  | 1 => .array (.object "java/lang/StackTraceElement")
  | 2 => .object "java/util/List"
  | 3 => .object "java/lang/String"
  | 4 => .object "java/lang/Object"
  | _ => .int
abbrev wsX230 : List Cond := u_ws RX23 TX23 6
theorem nmX23 : ∀ a, a < 6 → ∀ b, b < 6 → a ≠ b → (TX23 a).2.1 ≠ (TX23 b).2.1 := by decide +kernel
theorem tyX23_ok : ∀ k, k < 6 → parseFieldDescriptor (TX23 k).2.2.1 = some (tyX23 k) := by decide +kernel
abbrev cX23_init : ByteArray := prog_17_method_1_code
def yX23_init : MethodName := ⟨RX23, "<init>", "(I)V"⟩
def dkwX23_init_0 : List UInt8 := [42, 187, 0, 1, 89, 183, 0, 3, 18, 7, 182, 0, 9, 27, 182, 0, 13, 182, 0, 16, 183, 0, 20, 177]
abbrev dktX23_init_0 : List UInt8 := dkwX23_init_0 ++ []
theorem dksX23_init_0 : cX23_init.data.toList.drop 0 = dktX23_init_0 := by decide +kernel
theorem dX23_init_0 : decode cX23_init 0 = .ok (.aload_n 0, 1) := dk_42 (dk_at dksX23_init_0 0 rfl rfl)
theorem dX23_init_1 : decode cX23_init 1 = .ok (.new 1, 3) := dk_187 0 1 (dk_at dksX23_init_0 1 rfl rfl)
theorem dX23_init_4 : decode cX23_init 4 = .ok (.dup, 1) := dk_89 (dk_at dksX23_init_0 4 rfl rfl)
theorem dX23_init_5 : decode cX23_init 5 = .ok (.invokespecial 3, 3) := dk_183 0 3 (dk_at dksX23_init_0 5 rfl rfl)
theorem dX23_init_8 : decode cX23_init 8 = .ok (.ldc 7, 2) := dk_18 7 (dk_at dksX23_init_0 8 rfl rfl)
theorem dX23_init_10 : decode cX23_init 10 = .ok (.invokevirtual 9, 3) := dk_182 0 9 (dk_at dksX23_init_0 10 rfl rfl)
theorem dX23_init_13 : decode cX23_init 13 = .ok (.iload_n 1, 1) := dk_27 (dk_at dksX23_init_0 13 rfl rfl)
theorem dX23_init_14 : decode cX23_init 14 = .ok (.invokevirtual 13, 3) := dk_182 0 13 (dk_at dksX23_init_0 14 rfl rfl)
theorem dX23_init_17 : decode cX23_init 17 = .ok (.invokevirtual 16, 3) := dk_182 0 16 (dk_at dksX23_init_0 17 rfl rfl)
theorem dX23_init_20 : decode cX23_init 20 = .ok (.invokespecial 20, 3) := dk_183 0 20 (dk_at dksX23_init_0 20 rfl rfl)
theorem dX23_init_23 : decode cX23_init 23 = .ok (.return_, 1) := dk_177 (dk_at dksX23_init_0 23 rfl rfl)
theorem q167 : (Jvm.Cond.initialized "KernelGym$NoAddress") ∈ lw_all := lw_g (lw_at lw_m1 50 rfl) rfl
theorem q506 : (Jvm.Cond.selects "KernelGym$NoAddress" ({ cls := "java/lang/Throwable", name := "fillInStackTrace", desc := "()Ljava/lang/Throwable;" } : Jvm.MethodName) ({ cls := "java/lang/Throwable", name := "fillInStackTrace", desc := "()Ljava/lang/Throwable;" } : Jvm.MethodName)) ∈ lw_all := lw_g (lw_at lw_m2 149 rfl) rfl
theorem q1061 : (Jvm.Cond.selects "KernelGym$NoAddress" ({ cls := "java/lang/Object", name := "getClass", desc := "()Ljava/lang/Class;" } : Jvm.MethodName) ({ cls := "java/lang/Object", name := "getClass", desc := "()Ljava/lang/Class;" } : Jvm.MethodName)) ∈ lw_all := lw_g (lw_at lw_m4 224 rfl) rfl
theorem q1574 : (Jvm.Cond.selects "KernelGym$NoAddress" ({ cls := "java/lang/Throwable", name := "toString", desc := "()Ljava/lang/String;" } : Jvm.MethodName) ({ cls := "java/lang/Throwable", name := "toString", desc := "()Ljava/lang/String;" } : Jvm.MethodName)) ∈ lw_all := lw_g (lw_at lw_m7 17 rfl) rfl
theorem q1590 : (Jvm.Cond.selects "KernelGym$NoAddress" ({ cls := "java/lang/Throwable", name := "getLocalizedMessage", desc := "()Ljava/lang/String;" } : Jvm.MethodName) ({ cls := "java/lang/Throwable", name := "getLocalizedMessage", desc := "()Ljava/lang/String;" } : Jvm.MethodName)) ∈ lw_all := lw_g (lw_at lw_m7 33 rfl) rfl
theorem q1605 : (Jvm.Cond.selects "KernelGym$NoAddress" ({ cls := "java/lang/Throwable", name := "getMessage", desc := "()Ljava/lang/String;" } : Jvm.MethodName) ({ cls := "java/lang/Throwable", name := "getMessage", desc := "()Ljava/lang/String;" } : Jvm.MethodName)) ∈ lw_all := lw_g (lw_at lw_m7 48 rfl) rfl
theorem q2151 : (Jvm.Cond.instantiable "KernelGym$NoAddress" (6 : Nat)) ∈ lw_all := lw_g (lw_at lw_m9 114 rfl) rfl
theorem q2152 : (Jvm.Cond.castable "KernelGym$NoAddress" "KernelGym$NoAddress") ∈ lw_tbl := lw_at lw_m9 115 rfl
theorem q2153 : (Jvm.Cond.selects "KernelGym$NoAddress" ({ cls := "java/lang/Throwable", name := "fillInStackTrace", desc := "(I)Ljava/lang/Throwable;" } : Jvm.MethodName) ({ cls := "java/lang/Throwable", name := "fillInStackTrace", desc := "(I)Ljava/lang/Throwable;" } : Jvm.MethodName)) ∈ lw_all := lw_g (lw_at lw_m9 116 rfl) rfl
theorem q2154 : (Jvm.Cond.lays "KernelGym$NoAddress" "java/lang/Throwable" "cause" "Ljava/lang/Throwable;") ∈ lw_all := lw_g (lw_at lw_m9 117 rfl) rfl
theorem q2155 : (Jvm.Cond.lays "KernelGym$NoAddress" "java/lang/Throwable" "stackTrace" "[Ljava/lang/StackTraceElement;") ∈ lw_all := lw_g (lw_at lw_m9 118 rfl) rfl
theorem q2156 : (Jvm.Cond.lays "KernelGym$NoAddress" "java/lang/Throwable" "suppressedExceptions" "Ljava/util/List;") ∈ lw_all := lw_g (lw_at lw_m9 119 rfl) rfl
theorem q2157 : (Jvm.Cond.lays "KernelGym$NoAddress" "java/lang/Throwable" "detailMessage" "Ljava/lang/String;") ∈ lw_all := lw_g (lw_at lw_m9 120 rfl) rfl
theorem q2158 : (Jvm.Cond.lays "KernelGym$NoAddress" "java/lang/Throwable" "backtrace" "Ljava/lang/Object;") ∈ lw_all := lw_g (lw_at lw_m9 121 rfl) rfl
theorem q2160 : (Jvm.Cond.instanceMethod ({ cls := "KernelGym$NoAddress", name := "<init>", desc := "(I)V" } : Jvm.MethodName)) ∈ lw_all := lw_g (lw_at lw_m9 123 rfl) rfl
theorem q2161 : (Jvm.Cond.code ({ cls := "KernelGym$NoAddress", name := "<init>", desc := "(I)V" } : Jvm.MethodName) prog_17_method_1_code (2 : Nat) (Option.none : Option Jvm.ClassFile.FieldType)) ∈ lw_all := lw_g (lw_at lw_m9 124 rfl) rfl
theorem q2162 : (Jvm.Cond.classLink "KernelGym$NoAddress" (1 : Nat) "java/lang/StringBuilder") ∈ lw_all := lw_g (lw_at lw_m9 125 rfl) rfl
theorem q2163 : (Jvm.Cond.methodLink "KernelGym$NoAddress" (3 : Nat) ({ cls := "java/lang/StringBuilder", name := "<init>", desc := "()V" } : Jvm.MethodName)) ∈ lw_all := lw_g (lw_at lw_m9 126 rfl) rfl
theorem q2164 : (Jvm.Cond.stringRef "KernelGym$NoAddress" (7 : Nat) "no address ") ∈ lw_tbl := lw_at lw_m9 127 rfl
theorem q2165 : (Jvm.Cond.methodLink "KernelGym$NoAddress" (9 : Nat) ({ cls := "java/lang/StringBuilder", name := "append", desc := "(Ljava/lang/String;)Ljava/lang/StringBuilder;" } : Jvm.MethodName)) ∈ lw_all := lw_g (lw_at lw_m9 128 rfl) rfl
theorem q2166 : (Jvm.Cond.methodLink "KernelGym$NoAddress" (13 : Nat) ({ cls := "java/lang/StringBuilder", name := "append", desc := "(I)Ljava/lang/StringBuilder;" } : Jvm.MethodName)) ∈ lw_all := lw_g (lw_at lw_m9 129 rfl) rfl
theorem q2167 : (Jvm.Cond.methodLink "KernelGym$NoAddress" (16 : Nat) ({ cls := "java/lang/StringBuilder", name := "toString", desc := "()Ljava/lang/String;" } : Jvm.MethodName)) ∈ lw_all := lw_g (lw_at lw_m9 130 rfl) rfl
theorem q2168 : (Jvm.Cond.methodLink "KernelGym$NoAddress" (20 : Nat) ({ cls := "java/lang/Exception", name := "<init>", desc := "(Ljava/lang/String;)V" } : Jvm.MethodName)) ∈ lw_all := lw_g (lw_at lw_m9 131 rfl) rfl
theorem q2169 : (Jvm.Cond.lays "KernelGym$NoAddress" "java/lang/Throwable" "depth" "I") ∈ lw_all := lw_g (lw_at lw_m9 132 rfl) rfl
theorem q2170 : (Jvm.Cond.superclass "KernelGym$NoAddress" "java/lang/Exception") ∈ lw_all := lw_g (lw_at lw_m9 133 rfl) rfl
theorem q3506 : (Jvm.Cond.castable "KernelGym$NoAddress" "java/lang/Object") ∈ lw_tbl := lw_at lw_m15 29 rfl
theorem in_X23 : ∀ w ∈ wsX230, w ∈ lw_all := lw_in wsX230 [2154, 2155, 2156, 2157, 2158, 2169] (by decide +kernel) (by decide +kernel)

/-! KernelGym$NoOperation -/
def RX24 : String := "KernelGym$NoOperation"
def TX24 : u_T := fun k => match k with
  | 0 => ("java/lang/Throwable", "cause", "Ljava/lang/Throwable;", false)
  | 1 => ("java/lang/Throwable", "stackTrace", "[Ljava/lang/StackTraceElement;", false)
  | 2 => ("java/lang/Throwable", "suppressedExceptions", "Ljava/util/List;", false)
  | 3 => ("java/lang/Throwable", "detailMessage", "Ljava/lang/String;", false)
  | 4 => ("java/lang/Throwable", "backtrace", "Ljava/lang/Object;", false)
  | _ => ("java/lang/Throwable", "depth", "I", false)
def tyX24 : Nat → FieldType := fun k => match k with
  | 0 => .object "java/lang/Throwable"
  | 1 => .array (.object "java/lang/StackTraceElement")
  | 2 => .object "java/util/List"
  | 3 => .object "java/lang/String"
  | 4 => .object "java/lang/Object"
  | _ => .int
abbrev wsX240 : List Cond := u_ws RX24 TX24 6
theorem nmX24 : ∀ a, a < 6 → ∀ b, b < 6 → a ≠ b → (TX24 a).2.1 ≠ (TX24 b).2.1 := by decide +kernel
theorem tyX24_ok : ∀ k, k < 6 → parseFieldDescriptor (TX24 k).2.2.1 = some (tyX24 k) := by decide +kernel
abbrev cX24_init : ByteArray := prog_18_method_1_code
def yX24_init : MethodName := ⟨RX24, "<init>", "(I)V"⟩
def dkwX24_init_0 : List UInt8 := [42, 187, 0, 1, 89, 183, 0, 3, 18, 7, 182, 0, 9, 27, 182, 0, 13, 182, 0, 16, 183, 0, 20, 177]
abbrev dktX24_init_0 : List UInt8 := dkwX24_init_0 ++ []
theorem dksX24_init_0 : cX24_init.data.toList.drop 0 = dktX24_init_0 := by decide +kernel
theorem dX24_init_0 : decode cX24_init 0 = .ok (.aload_n 0, 1) := dk_42 (dk_at dksX24_init_0 0 rfl rfl)
theorem dX24_init_1 : decode cX24_init 1 = .ok (.new 1, 3) := dk_187 0 1 (dk_at dksX24_init_0 1 rfl rfl)
theorem dX24_init_4 : decode cX24_init 4 = .ok (.dup, 1) := dk_89 (dk_at dksX24_init_0 4 rfl rfl)
theorem dX24_init_5 : decode cX24_init 5 = .ok (.invokespecial 3, 3) := dk_183 0 3 (dk_at dksX24_init_0 5 rfl rfl)
theorem dX24_init_8 : decode cX24_init 8 = .ok (.ldc 7, 2) := dk_18 7 (dk_at dksX24_init_0 8 rfl rfl)
theorem dX24_init_10 : decode cX24_init 10 = .ok (.invokevirtual 9, 3) := dk_182 0 9 (dk_at dksX24_init_0 10 rfl rfl)
theorem dX24_init_13 : decode cX24_init 13 = .ok (.iload_n 1, 1) := dk_27 (dk_at dksX24_init_0 13 rfl rfl)
theorem dX24_init_14 : decode cX24_init 14 = .ok (.invokevirtual 13, 3) := dk_182 0 13 (dk_at dksX24_init_0 14 rfl rfl)
theorem dX24_init_17 : decode cX24_init 17 = .ok (.invokevirtual 16, 3) := dk_182 0 16 (dk_at dksX24_init_0 17 rfl rfl)
theorem dX24_init_20 : decode cX24_init 20 = .ok (.invokespecial 20, 3) := dk_183 0 20 (dk_at dksX24_init_0 20 rfl rfl)
theorem dX24_init_23 : decode cX24_init 23 = .ok (.return_, 1) := dk_177 (dk_at dksX24_init_0 23 rfl rfl)
theorem q168 : (Jvm.Cond.initialized "KernelGym$NoOperation") ∈ lw_all := lw_g (lw_at lw_m1 51 rfl) rfl
theorem q507 : (Jvm.Cond.selects "KernelGym$NoOperation" ({ cls := "java/lang/Throwable", name := "fillInStackTrace", desc := "()Ljava/lang/Throwable;" } : Jvm.MethodName) ({ cls := "java/lang/Throwable", name := "fillInStackTrace", desc := "()Ljava/lang/Throwable;" } : Jvm.MethodName)) ∈ lw_all := lw_g (lw_at lw_m2 150 rfl) rfl
theorem q1062 : (Jvm.Cond.selects "KernelGym$NoOperation" ({ cls := "java/lang/Object", name := "getClass", desc := "()Ljava/lang/Class;" } : Jvm.MethodName) ({ cls := "java/lang/Object", name := "getClass", desc := "()Ljava/lang/Class;" } : Jvm.MethodName)) ∈ lw_all := lw_g (lw_at lw_m4 225 rfl) rfl
theorem q1575 : (Jvm.Cond.selects "KernelGym$NoOperation" ({ cls := "java/lang/Throwable", name := "toString", desc := "()Ljava/lang/String;" } : Jvm.MethodName) ({ cls := "java/lang/Throwable", name := "toString", desc := "()Ljava/lang/String;" } : Jvm.MethodName)) ∈ lw_all := lw_g (lw_at lw_m7 18 rfl) rfl
theorem q1591 : (Jvm.Cond.selects "KernelGym$NoOperation" ({ cls := "java/lang/Throwable", name := "getLocalizedMessage", desc := "()Ljava/lang/String;" } : Jvm.MethodName) ({ cls := "java/lang/Throwable", name := "getLocalizedMessage", desc := "()Ljava/lang/String;" } : Jvm.MethodName)) ∈ lw_all := lw_g (lw_at lw_m7 34 rfl) rfl
theorem q1606 : (Jvm.Cond.selects "KernelGym$NoOperation" ({ cls := "java/lang/Throwable", name := "getMessage", desc := "()Ljava/lang/String;" } : Jvm.MethodName) ({ cls := "java/lang/Throwable", name := "getMessage", desc := "()Ljava/lang/String;" } : Jvm.MethodName)) ∈ lw_all := lw_g (lw_at lw_m7 49 rfl) rfl
theorem q2171 : (Jvm.Cond.instantiable "KernelGym$NoOperation" (6 : Nat)) ∈ lw_all := lw_g (lw_at lw_m9 134 rfl) rfl
theorem q2172 : (Jvm.Cond.castable "KernelGym$NoOperation" "KernelGym$NoOperation") ∈ lw_tbl := lw_at lw_m9 135 rfl
theorem q2173 : (Jvm.Cond.selects "KernelGym$NoOperation" ({ cls := "java/lang/Throwable", name := "fillInStackTrace", desc := "(I)Ljava/lang/Throwable;" } : Jvm.MethodName) ({ cls := "java/lang/Throwable", name := "fillInStackTrace", desc := "(I)Ljava/lang/Throwable;" } : Jvm.MethodName)) ∈ lw_all := lw_g (lw_at lw_m9 136 rfl) rfl
theorem q2174 : (Jvm.Cond.lays "KernelGym$NoOperation" "java/lang/Throwable" "cause" "Ljava/lang/Throwable;") ∈ lw_all := lw_g (lw_at lw_m9 137 rfl) rfl
theorem q2175 : (Jvm.Cond.lays "KernelGym$NoOperation" "java/lang/Throwable" "stackTrace" "[Ljava/lang/StackTraceElement;") ∈ lw_all := lw_g (lw_at lw_m9 138 rfl) rfl
theorem q2176 : (Jvm.Cond.lays "KernelGym$NoOperation" "java/lang/Throwable" "suppressedExceptions" "Ljava/util/List;") ∈ lw_all := lw_g (lw_at lw_m9 139 rfl) rfl
theorem q2177 : (Jvm.Cond.lays "KernelGym$NoOperation" "java/lang/Throwable" "detailMessage" "Ljava/lang/String;") ∈ lw_all := lw_g (lw_at lw_m9 140 rfl) rfl
theorem q2178 : (Jvm.Cond.lays "KernelGym$NoOperation" "java/lang/Throwable" "backtrace" "Ljava/lang/Object;") ∈ lw_all := lw_g (lw_at lw_m9 141 rfl) rfl
theorem q2180 : (Jvm.Cond.instanceMethod ({ cls := "KernelGym$NoOperation", name := "<init>", desc := "(I)V" } : Jvm.MethodName)) ∈ lw_all := lw_g (lw_at lw_m9 143 rfl) rfl
theorem q2181 : (Jvm.Cond.code ({ cls := "KernelGym$NoOperation", name := "<init>", desc := "(I)V" } : Jvm.MethodName) prog_18_method_1_code (2 : Nat) (Option.none : Option Jvm.ClassFile.FieldType)) ∈ lw_all := lw_g (lw_at lw_m9 144 rfl) rfl
theorem q2182 : (Jvm.Cond.classLink "KernelGym$NoOperation" (1 : Nat) "java/lang/StringBuilder") ∈ lw_all := lw_g (lw_at lw_m9 145 rfl) rfl
theorem q2183 : (Jvm.Cond.methodLink "KernelGym$NoOperation" (3 : Nat) ({ cls := "java/lang/StringBuilder", name := "<init>", desc := "()V" } : Jvm.MethodName)) ∈ lw_all := lw_g (lw_at lw_m9 146 rfl) rfl
theorem q2184 : (Jvm.Cond.stringRef "KernelGym$NoOperation" (7 : Nat) "no operation ") ∈ lw_tbl := lw_at lw_m9 147 rfl
theorem q2185 : (Jvm.Cond.methodLink "KernelGym$NoOperation" (9 : Nat) ({ cls := "java/lang/StringBuilder", name := "append", desc := "(Ljava/lang/String;)Ljava/lang/StringBuilder;" } : Jvm.MethodName)) ∈ lw_all := lw_g (lw_at lw_m9 148 rfl) rfl
theorem q2186 : (Jvm.Cond.methodLink "KernelGym$NoOperation" (13 : Nat) ({ cls := "java/lang/StringBuilder", name := "append", desc := "(I)Ljava/lang/StringBuilder;" } : Jvm.MethodName)) ∈ lw_all := lw_g (lw_at lw_m9 149 rfl) rfl
theorem q2187 : (Jvm.Cond.methodLink "KernelGym$NoOperation" (16 : Nat) ({ cls := "java/lang/StringBuilder", name := "toString", desc := "()Ljava/lang/String;" } : Jvm.MethodName)) ∈ lw_all := lw_g (lw_at lw_m9 150 rfl) rfl
theorem q2188 : (Jvm.Cond.methodLink "KernelGym$NoOperation" (20 : Nat) ({ cls := "java/lang/Exception", name := "<init>", desc := "(Ljava/lang/String;)V" } : Jvm.MethodName)) ∈ lw_all := lw_g (lw_at lw_m9 151 rfl) rfl
theorem q2189 : (Jvm.Cond.lays "KernelGym$NoOperation" "java/lang/Throwable" "depth" "I") ∈ lw_all := lw_g (lw_at lw_m9 152 rfl) rfl
theorem q2190 : (Jvm.Cond.superclass "KernelGym$NoOperation" "java/lang/Exception") ∈ lw_all := lw_g (lw_at lw_m9 153 rfl) rfl
theorem q3507 : (Jvm.Cond.castable "KernelGym$NoOperation" "java/lang/Object") ∈ lw_tbl := lw_at lw_m15 30 rfl
theorem in_X24 : ∀ w ∈ wsX240, w ∈ lw_all := lw_in wsX240 [2174, 2175, 2176, 2177, 2178, 2189] (by decide +kernel) (by decide +kernel)

/-! KernelGym$NoTape -/
def RX25 : String := "KernelGym$NoTape"
def TX25 : u_T := fun k => match k with
  | 0 => ("java/lang/Throwable", "cause", "Ljava/lang/Throwable;", false)
  | 1 => ("java/lang/Throwable", "stackTrace", "[Ljava/lang/StackTraceElement;", false)
  | 2 => ("java/lang/Throwable", "suppressedExceptions", "Ljava/util/List;", false)
  | 3 => ("java/lang/Throwable", "detailMessage", "Ljava/lang/String;", false)
  | 4 => ("java/lang/Throwable", "backtrace", "Ljava/lang/Object;", false)
  | _ => ("java/lang/Throwable", "depth", "I", false)
def tyX25 : Nat → FieldType := fun k => match k with
  | 0 => .object "java/lang/Throwable"
  | 1 => .array (.object "java/lang/StackTraceElement")
  | 2 => .object "java/util/List"
  | 3 => .object "java/lang/String"
  | 4 => .object "java/lang/Object"
  | _ => .int
abbrev wsX250 : List Cond := u_ws RX25 TX25 6
theorem nmX25 : ∀ a, a < 6 → ∀ b, b < 6 → a ≠ b → (TX25 a).2.1 ≠ (TX25 b).2.1 := by decide +kernel
theorem tyX25_ok : ∀ k, k < 6 → parseFieldDescriptor (TX25 k).2.2.1 = some (tyX25 k) := by decide +kernel
abbrev cX25_init : ByteArray := prog_20_method_1_code
def yX25_init : MethodName := ⟨RX25, "<init>", "()V"⟩
def dkwX25_init_0 : List UInt8 := [42, 18, 1, 183, 0, 3, 177]
abbrev dktX25_init_0 : List UInt8 := dkwX25_init_0 ++ []
theorem dksX25_init_0 : cX25_init.data.toList.drop 0 = dktX25_init_0 := by decide +kernel
theorem dX25_init_0 : decode cX25_init 0 = .ok (.aload_n 0, 1) := dk_42 (dk_at dksX25_init_0 0 rfl rfl)
theorem dX25_init_1 : decode cX25_init 1 = .ok (.ldc 1, 2) := dk_18 1 (dk_at dksX25_init_0 1 rfl rfl)
theorem dX25_init_3 : decode cX25_init 3 = .ok (.invokespecial 3, 3) := dk_183 0 3 (dk_at dksX25_init_0 3 rfl rfl)
theorem dX25_init_6 : decode cX25_init 6 = .ok (.return_, 1) := dk_177 (dk_at dksX25_init_0 6 rfl rfl)
theorem q169 : (Jvm.Cond.initialized "KernelGym$NoTape") ∈ lw_all := lw_g (lw_at lw_m1 52 rfl) rfl
theorem q509 : (Jvm.Cond.selects "KernelGym$NoTape" ({ cls := "java/lang/Throwable", name := "fillInStackTrace", desc := "()Ljava/lang/Throwable;" } : Jvm.MethodName) ({ cls := "java/lang/Throwable", name := "fillInStackTrace", desc := "()Ljava/lang/Throwable;" } : Jvm.MethodName)) ∈ lw_all := lw_g (lw_at lw_m2 152 rfl) rfl
theorem q1064 : (Jvm.Cond.selects "KernelGym$NoTape" ({ cls := "java/lang/Object", name := "getClass", desc := "()Ljava/lang/Class;" } : Jvm.MethodName) ({ cls := "java/lang/Object", name := "getClass", desc := "()Ljava/lang/Class;" } : Jvm.MethodName)) ∈ lw_all := lw_g (lw_at lw_m4 227 rfl) rfl
theorem q1577 : (Jvm.Cond.selects "KernelGym$NoTape" ({ cls := "java/lang/Throwable", name := "toString", desc := "()Ljava/lang/String;" } : Jvm.MethodName) ({ cls := "java/lang/Throwable", name := "toString", desc := "()Ljava/lang/String;" } : Jvm.MethodName)) ∈ lw_all := lw_g (lw_at lw_m7 20 rfl) rfl
theorem q1593 : (Jvm.Cond.selects "KernelGym$NoTape" ({ cls := "java/lang/Throwable", name := "getLocalizedMessage", desc := "()Ljava/lang/String;" } : Jvm.MethodName) ({ cls := "java/lang/Throwable", name := "getLocalizedMessage", desc := "()Ljava/lang/String;" } : Jvm.MethodName)) ∈ lw_all := lw_g (lw_at lw_m7 36 rfl) rfl
theorem q1608 : (Jvm.Cond.selects "KernelGym$NoTape" ({ cls := "java/lang/Throwable", name := "getMessage", desc := "()Ljava/lang/String;" } : Jvm.MethodName) ({ cls := "java/lang/Throwable", name := "getMessage", desc := "()Ljava/lang/String;" } : Jvm.MethodName)) ∈ lw_all := lw_g (lw_at lw_m7 51 rfl) rfl
theorem q2224 : (Jvm.Cond.instantiable "KernelGym$NoTape" (6 : Nat)) ∈ lw_all := lw_g (lw_at lw_m9 187 rfl) rfl
theorem q2225 : (Jvm.Cond.castable "KernelGym$NoTape" "KernelGym$NoTape") ∈ lw_tbl := lw_at lw_m9 188 rfl
theorem q2226 : (Jvm.Cond.selects "KernelGym$NoTape" ({ cls := "java/lang/Throwable", name := "fillInStackTrace", desc := "(I)Ljava/lang/Throwable;" } : Jvm.MethodName) ({ cls := "java/lang/Throwable", name := "fillInStackTrace", desc := "(I)Ljava/lang/Throwable;" } : Jvm.MethodName)) ∈ lw_all := lw_g (lw_at lw_m9 189 rfl) rfl
theorem q2227 : (Jvm.Cond.lays "KernelGym$NoTape" "java/lang/Throwable" "cause" "Ljava/lang/Throwable;") ∈ lw_all := lw_g (lw_at lw_m9 190 rfl) rfl
theorem q2228 : (Jvm.Cond.lays "KernelGym$NoTape" "java/lang/Throwable" "stackTrace" "[Ljava/lang/StackTraceElement;") ∈ lw_all := lw_g (lw_at lw_m9 191 rfl) rfl
theorem q2229 : (Jvm.Cond.lays "KernelGym$NoTape" "java/lang/Throwable" "suppressedExceptions" "Ljava/util/List;") ∈ lw_all := lw_g (lw_at lw_m9 192 rfl) rfl
theorem q2230 : (Jvm.Cond.lays "KernelGym$NoTape" "java/lang/Throwable" "detailMessage" "Ljava/lang/String;") ∈ lw_all := lw_g (lw_at lw_m9 193 rfl) rfl
theorem q2231 : (Jvm.Cond.lays "KernelGym$NoTape" "java/lang/Throwable" "backtrace" "Ljava/lang/Object;") ∈ lw_all := lw_g (lw_at lw_m9 194 rfl) rfl
theorem q2233 : (Jvm.Cond.instanceMethod ({ cls := "KernelGym$NoTape", name := "<init>", desc := "()V" } : Jvm.MethodName)) ∈ lw_all := lw_g (lw_at lw_m9 196 rfl) rfl
theorem q2234 : (Jvm.Cond.code ({ cls := "KernelGym$NoTape", name := "<init>", desc := "()V" } : Jvm.MethodName) prog_20_method_1_code (1 : Nat) (Option.none : Option Jvm.ClassFile.FieldType)) ∈ lw_all := lw_g (lw_at lw_m9 197 rfl) rfl
theorem q2235 : (Jvm.Cond.stringRef "KernelGym$NoTape" (1 : Nat) "the tape is full") ∈ lw_tbl := lw_at lw_m9 198 rfl
theorem q2236 : (Jvm.Cond.methodLink "KernelGym$NoTape" (3 : Nat) ({ cls := "java/lang/Exception", name := "<init>", desc := "(Ljava/lang/String;)V" } : Jvm.MethodName)) ∈ lw_all := lw_g (lw_at lw_m9 199 rfl) rfl
theorem q2237 : (Jvm.Cond.lays "KernelGym$NoTape" "java/lang/Throwable" "depth" "I") ∈ lw_all := lw_g (lw_at lw_m9 200 rfl) rfl
theorem q2238 : (Jvm.Cond.superclass "KernelGym$NoTape" "java/lang/Exception") ∈ lw_all := lw_g (lw_at lw_m9 201 rfl) rfl
theorem q3508 : (Jvm.Cond.castable "KernelGym$NoTape" "java/lang/Object") ∈ lw_tbl := lw_at lw_m15 31 rfl
theorem in_X25 : ∀ w ∈ wsX250, w ∈ lw_all := lw_in wsX250 [2227, 2228, 2229, 2230, 2231, 2237] (by decide +kernel) (by decide +kernel)

/-! KernelGym$Key -/
def RX26 : String := "KernelGym$Key"
def TX26 : u_T := fun k => match k with
  | 0 => ("KernelGym$Key", "step", "I", true)
  | _ => ("KernelGym$Key", "value", "I", true)
def tyX26 : Nat → FieldType := fun k => match k with
  | 0 => .int
  | _ => .int
abbrev wsX260 : List Cond := u_ws RX26 TX26 2
theorem nmX26 : ∀ a, a < 2 → ∀ b, b < 2 → a ≠ b → (TX26 a).2.1 ≠ (TX26 b).2.1 := by decide +kernel
theorem tyX26_ok : ∀ k, k < 2 → parseFieldDescriptor (TX26 k).2.2.1 = some (tyX26 k) := by decide +kernel
abbrev cX26_init : ByteArray := prog_14_method_1_code
def yX26_init : MethodName := ⟨RX26, "<init>", "(II)V"⟩
def dkwX26_init_0 : List UInt8 := [42, 183, 0, 1, 42, 27, 181, 0, 7, 42, 28, 181, 0, 13, 177]
abbrev dktX26_init_0 : List UInt8 := dkwX26_init_0 ++ []
theorem dksX26_init_0 : cX26_init.data.toList.drop 0 = dktX26_init_0 := by decide +kernel
theorem dX26_init_0 : decode cX26_init 0 = .ok (.aload_n 0, 1) := dk_42 (dk_at dksX26_init_0 0 rfl rfl)
theorem dX26_init_1 : decode cX26_init 1 = .ok (.invokespecial 1, 3) := dk_183 0 1 (dk_at dksX26_init_0 1 rfl rfl)
theorem dX26_init_4 : decode cX26_init 4 = .ok (.aload_n 0, 1) := dk_42 (dk_at dksX26_init_0 4 rfl rfl)
theorem dX26_init_5 : decode cX26_init 5 = .ok (.iload_n 1, 1) := dk_27 (dk_at dksX26_init_0 5 rfl rfl)
theorem dX26_init_6 : decode cX26_init 6 = .ok (.putfield 7, 3) := dk_181 0 7 (dk_at dksX26_init_0 6 rfl rfl)
theorem dX26_init_9 : decode cX26_init 9 = .ok (.aload_n 0, 1) := dk_42 (dk_at dksX26_init_0 9 rfl rfl)
theorem dX26_init_10 : decode cX26_init 10 = .ok (.iload_n 2, 1) := dk_28 (dk_at dksX26_init_0 10 rfl rfl)
theorem dX26_init_11 : decode cX26_init 11 = .ok (.putfield 13, 3) := dk_181 0 13 (dk_at dksX26_init_0 11 rfl rfl)
theorem dX26_init_14 : decode cX26_init 14 = .ok (.return_, 1) := dk_177 (dk_at dksX26_init_0 14 rfl rfl)
theorem q171 : (Jvm.Cond.initialized "KernelGym$Key") ∈ lw_all := lw_g (lw_at lw_m1 54 rfl) rfl
theorem q1059 : (Jvm.Cond.selects "KernelGym$Key" ({ cls := "java/lang/Object", name := "getClass", desc := "()Ljava/lang/Class;" } : Jvm.MethodName) ({ cls := "java/lang/Object", name := "getClass", desc := "()Ljava/lang/Class;" } : Jvm.MethodName)) ∈ lw_all := lw_g (lw_at lw_m4 222 rfl) rfl
theorem q2397 : (Jvm.Cond.instantiable "KernelGym$Key" (2 : Nat)) ∈ lw_all := lw_g (lw_at lw_m10 120 rfl) rfl
theorem q2399 : (Jvm.Cond.instanceMethod ({ cls := "KernelGym$Key", name := "<init>", desc := "(II)V" } : Jvm.MethodName)) ∈ lw_all := lw_g (lw_at lw_m10 122 rfl) rfl
theorem q2400 : (Jvm.Cond.code ({ cls := "KernelGym$Key", name := "<init>", desc := "(II)V" } : Jvm.MethodName) prog_14_method_1_code (3 : Nat) (Option.none : Option Jvm.ClassFile.FieldType)) ∈ lw_all := lw_g (lw_at lw_m10 123 rfl) rfl
theorem q2401 : (Jvm.Cond.methodLink "KernelGym$Key" (1 : Nat) ({ cls := "java/lang/Object", name := "<init>", desc := "()V" } : Jvm.MethodName)) ∈ lw_all := lw_g (lw_at lw_m10 124 rfl) rfl
theorem q2402 : (Jvm.Cond.fieldLink "KernelGym$Key" (7 : Nat) "KernelGym$Key" "step" "I") ∈ lw_all := lw_g (lw_at lw_m10 125 rfl) rfl
theorem q2404 : (Jvm.Cond.fieldLink "KernelGym$Key" (13 : Nat) "KernelGym$Key" "value" "I") ∈ lw_all := lw_g (lw_at lw_m10 127 rfl) rfl
theorem q2406 : (Jvm.Cond.laysFinal "KernelGym$Key" "KernelGym$Key" "step" "I") ∈ lw_all := lw_g (lw_at lw_m10 129 rfl) rfl
theorem q2407 : (Jvm.Cond.soleField "KernelGym$Key" "step") ∈ lw_all := lw_g (lw_at lw_m10 130 rfl) rfl
theorem q2408 : (Jvm.Cond.laysFinal "KernelGym$Key" "KernelGym$Key" "value" "I") ∈ lw_all := lw_g (lw_at lw_m10 131 rfl) rfl
theorem q2409 : (Jvm.Cond.soleField "KernelGym$Key" "value") ∈ lw_all := lw_g (lw_at lw_m10 132 rfl) rfl
theorem q2410 : (Jvm.Cond.superclass "KernelGym$Key" "java/lang/Object") ∈ lw_all := lw_g (lw_at lw_m10 133 rfl) rfl
theorem q3510 : (Jvm.Cond.castable "KernelGym$Key" "java/lang/Object") ∈ lw_tbl := lw_at lw_m15 33 rfl
theorem in_X26 : ∀ w ∈ wsX260, w ∈ lw_all := lw_in wsX260 [2406, 2408] (by decide +kernel) (by decide +kernel)

/-! KernelGym$Test -/
def RX27 : String := "KernelGym$Test"
def TX27 : u_T := fun k => match k with
  | 0 => ("KernelGym$Test", "keys", "[I", true)
  | 1 => ("KernelGym$Test", "words", "[I", true)
  | 2 => ("KernelGym$Test", "steps", "I", true)
  | 3 => ("KernelGym$Test", "blocks", "I", true)
  | 4 => ("KernelGym$Test", "points", "I", true)
  | 5 => ("KernelGym$Test", "crash", "I", true)
  | 6 => ("KernelGym$Test", "result", "I", false)
  | _ => ("KernelGym$Test", "hadPassed", "Z", false)
def tyX27 : Nat → FieldType := fun k => match k with
  | 0 => .array .int
  | 1 => .array .int
  | 2 => .int
  | 3 => .int
  | 4 => .int
  | 5 => .int
  | 6 => .int
  | _ => .boolean
abbrev wsX270 : List Cond := u_ws RX27 TX27 8
theorem nmX27 : ∀ a, a < 8 → ∀ b, b < 8 → a ≠ b → (TX27 a).2.1 ≠ (TX27 b).2.1 := by decide +kernel
theorem tyX27_ok : ∀ k, k < 8 → parseFieldDescriptor (TX27 k).2.2.1 = some (tyX27 k) := by decide +kernel
abbrev cX27_worth : ByteArray := prog_24_method_4_code
def yX27_worth : MethodName := ⟨RX27, "worth", "()I"⟩
def dkwX27_worth_1 : List UInt8 := [153, 0, 15, 42, 180, 0, 28, 4, 96, 116, 5, 108, 167, 0, 4, 3, 172]
abbrev dktX27_worth_1 : List UInt8 := dkwX27_worth_1 ++ []
def dkwX27_worth_0 : List UInt8 := [42, 180, 0, 9, 154, 0, 8, 42, 180, 0, 28, 172, 42, 180, 0, 9, 2, 159, 0, 22, 42, 180, 0, 60]
abbrev dktX27_worth_0 : List UInt8 := dkwX27_worth_0 ++ dktX27_worth_1
theorem dksX27_worth_0 : cX27_worth.data.toList.drop 0 = dktX27_worth_0 := by decide +kernel
theorem dksX27_worth_1 : cX27_worth.data.toList.drop 24 = dktX27_worth_1 := dk_seg dksX27_worth_0 24 rfl rfl
theorem dX27_worth_0 : decode cX27_worth 0 = .ok (.aload_n 0, 1) := dk_42 (dk_at dksX27_worth_0 0 rfl rfl)
theorem dX27_worth_1 : decode cX27_worth 1 = .ok (.getfield 9, 3) := dk_180 0 9 (dk_at dksX27_worth_0 1 rfl rfl)
theorem dX27_worth_4 : decode cX27_worth 4 = .ok (.ifCond .ne 8, 3) := dk_154 0 8 (dk_at dksX27_worth_0 4 rfl rfl)
theorem dX27_worth_7 : decode cX27_worth 7 = .ok (.aload_n 0, 1) := dk_42 (dk_at dksX27_worth_0 7 rfl rfl)
theorem dX27_worth_8 : decode cX27_worth 8 = .ok (.getfield 28, 3) := dk_180 0 28 (dk_at dksX27_worth_0 8 rfl rfl)
theorem dX27_worth_11 : decode cX27_worth 11 = .ok (.ireturn, 1) := dk_172 (dk_at dksX27_worth_0 11 rfl rfl)
theorem dX27_worth_12 : decode cX27_worth 12 = .ok (.aload_n 0, 1) := dk_42 (dk_at dksX27_worth_0 12 rfl rfl)
theorem dX27_worth_13 : decode cX27_worth 13 = .ok (.getfield 9, 3) := dk_180 0 9 (dk_at dksX27_worth_0 13 rfl rfl)
theorem dX27_worth_16 : decode cX27_worth 16 = .ok (.iconst (-1), 1) := dk_2 (dk_at dksX27_worth_0 16 rfl rfl)
theorem dX27_worth_17 : decode cX27_worth 17 = .ok (.if_icmp .eq 22, 3) := dk_159 0 22 (dk_at dksX27_worth_0 17 rfl rfl)
theorem dX27_worth_20 : decode cX27_worth 20 = .ok (.aload_n 0, 1) := dk_42 (dk_at dksX27_worth_0 20 rfl rfl)
theorem dX27_worth_21 : decode cX27_worth 21 = .ok (.getfield 60, 3) := dk_180 0 60 (dk_at dksX27_worth_0 21 rfl rfl)
theorem dX27_worth_24 : decode cX27_worth 24 = .ok (.ifCond .eq 15, 3) := dk_153 0 15 (dk_at dksX27_worth_1 0 rfl rfl)
theorem dX27_worth_27 : decode cX27_worth 27 = .ok (.aload_n 0, 1) := dk_42 (dk_at dksX27_worth_1 3 rfl rfl)
theorem dX27_worth_28 : decode cX27_worth 28 = .ok (.getfield 28, 3) := dk_180 0 28 (dk_at dksX27_worth_1 4 rfl rfl)
theorem dX27_worth_31 : decode cX27_worth 31 = .ok (.iconst 1, 1) := dk_4 (dk_at dksX27_worth_1 7 rfl rfl)
theorem dX27_worth_32 : decode cX27_worth 32 = .ok (.iadd, 1) := dk_96 (dk_at dksX27_worth_1 8 rfl rfl)
theorem dX27_worth_33 : decode cX27_worth 33 = .ok (.ineg, 1) := dk_116 (dk_at dksX27_worth_1 9 rfl rfl)
theorem dX27_worth_34 : decode cX27_worth 34 = .ok (.iconst 2, 1) := dk_5 (dk_at dksX27_worth_1 10 rfl rfl)
theorem dX27_worth_35 : decode cX27_worth 35 = .ok (.idiv, 1) := dk_108 (dk_at dksX27_worth_1 11 rfl rfl)
theorem dX27_worth_36 : decode cX27_worth 36 = .ok (.goto 4, 3) := dk_167 0 4 (dk_at dksX27_worth_1 12 rfl rfl)
theorem dX27_worth_39 : decode cX27_worth 39 = .ok (.iconst 0, 1) := dk_3 (dk_at dksX27_worth_1 15 rfl rfl)
theorem dX27_worth_40 : decode cX27_worth 40 = .ok (.ireturn, 1) := dk_172 (dk_at dksX27_worth_1 16 rfl rfl)
abbrev cX27_init : ByteArray := prog_24_method_1_code
def yX27_init : MethodName := ⟨RX27, "<init>", "([I[IIIII)V"⟩
def dkwX27_init_1 : List UInt8 := [42, 21, 4, 181, 0, 25, 42, 21, 5, 181, 0, 28, 42, 21, 6, 181, 0, 31, 177]
abbrev dktX27_init_1 : List UInt8 := dkwX27_init_1 ++ []
def dkwX27_init_0 : List UInt8 := [42, 183, 0, 3, 42, 2, 181, 0, 9, 42, 43, 181, 0, 15, 42, 44, 181, 0, 19, 42, 29, 181, 0, 22]
abbrev dktX27_init_0 : List UInt8 := dkwX27_init_0 ++ dktX27_init_1
theorem dksX27_init_0 : cX27_init.data.toList.drop 0 = dktX27_init_0 := by decide +kernel
theorem dksX27_init_1 : cX27_init.data.toList.drop 24 = dktX27_init_1 := dk_seg dksX27_init_0 24 rfl rfl
theorem dX27_init_0 : decode cX27_init 0 = .ok (.aload_n 0, 1) := dk_42 (dk_at dksX27_init_0 0 rfl rfl)
theorem dX27_init_1 : decode cX27_init 1 = .ok (.invokespecial 3, 3) := dk_183 0 3 (dk_at dksX27_init_0 1 rfl rfl)
theorem dX27_init_4 : decode cX27_init 4 = .ok (.aload_n 0, 1) := dk_42 (dk_at dksX27_init_0 4 rfl rfl)
theorem dX27_init_5 : decode cX27_init 5 = .ok (.iconst (-1), 1) := dk_2 (dk_at dksX27_init_0 5 rfl rfl)
theorem dX27_init_6 : decode cX27_init 6 = .ok (.putfield 9, 3) := dk_181 0 9 (dk_at dksX27_init_0 6 rfl rfl)
theorem dX27_init_9 : decode cX27_init 9 = .ok (.aload_n 0, 1) := dk_42 (dk_at dksX27_init_0 9 rfl rfl)
theorem dX27_init_10 : decode cX27_init 10 = .ok (.aload_n 1, 1) := dk_43 (dk_at dksX27_init_0 10 rfl rfl)
theorem dX27_init_11 : decode cX27_init 11 = .ok (.putfield 15, 3) := dk_181 0 15 (dk_at dksX27_init_0 11 rfl rfl)
theorem dX27_init_14 : decode cX27_init 14 = .ok (.aload_n 0, 1) := dk_42 (dk_at dksX27_init_0 14 rfl rfl)
theorem dX27_init_15 : decode cX27_init 15 = .ok (.aload_n 2, 1) := dk_44 (dk_at dksX27_init_0 15 rfl rfl)
theorem dX27_init_16 : decode cX27_init 16 = .ok (.putfield 19, 3) := dk_181 0 19 (dk_at dksX27_init_0 16 rfl rfl)
theorem dX27_init_19 : decode cX27_init 19 = .ok (.aload_n 0, 1) := dk_42 (dk_at dksX27_init_0 19 rfl rfl)
theorem dX27_init_20 : decode cX27_init 20 = .ok (.iload_n 3, 1) := dk_29 (dk_at dksX27_init_0 20 rfl rfl)
theorem dX27_init_21 : decode cX27_init 21 = .ok (.putfield 22, 3) := dk_181 0 22 (dk_at dksX27_init_0 21 rfl rfl)
theorem dX27_init_24 : decode cX27_init 24 = .ok (.aload_n 0, 1) := dk_42 (dk_at dksX27_init_1 0 rfl rfl)
theorem dX27_init_25 : decode cX27_init 25 = .ok (.iload 4, 2) := dk_21 4 (dk_at dksX27_init_1 1 rfl rfl)
theorem dX27_init_27 : decode cX27_init 27 = .ok (.putfield 25, 3) := dk_181 0 25 (dk_at dksX27_init_1 3 rfl rfl)
theorem dX27_init_30 : decode cX27_init 30 = .ok (.aload_n 0, 1) := dk_42 (dk_at dksX27_init_1 6 rfl rfl)
theorem dX27_init_31 : decode cX27_init 31 = .ok (.iload 5, 2) := dk_21 5 (dk_at dksX27_init_1 7 rfl rfl)
theorem dX27_init_33 : decode cX27_init 33 = .ok (.putfield 28, 3) := dk_181 0 28 (dk_at dksX27_init_1 9 rfl rfl)
theorem dX27_init_36 : decode cX27_init 36 = .ok (.aload_n 0, 1) := dk_42 (dk_at dksX27_init_1 12 rfl rfl)
theorem dX27_init_37 : decode cX27_init 37 = .ok (.iload 6, 2) := dk_21 6 (dk_at dksX27_init_1 13 rfl rfl)
theorem dX27_init_39 : decode cX27_init 39 = .ok (.putfield 31, 3) := dk_181 0 31 (dk_at dksX27_init_1 15 rfl rfl)
theorem dX27_init_42 : decode cX27_init 42 = .ok (.return_, 1) := dk_177 (dk_at dksX27_init_1 18 rfl rfl)
abbrev cX27_make : ByteArray := prog_24_method_2_code
def yX27_make : MethodName := ⟨RX27, "make", "([I)V"⟩
def dkwX27_make_5 : List UInt8 := [154, 0, 7, 4, 167, 0, 4, 3, 128, 181, 0, 60, 42, 42, 44, 182, 0, 64, 181, 0, 9, 177]
abbrev dktX27_make_5 : List UInt8 := dkwX27_make_5 ++ []
def dkwX27_make_4 : List UInt8 := [44, 182, 0, 57, 87, 44, 43, 182, 0, 39, 87, 167, 255, 205, 42, 89, 180, 0, 60, 42, 180, 0, 9]
abbrev dktX27_make_4 : List UInt8 := dkwX27_make_4 ++ dktX27_make_5
def dkwX27_make_3 : List UInt8 := [182, 0, 51, 132, 3, 1, 29, 42, 180, 0, 31, 160, 255, 229, 44, 180, 0, 54, 3, 46, 4, 160, 255, 219]
abbrev dktX27_make_3 : List UInt8 := dkwX27_make_3 ++ dktX27_make_4
def dkwX27_make_2 : List UInt8 := [132, 5, 1, 167, 255, 234, 3, 62, 44, 182, 0, 47, 153, 0, 50, 29, 42, 180, 0, 22, 162, 0, 42, 44]
abbrev dktX27_make_2 : List UInt8 := dkwX27_make_2 ++ dktX27_make_3
def dkwX27_make_1 : List UInt8 := [3, 54, 5, 21, 5, 21, 4, 162, 0, 21, 45, 21, 5, 46, 54, 6, 44, 21, 6, 182, 0, 43]
abbrev dktX27_make_1 : List UInt8 := dkwX27_make_1 ++ dktX27_make_2
def dkwX27_make_0 : List UInt8 := [187, 0, 34, 89, 3, 183, 0, 36, 77, 44, 43, 182, 0, 39, 87, 42, 180, 0, 15, 78, 45, 190, 54, 4]
abbrev dktX27_make_0 : List UInt8 := dkwX27_make_0 ++ dktX27_make_1
theorem dksX27_make_0 : cX27_make.data.toList.drop 0 = dktX27_make_0 := by decide +kernel
theorem dksX27_make_1 : cX27_make.data.toList.drop 24 = dktX27_make_1 := dk_seg dksX27_make_0 24 rfl rfl
theorem dksX27_make_2 : cX27_make.data.toList.drop 46 = dktX27_make_2 := dk_seg dksX27_make_1 22 rfl rfl
theorem dksX27_make_3 : cX27_make.data.toList.drop 70 = dktX27_make_3 := dk_seg dksX27_make_2 24 rfl rfl
theorem dksX27_make_4 : cX27_make.data.toList.drop 94 = dktX27_make_4 := dk_seg dksX27_make_3 24 rfl rfl
theorem dksX27_make_5 : cX27_make.data.toList.drop 117 = dktX27_make_5 := dk_seg dksX27_make_4 23 rfl rfl
theorem dX27_make_0 : decode cX27_make 0 = .ok (.new 34, 3) := dk_187 0 34 (dk_at dksX27_make_0 0 rfl rfl)
theorem dX27_make_3 : decode cX27_make 3 = .ok (.dup, 1) := dk_89 (dk_at dksX27_make_0 3 rfl rfl)
theorem dX27_make_4 : decode cX27_make 4 = .ok (.iconst 0, 1) := dk_3 (dk_at dksX27_make_0 4 rfl rfl)
theorem dX27_make_5 : decode cX27_make 5 = .ok (.invokespecial 36, 3) := dk_183 0 36 (dk_at dksX27_make_0 5 rfl rfl)
theorem dX27_make_8 : decode cX27_make 8 = .ok (.astore_n 2, 1) := dk_77 (dk_at dksX27_make_0 8 rfl rfl)
theorem dX27_make_9 : decode cX27_make 9 = .ok (.aload_n 2, 1) := dk_44 (dk_at dksX27_make_0 9 rfl rfl)
theorem dX27_make_10 : decode cX27_make 10 = .ok (.aload_n 1, 1) := dk_43 (dk_at dksX27_make_0 10 rfl rfl)
theorem dX27_make_11 : decode cX27_make 11 = .ok (.invokevirtual 39, 3) := dk_182 0 39 (dk_at dksX27_make_0 11 rfl rfl)
theorem dX27_make_14 : decode cX27_make 14 = .ok (.pop, 1) := dk_87 (dk_at dksX27_make_0 14 rfl rfl)
theorem dX27_make_15 : decode cX27_make 15 = .ok (.aload_n 0, 1) := dk_42 (dk_at dksX27_make_0 15 rfl rfl)
theorem dX27_make_16 : decode cX27_make 16 = .ok (.getfield 15, 3) := dk_180 0 15 (dk_at dksX27_make_0 16 rfl rfl)
theorem dX27_make_19 : decode cX27_make 19 = .ok (.astore_n 3, 1) := dk_78 (dk_at dksX27_make_0 19 rfl rfl)
theorem dX27_make_20 : decode cX27_make 20 = .ok (.aload_n 3, 1) := dk_45 (dk_at dksX27_make_0 20 rfl rfl)
theorem dX27_make_21 : decode cX27_make 21 = .ok (.arraylength, 1) := dk_190 (dk_at dksX27_make_0 21 rfl rfl)
theorem dX27_make_22 : decode cX27_make 22 = .ok (.istore 4, 2) := dk_54 4 (dk_at dksX27_make_0 22 rfl rfl)
theorem dX27_make_24 : decode cX27_make 24 = .ok (.iconst 0, 1) := dk_3 (dk_at dksX27_make_1 0 rfl rfl)
theorem dX27_make_25 : decode cX27_make 25 = .ok (.istore 5, 2) := dk_54 5 (dk_at dksX27_make_1 1 rfl rfl)
theorem dX27_make_27 : decode cX27_make 27 = .ok (.iload 5, 2) := dk_21 5 (dk_at dksX27_make_1 3 rfl rfl)
theorem dX27_make_29 : decode cX27_make 29 = .ok (.iload 4, 2) := dk_21 4 (dk_at dksX27_make_1 5 rfl rfl)
theorem dX27_make_31 : decode cX27_make 31 = .ok (.if_icmp .ge 21, 3) := dk_162 0 21 (dk_at dksX27_make_1 7 rfl rfl)
theorem dX27_make_34 : decode cX27_make 34 = .ok (.aload_n 3, 1) := dk_45 (dk_at dksX27_make_1 10 rfl rfl)
theorem dX27_make_35 : decode cX27_make 35 = .ok (.iload 5, 2) := dk_21 5 (dk_at dksX27_make_1 11 rfl rfl)
theorem dX27_make_37 : decode cX27_make 37 = .ok (.iaload, 1) := dk_46 (dk_at dksX27_make_1 13 rfl rfl)
theorem dX27_make_38 : decode cX27_make 38 = .ok (.istore 6, 2) := dk_54 6 (dk_at dksX27_make_1 14 rfl rfl)
theorem dX27_make_40 : decode cX27_make 40 = .ok (.aload_n 2, 1) := dk_44 (dk_at dksX27_make_1 16 rfl rfl)
theorem dX27_make_41 : decode cX27_make 41 = .ok (.iload 6, 2) := dk_21 6 (dk_at dksX27_make_1 17 rfl rfl)
theorem dX27_make_43 : decode cX27_make 43 = .ok (.invokevirtual 43, 3) := dk_182 0 43 (dk_at dksX27_make_1 19 rfl rfl)
theorem dX27_make_46 : decode cX27_make 46 = .ok (.iinc 5 1, 3) := dk_132 5 1 (dk_at dksX27_make_2 0 rfl rfl)
theorem dX27_make_49 : decode cX27_make 49 = .ok (.goto (-22), 3) := dk_167 255 234 (dk_at dksX27_make_2 3 rfl rfl)
theorem dX27_make_52 : decode cX27_make 52 = .ok (.iconst 0, 1) := dk_3 (dk_at dksX27_make_2 6 rfl rfl)
theorem dX27_make_53 : decode cX27_make 53 = .ok (.istore_n 3, 1) := dk_62 (dk_at dksX27_make_2 7 rfl rfl)
theorem dX27_make_54 : decode cX27_make 54 = .ok (.aload_n 2, 1) := dk_44 (dk_at dksX27_make_2 8 rfl rfl)
theorem dX27_make_55 : decode cX27_make 55 = .ok (.invokevirtual 47, 3) := dk_182 0 47 (dk_at dksX27_make_2 9 rfl rfl)
theorem dX27_make_58 : decode cX27_make 58 = .ok (.ifCond .eq 50, 3) := dk_153 0 50 (dk_at dksX27_make_2 12 rfl rfl)
theorem dX27_make_61 : decode cX27_make 61 = .ok (.iload_n 3, 1) := dk_29 (dk_at dksX27_make_2 15 rfl rfl)
theorem dX27_make_62 : decode cX27_make 62 = .ok (.aload_n 0, 1) := dk_42 (dk_at dksX27_make_2 16 rfl rfl)
theorem dX27_make_63 : decode cX27_make 63 = .ok (.getfield 22, 3) := dk_180 0 22 (dk_at dksX27_make_2 17 rfl rfl)
theorem dX27_make_66 : decode cX27_make 66 = .ok (.if_icmp .ge 42, 3) := dk_162 0 42 (dk_at dksX27_make_2 20 rfl rfl)
theorem dX27_make_69 : decode cX27_make 69 = .ok (.aload_n 2, 1) := dk_44 (dk_at dksX27_make_2 23 rfl rfl)
theorem dX27_make_70 : decode cX27_make 70 = .ok (.invokevirtual 51, 3) := dk_182 0 51 (dk_at dksX27_make_3 0 rfl rfl)
theorem dX27_make_73 : decode cX27_make 73 = .ok (.iinc 3 1, 3) := dk_132 3 1 (dk_at dksX27_make_3 3 rfl rfl)
theorem dX27_make_76 : decode cX27_make 76 = .ok (.iload_n 3, 1) := dk_29 (dk_at dksX27_make_3 6 rfl rfl)
theorem dX27_make_77 : decode cX27_make 77 = .ok (.aload_n 0, 1) := dk_42 (dk_at dksX27_make_3 7 rfl rfl)
theorem dX27_make_78 : decode cX27_make 78 = .ok (.getfield 31, 3) := dk_180 0 31 (dk_at dksX27_make_3 8 rfl rfl)
theorem dX27_make_81 : decode cX27_make 81 = .ok (.if_icmp .ne (-27), 3) := dk_160 255 229 (dk_at dksX27_make_3 11 rfl rfl)
theorem dX27_make_84 : decode cX27_make 84 = .ok (.aload_n 2, 1) := dk_44 (dk_at dksX27_make_3 14 rfl rfl)
theorem dX27_make_85 : decode cX27_make 85 = .ok (.getfield 54, 3) := dk_180 0 54 (dk_at dksX27_make_3 15 rfl rfl)
theorem dX27_make_88 : decode cX27_make 88 = .ok (.iconst 0, 1) := dk_3 (dk_at dksX27_make_3 18 rfl rfl)
theorem dX27_make_89 : decode cX27_make 89 = .ok (.iaload, 1) := dk_46 (dk_at dksX27_make_3 19 rfl rfl)
theorem dX27_make_90 : decode cX27_make 90 = .ok (.iconst 1, 1) := dk_4 (dk_at dksX27_make_3 20 rfl rfl)
theorem dX27_make_91 : decode cX27_make 91 = .ok (.if_icmp .ne (-37), 3) := dk_160 255 219 (dk_at dksX27_make_3 21 rfl rfl)
theorem dX27_make_94 : decode cX27_make 94 = .ok (.aload_n 2, 1) := dk_44 (dk_at dksX27_make_4 0 rfl rfl)
theorem dX27_make_95 : decode cX27_make 95 = .ok (.invokevirtual 57, 3) := dk_182 0 57 (dk_at dksX27_make_4 1 rfl rfl)
theorem dX27_make_98 : decode cX27_make 98 = .ok (.pop, 1) := dk_87 (dk_at dksX27_make_4 4 rfl rfl)
theorem dX27_make_99 : decode cX27_make 99 = .ok (.aload_n 2, 1) := dk_44 (dk_at dksX27_make_4 5 rfl rfl)
theorem dX27_make_100 : decode cX27_make 100 = .ok (.aload_n 1, 1) := dk_43 (dk_at dksX27_make_4 6 rfl rfl)
theorem dX27_make_101 : decode cX27_make 101 = .ok (.invokevirtual 39, 3) := dk_182 0 39 (dk_at dksX27_make_4 7 rfl rfl)
theorem dX27_make_104 : decode cX27_make 104 = .ok (.pop, 1) := dk_87 (dk_at dksX27_make_4 10 rfl rfl)
theorem dX27_make_105 : decode cX27_make 105 = .ok (.goto (-51), 3) := dk_167 255 205 (dk_at dksX27_make_4 11 rfl rfl)
theorem dX27_make_108 : decode cX27_make 108 = .ok (.aload_n 0, 1) := dk_42 (dk_at dksX27_make_4 14 rfl rfl)
theorem dX27_make_109 : decode cX27_make 109 = .ok (.dup, 1) := dk_89 (dk_at dksX27_make_4 15 rfl rfl)
theorem dX27_make_110 : decode cX27_make 110 = .ok (.getfield 60, 3) := dk_180 0 60 (dk_at dksX27_make_4 16 rfl rfl)
theorem dX27_make_113 : decode cX27_make 113 = .ok (.aload_n 0, 1) := dk_42 (dk_at dksX27_make_4 19 rfl rfl)
theorem dX27_make_114 : decode cX27_make 114 = .ok (.getfield 9, 3) := dk_180 0 9 (dk_at dksX27_make_4 20 rfl rfl)
theorem dX27_make_117 : decode cX27_make 117 = .ok (.ifCond .ne 7, 3) := dk_154 0 7 (dk_at dksX27_make_5 0 rfl rfl)
theorem dX27_make_120 : decode cX27_make 120 = .ok (.iconst 1, 1) := dk_4 (dk_at dksX27_make_5 3 rfl rfl)
theorem dX27_make_121 : decode cX27_make 121 = .ok (.goto 4, 3) := dk_167 0 4 (dk_at dksX27_make_5 4 rfl rfl)
theorem dX27_make_124 : decode cX27_make 124 = .ok (.iconst 0, 1) := dk_3 (dk_at dksX27_make_5 7 rfl rfl)
theorem dX27_make_125 : decode cX27_make 125 = .ok (.ior, 1) := dk_128 (dk_at dksX27_make_5 8 rfl rfl)
theorem dX27_make_126 : decode cX27_make 126 = .ok (.putfield 60, 3) := dk_181 0 60 (dk_at dksX27_make_5 9 rfl rfl)
theorem dX27_make_129 : decode cX27_make 129 = .ok (.aload_n 0, 1) := dk_42 (dk_at dksX27_make_5 12 rfl rfl)
theorem dX27_make_130 : decode cX27_make 130 = .ok (.aload_n 0, 1) := dk_42 (dk_at dksX27_make_5 13 rfl rfl)
theorem dX27_make_131 : decode cX27_make 131 = .ok (.aload_n 2, 1) := dk_44 (dk_at dksX27_make_5 14 rfl rfl)
theorem dX27_make_132 : decode cX27_make 132 = .ok (.invokevirtual 64, 3) := dk_182 0 64 (dk_at dksX27_make_5 15 rfl rfl)
theorem dX27_make_135 : decode cX27_make 135 = .ok (.putfield 9, 3) := dk_181 0 9 (dk_at dksX27_make_5 18 rfl rfl)
theorem dX27_make_138 : decode cX27_make 138 = .ok (.return_, 1) := dk_177 (dk_at dksX27_make_5 21 rfl rfl)
abbrev cX27_resultOf : ByteArray := prog_24_method_3_code
def yX27_resultOf : MethodName := ⟨RX27, "resultOf", "(LKernelGym$Machine;)I"⟩
def dkwX27_resultOf_5 : List UInt8 := [182, 0, 68, 153, 0, 7, 3, 167, 0, 4, 8, 172]
abbrev dktX27_resultOf_5 : List UInt8 := dkwX27_resultOf_5 ++ []
def dkwX27_resultOf_4 : List UInt8 := [17, 1, 108, 46, 42, 180, 0, 25, 164, 0, 7, 6, 167, 0, 23, 28, 154, 0, 7, 7, 167, 0, 15, 43]
abbrev dktX27_resultOf_4 : List UInt8 := dkwX27_resultOf_4 ++ dktX27_resultOf_5
def dkwX27_resultOf_3 : List UInt8 := [180, 0, 19, 29, 46, 160, 0, 7, 4, 167, 0, 4, 3, 61, 132, 3, 1, 167, 255, 216, 43, 180, 0, 54]
abbrev dktX27_resultOf_3 : List UInt8 := dkwX27_resultOf_3 ++ dktX27_resultOf_4
def dkwX27_resultOf_2 : List UInt8 := [62, 28, 153, 0, 42, 29, 42, 180, 0, 19, 190, 162, 0, 33, 43, 180, 0, 54, 16, 48, 29, 96, 46, 42]
abbrev dktX27_resultOf_2 : List UInt8 := dkwX27_resultOf_2 ++ dktX27_resultOf_3
def dkwX27_resultOf_1 : List UInt8 := [5, 172, 43, 180, 0, 54, 16, 17, 46, 42, 180, 0, 19, 190, 160, 0, 7, 4, 167, 0, 4, 3, 61, 3]
abbrev dktX27_resultOf_1 : List UInt8 := dkwX27_resultOf_1 ++ dktX27_resultOf_2
def dkwX27_resultOf_0 : List UInt8 := [43, 180, 0, 54, 3, 46, 5, 159, 0, 19, 43, 180, 0, 54, 3, 46, 6, 160, 0, 7, 4, 167, 0, 4]
abbrev dktX27_resultOf_0 : List UInt8 := dkwX27_resultOf_0 ++ dktX27_resultOf_1
theorem dksX27_resultOf_0 : cX27_resultOf.data.toList.drop 0 = dktX27_resultOf_0 := by decide +kernel
theorem dksX27_resultOf_1 : cX27_resultOf.data.toList.drop 24 = dktX27_resultOf_1 := dk_seg dksX27_resultOf_0 24 rfl rfl
theorem dksX27_resultOf_2 : cX27_resultOf.data.toList.drop 48 = dktX27_resultOf_2 := dk_seg dksX27_resultOf_1 24 rfl rfl
theorem dksX27_resultOf_3 : cX27_resultOf.data.toList.drop 72 = dktX27_resultOf_3 := dk_seg dksX27_resultOf_2 24 rfl rfl
theorem dksX27_resultOf_4 : cX27_resultOf.data.toList.drop 96 = dktX27_resultOf_4 := dk_seg dksX27_resultOf_3 24 rfl rfl
theorem dksX27_resultOf_5 : cX27_resultOf.data.toList.drop 120 = dktX27_resultOf_5 := dk_seg dksX27_resultOf_4 24 rfl rfl
theorem dX27_resultOf_0 : decode cX27_resultOf 0 = .ok (.aload_n 1, 1) := dk_43 (dk_at dksX27_resultOf_0 0 rfl rfl)
theorem dX27_resultOf_1 : decode cX27_resultOf 1 = .ok (.getfield 54, 3) := dk_180 0 54 (dk_at dksX27_resultOf_0 1 rfl rfl)
theorem dX27_resultOf_4 : decode cX27_resultOf 4 = .ok (.iconst 0, 1) := dk_3 (dk_at dksX27_resultOf_0 4 rfl rfl)
theorem dX27_resultOf_5 : decode cX27_resultOf 5 = .ok (.iaload, 1) := dk_46 (dk_at dksX27_resultOf_0 5 rfl rfl)
theorem dX27_resultOf_6 : decode cX27_resultOf 6 = .ok (.iconst 2, 1) := dk_5 (dk_at dksX27_resultOf_0 6 rfl rfl)
theorem dX27_resultOf_7 : decode cX27_resultOf 7 = .ok (.if_icmp .eq 19, 3) := dk_159 0 19 (dk_at dksX27_resultOf_0 7 rfl rfl)
theorem dX27_resultOf_10 : decode cX27_resultOf 10 = .ok (.aload_n 1, 1) := dk_43 (dk_at dksX27_resultOf_0 10 rfl rfl)
theorem dX27_resultOf_11 : decode cX27_resultOf 11 = .ok (.getfield 54, 3) := dk_180 0 54 (dk_at dksX27_resultOf_0 11 rfl rfl)
theorem dX27_resultOf_14 : decode cX27_resultOf 14 = .ok (.iconst 0, 1) := dk_3 (dk_at dksX27_resultOf_0 14 rfl rfl)
theorem dX27_resultOf_15 : decode cX27_resultOf 15 = .ok (.iaload, 1) := dk_46 (dk_at dksX27_resultOf_0 15 rfl rfl)
theorem dX27_resultOf_16 : decode cX27_resultOf 16 = .ok (.iconst 3, 1) := dk_6 (dk_at dksX27_resultOf_0 16 rfl rfl)
theorem dX27_resultOf_17 : decode cX27_resultOf 17 = .ok (.if_icmp .ne 7, 3) := dk_160 0 7 (dk_at dksX27_resultOf_0 17 rfl rfl)
theorem dX27_resultOf_20 : decode cX27_resultOf 20 = .ok (.iconst 1, 1) := dk_4 (dk_at dksX27_resultOf_0 20 rfl rfl)
theorem dX27_resultOf_21 : decode cX27_resultOf 21 = .ok (.goto 4, 3) := dk_167 0 4 (dk_at dksX27_resultOf_0 21 rfl rfl)
theorem dX27_resultOf_24 : decode cX27_resultOf 24 = .ok (.iconst 2, 1) := dk_5 (dk_at dksX27_resultOf_1 0 rfl rfl)
theorem dX27_resultOf_25 : decode cX27_resultOf 25 = .ok (.ireturn, 1) := dk_172 (dk_at dksX27_resultOf_1 1 rfl rfl)
theorem dX27_resultOf_26 : decode cX27_resultOf 26 = .ok (.aload_n 1, 1) := dk_43 (dk_at dksX27_resultOf_1 2 rfl rfl)
theorem dX27_resultOf_27 : decode cX27_resultOf 27 = .ok (.getfield 54, 3) := dk_180 0 54 (dk_at dksX27_resultOf_1 3 rfl rfl)
theorem dX27_resultOf_30 : decode cX27_resultOf 30 = .ok (.bipush 17, 2) := dk_16 17 (dk_at dksX27_resultOf_1 6 rfl rfl)
theorem dX27_resultOf_32 : decode cX27_resultOf 32 = .ok (.iaload, 1) := dk_46 (dk_at dksX27_resultOf_1 8 rfl rfl)
theorem dX27_resultOf_33 : decode cX27_resultOf 33 = .ok (.aload_n 0, 1) := dk_42 (dk_at dksX27_resultOf_1 9 rfl rfl)
theorem dX27_resultOf_34 : decode cX27_resultOf 34 = .ok (.getfield 19, 3) := dk_180 0 19 (dk_at dksX27_resultOf_1 10 rfl rfl)
theorem dX27_resultOf_37 : decode cX27_resultOf 37 = .ok (.arraylength, 1) := dk_190 (dk_at dksX27_resultOf_1 13 rfl rfl)
theorem dX27_resultOf_38 : decode cX27_resultOf 38 = .ok (.if_icmp .ne 7, 3) := dk_160 0 7 (dk_at dksX27_resultOf_1 14 rfl rfl)
theorem dX27_resultOf_41 : decode cX27_resultOf 41 = .ok (.iconst 1, 1) := dk_4 (dk_at dksX27_resultOf_1 17 rfl rfl)
theorem dX27_resultOf_42 : decode cX27_resultOf 42 = .ok (.goto 4, 3) := dk_167 0 4 (dk_at dksX27_resultOf_1 18 rfl rfl)
theorem dX27_resultOf_45 : decode cX27_resultOf 45 = .ok (.iconst 0, 1) := dk_3 (dk_at dksX27_resultOf_1 21 rfl rfl)
theorem dX27_resultOf_46 : decode cX27_resultOf 46 = .ok (.istore_n 2, 1) := dk_61 (dk_at dksX27_resultOf_1 22 rfl rfl)
theorem dX27_resultOf_47 : decode cX27_resultOf 47 = .ok (.iconst 0, 1) := dk_3 (dk_at dksX27_resultOf_1 23 rfl rfl)
theorem dX27_resultOf_48 : decode cX27_resultOf 48 = .ok (.istore_n 3, 1) := dk_62 (dk_at dksX27_resultOf_2 0 rfl rfl)
theorem dX27_resultOf_49 : decode cX27_resultOf 49 = .ok (.iload_n 2, 1) := dk_28 (dk_at dksX27_resultOf_2 1 rfl rfl)
theorem dX27_resultOf_50 : decode cX27_resultOf 50 = .ok (.ifCond .eq 42, 3) := dk_153 0 42 (dk_at dksX27_resultOf_2 2 rfl rfl)
theorem dX27_resultOf_53 : decode cX27_resultOf 53 = .ok (.iload_n 3, 1) := dk_29 (dk_at dksX27_resultOf_2 5 rfl rfl)
theorem dX27_resultOf_54 : decode cX27_resultOf 54 = .ok (.aload_n 0, 1) := dk_42 (dk_at dksX27_resultOf_2 6 rfl rfl)
theorem dX27_resultOf_55 : decode cX27_resultOf 55 = .ok (.getfield 19, 3) := dk_180 0 19 (dk_at dksX27_resultOf_2 7 rfl rfl)
theorem dX27_resultOf_58 : decode cX27_resultOf 58 = .ok (.arraylength, 1) := dk_190 (dk_at dksX27_resultOf_2 10 rfl rfl)
theorem dX27_resultOf_59 : decode cX27_resultOf 59 = .ok (.if_icmp .ge 33, 3) := dk_162 0 33 (dk_at dksX27_resultOf_2 11 rfl rfl)
theorem dX27_resultOf_62 : decode cX27_resultOf 62 = .ok (.aload_n 1, 1) := dk_43 (dk_at dksX27_resultOf_2 14 rfl rfl)
theorem dX27_resultOf_63 : decode cX27_resultOf 63 = .ok (.getfield 54, 3) := dk_180 0 54 (dk_at dksX27_resultOf_2 15 rfl rfl)
theorem dX27_resultOf_66 : decode cX27_resultOf 66 = .ok (.bipush 48, 2) := dk_16 48 (dk_at dksX27_resultOf_2 18 rfl rfl)
theorem dX27_resultOf_68 : decode cX27_resultOf 68 = .ok (.iload_n 3, 1) := dk_29 (dk_at dksX27_resultOf_2 20 rfl rfl)
theorem dX27_resultOf_69 : decode cX27_resultOf 69 = .ok (.iadd, 1) := dk_96 (dk_at dksX27_resultOf_2 21 rfl rfl)
theorem dX27_resultOf_70 : decode cX27_resultOf 70 = .ok (.iaload, 1) := dk_46 (dk_at dksX27_resultOf_2 22 rfl rfl)
theorem dX27_resultOf_71 : decode cX27_resultOf 71 = .ok (.aload_n 0, 1) := dk_42 (dk_at dksX27_resultOf_2 23 rfl rfl)
theorem dX27_resultOf_72 : decode cX27_resultOf 72 = .ok (.getfield 19, 3) := dk_180 0 19 (dk_at dksX27_resultOf_3 0 rfl rfl)
theorem dX27_resultOf_75 : decode cX27_resultOf 75 = .ok (.iload_n 3, 1) := dk_29 (dk_at dksX27_resultOf_3 3 rfl rfl)
theorem dX27_resultOf_76 : decode cX27_resultOf 76 = .ok (.iaload, 1) := dk_46 (dk_at dksX27_resultOf_3 4 rfl rfl)
theorem dX27_resultOf_77 : decode cX27_resultOf 77 = .ok (.if_icmp .ne 7, 3) := dk_160 0 7 (dk_at dksX27_resultOf_3 5 rfl rfl)
theorem dX27_resultOf_80 : decode cX27_resultOf 80 = .ok (.iconst 1, 1) := dk_4 (dk_at dksX27_resultOf_3 8 rfl rfl)
theorem dX27_resultOf_81 : decode cX27_resultOf 81 = .ok (.goto 4, 3) := dk_167 0 4 (dk_at dksX27_resultOf_3 9 rfl rfl)
theorem dX27_resultOf_84 : decode cX27_resultOf 84 = .ok (.iconst 0, 1) := dk_3 (dk_at dksX27_resultOf_3 12 rfl rfl)
theorem dX27_resultOf_85 : decode cX27_resultOf 85 = .ok (.istore_n 2, 1) := dk_61 (dk_at dksX27_resultOf_3 13 rfl rfl)
theorem dX27_resultOf_86 : decode cX27_resultOf 86 = .ok (.iinc 3 1, 3) := dk_132 3 1 (dk_at dksX27_resultOf_3 14 rfl rfl)
theorem dX27_resultOf_89 : decode cX27_resultOf 89 = .ok (.goto (-40), 3) := dk_167 255 216 (dk_at dksX27_resultOf_3 17 rfl rfl)
theorem dX27_resultOf_92 : decode cX27_resultOf 92 = .ok (.aload_n 1, 1) := dk_43 (dk_at dksX27_resultOf_3 20 rfl rfl)
theorem dX27_resultOf_93 : decode cX27_resultOf 93 = .ok (.getfield 54, 3) := dk_180 0 54 (dk_at dksX27_resultOf_3 21 rfl rfl)
theorem dX27_resultOf_96 : decode cX27_resultOf 96 = .ok (.sipush 364, 3) := dk_17 1 108 (dk_at dksX27_resultOf_4 0 rfl rfl)
theorem dX27_resultOf_99 : decode cX27_resultOf 99 = .ok (.iaload, 1) := dk_46 (dk_at dksX27_resultOf_4 3 rfl rfl)
theorem dX27_resultOf_100 : decode cX27_resultOf 100 = .ok (.aload_n 0, 1) := dk_42 (dk_at dksX27_resultOf_4 4 rfl rfl)
theorem dX27_resultOf_101 : decode cX27_resultOf 101 = .ok (.getfield 25, 3) := dk_180 0 25 (dk_at dksX27_resultOf_4 5 rfl rfl)
theorem dX27_resultOf_104 : decode cX27_resultOf 104 = .ok (.if_icmp .le 7, 3) := dk_164 0 7 (dk_at dksX27_resultOf_4 8 rfl rfl)
theorem dX27_resultOf_107 : decode cX27_resultOf 107 = .ok (.iconst 3, 1) := dk_6 (dk_at dksX27_resultOf_4 11 rfl rfl)
theorem dX27_resultOf_108 : decode cX27_resultOf 108 = .ok (.goto 23, 3) := dk_167 0 23 (dk_at dksX27_resultOf_4 12 rfl rfl)
theorem dX27_resultOf_111 : decode cX27_resultOf 111 = .ok (.iload_n 2, 1) := dk_28 (dk_at dksX27_resultOf_4 15 rfl rfl)
theorem dX27_resultOf_112 : decode cX27_resultOf 112 = .ok (.ifCond .ne 7, 3) := dk_154 0 7 (dk_at dksX27_resultOf_4 16 rfl rfl)
theorem dX27_resultOf_115 : decode cX27_resultOf 115 = .ok (.iconst 4, 1) := dk_7 (dk_at dksX27_resultOf_4 19 rfl rfl)
theorem dX27_resultOf_116 : decode cX27_resultOf 116 = .ok (.goto 15, 3) := dk_167 0 15 (dk_at dksX27_resultOf_4 20 rfl rfl)
theorem dX27_resultOf_119 : decode cX27_resultOf 119 = .ok (.aload_n 1, 1) := dk_43 (dk_at dksX27_resultOf_4 23 rfl rfl)
theorem dX27_resultOf_120 : decode cX27_resultOf 120 = .ok (.invokevirtual 68, 3) := dk_182 0 68 (dk_at dksX27_resultOf_5 0 rfl rfl)
theorem dX27_resultOf_123 : decode cX27_resultOf 123 = .ok (.ifCond .eq 7, 3) := dk_153 0 7 (dk_at dksX27_resultOf_5 3 rfl rfl)
theorem dX27_resultOf_126 : decode cX27_resultOf 126 = .ok (.iconst 0, 1) := dk_3 (dk_at dksX27_resultOf_5 6 rfl rfl)
theorem dX27_resultOf_127 : decode cX27_resultOf 127 = .ok (.goto 4, 3) := dk_167 0 4 (dk_at dksX27_resultOf_5 7 rfl rfl)
theorem dX27_resultOf_130 : decode cX27_resultOf 130 = .ok (.iconst 5, 1) := dk_8 (dk_at dksX27_resultOf_5 10 rfl rfl)
theorem dX27_resultOf_131 : decode cX27_resultOf 131 = .ok (.ireturn, 1) := dk_172 (dk_at dksX27_resultOf_5 11 rfl rfl)
theorem q178 : (Jvm.Cond.initialized "KernelGym$Test") ∈ lw_all := lw_g (lw_at lw_m1 61 rfl) rfl
theorem q284 : (Jvm.Cond.fieldLinkNest "KernelGym$Test" (54 : Nat) "KernelGym$Machine" "cells" "[I" "KernelGym") ∈ lw_tbl := lw_at lw_m1 167 rfl
theorem q1067 : (Jvm.Cond.selects "KernelGym$Test" ({ cls := "java/lang/Object", name := "getClass", desc := "()Ljava/lang/Class;" } : Jvm.MethodName) ({ cls := "java/lang/Object", name := "getClass", desc := "()Ljava/lang/Class;" } : Jvm.MethodName)) ∈ lw_all := lw_g (lw_at lw_m4 230 rfl) rfl
theorem q1675 : (Jvm.Cond.instanceMethod ({ cls := "KernelGym$Test", name := "worth", desc := "()I" } : Jvm.MethodName)) ∈ lw_all := lw_g (lw_at lw_m7 118 rfl) rfl
theorem q1676 : (Jvm.Cond.selects "KernelGym$Test" ({ cls := "KernelGym$Test", name := "worth", desc := "()I" } : Jvm.MethodName) ({ cls := "KernelGym$Test", name := "worth", desc := "()I" } : Jvm.MethodName)) ∈ lw_all := lw_g (lw_at lw_m7 119 rfl) rfl
theorem q1677 : (Jvm.Cond.code ({ cls := "KernelGym$Test", name := "worth", desc := "()I" } : Jvm.MethodName) prog_24_method_4_code (1 : Nat) (Option.some Jvm.ClassFile.FieldType.int)) ∈ lw_all := lw_g (lw_at lw_m7 120 rfl) rfl
theorem q2661 : (Jvm.Cond.instantiable "KernelGym$Test" (8 : Nat)) ∈ lw_all := lw_g (lw_at lw_m11 144 rfl) rfl
theorem q2681 : (Jvm.Cond.instanceMethod ({ cls := "KernelGym$Test", name := "<init>", desc := "([I[IIIII)V" } : Jvm.MethodName)) ∈ lw_all := lw_g (lw_at lw_m11 164 rfl) rfl
theorem q2682 : (Jvm.Cond.code ({ cls := "KernelGym$Test", name := "<init>", desc := "([I[IIIII)V" } : Jvm.MethodName) prog_24_method_1_code (7 : Nat) (Option.none : Option Jvm.ClassFile.FieldType)) ∈ lw_all := lw_g (lw_at lw_m11 165 rfl) rfl
theorem q2683 : (Jvm.Cond.methodLink "KernelGym$Test" (3 : Nat) ({ cls := "java/lang/Object", name := "<init>", desc := "()V" } : Jvm.MethodName)) ∈ lw_all := lw_g (lw_at lw_m11 166 rfl) rfl
theorem q2684 : (Jvm.Cond.fieldLink "KernelGym$Test" (15 : Nat) "KernelGym$Test" "keys" "[I") ∈ lw_all := lw_g (lw_at lw_m11 167 rfl) rfl
theorem q2685 : (Jvm.Cond.fieldLink "KernelGym$Test" (19 : Nat) "KernelGym$Test" "words" "[I") ∈ lw_all := lw_g (lw_at lw_m11 168 rfl) rfl
theorem q2686 : (Jvm.Cond.fieldLink "KernelGym$Test" (22 : Nat) "KernelGym$Test" "steps" "I") ∈ lw_all := lw_g (lw_at lw_m11 169 rfl) rfl
theorem q2687 : (Jvm.Cond.fieldLink "KernelGym$Test" (25 : Nat) "KernelGym$Test" "blocks" "I") ∈ lw_all := lw_g (lw_at lw_m11 170 rfl) rfl
theorem q2688 : (Jvm.Cond.fieldLink "KernelGym$Test" (28 : Nat) "KernelGym$Test" "points" "I") ∈ lw_all := lw_g (lw_at lw_m11 171 rfl) rfl
theorem q2689 : (Jvm.Cond.fieldLink "KernelGym$Test" (31 : Nat) "KernelGym$Test" "crash" "I") ∈ lw_all := lw_g (lw_at lw_m11 172 rfl) rfl
theorem q2690 : (Jvm.Cond.fieldLink "KernelGym$Test" (9 : Nat) "KernelGym$Test" "result" "I") ∈ lw_all := lw_g (lw_at lw_m11 173 rfl) rfl
theorem q2692 : (Jvm.Cond.fieldLink "KernelGym$Test" (60 : Nat) "KernelGym$Test" "hadPassed" "Z") ∈ lw_all := lw_g (lw_at lw_m11 175 rfl) rfl
theorem q2693 : (Jvm.Cond.laysFinal "KernelGym$Test" "KernelGym$Test" "keys" "[I") ∈ lw_all := lw_g (lw_at lw_m11 176 rfl) rfl
theorem q2694 : (Jvm.Cond.soleField "KernelGym$Test" "keys") ∈ lw_all := lw_g (lw_at lw_m11 177 rfl) rfl
theorem q2695 : (Jvm.Cond.laysFinal "KernelGym$Test" "KernelGym$Test" "words" "[I") ∈ lw_all := lw_g (lw_at lw_m11 178 rfl) rfl
theorem q2696 : (Jvm.Cond.soleField "KernelGym$Test" "words") ∈ lw_all := lw_g (lw_at lw_m11 179 rfl) rfl
theorem q2697 : (Jvm.Cond.laysFinal "KernelGym$Test" "KernelGym$Test" "steps" "I") ∈ lw_all := lw_g (lw_at lw_m11 180 rfl) rfl
theorem q2698 : (Jvm.Cond.soleField "KernelGym$Test" "steps") ∈ lw_all := lw_g (lw_at lw_m11 181 rfl) rfl
theorem q2699 : (Jvm.Cond.laysFinal "KernelGym$Test" "KernelGym$Test" "blocks" "I") ∈ lw_all := lw_g (lw_at lw_m11 182 rfl) rfl
theorem q2700 : (Jvm.Cond.soleField "KernelGym$Test" "blocks") ∈ lw_all := lw_g (lw_at lw_m11 183 rfl) rfl
theorem q2701 : (Jvm.Cond.laysFinal "KernelGym$Test" "KernelGym$Test" "points" "I") ∈ lw_all := lw_g (lw_at lw_m11 184 rfl) rfl
theorem q2702 : (Jvm.Cond.soleField "KernelGym$Test" "points") ∈ lw_all := lw_g (lw_at lw_m11 185 rfl) rfl
theorem q2703 : (Jvm.Cond.laysFinal "KernelGym$Test" "KernelGym$Test" "crash" "I") ∈ lw_all := lw_g (lw_at lw_m11 186 rfl) rfl
theorem q2704 : (Jvm.Cond.soleField "KernelGym$Test" "crash") ∈ lw_all := lw_g (lw_at lw_m11 187 rfl) rfl
theorem q2705 : (Jvm.Cond.lays "KernelGym$Test" "KernelGym$Test" "result" "I") ∈ lw_all := lw_g (lw_at lw_m11 188 rfl) rfl
theorem q2706 : (Jvm.Cond.soleField "KernelGym$Test" "result") ∈ lw_all := lw_g (lw_at lw_m11 189 rfl) rfl
theorem q2707 : (Jvm.Cond.lays "KernelGym$Test" "KernelGym$Test" "hadPassed" "Z") ∈ lw_all := lw_g (lw_at lw_m11 190 rfl) rfl
theorem q2708 : (Jvm.Cond.soleField "KernelGym$Test" "hadPassed") ∈ lw_all := lw_g (lw_at lw_m11 191 rfl) rfl
theorem q2709 : (Jvm.Cond.superclass "KernelGym$Test" "java/lang/Object") ∈ lw_all := lw_g (lw_at lw_m11 192 rfl) rfl
theorem q2718 : (Jvm.Cond.instanceMethod ({ cls := "KernelGym$Test", name := "make", desc := "([I)V" } : Jvm.MethodName)) ∈ lw_all := lw_g (lw_at lw_m11 201 rfl) rfl
theorem q2719 : (Jvm.Cond.selects "KernelGym$Test" ({ cls := "KernelGym$Test", name := "make", desc := "([I)V" } : Jvm.MethodName) ({ cls := "KernelGym$Test", name := "make", desc := "([I)V" } : Jvm.MethodName)) ∈ lw_all := lw_g (lw_at lw_m11 202 rfl) rfl
theorem q2720 : (Jvm.Cond.code ({ cls := "KernelGym$Test", name := "make", desc := "([I)V" } : Jvm.MethodName) prog_24_method_2_code (7 : Nat) (Option.none : Option Jvm.ClassFile.FieldType)) ∈ lw_all := lw_g (lw_at lw_m11 203 rfl) rfl
theorem q2721 : (Jvm.Cond.classLink "KernelGym$Test" (34 : Nat) "KernelGym$Machine") ∈ lw_all := lw_g (lw_at lw_m11 204 rfl) rfl
theorem q2722 : (Jvm.Cond.methodLink "KernelGym$Test" (36 : Nat) ({ cls := "KernelGym$Machine", name := "<init>", desc := "(Z)V" } : Jvm.MethodName)) ∈ lw_all := lw_g (lw_at lw_m11 205 rfl) rfl
theorem q2723 : (Jvm.Cond.methodLink "KernelGym$Test" (39 : Nat) ({ cls := "KernelGym$Machine", name := "start", desc := "([I)I" } : Jvm.MethodName)) ∈ lw_all := lw_g (lw_at lw_m11 206 rfl) rfl
theorem q2724 : (Jvm.Cond.methodLink "KernelGym$Test" (43 : Nat) ({ cls := "KernelGym$Machine", name := "press", desc := "(I)V" } : Jvm.MethodName)) ∈ lw_all := lw_g (lw_at lw_m11 207 rfl) rfl
theorem q2725 : (Jvm.Cond.methodLink "KernelGym$Test" (47 : Nat) ({ cls := "KernelGym$Machine", name := "goesOn", desc := "()Z" } : Jvm.MethodName)) ∈ lw_all := lw_g (lw_at lw_m11 208 rfl) rfl
theorem q2726 : (Jvm.Cond.methodLink "KernelGym$Test" (51 : Nat) ({ cls := "KernelGym$Machine", name := "make", desc := "()V" } : Jvm.MethodName)) ∈ lw_all := lw_g (lw_at lw_m11 209 rfl) rfl
theorem q2727 : (Jvm.Cond.methodLink "KernelGym$Test" (57 : Nat) ({ cls := "KernelGym$Machine", name := "crash", desc := "()I" } : Jvm.MethodName)) ∈ lw_all := lw_g (lw_at lw_m11 210 rfl) rfl
theorem q2728 : (Jvm.Cond.methodLink "KernelGym$Test" (64 : Nat) ({ cls := "KernelGym$Test", name := "resultOf", desc := "(LKernelGym$Machine;)I" } : Jvm.MethodName)) ∈ lw_all := lw_g (lw_at lw_m11 211 rfl) rfl
theorem q2729 : (Jvm.Cond.privateMethod ({ cls := "KernelGym$Test", name := "resultOf", desc := "(LKernelGym$Machine;)I" } : Jvm.MethodName)) ∈ lw_tbl := lw_at lw_m11 212 rfl
theorem q2730 : (Jvm.Cond.instanceMethod ({ cls := "KernelGym$Test", name := "resultOf", desc := "(LKernelGym$Machine;)I" } : Jvm.MethodName)) ∈ lw_all := lw_g (lw_at lw_m11 213 rfl) rfl
theorem q2731 : (Jvm.Cond.code ({ cls := "KernelGym$Test", name := "resultOf", desc := "(LKernelGym$Machine;)I" } : Jvm.MethodName) prog_24_method_3_code (4 : Nat) (Option.some Jvm.ClassFile.FieldType.int)) ∈ lw_all := lw_g (lw_at lw_m11 214 rfl) rfl
theorem q2732 : (Jvm.Cond.methodLink "KernelGym$Test" (68 : Nat) ({ cls := "KernelGym$Machine", name := "isWhole", desc := "()Z" } : Jvm.MethodName)) ∈ lw_all := lw_g (lw_at lw_m11 215 rfl) rfl
theorem q3515 : (Jvm.Cond.castable "KernelGym$Test" "java/lang/Object") ∈ lw_tbl := lw_at lw_m15 38 rfl
theorem in_X27 : ∀ w ∈ wsX270, w ∈ lw_all := lw_in wsX270 [2693, 2695, 2697, 2699, 2701, 2703, 2705, 2707] (by decide +kernel) (by decide +kernel)

